/-! SOUNDNESS, 8: a whole run -/
def onlyN (xi : XI) : Prop := ∀ (L : XL) (st : List XV) (M : XM), (∃ (g : Prop) (f1 : XF) (M1 : XM), xi L st M = rN g f1 M1 ∧ mN M ≤ mN M1 ∧ mU M ≤ mU M1) ∨ xi L st M = rS
def onlyB (xi : XI) : Prop := ∀ (L : XL) (st : List XV) (M : XM), (∃ (k : Prop) (f1 f2 : XF), xi L st M = rB k f1 f2) ∨ (∃ cs, xi L st M = rM cs) ∨ xi L st M = rS
def onlyC (xi : XI) : Prop := ∀ (L : XL) (st : List XV) (M : XM), (∃ (g : Prop) (cid : Nat) (vs : List XV) (f1 : XF), xi L st M = rC g cid vs f1 ∧ f1.2.1 = L) ∨ xi L st M = rS
def onlyT (xi : XI) : Prop := ∀ (L : XL) (st : List XV) (M : XM), (∃ (g : Prop) (v : Option XV), xi L st M = rT g v) ∨ xi L st M = rS
def onlyX (xi : XI) : Prop := ∀ (L : XL) (st : List XV) (M : XM), (∃ (g : Prop) (a : Nat), xi L st M = rX g a) ∨ xi L st M = rS
def SA (own : String) (cc : ByteArray) (nL : Nat) (nm : String) (ret : Option FieldType) (pc : Nat) (xi : XI) : Prop :=
  (Snd own cc nL nm ret pc xi ∧ onlyN xi) ∨ (SndB own cc nL nm ret pc xi ∧ onlyB xi) ∨ (SndC own cc nL nm ret pc xi ∧ onlyC xi) ∨ (SndT cc ret pc xi ∧ onlyT xi) ∨ (SndX cc pc xi ∧ onlyX xi) ∨ (∀ (L : XL) (st : List XV) (M : XM), xi L st M = rS)
/-- a handler takes what is thrown -/
def SndH (id pc h : Nat) : Prop :=
  ∀ (G : SG) (p : Program) (l : Launch) (e : Env) (R : Room) (s : State) (m : MethodId) (args : Array Value) (below : List Frame) (meth : Method) (c : Code) (Q : State → Prop) (n0 u0 : Nat), Cx G (sYn id).cls (sBy id) (sLn id) (sYn id).name (sRt id) p R s m args meth c → c.exceptionTable.toList = sTb id →
    ∀ (L : XL) (st : List XV) (a : Nat) (M : XM), AW G (sLn id) p l e R s m args below meth c Q n0 u0 h L [vR a] M → AX G (sLn id) p l e R s m args below meth c Q n0 u0 pc L st a M
/-- from the frame f at M all goes to o at MF -/
def Fr (d id : Nat) (f : XF) (M : XM) (o : XO) (MF : XM) : Prop :=
  ∀ (G : SG) (p : Program) (l : Launch) (e : Env) (R : Room) (s : State) (m : MethodId) (args : Array Value) (below : List Frame) (meth : Method) (c : Code) (Q : State → Prop) (n0 u0 : Nat), Cx G (sYn id).cls (sBy id) (sLn id) (sYn id).name (sRt id) p R s m args meth c → c.exceptionTable.toList = sTb id → d + 8 ≤ R.frames → 64 * d + 512 ≤ R.locals → mN MF ≤ n0 + R.cells → mU MF ≤ u0 + R.slots →
    (∀ v, o = .inl v → ∀ (pc : Nat) (L : XL), decode (sBy id) pc = .ok (sRd v, 1) → retOk (sRt id) v → AW G (sLn id) p l e R s m args below meth c Q n0 u0 pc L v.toList MF) →
    (∀ a, o = .inr a → ∀ (pc : Nat) (L : XL) (st : List XV), hndl id pc = none → AX G (sLn id) p l e R s m args below meth c Q n0 u0 pc L st a MF) →
    AW G (sLn id) p l e R s m args below meth c Q n0 u0 f.1 f.2.1 f.2.2 M
/-- what is known of each method by its number -/
def Ent (id : Nat) : Prop := plainFor (sYn id) = true ∧ ((sWs id = ws_ (sYn id) (sBy id) (sLn id) (sRt id) ∧ sTb id = []) ∨ (sWs id = wsW_ (sYn id) (sBy id) (sLn id) (sRt id) sHh ∧ sTb id = tableOf sHh ∧ ∀ pc, hndl id pc = none → ¬ (27 ≤ pc ∧ pc < 31)))
theorem ent_sl {G : SG} (vs : List XV) : (lg_sl (vs.map (sV G))).length = xs_c vs := by
  induction vs with
  | nil => rfl
  | cons v vs ih =>
    have e : lg_sl ((v :: vs).map (sV G)) = (if (sV G v).category = 2 then [.val (sV G v), .second] else [.val (sV G v)]) ++ lg_sl (vs.map (sV G)) := rfl
    rw [e, List.length_append, ih, sV_cat]
    rcases v with x | x | a <;> rfl
theorem ent_args {G : SG} : ∀ (vs : List XV) (k : Nat), lv_args k (vs.map (sV G)) = sL G (xl_e k vs) := by
  intro vs
  induction vs with
  | nil => intro k; rfl
  | cons v vs ih =>
    intro k
    have e : lv_args k ((v :: vs).map (sV G)) = (k, sV G v) :: lv_args (if (sV G v).category = 2 then k + 2 else k + 1) (vs.map (sV G)) := rfl
    rw [e, sV_cat]
    rcases v with x | x | a
    · show _ = (k, sV G (vI x)) :: sL G (xl_e (k + 1) vs)
      rw [← ih]; rfl
    · show _ = (k, sV G (vL x)) :: sL G (xl_e (k + 2) vs)
      rw [← ih]; rfl
    · show _ = (k, sV G (vR a)) :: sL G (xl_e (k + 1) vs)
      rw [← ih]; rfl
theorem ent_ok : ∀ (vs : List XV) (k : Nat), (∀ v ∈ vs, okV v) → ∀ q ∈ xl_e k vs, okV q.2 := by
  intro vs
  induction vs with
  | nil => intro k _ q hq; cases hq
  | cons v vs ih =>
    intro k h q hq
    rcases v with x | x | a
    · rcases List.mem_cons.mp hq with z | z
      · rw [z]; exact h _ List.mem_cons_self
      · exact ih _ (fun v hv => h v (List.mem_cons_of_mem _ hv)) q z
    · rcases List.mem_cons.mp hq with z | z
      · rw [z]; exact h _ List.mem_cons_self
      · exact ih _ (fun v hv => h v (List.mem_cons_of_mem _ hv)) q z
    · rcases List.mem_cons.mp hq with z | z
      · rw [z]; exact h _ List.mem_cons_self
      · exact ih _ (fun v hv => h v (List.mem_cons_of_mem _ hv)) q z
theorem thr_at {G : SG} {M : XM} {H : Heap} {s : State} {a : Nat} (hk : sKn G s) (hR : sRel G M H) (e : (mS M a).1 = 10) : ∃ cell : Cell, H[sMu G a]? = some cell ∧ cell.vm = .none ∧ s.vm.findClass RX9 = some cell.cls := by
  obtain ⟨h1, h2⟩ := okS_new hR.2.2.2.1 (Or.inl (by omega)) e
  have h3 := (hR.2.2.2.2.2 a h1 h2).2
  unfold sAt at h3
  rw [if_pos (by rw [e]; omega), e] at h3
  obtain ⟨cell, g1, g2, g3, -⟩ := h3
  exact ⟨cell, g1, g3, by rw [g2]; exact (hk.1.1 9 (RX9, TX9, 7) rfl).2.1⟩
/-- the body of a method, in the machine -/
theorem body_of {id d : Nat} {vs : List XV} {M M1 : XM} {o : XO} (hE : Ent id) (F : Fr d id (0, xl_e 0 vs, []) M o M1) (hm : mN M ≤ mN M1) (hu : mU M ≤ mU M1) (hv : ∀ v ∈ vs, okV v) (hw : xs_c vs ≤ sLn id) (l : Launch) (G : SG)
    {p : Program} {e : Env} {s : State} {m : MethodId} {args : Array Value} {below : List Frame} {meth : Method} {c : Code} {s₁ : State} (B : BodyLoose p l (sYn id) (headSpec (sWs id) (rmD d (mN M1 - mN M) (mU M1 - mU M))) (sBy id) (sLn id) (sRt id) e s m args below meth c s₁) (hml : c.maxLocals = sLn id) (htb : c.exceptionTable.toList = sTb id) (hp : sPc G vs M args s) (hsub : ∀ w ∈ lw_all, w ∈ sWs id) :
    W p l e (headSpec (sWs id) (rmD d (mN M1 - mN M) (mU M1 - mU M))).room s m args below meth c s.heap [] 0 0 (sx_MQ below (sQc G o M1) (sXC G o M1) args s (mN M1 - mN M) (mU M1 - mU M) (sFr G)) (entryFrame m args (sLn id)) := by
  obtain ⟨rfl, hR, hK, hO⟩ := hp
  have hts0 := atoms_spec (ws := sWs id) B.pre
  have hC : Cx G (sYn id).cls (sBy id) (sLn id) (sYn id).name (sRt id) p (headSpec (sWs id) (rmD d (mN M1 - mN M) (mU M1 - mU M))).room s m (vs.map (sV G)).toArray meth c :=
    ⟨B.exec, B.bytes, hml, findClass_of_methodNamed B.named, fun w h => hts0 w (hsub w h), hK, (name_of_methodNamed B.named B.method).1, B.returns, B.notSynchronized, hO.1.2.2, by show 8 ≤ d + 8; omega, by show 512 ≤ 64 * d + 512; omega⟩
  have hl := lv_entry (vs.map (sV G)) (n := sLn id) (by rw [ent_sl]; exact hw)
  rw [lg_entry_eq]
  generalize (lg_sl (vs.map (sV G)) ++ List.replicate (sLn id - (lg_sl (vs.map (sV G))).length) Slot.unset).toArray = ls at hl ⊢
  rw [ent_args] at hl
  have k := F G p l e (headSpec (sWs id) (rmD d (mN M1 - mN M) (mU M1 - mU M))).room s m (vs.map (sV G)).toArray below meth c (sx_MQ below (sQc G o M1) (sXC G o M1) (vs.map (sV G)).toArray s (mN M1 - mN M) (mU M1 - mU M) (sFr G)) (mN M) (mU M) hC htb (Nat.le_refl _) (Nat.le_refl _) (by show _ ≤ mN M + (mN M1 - mN M); omega) (by show _ ≤ mU M + (mU M1 - mU M); omega)
    (fun v ho pc L hd hret => by
      intro q1 q2 ok H locs ls hR1 hO1 hS1 hl1
      refine sx_ret (ret_W hC.1 hC.2.1 hC.2.2.2.2.2.2.2.1 hC.2.2.2.2.2.2.2.2.1 hd hret (fun t ht hW => ⟨⟨v, ho, fun w hw => ok.2 w (by rw [hw]; exact List.mem_singleton.mpr rfl), rfl, by rw [ht]; exact hR1⟩, hS1.F ht⟩) hS1.2.2))
    (fun a ho pc L st hh => by
      intro q1 q2 ok hk H locs ls hR1 hO1 hS1 hl1
      obtain ⟨ce, c1, c2, c3⟩ := thr_at hK hR1 hk
      refine sx_out ?_ hC.2.2.2.2.2.2.2.2.1 c1 c2 c3 (fun t ht hW => ⟨a, ho, rfl, rfl, hk, by rw [ht]; exact hR1, hS1.F ht⟩) hS1.2.2 (Nat.le_refl _) (Nat.le_refl _)
      rw [htb]
      rcases hE.2 with ⟨-, z⟩ | ⟨-, z, z2⟩
      · rw [z]; intro x hx; cases hx
      · rw [z]
        intro x hx
        have hx : x = ⟨27, 31, 34, 171⟩ := List.mem_singleton.mp hx
        subst hx
        have z3 := z2 pc hh
        show (decide (27 ≤ pc) && decide (pc < 31)) = false
        simp only [Bool.and_eq_false_iff, decide_eq_false_iff_not]
        omega)
  have k1 := k (Nat.le_refl _) (Nat.le_refl _) ⟨ent_ok vs 0 hv, fun w hw => by cases hw⟩ s.heap [] ls hR hO va_S.rf hl
  rw [Nat.sub_self, Nat.sub_self] at k1
  exact k1
theorem met_of {id d : Nat} {vs : List XV} {M M1 : XM} {o : XO} (hE : Ent id) (F : Fr d id (0, xl_e 0 vs, []) M o M1) (hm : mN M ≤ mN M1) (hu : mU M ≤ mU M1) (hv : ∀ v ∈ vs, okV v) (hw : xs_c vs ≤ sLn id) (l : Launch) (G : SG) : sMet l G id d vs M o M1 := by
  rcases hE.2 with ⟨h1, h2⟩ | ⟨h1, h2, -⟩
  · refine sx_ofW (cc := sBy id) (maxL := sLn id) (ret := sRt id) hE.1 h1 ?_
    intro p e s m args below meth c s₁ B hml htb hp
    refine body_of hE F hm hu hv hw l G B hml ?_ hp (fun w h => by rw [h1]; exact List.mem_cons_of_mem _ h)
    rw [h2]
    cases hq : c.exceptionTable.toList with
    | nil => rfl
    | cons x t => exact (htb x (by rw [hq]; exact List.mem_cons_self)).elim
  · refine sx_ofWH (cc := sBy id) (maxL := sLn id) (ret := sRt id) (hh := sHh) hE.1 h1 ?_
    intro p e s m args below meth c s₁ B hml hp
    refine body_of hE F hm hu hv hw l G B hml ?_ hp (fun w h => by rw [h1]; exact List.mem_cons_of_mem _ h)
    have hts0 := atoms_spec (ws := sWs id) B.pre
    rw [h2]
    exact vx_table (x := sYn id) B (hts0 _ (by rw [h1]; exact List.mem_cons_self))
theorem xc_some {c : Prop} {a : Option (XO × XM)} {r : XO × XM} (h : xc_w c a none = some r) : c ∧ a = some r := by
  by_cases hc : c
  · rw [xc_t hc] at h; exact ⟨hc, h⟩
  · rw [xc_f hc] at h; cases h
/-- THE SOUNDNESS: what a run of the plain machine comes to, the machine comes to -/
theorem run_sound (HG : ∀ id pc, SA (sYn id).cls (sBy id) (sLn id) (sYn id).name (sRt id) pc (prog id pc)) (HH : ∀ id pc h, hndl id pc = some h → SndH id pc h) (HE : ∀ id, Ent id) :
    ∀ (n d id : Nat) (f : XF) (M : XM) (o : XO) (MF : XM), xrun n d id f M = some (o, MF) → (mN M ≤ mN MF ∧ mU M ≤ mU MF) ∧ Fr d id f M o MF := by
  intro n
  induction n with
  | zero => intro d id f M o MF h; exact absurd h (by simp [xrun])
  | succ n ih =>
    intro d id f M o MF h
    rw [xrun_s] at h
    rcases HG id f.1 with ⟨hs, ho⟩ | ⟨hs, ho⟩ | ⟨hs, ho⟩ | ⟨hs, ho⟩ | ⟨hs, ho⟩ | ho
    · rcases ho f.2.1 f.2.2 M with ⟨g, f1, M1, e, m1, m2⟩ | e
      · rw [e] at h
        obtain ⟨hg, h⟩ := xc_some h
        obtain ⟨⟨i1, i2⟩, i3⟩ := ih d id f1 M1 o MF h
        refine ⟨⟨Nat.le_trans m1 i1, Nat.le_trans m2 i2⟩, ?_⟩
        intro G p l e9 R s m args below meth c Q n0 u0 hC htb hf hl hc1 hc2 hT hX
        exact (hs G p l e9 R s m args below meth c Q n0 u0 hC f.2.1 f.2.2 M f1 M1 g e hg (Nat.le_trans i1 hc1) (Nat.le_trans i2 hc2)).2 (i3 G p l e9 R s m args below meth c Q n0 u0 hC htb hf hl hc1 hc2 hT hX)
      · rw [e] at h; cases h
    · rcases ho f.2.1 f.2.2 M with ⟨k, f1, f2, e⟩ | ⟨cs, e⟩ | e
      · rw [e] at h
        dsimp only at h
        by_cases hk : k
        · rw [xc_t hk] at h
          obtain ⟨i1, i3⟩ := ih d id f1 M o MF h
          refine ⟨i1, ?_⟩
          intro G p l e9 R s m args below meth c Q n0 u0 hC htb hf hl hc1 hc2 hT hX
          exact (hs G p l e9 R s m args below meth c Q n0 u0 hC f.2.1 f.2.2 M).1 k f1 f2 e (fun _ => i3 G p l e9 R s m args below meth c Q n0 u0 hC htb hf hl hc1 hc2 hT hX) (fun z => absurd hk z)
        · rw [xc_f hk] at h
          obtain ⟨i1, i3⟩ := ih d id f2 M o MF h
          refine ⟨i1, ?_⟩
          intro G p l e9 R s m args below meth c Q n0 u0 hC htb hf hl hc1 hc2 hT hX
          exact (hs G p l e9 R s m args below meth c Q n0 u0 hC f.2.1 f.2.2 M).1 k f1 f2 e (fun z => absurd z hk) (fun _ => i3 G p l e9 R s m args below meth c Q n0 u0 hC htb hf hl hc1 hc2 hT hX)
      · rw [e] at h
        dsimp only at h
        cases hp : xc_pick cs with
        | none => rw [hp] at h; cases h
        | some f1 =>
          rw [hp] at h
          obtain ⟨i1, i3⟩ := ih d id f1 M o MF h
          refine ⟨i1, ?_⟩
          intro G p l e9 R s m args below meth c Q n0 u0 hC htb hf hl hc1 hc2 hT hX
          exact (hs G p l e9 R s m args below meth c Q n0 u0 hC f.2.1 f.2.2 M).2 cs f1 e hp (i3 G p l e9 R s m args below meth c Q n0 u0 hC htb hf hl hc1 hc2 hT hX)
      · rw [e] at h; cases h
    · rcases ho f.2.1 f.2.2 M with ⟨g, cid, vs, f1, e, eL⟩ | e
      · rw [e] at h
        obtain ⟨hg, h⟩ := xc_some h
        cases d with
        | zero => cases h
        | succ d1 =>
          dsimp only at h
          cases hr : xrun n d1 cid (0, xl_e 0 vs, []) M with
          | none => rw [hr] at h; cases h
          | some q =>
            obtain ⟨o1, M1⟩ := q
            rw [hr] at h
            obtain ⟨⟨j1, j2⟩, jF⟩ := ih d1 cid _ M o1 M1 hr
            rcases o1 with (_ | v) | a
            · obtain ⟨⟨i1, i2⟩, i3⟩ := ih (d1 + 1) id f1 M1 o MF h
              refine ⟨⟨Nat.le_trans j1 i1, Nat.le_trans j2 i2⟩, ?_⟩
              intro G p l e9 R s m args below meth c Q n0 u0 hC htb hf hl hc1 hc2 hT hX
              refine hs G p l e9 R s m args below meth c Q n0 u0 hC f.2.1 f.2.2 M g cid vs f1 e hg d1 _ M1 (fun hv hw => met_of (HE cid) jF j1 j2 hv hw l G) hf hl j1 j2 (Nat.le_trans i1 hc1) (Nat.le_trans i2 hc2) (fun v hv => ?_) (fun a ha => by cases ha)
              cases hv
              exact i3 G p l e9 R s m args below meth c Q n0 u0 hC htb hf hl hc1 hc2 hT hX
            · obtain ⟨⟨i1, i2⟩, i3⟩ := ih (d1 + 1) id _ M1 o MF h
              refine ⟨⟨Nat.le_trans j1 i1, Nat.le_trans j2 i2⟩, ?_⟩
              intro G p l e9 R s m args below meth c Q n0 u0 hC htb hf hl hc1 hc2 hT hX
              refine hs G p l e9 R s m args below meth c Q n0 u0 hC f.2.1 f.2.2 M g cid vs f1 e hg d1 _ M1 (fun hv hw => met_of (HE cid) jF j1 j2 hv hw l G) hf hl j1 j2 (Nat.le_trans i1 hc1) (Nat.le_trans i2 hc2) (fun w hw => ?_) (fun a ha => by cases ha)
              cases hw
              exact i3 G p l e9 R s m args below meth c Q n0 u0 hC htb hf hl hc1 hc2 hT hX
            · dsimp only at h
              cases hh : hndl id f.1 with
              | none =>
                rw [hh] at h
                cases h
                refine ⟨⟨j1, j2⟩, ?_⟩
                intro G p l e9 R s m args below meth c Q n0 u0 hC htb hf hl hc1 hc2 hT hX
                refine hs G p l e9 R s m args below meth c Q n0 u0 hC f.2.1 f.2.2 M g cid vs f1 e hg d1 _ MF (fun hv hw => met_of (HE cid) jF j1 j2 hv hw l G) hf hl j1 j2 hc1 hc2 (fun w hw => by cases hw) (fun a1 ha => ?_)
                cases ha
                exact hX a rfl f.1 _ _ hh
              | some k =>
                rw [hh] at h
                obtain ⟨⟨i1, i2⟩, i3⟩ := ih (d1 + 1) id _ M1 o MF h
                refine ⟨⟨Nat.le_trans j1 i1, Nat.le_trans j2 i2⟩, ?_⟩
                intro G p l e9 R s m args below meth c Q n0 u0 hC htb hf hl hc1 hc2 hT hX
                refine hs G p l e9 R s m args below meth c Q n0 u0 hC f.2.1 f.2.2 M g cid vs f1 e hg d1 _ M1 (fun hv hw => met_of (HE cid) jF j1 j2 hv hw l G) hf hl j1 j2 (Nat.le_trans i1 hc1) (Nat.le_trans i2 hc2) (fun w hw => by cases hw) (fun a1 ha => ?_)
                cases ha
                exact HH id f.1 k hh G p l e9 R s m args below meth c Q n0 u0 hC htb _ _ a M1 (i3 G p l e9 R s m args below meth c Q n0 u0 hC htb hf hl hc1 hc2 hT hX)
      · rw [e] at h; cases h
    · rcases ho f.2.1 f.2.2 M with ⟨g, v, e⟩ | e
      · rw [e] at h
        obtain ⟨hg, h⟩ := xc_some h
        cases h
        obtain ⟨r1, r2, r3⟩ := hs f.2.1 f.2.2 M g v e hg
        refine ⟨⟨Nat.le_refl _, Nat.le_refl _⟩, ?_⟩
        intro G p l e9 R s m args below meth c Q n0 u0 hC htb hf hl hc1 hc2 hT hX
        rw [r2]
        exact hT v rfl f.1 f.2.1 r1 r3
      · rw [e] at h; cases h
    · rcases ho f.2.1 f.2.2 M with ⟨g, a, e⟩ | e
      · rw [e] at h
        dsimp only at h
        cases hh : hndl id f.1 with
        | some k => rw [hh] at h; cases h
        | none =>
          rw [hh] at h
          obtain ⟨hg, h⟩ := xc_some h
          cases h
          obtain ⟨r1, r2, rest, r3⟩ := hs f.2.1 f.2.2 M g a e hg
          refine ⟨⟨Nat.le_refl _, Nat.le_refl _⟩, ?_⟩
          intro G p l e9 R s m args below meth c Q n0 u0 hC htb hf hl hc1 hc2 hT hX
          intro q1 q2 ok H locs ls hR hO hS hl1
          have ha := (okS_new hR.2.2.2.1 (Or.inl (by omega)) r2).1
          rw [r3, sV_cons ha]
          rw [r3] at ok
          exact vx_athrow hC.1 hC.2.1 r1 (hX a rfl f.1 f.2.1 rest hh q1 q2 ⟨ok.1, okF_t ok.2⟩ r2 H locs ls hR hO hS hl1)
      · rw [e] at h; cases h
    · rw [ho] at h; cases h
