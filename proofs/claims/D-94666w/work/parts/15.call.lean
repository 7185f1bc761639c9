/-! SOUNDNESS, 7: calls, returns, throws; a whole run -/
def rmD (d mc ms : Nat) : Room := { frames := d + 8, cells := mc, slots := ms, locals := 64 * d + 512 }
theorem rmD_f {d mc ms : Nat} : (rmD d mc ms).frames = d + 8 := rfl
theorem rmD_l {d mc ms : Nat} : (rmD d mc ms).locals = 64 * d + 512 := rfl
theorem rm_f {d mc ms R : Nat} (h : d + 9 ≤ R) : (rmD d mc ms).frames + 1 ≤ R := by
  have e := rmD_f (d := d) (mc := mc) (ms := ms)
  omega
theorem rm_l {d mc ms nl R : Nat} (h1 : nl ≤ 45) (h : 64 * (d + 1) + 512 ≤ R) : 8 + (nl + 11) + (rmD d mc ms).locals ≤ R := by
  have e := rmD_l (d := d) (mc := mc) (ms := ms)
  omega
def sPc (G : SG) (vs : List XV) (M : XM) : Array Value → State → Prop := va_Pc (vs.map (sV G)) (fun U => sRel G M U.heap ∧ sKn G U ∧ sOld G U U.heap)
def sQc (G : SG) (o : XO) (M1 : XM) : Array Value → State → Outcome → State → Prop := fun _ st oc t => (∃ v, o = .inl v ∧ (∀ w, v = some w → okV w) ∧ oc = .returned (v.map (sV G)) ∧ sRel G M1 t.heap) ∧ va_F (sFr G) st t
def sXC (G : SG) (o : XO) (M1 : XM) : Nat → String → State → State → Prop := fun q E st t => ∃ a, o = .inr a ∧ q = sMu G a ∧ E = RX9 ∧ (mS M1 a).1 = 10 ∧ sRel G M1 t.heap ∧ va_F (sFr G) st t
/-- the machine's contract that a run of the plain machine gives -/
def sMet (l : Launch) (G : SG) (id d : Nat) (vs : List XV) (M : XM) (o : XO) (M1 : XM) : Prop :=
  sx_Met l (sYn id) (sWs id) (rmD d (mN M1 - mN M) (mU M1 - mU M)) (sPc G vs M) (sQc G o M1) (sXC G o M1) (mN M1 - mN M) (mU M1 - mU M) (sFr G)
theorem sPc.blind {G : SG} {vs : List XV} {M : XM} : FrameBlind (sPc G vs M) := by
  intro a U g mk h
  obtain ⟨h1, h2, h3, h4⟩ := h
  exact ⟨h1, h2, sKn.same (s := U) (U := U.calling g mk a) rfl h3, sOld.same (s := U) (U := U.calling g mk a) rfl h4⟩
/-- a thrown thing stands over the frame -/
def AX (G : SG) (nL : Nat) (p : Program) (l : Launch) (e : Env) (R : Room) (s : State) (m : MethodId) (args : Array Value) (below : List Frame) (meth : Method) (c : Code) (Q : State → Prop) (n0 u0 pc : Nat) (L : XL) (st : List XV) (a : Nat) (M : XM) : Prop :=
  n0 ≤ mN M → u0 ≤ mU M → okF L st → (mS M a).1 = 10 → ∀ (H : Heap) (locs : List Loc) (ls : Array Slot), sRel G M H → sOld G s H → va_S (sFr G) s.heap H locs → lv_has ls nL (sL G L) →
    vx_W p l e R s m args below meth c H locs (mN M - n0) (mU M - u0) Q (F0 m pc ls (st.map (sV G))) (sMu G a)
def SndC (own : String) (cc : ByteArray) (nL : Nat) (nm : String) (ret : Option FieldType) (pc : Nat) (xi : XI) : Prop :=
  ∀ (G : SG) (p : Program) (l : Launch) (e : Env) (R : Room) (s : State) (m : MethodId) (args : Array Value) (below : List Frame) (meth : Method) (c : Code) (Q : State → Prop) (n0 u0 : Nat), Cx G own cc nL nm ret p R s m args meth c → ∀ (L : XL) (st : List XV) (M : XM) (g : Prop) (cid : Nat) (vs : List XV) (f1 : XF), xi L st M = rC g cid vs f1 → g →
    ∀ (d : Nat) (o : XO) (M1 : XM), ((∀ v ∈ vs, okV v) → xs_c vs ≤ sLn cid → sMet l G cid d vs M o M1) → d + 9 ≤ R.frames → 64 * (d + 1) + 512 ≤ R.locals → mN M ≤ mN M1 → mU M ≤ mU M1 → mN M1 ≤ n0 + R.cells → mU M1 ≤ u0 + R.slots →
    (∀ v, o = .inl v → AW G nL p l e R s m args below meth c Q n0 u0 f1.1 f1.2.1 (v.toList ++ f1.2.2) M1) → (∀ a, o = .inr a → AX G nL p l e R s m args below meth c Q n0 u0 pc f1.2.1 f1.2.2 a M1) → AW G nL p l e R s m args below meth c Q n0 u0 pc L st M
section
variable {own : String} {cc : ByteArray} {nL : Nat} {nm : String} {ret : Option FieldType} {pc n : Nat}
/-- what a call comes to, for any kind of call -/
def sDis (G : SG) (o : XO) (M M1 : XM) (p : Program) (l : Launch) (e : Env) (R : Room) (s : State) (m : MethodId) (args : Array Value) (below : List Frame) (meth : Method) (c : Code) (locs : List Loc) (cells slots : Nat) (npc : Nat) (T : State) (g : JFrame) (av : Array Value) (rest : List Value) : Prop :=
  (∃ (v : Option Value) (vm₁ : Vm) (B : Pt), s.WarmedH vm₁ ∧ Stand p l e R s m args below meth c B.U B.locs B.cells B.slots ∧ PostOf (sQc G o M1) (mN M1 - mN M) (mU M1 - mU M) (sFr G) ⟨T.setVm vm₁, locs, cells, slots⟩ av v B ∧
      ∀ target, Steps p.tables e below (B.U.setTop { g with pc := npc, stack := v.toList ++ rest }) target → Steps p.tables e below (T.setTop g) target) ∨
    (∃ (q : Addr) (vm₁ : Vm) (B : Pt), s.WarmedH vm₁ ∧ Stand p l e R s m args below meth c B.U B.locs B.cells B.slots ∧ sx_Post (sXC G o M1) (mN M1 - mN M) (mU M1 - mU M) (sFr G) ⟨T.setVm vm₁, locs, cells, slots⟩ av q B ∧
      Steps p.tables e below (T.setTop g) ((B.U.setTop { g with stack := rest }).pushFrame (.throwing q)))
theorem aw_after {G : SG} {o : XO} {M M1 : XM} {p : Program} {l : Launch} {e : Env} {R : Room} {s : State} {m : MethodId} {args : Array Value} {below : List Frame} {meth : Method} {c : Code} {Q : State → Prop} {n0 u0 npc : Nat} {L : XL} {st0 st : List XV} {av : Array Value}
    (h1 : mN M ≤ mN M1) (h2 : mU M ≤ mU M1) (hok : okF L st0 → ∀ v ∈ st, okV v)
    (hd : okF L st0 → ∀ (H : Heap) (locs : List Loc) (ls : Array Slot), sRel G M H → sOld G s H → lv_has ls nL (sL G L) → ∀ T : State, T.heap = H → Stand p l e R s m args below meth c T locs (mN M - n0) (mU M - u0) → sDis G o M M1 p l e R s m args below meth c locs (mN M - n0) (mU M - u0) npc T (F0 m pc ls (st0.map (sV G))) av (st.map (sV G)))
    (hN : ∀ v, o = .inl v → AW G nL p l e R s m args below meth c Q n0 u0 npc L (v.toList ++ st) M1) (hX : ∀ a, o = .inr a → AX G nL p l e R s m args below meth c Q n0 u0 pc L st a M1) : AW G nL p l e R s m args below meth c Q n0 u0 pc L st0 M := by
  intro q1 q2 ok H locs ls hR hO hS hl T hT X
  have e1 : mN M - n0 + (mN M1 - mN M) = mN M1 - n0 := by omega
  have e2 : mU M - u0 + (mU M1 - mU M) = mU M1 - u0 := by omega
  have keep : ∀ (st₀ t T' : State) (L1 : List Loc), st₀.heap = H → T'.heap = t.heap → (∀ q ∈ L1, sFr G q.base) → va_F (sFr G) st₀ t → va_S (sFr G) s.heap T'.heap (locs ++ L1) ∧ sOld G s T'.heap := by
    intro st₀ t T' L1 h0 e3 hL hF
    obtain ⟨k1, k2, k3⟩ := vx_keep (A1 := sFr G) (free := sFr G) h0 e3 hS (fun q _ h => h) (fun q h => h) hL hF
    refine ⟨k3, hO.kept k1 (fun q hq => k2 q ?_ ?_)⟩
    · have := hO.1.2.2; omega
    · show ¬ gB G ≤ q; omega
  rcases hd ok H locs ls hR hO hl T hT X with ⟨v, vm₁, ⟨U', l2, c2, s2⟩, hW₁, X', ⟨g', mk, t, L1, e3, e4, ⟨⟨v', ho, hokv, hv, hR1⟩, hF⟩, w1, hL, w2, w3⟩, stp⟩ | ⟨q, vm₁, ⟨U', l2, c2, s2⟩, hW₁, X', ⟨g', mk, t, L1, E, ce, e3, e4, ⟨a, ho, hq, hE, hk, hR1, hF⟩, hce, hcv, hcl, w1, hL, w2, w3⟩, stp⟩
  · dsimp only [Pt.U, Pt.locs, Pt.cells, Pt.slots] at X' e3 e4 w1 w2 w3 stp hF
    subst w1; subst w2; subst w3
    obtain ⟨k3, kO⟩ := keep _ t U' L1 (show ((T.setVm vm₁).calling g' mk av).heap = H from hT) e3 hL hF
    have hvv : v = v'.map (sV G) := Outcome.returned.inj hv
    have k := hN v' ho (by omega) (by omega) ⟨ok.1, fun w hw => by
      rcases List.mem_append.mp hw with z | z
      · exact hokv w (Option.mem_toList.mp z)
      · exact hok ok w z⟩ U'.heap (locs ++ L1) ls (by rw [e3]; exact hR1) kO k3 hl U' rfl (by rw [← e1, ← e2]; exact X')
    obtain ⟨t2, a1, b1⟩ := k
    refine ⟨t2, stp t2 ?_, b1⟩
    have e5 : (v'.toList ++ st).map (sV G) = v.toList ++ st.map (sV G) := by
      rw [List.map_append, hvv]
      cases v' <;> rfl
    rw [e5] at a1
    exact a1
  · dsimp only [Pt.U, Pt.locs, Pt.cells, Pt.slots] at X' e3 e4 w1 w2 w3 stp hF
    subst w1; subst w2; subst w3
    obtain ⟨k3, kO⟩ := keep _ t U' L1 (show ((T.setVm vm₁).calling g' mk av).heap = H from hT) e3 hL hF
    have k := hX a ho (by omega) (by omega) ⟨ok.1, fun w hw => hok ok w hw⟩ hk U'.heap (locs ++ L1) ls (by rw [e3]; exact hR1) kO k3 hl U' rfl (by rw [← e1, ← e2]; exact X')
    obtain ⟨t2, a1, b1⟩ := k
    rw [← hq] at a1
    exact ⟨t2, stp.trans a1, b1⟩
theorem xs_p_in : ∀ (k : Nat) (acc st r st' : List XV), xs_p k acc st = some (r, st') → ∃ ts : List XV, ts.length = k ∧ st = ts ++ st' ∧ r = ts.reverse ++ acc := by
  intro k
  induction k with
  | zero => intro acc st r st' h; cases h; exact ⟨[], rfl, rfl, rfl⟩
  | succ k ih =>
    intro acc st r st' h
    cases st with
    | nil => cases h
    | cons v st =>
      obtain ⟨ts, h1, h2, h3⟩ := ih (v :: acc) st r st' h
      refine ⟨v :: ts, by rw [List.length_cons, h1], by rw [h2]; rfl, ?_⟩
      rw [h3, List.reverse_cons, List.append_assoc]; rfl
/-- the words of a callee -/
theorem ws_warm {y : MethodName} {b : ByteArray} {L : Nat} {r : Option FieldType} (h : Cond.code y b L r ∈ lw_all) {s : State} {args : Array Value} (hts : ∀ w ∈ lw_all, w.before args s = true) : ∀ w ∈ ws_ y b L r, ∀ (a' : Array Value) (U : State), s.WarmedH U.vm → w.before a' U = true :=
  fun w hw a' U hW => word_at hW (lw_meth h w hw).2 (hts w (lw_meth h w hw).1)
theorem wsW_warm {y : MethodName} {b : ByteArray} {L : Nat} {r : Option FieldType} {hh : List (Nat × Nat × Nat × Nat)} (h : Cond.codeWith y b L r hh ∈ lw_all) {s : State} {args : Array Value} (hts : ∀ w ∈ lw_all, w.before args s = true) : ∀ w ∈ wsW_ y b L r hh, ∀ (a' : Array Value) (U : State), s.WarmedH U.vm → w.before a' U = true :=
  fun w hw a' U hW => word_at hW (lw_methW h w hw).2 (hts w (lw_methW h w hw).1)
theorem ini_warm {C : String} (h : Cond.initialized C ∈ lw_all) {s : State} {args : Array Value} (hts : ∀ w ∈ lw_all, w.before args s = true) : ∀ (a' : Array Value) (U : State), s.WarmedH U.vm → (Cond.initialized C).before a' U = true :=
  fun a' U hW => word_at hW (lw_self _ h).2 (hts _ h)
/-- a callee without handlers -/
theorem back_n {l : Launch} {G : SG} {cid d : Nat} {vs : List XV} {M M1 : XM} {o : XO} {y : MethodName} {b : ByteArray} {nl : Nat} {r : Option FieldType} (hM : sMet l G cid d vs M o M1) (hy : sYn cid = y) (hw : sWs cid = ws_ y b nl r) (hnl : nl ≤ 45) {R : Room} {p : Program} {e : Env} {below : List Frame} {s : State} {args : Array Value} {len : Nat}
    (hq : Cond.code y b nl r ∈ lw_all) (hi : Cond.initialized y.cls ∈ lw_all) (hts : ∀ w ∈ lw_all, w.before args s = true) (hf : d + 9 ≤ R.frames) (hlo : 64 * (d + 1) + 512 ≤ R.locals) :
    vx_Back l R p e below s args y len 8 (PreOf R (mN M1 - mN M) (mU M1 - mU M) (sPc G vs M)) (PostOf (sQc G o M1) (mN M1 - mN M) (mU M1 - mU M) (sFr G)) (sx_Post (sXC G o M1) (mN M1 - mN M) (mU M1 - mU M) (sFr G)) := by
  unfold sMet at hM
  rw [hy, hw] at hM
  exact sx_back (bytes := b) (maxL := nl) (ret := r) hM sPc.blind rfl rfl (rm_f hf) (rm_l hnl hlo) (ws_warm hq hts) List.mem_cons_self (ini_warm hi hts)
theorem back_w {l : Launch} {G : SG} {cid d : Nat} {vs : List XV} {M M1 : XM} {o : XO} {y : MethodName} {b : ByteArray} {nl : Nat} {r : Option FieldType} {hh : List (Nat × Nat × Nat × Nat)} (hM : sMet l G cid d vs M o M1) (hy : sYn cid = y) (hw : sWs cid = wsW_ y b nl r hh) (hnl : nl ≤ 45) {R : Room} {p : Program} {e : Env} {below : List Frame} {s : State} {args : Array Value} {len : Nat}
    (hq : Cond.codeWith y b nl r hh ∈ lw_all) (hi : Cond.initialized y.cls ∈ lw_all) (hts : ∀ w ∈ lw_all, w.before args s = true) (hf : d + 9 ≤ R.frames) (hlo : 64 * (d + 1) + 512 ≤ R.locals) :
    vx_Back l R p e below s args y len 8 (PreOf R (mN M1 - mN M) (mU M1 - mU M) (sPc G vs M)) (PostOf (sQc G o M1) (mN M1 - mN M) (mU M1 - mU M) (sFr G)) (sx_Post (sXC G o M1) (mN M1 - mN M) (mU M1 - mU M) (sFr G)) := by
  unfold sMet at hM
  rw [hy, hw] at hM
  exact sx_backW (bytes := b) (maxL := nl) (ret := r) hM sPc.blind rfl rfl (rm_f hf) (rm_l hnl hlo) (wsW_warm hq hts) List.mem_cons_self (ini_warm hi hts)
/-- the receiver's cell -/
theorem recv_at {G : SG} {M : XM} {H : Heap} {s : State} {a kd : Nat} (hk : sKn G s) (hR : sRel G M H) (hkd : 1 ≤ kd ∧ kd ≤ 16) {q : vw_C} (hc : sCl[kd - 1]? = some q) (e : (mS M a).1 = kd) : 40 ≤ a ∧ ∃ cell : Cell, H[sMu G a]? = some cell ∧ cell.vm.isStatics = false ∧ s.vm.findClass q.1 = some cell.cls := by
  obtain ⟨h1, h2⟩ := okS_new hR.2.2.2.1 (Or.inl hkd) e
  have h3 := (hR.2.2.2.2.2 a h1 h2).2
  unfold sAt at h3
  rw [if_pos (by rw [e]; omega), e] at h3
  obtain ⟨cell, g1, g2, g3, -⟩ := h3
  exact ⟨h1, cell, g1, by rw [g3]; rfl, by rw [g2]; exact (hk.1.1 (kd - 1) q hc).2.1⟩
theorem okF_app {st st' ts : List XV} (e : st = ts ++ st') (h : ∀ v ∈ st, okV v) : (∀ v ∈ ts, okV v) ∧ ∀ v ∈ st', okV v := by
  subst e
  exact ⟨fun v hv => h v (List.mem_append_left _ hv), fun v hv => h v (List.mem_append_right _ hv)⟩
/-- what the stack is at a call through an object -/
theorem stk_V {G : SG} {k a : Nat} {vs st st' : List XV} (h : xs_p (k + 1) [] st = some (vR a :: vs, st')) : vs.length = k ∧ (a ≠ 0 → st.map (sV G) = (vs.map (sV G)).reverse ++ .ref (sMu G a) :: st'.map (sV G)) ∧ ((∀ v ∈ st, okV v) → (∀ v ∈ vR a :: vs, okV v) ∧ ∀ v ∈ st', okV v) := by
  obtain ⟨ts, h1, h2, h3⟩ := xs_p_in _ _ _ _ _ h
  rw [List.append_nil] at h3
  have h4 : ts = vs.reverse ++ [vR a] := by
    rw [← List.reverse_reverse ts, ← h3, List.reverse_cons]
  refine ⟨?_, ?_, ?_⟩
  · have h5 : (vR a :: vs).length = k + 1 := by rw [h3, List.length_reverse, h1]
    simpa using h5
  · intro ha
    have e1 : sV G (vR a) = .ref (sMu G a) := by
      show va_rf (sRf G a) = _
      rw [show sRf G a = some (sMu G a) from if_neg ha]; rfl
    rw [h2, h4, List.map_append, List.map_append, List.map_reverse, List.map_cons, List.map_nil, e1, List.append_assoc]; rfl
  · intro hv
    obtain ⟨z1, z2⟩ := okF_app h2 hv
    refine ⟨fun v hv => z1 v ?_, z2⟩
    rw [h3] at hv
    exact List.mem_reverse.mp hv
theorem stk_S {G : SG} {k : Nat} {vs st st' : List XV} (h : xs_p k [] st = some (vs, st')) : vs.length = k ∧ st.map (sV G) = (vs.map (sV G)).reverse ++ st'.map (sV G) ∧ ((∀ v ∈ st, okV v) → (∀ v ∈ vs, okV v) ∧ ∀ v ∈ st', okV v) := by
  obtain ⟨ts, h1, h2, h3⟩ := xs_p_in _ _ _ _ _ h
  rw [List.append_nil] at h3
  have h4 : ts = vs.reverse := by rw [← List.reverse_reverse ts, ← h3]
  refine ⟨?_, ?_, ?_⟩
  · rw [h3, List.length_reverse, h1]
  · rw [h2, h4, List.map_append, List.map_reverse]
  · intro hv
    obtain ⟨z1, z2⟩ := okF_app h2 hv
    refine ⟨fun v hv => z1 v ?_, z2⟩
    rw [h3] at hv
    exact List.mem_reverse.mp hv
theorem par_len {y : MethodName} {k : Nat} (h : (parseMethodDescriptor y.desc).map (fun d => d.parameters.length) = some k) {vs : List Value} (hv : vs.length = k) : ∀ sig, parseMethodDescriptor y.desc = some sig → vs.length = sig.parameters.length := by
  intro sig hs
  rw [hs] at h
  have : sig.parameters.length = k := Option.some.inj h
  rw [hv, this]
theorem pre_at {G : SG} {vs : List XV} {M M1 : XM} {R : Room} {s : State} {H : Heap} {locs : List Loc} {n0 u0 : Nat} {T : State} (hT : T.heap = H) (hR : sRel G M H) (hk : sKn G s) (hO : sOld G s H) (h1 : mN M ≤ mN M1) (h2 : mU M ≤ mU M1) (q1 : n0 ≤ mN M) (q2 : u0 ≤ mU M) (h3 : mN M1 ≤ n0 + R.cells) (h4 : mU M1 ≤ u0 + R.slots) {av : Array Value} (hav : av = (vs.map (sV G)).toArray) :
    ∀ vm₁, s.WarmedH vm₁ → PreOf R (mN M1 - mN M) (mU M1 - mU M) (sPc G vs M) ⟨T.setVm vm₁, locs, mN M - n0, mU M - u0⟩ av := by
  intro vm₁ hW
  refine ⟨by show mN M - n0 + _ ≤ _; omega, by show mU M - u0 + _ ≤ _; omega, hav, ?_, ?_, ?_⟩
  · show sRel G M T.heap
    rw [hT]; exact hR
  · exact hk.warm (U := T.setVm vm₁) hW
  · show sOld G (T.setVm vm₁) T.heap
    rw [hT]; exact hO.warm (U := T.setVm vm₁) hW
theorem monroom {m : MethodId} {ls : Array Slot} {stk : List Value} : 2 * (F0 m pc ls stk).monitorRoom = 0 := rfl
/-- a call through an object of a known class -/
theorem sc_V {cid k kd idx w : Nat} {q : vw_C} {y : MethodName} {b : ByteArray} {nl : Nat} {r : Option FieldType} (hy : sYn cid = y) (hws : sWs cid = ws_ y b nl r) (hnl : sLn cid = nl) (hle : nl ≤ 45) (hw : w = nl) (hkd : 1 ≤ kd ∧ kd ≤ 16) (hc : sCl[kd - 1]? = some q) (h1q : Cond.methodLink own idx y ∈ lw_all) (h2q : Cond.instanceMethod y ∈ lw_all) (h3q : Cond.selects q.1 y y ∈ lw_all) (h4q : Cond.code y b nl r ∈ lw_all) (h5q : Cond.initialized y.cls ∈ lw_all) (hyn : y.cls ≠ "java/lang/invoke/MethodHandle" ∧ y.cls ≠ "java/lang/invoke/VarHandle") (hp : (parseMethodDescriptor y.desc).map (fun d => d.parameters.length) = some k) (hd : decode cc pc = .ok (.invokevirtual idx, 3)) (hn : pc + 3 = n) : SndC own cc nL nm ret pc (ia_call n (k + 1) kd cid w) := by
  intro G p l e R s m args below meth c Q n0 u0 hC L st M g cid1 vs1 f1 hx hg d o M1 hM hf hlo h1 h2 h3 h4 hN hX
  unfold ia_call at hx
  split at hx
  · next a vs st' hst =>
    split at hx
    · next hb =>
      cases hx
      subst hn
      subst hw
      rw [Bool.and_eq_true] at hb
      obtain ⟨t1, t2, t3⟩ := stk_V (G := G) hst
      have hb1 := Nat.le_of_ble_eq_true hb.1
      have hb2 := Nat.le_of_ble_eq_true hb.2
      intro q1 q2 ok
      refine aw_after (av := (Value.ref (sMu G a) :: vs.map (sV G)).toArray) h1 h2 (fun o9 => (t3 o9.2).2) (fun o9 H locs ls hR hO hl T hT X => ?_) hN hX q1 q2 ok
      have hMet := hM (t3 o9.2).1 (by rw [hnl]; show 1 + xs_c vs ≤ _; exact hb2)
      obtain ⟨c0, cell, c1, c2, c3⟩ := recv_at hC.2.2.2.2.2.1 hR hkd hc hg
      have ha : a ≠ 0 := by omega
      have hK := back_n (R := R) (p := p) (e := e) (below := below) (s := s) (args := args) (len := 3) hMet hy hws hle h4q h5q hC.2.2.2.2.1 hf hlo
      rw [t2 ha]
      exact vx_callV X hC.1 (C := q.1) (bytes := b) (maxL := w) (ret := r) hC.2.2.2.1 (hC.2.2.2.2.1 _ h1q) (hC.2.2.2.2.1 _ h2q) (hC.2.2.2.2.1 _ h3q) (hC.2.2.2.2.1 _ h4q) hyn hK (by rw [hT]; exact c1) c2 c3 rfl (hl.1.trans hC.2.2.1.symm) (argsL := vs.map (sV G)) (rest := st'.map (sV G)) (par_len hp (by rw [List.length_map, t1])) rfl (by rw [monroom, xs_cat]; omega) (by rw [hC.2.1]; exact hd)
        (pre_at hT hR hC.2.2.2.2.2.1 hO h1 h2 q1 q2 h3 h4 (by rw [List.map_cons]; show _ = (va_rf (sRf G a) :: _).toArray; rw [show sRf G a = some (sMu G a) from if_neg ha]; rfl))
    · cases hx
  · cases hx
/-- a text of the tables -/
theorem str_ix {G : SG} {M : XM} (hS : okS M) (hO : okO G M) {a : Nat} (e : (mS M a).1 = 51) : ∃ i : Nat, i < 16 ∧ a = 2 + i := by
  have h1 := hS a (by rw [e]; decide)
  have h2 : 2 ≤ a ∧ a < 34 := by
    rcases h1 with ⟨-, q⟩ | ⟨q, -⟩ | ⟨-, q⟩
    · rw [e] at q; omega
    · exact q
    · rw [e] at q; rcases q with q | q <;> omega
  rcases Nat.lt_or_ge a 18 with h | h
  · exact ⟨a - 2, by omega, by omega⟩
  · exact absurd e (hO.2.2.1.2 a h h2.2)
theorem sMu_old {G : SG} {a : Nat} (h : a < 40) : sMu G a = gO G a := if_pos h
theorem recv_str {G : SG} {M : XM} {H : Heap} {s : State} {a : Nat} (hR : sRel G M H) (hO : sOld G s H) (e : (mS M a).1 = 51) : a ≠ 0 ∧ ∃ cell : Cell, H[sMu G a]? = some cell ∧ cell.vm.isStatics = false ∧ s.vm.findClass "java/lang/String" = some cell.cls := by
  obtain ⟨i, hi, rfl⟩ := str_ix hR.2.2.2.1 hR.2.2.2.2.1 e
  obtain ⟨cell, h1, h2, h3, -⟩ := (hO.2.1.1.1 i hi).1
  exact ⟨by omega, cell, by rw [sMu_old (by omega)]; exact h1, h2, h3⟩
/-- a call through a text -/
theorem sc_T {cid k idx w : Nat} {y : MethodName} {b : ByteArray} {nl : Nat} {r : Option FieldType} (hy : sYn cid = y) (hws : sWs cid = ws_ y b nl r) (hnl : sLn cid = nl) (hle : nl ≤ 45) (hw : w = nl) (h1q : Cond.methodLink own idx y ∈ lw_all) (h2q : Cond.instanceMethod y ∈ lw_all) (h3q : Cond.selects "java/lang/String" y y ∈ lw_all) (h4q : Cond.code y b nl r ∈ lw_all) (h5q : Cond.initialized y.cls ∈ lw_all) (hyn : y.cls ≠ "java/lang/invoke/MethodHandle" ∧ y.cls ≠ "java/lang/invoke/VarHandle") (hp : (parseMethodDescriptor y.desc).map (fun d => d.parameters.length) = some k) (hd : decode cc pc = .ok (.invokevirtual idx, 3)) (hn : pc + 3 = n) : SndC own cc nL nm ret pc (ia_call n (k + 1) 51 cid w) := by
  intro G p l e R s m args below meth c Q n0 u0 hC L st M g cid1 vs1 f1 hx hg d o M1 hM hf hlo h1 h2 h3 h4 hN hX
  unfold ia_call at hx
  split at hx
  · next a vs st' hst =>
    split at hx
    · next hb =>
      cases hx
      subst hn
      subst hw
      rw [Bool.and_eq_true] at hb
      obtain ⟨t1, t2, t3⟩ := stk_V (G := G) hst
      have hb1 := Nat.le_of_ble_eq_true hb.1
      have hb2 := Nat.le_of_ble_eq_true hb.2
      intro q1 q2 ok
      refine aw_after (av := (Value.ref (sMu G a) :: vs.map (sV G)).toArray) h1 h2 (fun o9 => (t3 o9.2).2) (fun o9 H locs ls hR hO hl T hT X => ?_) hN hX q1 q2 ok
      have hMet := hM (t3 o9.2).1 (by rw [hnl]; show 1 + xs_c vs ≤ _; exact hb2)
      obtain ⟨ha, cell, c1, c2, c3⟩ := recv_str hR hO hg
      have hK := back_n (R := R) (p := p) (e := e) (below := below) (s := s) (args := args) (len := 3) hMet hy hws hle h4q h5q hC.2.2.2.2.1 hf hlo
      rw [t2 ha]
      exact vx_callV X hC.1 (C := "java/lang/String") (bytes := b) (maxL := w) (ret := r) hC.2.2.2.1 (hC.2.2.2.2.1 _ h1q) (hC.2.2.2.2.1 _ h2q) (hC.2.2.2.2.1 _ h3q) (hC.2.2.2.2.1 _ h4q) hyn hK (by rw [hT]; exact c1) c2 c3 rfl (hl.1.trans hC.2.2.1.symm) (argsL := vs.map (sV G)) (rest := st'.map (sV G)) (par_len hp (by rw [List.length_map, t1])) rfl (by rw [monroom, xs_cat]; omega) (by rw [hC.2.1]; exact hd)
        (pre_at hT hR hC.2.2.2.2.2.1 hO h1 h2 q1 q2 h3 h4 (by rw [List.map_cons]; show _ = (va_rf (sRf G a) :: _).toArray; rw [show sRf G a = some (sMu G a) from if_neg ha]; rfl))
    · cases hx
  · cases hx
/-- a private method of a nest mate -/
theorem sc_VN {cid k kd idx w : Nat} {q : vw_C} {y : MethodName} {b : ByteArray} {nl : Nat} {r : Option FieldType} (hy : sYn cid = y) (hws : sWs cid = ws_ y b nl r) (hnl : sLn cid = nl) (hle : nl ≤ 45) (hw : w = nl) (hkd : 1 ≤ kd ∧ kd ≤ 16) (hc : sCl[kd - 1]? = some q) {host : String} (h1q : Cond.methodLinkNest own idx y host ∈ lw_tbl) (h2q : Cond.instanceMethod y ∈ lw_all) (h3q : Cond.selects q.1 y y ∈ lw_all) (h4q : Cond.code y b nl r ∈ lw_all) (h5q : Cond.initialized y.cls ∈ lw_all) (hyn : y.cls ≠ "java/lang/invoke/MethodHandle" ∧ y.cls ≠ "java/lang/invoke/VarHandle") (hp : (parseMethodDescriptor y.desc).map (fun d => d.parameters.length) = some k) (hd : decode cc pc = .ok (.invokevirtual idx, 3)) (hn : pc + 3 = n) : SndC own cc nL nm ret pc (ia_call n (k + 1) kd cid w) := by
  intro G p l e R s m args below meth c Q n0 u0 hC L st M g cid1 vs1 f1 hx hg d o M1 hM hf hlo h1 h2 h3 h4 hN hX
  unfold ia_call at hx
  split at hx
  · next a vs st' hst =>
    split at hx
    · next hb =>
      cases hx
      subst hn
      subst hw
      rw [Bool.and_eq_true] at hb
      obtain ⟨t1, t2, t3⟩ := stk_V (G := G) hst
      have hb1 := Nat.le_of_ble_eq_true hb.1
      have hb2 := Nat.le_of_ble_eq_true hb.2
      intro q1 q2 ok
      refine aw_after (av := (Value.ref (sMu G a) :: vs.map (sV G)).toArray) h1 h2 (fun o9 => (t3 o9.2).2) (fun o9 H locs ls hR hO hl T hT X => ?_) hN hX q1 q2 ok
      have hMet := hM (t3 o9.2).1 (by rw [hnl]; show 1 + xs_c vs ≤ _; exact hb2)
      obtain ⟨c0, cell, c1, c2, c3⟩ := recv_at hC.2.2.2.2.2.1 hR hkd hc hg
      have ha : a ≠ 0 := by omega
      have hK := back_n (R := R) (p := p) (e := e) (below := below) (s := s) (args := args) (len := 3) hMet hy hws hle h4q h5q hC.2.2.2.2.1 hf hlo
      rw [t2 ha]
      exact vx_callVN X hC.1 (C := q.1) (bytes := b) (maxL := w) (ret := r) hC.2.2.2.1 (va_Nw.use rfl (hC.2.2.2.2.2.1.2.1 _ h1q rfl)) (hC.2.2.2.2.1 _ h2q) (hC.2.2.2.2.1 _ h3q) (hC.2.2.2.2.1 _ h4q) hyn hK (by rw [hT]; exact c1) c2 c3 rfl (hl.1.trans hC.2.2.1.symm) (argsL := vs.map (sV G)) (rest := st'.map (sV G)) (par_len hp (by rw [List.length_map, t1])) rfl (by rw [monroom, xs_cat]; omega) (by rw [hC.2.1]; exact hd)
        (pre_at hT hR hC.2.2.2.2.2.1 hO h1 h2 q1 q2 h3 h4 (by rw [List.map_cons]; show _ = (va_rf (sRf G a) :: _).toArray; rw [show sRf G a = some (sMu G a) from if_neg ha]; rfl))
    · cases hx
  · cases hx
/-- a method with handlers -/
theorem sc_VW {cid k kd idx w : Nat} {q : vw_C} {y : MethodName} {b : ByteArray} {nl : Nat} {r : Option FieldType} (hy : sYn cid = y) {hh : List (Nat × Nat × Nat × Nat)} (hws : sWs cid = wsW_ y b nl r hh) (hnl : sLn cid = nl) (hle : nl ≤ 45) (hw : w = nl) (hkd : 1 ≤ kd ∧ kd ≤ 16) (hc : sCl[kd - 1]? = some q) (h1q : Cond.methodLink own idx y ∈ lw_all) (h2q : Cond.instanceMethod y ∈ lw_all) (h3q : Cond.selects q.1 y y ∈ lw_all) (h4q : Cond.codeWith y b nl r hh ∈ lw_all) (h5q : Cond.initialized y.cls ∈ lw_all) (hyn : y.cls ≠ "java/lang/invoke/MethodHandle" ∧ y.cls ≠ "java/lang/invoke/VarHandle") (hp : (parseMethodDescriptor y.desc).map (fun d => d.parameters.length) = some k) (hd : decode cc pc = .ok (.invokevirtual idx, 3)) (hn : pc + 3 = n) : SndC own cc nL nm ret pc (ia_call n (k + 1) kd cid w) := by
  intro G p l e R s m args below meth c Q n0 u0 hC L st M g cid1 vs1 f1 hx hg d o M1 hM hf hlo h1 h2 h3 h4 hN hX
  unfold ia_call at hx
  split at hx
  · next a vs st' hst =>
    split at hx
    · next hb =>
      cases hx
      subst hn
      subst hw
      rw [Bool.and_eq_true] at hb
      obtain ⟨t1, t2, t3⟩ := stk_V (G := G) hst
      have hb1 := Nat.le_of_ble_eq_true hb.1
      have hb2 := Nat.le_of_ble_eq_true hb.2
      intro q1 q2 ok
      refine aw_after (av := (Value.ref (sMu G a) :: vs.map (sV G)).toArray) h1 h2 (fun o9 => (t3 o9.2).2) (fun o9 H locs ls hR hO hl T hT X => ?_) hN hX q1 q2 ok
      have hMet := hM (t3 o9.2).1 (by rw [hnl]; show 1 + xs_c vs ≤ _; exact hb2)
      obtain ⟨c0, cell, c1, c2, c3⟩ := recv_at hC.2.2.2.2.2.1 hR hkd hc hg
      have ha : a ≠ 0 := by omega
      have hK := back_w (R := R) (p := p) (e := e) (below := below) (s := s) (args := args) (len := 3) hMet hy hws hle h4q h5q hC.2.2.2.2.1 hf hlo
      rw [t2 ha]
      exact vx_callVX X hC.1 (C := q.1) (bytes := b) (maxL := w) (ret := r) hC.2.2.2.1 (hC.2.2.2.2.1 _ h1q) (hC.2.2.2.2.1 _ h2q) (hC.2.2.2.2.1 _ h3q) (hC.2.2.2.2.1 _ h4q) hyn hK (by rw [hT]; exact c1) c2 c3 rfl (hl.1.trans hC.2.2.1.symm) (argsL := vs.map (sV G)) (rest := st'.map (sV G)) (par_len hp (by rw [List.length_map, t1])) rfl (by rw [monroom, xs_cat]; omega) (by rw [hC.2.1]; exact hd)
        (pre_at hT hR hC.2.2.2.2.2.1 hO h1 h2 q1 q2 h3 h4 (by rw [List.map_cons]; show _ = (va_rf (sRf G a) :: _).toArray; rw [show sRf G a = some (sMu G a) from if_neg ha]; rfl))
    · cases hx
  · cases hx
/-- a constructor -/
theorem sc_I {cid k kd idx w : Nat} {q : vw_C} {y : MethodName} {b : ByteArray} {nl : Nat} (hy : sYn cid = y) (hws : sWs cid = ws_ y b nl none) (hnl : sLn cid = nl) (hle : nl ≤ 45) (hw : w = nl) (hkd : 1 ≤ kd ∧ kd ≤ 16) (hc : sCl[kd - 1]? = some q) (hin : y.name = "<init>") (h1q : Cond.methodLink own idx y ∈ lw_all) (h2q : Cond.instanceMethod y ∈ lw_all) (h4q : Cond.code y b nl none ∈ lw_all) (h5q : Cond.initialized y.cls ∈ lw_all) (hyn : y.cls ≠ "java/lang/invoke/MethodHandle" ∧ y.cls ≠ "java/lang/invoke/VarHandle") (hp : (parseMethodDescriptor y.desc).map (fun d => d.parameters.length) = some k) (hd : decode cc pc = .ok (.invokespecial idx, 3)) (hn : pc + 3 = n) : SndC own cc nL nm ret pc (ia_call n (k + 1) kd cid w) := by
  intro G p l e R s m args below meth c Q n0 u0 hC L st M g cid1 vs1 f1 hx hg d o M1 hM hf hlo h1 h2 h3 h4 hN hX
  unfold ia_call at hx
  split at hx
  · next a vs st' hst =>
    split at hx
    · next hb =>
      cases hx
      subst hn
      subst hw
      rw [Bool.and_eq_true] at hb
      obtain ⟨t1, t2, t3⟩ := stk_V (G := G) hst
      have hb1 := Nat.le_of_ble_eq_true hb.1
      have hb2 := Nat.le_of_ble_eq_true hb.2
      intro q1 q2 ok
      refine aw_after (av := (Value.ref (sMu G a) :: vs.map (sV G)).toArray) h1 h2 (fun o9 => (t3 o9.2).2) (fun o9 H locs ls hR hO hl T hT X => ?_) hN hX q1 q2 ok
      have hMet := hM (t3 o9.2).1 (by rw [hnl]; show 1 + xs_c vs ≤ _; exact hb2)
      obtain ⟨c0, cell, c1, c2, c3⟩ := recv_at hC.2.2.2.2.2.1 hR hkd hc hg
      have ha : a ≠ 0 := by omega
      have hK := back_n (R := R) (p := p) (e := e) (below := below) (s := s) (args := args) (len := 3) hMet hy hws hle h4q h5q hC.2.2.2.2.1 hf hlo
      rw [t2 ha]
      exact vx_callI X hC.1 (bytes := b) (maxL := w) hC.2.2.2.1 hin (hC.2.2.2.2.1 _ h1q) (hC.2.2.2.2.1 _ h2q) (hC.2.2.2.2.1 _ h4q) hyn hK rfl (hl.1.trans hC.2.2.1.symm) (argsL := vs.map (sV G)) (rest := st'.map (sV G)) (par_len hp (by rw [List.length_map, t1])) rfl (by rw [monroom, xs_cat]; omega) (by rw [hC.2.1]; exact hd)
        (pre_at hT hR hC.2.2.2.2.2.1 hO h1 h2 q1 q2 h3 h4 (by rw [List.map_cons]; show _ = (va_rf (sRf G a) :: _).toArray; rw [show sRf G a = some (sMu G a) from if_neg ha]; rfl))
    · cases hx
  · cases hx
/-- a private constructor of a nest mate -/
theorem sc_IN {cid k kd idx w : Nat} {q : vw_C} {y : MethodName} {b : ByteArray} {nl : Nat} (hy : sYn cid = y) (hws : sWs cid = ws_ y b nl none) (hnl : sLn cid = nl) (hle : nl ≤ 45) (hw : w = nl) (hkd : 1 ≤ kd ∧ kd ≤ 16) (hc : sCl[kd - 1]? = some q) (hin : y.name = "<init>") {host : String} (h1q : Cond.methodLinkNest own idx y host ∈ lw_tbl) (h2q : Cond.instanceMethod y ∈ lw_all) (h4q : Cond.code y b nl none ∈ lw_all) (h5q : Cond.initialized y.cls ∈ lw_all) (hyn : y.cls ≠ "java/lang/invoke/MethodHandle" ∧ y.cls ≠ "java/lang/invoke/VarHandle") (hp : (parseMethodDescriptor y.desc).map (fun d => d.parameters.length) = some k) (hd : decode cc pc = .ok (.invokespecial idx, 3)) (hn : pc + 3 = n) : SndC own cc nL nm ret pc (ia_call n (k + 1) kd cid w) := by
  intro G p l e R s m args below meth c Q n0 u0 hC L st M g cid1 vs1 f1 hx hg d o M1 hM hf hlo h1 h2 h3 h4 hN hX
  unfold ia_call at hx
  split at hx
  · next a vs st' hst =>
    split at hx
    · next hb =>
      cases hx
      subst hn
      subst hw
      rw [Bool.and_eq_true] at hb
      obtain ⟨t1, t2, t3⟩ := stk_V (G := G) hst
      have hb1 := Nat.le_of_ble_eq_true hb.1
      have hb2 := Nat.le_of_ble_eq_true hb.2
      intro q1 q2 ok
      refine aw_after (av := (Value.ref (sMu G a) :: vs.map (sV G)).toArray) h1 h2 (fun o9 => (t3 o9.2).2) (fun o9 H locs ls hR hO hl T hT X => ?_) hN hX q1 q2 ok
      have hMet := hM (t3 o9.2).1 (by rw [hnl]; show 1 + xs_c vs ≤ _; exact hb2)
      obtain ⟨c0, cell, c1, c2, c3⟩ := recv_at hC.2.2.2.2.2.1 hR hkd hc hg
      have ha : a ≠ 0 := by omega
      have hK := back_n (R := R) (p := p) (e := e) (below := below) (s := s) (args := args) (len := 3) hMet hy hws hle h4q h5q hC.2.2.2.2.1 hf hlo
      rw [t2 ha]
      exact vx_callIN X hC.1 (bytes := b) (maxL := w) hC.2.2.2.1 hin (va_Nw.use rfl (hC.2.2.2.2.2.1.2.1 _ h1q rfl)) (hC.2.2.2.2.1 _ h2q) (hC.2.2.2.2.1 _ h4q) hyn hK rfl (hl.1.trans hC.2.2.1.symm) (argsL := vs.map (sV G)) (rest := st'.map (sV G)) (par_len hp (by rw [List.length_map, t1])) rfl (by rw [monroom, xs_cat]; omega) (by rw [hC.2.1]; exact hd)
        (pre_at hT hR hC.2.2.2.2.2.1 hO h1 h2 q1 q2 h3 h4 (by rw [List.map_cons]; show _ = (va_rf (sRf G a) :: _).toArray; rw [show sRf G a = some (sMu G a) from if_neg ha]; rfl))
    · cases hx
  · cases hx
/-- a static method -/
theorem sc_S {cid k idx w : Nat} {y : MethodName} {b : ByteArray} {nl : Nat} {r : Option FieldType} (hy : sYn cid = y) (hws : sWs cid = ws_ y b nl r) (hnl : sLn cid = nl) (hle : nl ≤ 45) (hw : w = nl) (h1q : Cond.methodLink own idx y ∈ lw_all) (h2q : Cond.static y ∈ lw_all) (h4q : Cond.code y b nl r ∈ lw_all) (h5q : Cond.initialized y.cls ∈ lw_all) (hyn : y.cls ≠ "java/lang/invoke/MethodHandle" ∧ y.cls ≠ "java/lang/invoke/VarHandle") (hp : (parseMethodDescriptor y.desc).map (fun d => d.parameters.length) = some k) (hd : decode cc pc = .ok (.invokestatic idx, 3)) (hn : pc + 3 = n) : SndC own cc nL nm ret pc (ia_stat n k cid w) := by
  intro G p l e R s m args below meth c Q n0 u0 hC L st M g cid1 vs1 f1 hx hg d o M1 hM hf hlo h1 h2 h3 h4 hN hX
  unfold ia_stat at hx
  split at hx
  · next vs st' hst =>
    split at hx
    · next hb =>
      cases hx
      subst hn
      subst hw
      rw [Bool.and_eq_true] at hb
      obtain ⟨t1, t2, t3⟩ := stk_S (G := G) hst
      have hb1 := Nat.le_of_ble_eq_true hb.1
      have hb2 := Nat.le_of_ble_eq_true hb.2
      intro q1 q2 ok
      refine aw_after (av := (vs1.map (sV G)).toArray) h1 h2 (fun o9 => (t3 o9.2).2) (fun o9 H locs ls hR hO hl T hT X => ?_) hN hX q1 q2 ok
      have hMet := hM (t3 o9.2).1 (by rw [hnl]; exact hb2)
      have hK := back_n (R := R) (p := p) (e := e) (below := below) (s := s) (args := args) (len := 3) hMet hy hws hle h4q h5q hC.2.2.2.2.1 hf hlo
      rw [t2]
      exact vx_callS X hC.1 (bytes := b) (maxL := w) (ret := r) hC.2.2.2.1 (hC.2.2.2.2.1 _ h1q) (hC.2.2.2.2.1 _ h2q) (hC.2.2.2.2.1 _ h5q) (hC.2.2.2.2.1 _ h4q) hyn hK rfl (hl.1.trans hC.2.2.1.symm) (argsL := vs1.map (sV G)) (rest := st'.map (sV G)) (par_len hp (by rw [List.length_map, t1])) rfl (by rw [monroom, xs_cat]; omega) (by rw [hC.2.1]; exact hd)
        (pre_at hT hR hC.2.2.2.2.2.1 hO h1 h2 q1 q2 h3 h4 rfl)
    · cases hx
  · cases hx
/-! returns and throws -/
def sRd : Option XV → Instr
  | none => .return_
  | some (.inl _) => .ireturn
  | some (.inr (.inl _)) => .lreturn
  | some (.inr (.inr _)) => .areturn
def retOk : Option FieldType → Option XV → Prop
  | none, none => True
  | some .int, some (.inl _) => True
  | some .boolean, some (.inl x) => x = 0 ∨ x = 1
  | some .byte, some (.inl x) => x = 0 ∨ x = 1
  | some .char, some (.inl x) => 0 ≤ x ∧ x < 128
  | some .long, some (.inr (.inl _)) => True
  | some (.object _), some (.inr (.inr _)) => True
  | some (.array _), some (.inr (.inr _)) => True
  | _, _ => False
def SndT (cc : ByteArray) (ret : Option FieldType) (pc : Nat) (xi : XI) : Prop := ∀ (L : XL) (st : List XV) (M : XM) (g : Prop) (v : Option XV), xi L st M = rT g v → g → decode cc pc = .ok (sRd v, 1) ∧ st = v.toList ∧ retOk ret v
def SndX (cc : ByteArray) (pc : Nat) (xi : XI) : Prop := ∀ (L : XL) (st : List XV) (M : XM) (g : Prop) (a : Nat), xi L st M = rX g a → g → decode cc pc = .ok (.athrow, 1) ∧ (mS M a).1 = 10 ∧ ∃ rest, st = vR a :: rest
theorem all128 {P : Int → Prop} (h : ∀ k : Fin 128, P ((k.val : Nat) : Int)) {x : Int} (h0 : 0 ≤ x) (h1 : x < 128) : P x := by
  have e : x = ((x.toNat : Nat) : Int) := by omega
  have k := h ⟨x.toNat, by omega⟩
  rw [e]
  exact k
theorem nar_ch {x : Int} (h0 : 0 ≤ x) (h1 : x < 128) : narrow .char (.int (Int32.ofInt x)) = .int (Int32.ofInt x) := all128 (P := fun x => narrow .char (.int (Int32.ofInt x)) = .int (Int32.ofInt x)) (by decide) h0 h1
theorem i2c_ch {x : Int} (h0 : 0 ≤ x) (h1 : x < 128) : ((Int32.ofInt x).toUInt32 % 65536).toInt32 = Int32.ofInt x := all128 (P := fun x => ((Int32.ofInt x).toUInt32 % 65536).toInt32 = Int32.ofInt x) (by decide) h0 h1
theorem ret_W {G : SG} {p : Program} {l : Launch} {e : Env} {R : Room} {s : State} {m : MethodId} {args : Array Value} {below : List Frame} {meth : Method} {c : Code} {H : Heap} {locs : List Loc} {cells slots : Nat} {Qc : Array Value → State → Outcome → State → Prop} {ls : Array Slot} {v : Option XV}
    (hx : p.tables.exec = Jvm.exec) (hb : c.code = cc) (hr : meth.sig.returnType = ret) (hlocks : meth.locks = false) (hd : decode cc pc = .ok (sRd v, 1)) (ho : retOk ret v) (hq : ∀ t : State, t.heap = H → s.WarmedH t.vm → Qc args s (.returned (v.map (sV G))) t) (hf : ∀ q ∈ locs, sFr G q.base) :
    W p l e R s m args below meth c H locs cells slots (MQ below Qc args s cells slots (sFr G)) (F0 m pc ls (v.toList.map (sV G))) := by
  rcases v with _ | x | x | a
  · cases ret with
    | none => exact W.vret hx hb hr hq hf hd
    | some t => cases t <;> exact ho.elim
  · cases ret with
    | none => exact ho.elim
    | some t =>
      cases t with
      | int => exact W.iret (v := Int32.ofInt x) hx hb hr hq hf hd
      | boolean => exact W.zret (v := Int32.ofInt x) (ty := .boolean) hx hb hr (by rcases ho with z | z <;> subst z <;> rfl) hq hf hd
      | byte => exact W.zret (v := Int32.ofInt x) (ty := .byte) hx hb hr (by rcases ho with z | z <;> subst z <;> rfl) hq hf hd
      | char => exact W.zret (v := Int32.ofInt x) (ty := .char) hx hb hr (nar_ch ho.1 ho.2) hq hf hd
      | _ => exact ho.elim
  · cases ret with
    | none => exact ho.elim
    | some t =>
      cases t with
      | long => exact W.lret (v := Int64.ofInt x) hx hb hr hq hf hd
      | _ => exact ho.elim
  · have hv : va_rf (sRf G a) = .null ∨ ∃ z, va_rf (sRf G a) = .ref z := va_rf_or _
    cases ret with
    | none => exact ho.elim
    | some t =>
      cases t with
      | object C => exact W.aret (v := va_rf (sRf G a)) (rt := .object C) hx hb hr (Or.inl ⟨C, rfl⟩) hv hq hf hd
      | array C => exact W.aret (v := va_rf (sRf G a)) (rt := .array C) hx hb hr (Or.inr ⟨C, rfl⟩) hv hq hf hd
      | _ => exact ho.elim
end
