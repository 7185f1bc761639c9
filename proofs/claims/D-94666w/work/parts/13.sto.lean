/-! SOUNDNESS, 5: stores into arrays, new cells, casts, copies -/
section
variable {own : String} {cc : ByteArray} {nL : Nat} {nm : String} {ret : Option FieldType} {pc n : Nat}
/-- the world behind a store into an array of whole numbers -/
theorem sRel.stI {G : SG} {M : XM} {H H1 : Heap} {a kd : Nat} {f : Int → Int} (hR : sRel G M H) (hk : 100 ≤ kd ∧ kd ≤ 102) (ha : 40 ≤ a) (e : (mS M a).1 = kd) (hok : okM (wI M a f))
    (hc : H1[sMu G a]? = some (arrV (gA G kd) (mS M a).2 (fun j => .int (Int32.ofInt (f (j : Int)))))) (z : H1.size = H.size) (oq : ∀ q : Nat, q ≠ sMu G a → H1[q]? = H[q]?) : sRel G (wI M a f) H1 := by
  refine hR.wr ha rfl rfl (fun b hb => ⟨up_n _ _ hb, rfl, rfl⟩) hok ?_ z oq
  unfold sAt
  rw [if_neg (by rw [e]; omega), e, hc, mI_wI, up_s]
  congr 2
  funext j
  exact (sEl_I hk.2).symm
theorem sRel.stJ {G : SG} {M : XM} {H H1 : Heap} {a : Nat} {f : Int → Int} (hR : sRel G M H) (ha : 40 ≤ a) (e : (mS M a).1 = 103) (hok : okM (wJ M a f))
    (hc : H1[sMu G a]? = some (arrV (gA G 103) (mS M a).2 (fun j => .long (Int64.ofInt (f (j : Int)))))) (z : H1.size = H.size) (oq : ∀ q : Nat, q ≠ sMu G a → H1[q]? = H[q]?) : sRel G (wJ M a f) H1 := by
  refine hR.wr ha rfl rfl (fun b hb => ⟨rfl, up_n _ _ hb, rfl⟩) hok ?_ z oq
  unfold sAt
  rw [if_neg (by rw [e]; omega), e, hc, mJ_wJ, up_s]
  rfl
theorem sRel.stR {G : SG} {M : XM} {H H1 : Heap} {a kd : Nat} {f : Int → Nat} (hR : sRel G M H) (hk : 104 ≤ kd ∧ kd ≤ 107) (ha : 40 ≤ a) (e : (mS M a).1 = kd) (hok : okM (wR M a f))
    (hc : H1[sMu G a]? = some (arrV (gA G kd) (mS M a).2 (fun j => va_rf (sRf G (f (j : Int)))))) (z : H1.size = H.size) (oq : ∀ q : Nat, q ≠ sMu G a → H1[q]? = H[q]?) : sRel G (wR M a f) H1 := by
  refine hR.wr ha rfl rfl (fun b hb => ⟨rfl, rfl, up_n _ _ hb⟩) hok ?_ z oq
  unfold sAt
  rw [if_neg (by rw [e]; omega), e, hc, mR_wR, up_s]
  congr 2
  funext j
  exact (sEl_R hk.1).symm
theorem mu_ge {G : SG} {a : Nat} (ha : 40 ≤ a) : gB G ≤ sMu G a := by rw [sMu_new ha]; omega
theorem ne_mu {G : SG} {a q : Nat} (ha : 40 ≤ a) (hq : q < gB G) : q ≠ sMu G a := by have := mu_ge (G := G) ha; omega
theorem snd_iastore (hd : decode cc pc = .ok (.iastore, 1)) (hn : pc + 1 = n) : Snd own cc nL nm ret pc (ia_stI n) := by
  intro G p l e R s m args below meth c Q n0 u0 hC L st M f1 M1 g hx hg h1 h2
  unfold ia_stI at hx
  split at hx
  · next x i a st =>
    cases hx
    subst hn
    refine ⟨⟨Nat.le_refl _, Nat.le_refl _⟩, fun kk => ?_⟩
    intro q1 q2 o H locs ls hR hO hS hl
    obtain ⟨ha, hb, hcell⟩ := ar_at (by omega) hR hg.1
    have hxv := okF_h o.2
    have o1 := okF_t o.2
    obtain ⟨hin, hix⟩ := vp_ofI hg.2.1 hg.2.2 (okF_h o1)
    show W p l e R s m args below meth c H locs _ _ Q (F0 m pc ls (.int (Int32.ofInt x) :: .int (Int32.ofInt i) :: (vR a :: st).map (sV G)))
    rw [sV_cons ha]
    refine W.iast hC.1 hC.2.1 hcell ((ar_of hC.2.2.2.2.2.1 0 rfl).1 _ _) (fun q => by cases q) (by rw [arrV_size]; exact hin) rfl rfl hd (fun H1 e1 e2 e3 => ?_)
    refine kk q1 q2 ⟨o.1, okF_t (okF_t o1)⟩ H1 _ ls (hR.stI (by omega) ha hg.1 (okM_wI hR.2.2.1 (ui_ok (hR.2.2.1.1 a) hxv) (fun z => by rw [hg.1] at z; omega) (fun z => by rw [hg.1] at z; omega)) ?_ e2 e3) (hO.kept (by omega) (fun q hq => e3 q (ne_mu ha hq))) (hS.put e2 e3 (mu_ge ha)) hl
    rw [e1, arrV_store, hix, ui_up (fun z => .int (Int32.ofInt z)) _ _ hg.2.1]
    congr 3
  · cases hx
theorem snd_zastore (hd : decode cc pc = .ok (.bastore, 1)) (hn : pc + 1 = n) : Snd own cc nL nm ret pc (ia_stZ n) := by
  intro G p l e R s m args below meth c Q n0 u0 hC L st M f1 M1 g hx hg h1 h2
  unfold ia_stZ at hx
  split at hx
  · next x i a st =>
    cases hx
    subst hn
    refine ⟨⟨Nat.le_refl _, Nat.le_refl _⟩, fun kk => ?_⟩
    intro q1 q2 o H locs ls hR hO hS hl
    obtain ⟨hg, hz⟩ := hg
    obtain ⟨ha, hb, hcell⟩ := ar_at (by omega) hR hg.1
    have hxv := okF_h o.2
    have o1 := okF_t o.2
    obtain ⟨hin, hix⟩ := vp_ofI hg.2.1 hg.2.2 (okF_h o1)
    show W p l e R s m args below meth c H locs _ _ Q (F0 m pc ls (.int (Int32.ofInt x) :: .int (Int32.ofInt i) :: (vR a :: st).map (sV G)))
    rw [sV_cons ha]
    refine W.zast hC.1 hC.2.1 hcell ((ar_of hC.2.2.2.2.2.1 1 rfl).1 _ _) (fun q => by cases q) (by rw [arrV_size]; exact hin) rfl rfl hd (fun H1 e1 e2 e3 => ?_)
    have en : narrow .boolean (.int (Int32.ofInt x)) = .int (Int32.ofInt x) := by rcases hz with z | z <;> subst z <;> rfl
    rw [en] at e1
    refine kk q1 q2 ⟨o.1, okF_t (okF_t o1)⟩ H1 _ ls (hR.stI (by omega) ha hg.1 (okM_wI hR.2.2.1 (ui_ok (hR.2.2.1.1 a) hxv) (fun z => ui_ok (P := fun y => y = 0 ∨ y = 1) (fun i => hR.2.2.1.2.2.1 a i z) hz) (fun z => by rw [hg.1] at z; omega)) ?_ e2 e3) (hO.kept (by omega) (fun q hq => e3 q (ne_mu ha hq))) (hS.put e2 e3 (mu_ge ha)) hl
    rw [e1, arrV_store, hix, ui_up (fun z => .int (Int32.ofInt z)) _ _ hg.2.1]
    congr 3
  · cases hx
theorem nar_b {x : Int} (h : -128 ≤ x ∧ x < 128) : narrow .byte (.int (Int32.ofInt x)) = .int (Int32.ofInt x) := by
  have h1 : (Int32.ofInt x).toInt8.toInt32 = Int32.ofInt x := by
    apply Int32.toInt_inj.mp
    rw [Int8.toInt_toInt32, Int32.toInt8_ofInt, ofI_t (by unfold okI; omega)]
    exact Int8.toInt_ofInt_of_le (by omega) (by omega)
  show Value.int ((Int32.ofInt x).toInt8.toInt32) = _
  rw [h1]
theorem snd_bastore (hd : decode cc pc = .ok (.bastore, 1)) (hn : pc + 1 = n) : Snd own cc nL nm ret pc (ia_stB n) := by
  intro G p l e R s m args below meth c Q n0 u0 hC L st M f1 M1 g hx hg h1 h2
  unfold ia_stB at hx
  split at hx
  · next x i a st =>
    cases hx
    subst hn
    refine ⟨⟨Nat.le_refl _, Nat.le_refl _⟩, fun kk => ?_⟩
    intro q1 q2 o H locs ls hR hO hS hl
    obtain ⟨hg, hz⟩ := hg
    obtain ⟨ha, hb, hcell⟩ := ar_at (by omega) hR hg.1
    have hxv := okF_h o.2
    have o1 := okF_t o.2
    obtain ⟨hin, hix⟩ := vp_ofI hg.2.1 hg.2.2 (okF_h o1)
    show W p l e R s m args below meth c H locs _ _ Q (F0 m pc ls (.int (Int32.ofInt x) :: .int (Int32.ofInt i) :: (vR a :: st).map (sV G)))
    rw [sV_cons ha]
    refine W.bast hC.1 hC.2.1 hcell ((ar_of hC.2.2.2.2.2.1 2 rfl).1 _ _) (fun q => by cases q) (by rw [arrV_size]; exact hin) rfl rfl hd (fun H1 e1 e2 e3 => ?_)
    rw [nar_b hz] at e1
    refine kk q1 q2 ⟨o.1, okF_t (okF_t o1)⟩ H1 _ ls (hR.stI (by omega) ha hg.1 (okM_wI hR.2.2.1 (ui_ok (hR.2.2.1.1 a) hxv) (fun z => by rw [hg.1] at z; omega) (fun z => ui_ok (P := fun y => -128 ≤ y ∧ y < 128) (fun i => hR.2.2.1.2.2.2.1 a i z) hz)) ?_ e2 e3) (hO.kept (by omega) (fun q hq => e3 q (ne_mu ha hq))) (hS.put e2 e3 (mu_ge ha)) hl
    rw [e1, arrV_store, hix, ui_up (fun z => .int (Int32.ofInt z)) _ _ hg.2.1]
    congr 3
  · cases hx
theorem snd_lastore (hd : decode cc pc = .ok (.lastore, 1)) (hn : pc + 1 = n) : Snd own cc nL nm ret pc (ia_stJ n) := by
  intro G p l e R s m args below meth c Q n0 u0 hC L st M f1 M1 g hx hg h1 h2
  unfold ia_stJ at hx
  split at hx
  · next x i a st =>
    cases hx
    subst hn
    refine ⟨⟨Nat.le_refl _, Nat.le_refl _⟩, fun kk => ?_⟩
    intro q1 q2 o H locs ls hR hO hS hl
    obtain ⟨ha, hb, hcell⟩ := ar_at (by omega) hR hg.1
    have hxv := okF_h o.2
    have o1 := okF_t o.2
    obtain ⟨hin, hix⟩ := vp_ofI hg.2.1 hg.2.2 (okF_h o1)
    show W p l e R s m args below meth c H locs _ _ Q (F0 m pc ls (.long (Int64.ofInt x) :: .int (Int32.ofInt i) :: (vR a :: st).map (sV G)))
    rw [sV_cons ha]
    refine W.last hC.1 hC.2.1 hcell ((ar_of hC.2.2.2.2.2.1 3 rfl).1 _ _) (fun q => by cases q) (by rw [arrV_size]; exact hin) rfl rfl hd (fun H1 e1 e2 e3 => ?_)
    refine kk q1 q2 ⟨o.1, okF_t (okF_t o1)⟩ H1 _ ls (hR.stJ ha hg.1 (okM_wJ hR.2.2.1 (ui_ok (hR.2.2.1.2.1 a) hxv)) ?_ e2 e3) (hO.kept (by omega) (fun q hq => e3 q (ne_mu ha hq))) (hS.put e2 e3 (mu_ge ha)) hl
    rw [e1, arrV_store, hix, ui_up (fun z => .long (Int64.ofInt z)) _ _ hg.2.1]
    rfl
  · cases hx
/-- the element's class name of an array of references -/
def sEk : Nat → String
  | 104 => "java/lang/Object" | 105 => RX2 | 106 => RX1 | _ => RX6
theorem rf_of {G : SG} {U : State} (h : sKn G U) {kd : Nat} (hk : 104 ≤ kd ∧ kd ≤ 107) : ArrOfT U (gA G kd) (.object (sEk kd)) ∧ ∃ (kA : Class) (comp : ClassId), U.vm.classes[gA G kd]? = some kA ∧ kA.kind = .array comp (.object (sEk kd)) ∧ U.vm.findClass (sEk kd) = some comp ∧ U.vm.findClass ("[" ++ (FieldType.object (sEk kd)).toString) = some (gA G kd) := by
  rcases (show kd = 104 ∨ kd = 105 ∨ kd = 106 ∨ kd = 107 by omega) with z | z | z | z <;> subst z
  · exact ar_of h 4 rfl
  · exact ar_of h 5 rfl
  · exact ar_of h 6 rfl
  · exact ar_of h 7 rfl
/-- things of the kind kx may lie in the array -/
def sAs (kx : Nat) (E : String) : Prop := (1 ≤ kx ∧ kx ≤ 16) ∧ ∃ q, sCl[kx - 1]? = some q ∧ (q.1 = E ∨ Cond.castable q.1 E ∈ lw_tbl)
theorem sAs.asg {G : SG} {s : State} (h : sKn G s) {kx : Nat} {E : String} (ha : sAs kx E) {comp : ClassId} (hc : s.vm.findClass E = some comp) : s.vm.assignable ((gD G).1 (kx - 1)) comp = true := by
  obtain ⟨-, q, h1, h2⟩ := ha
  have hcl := (h.1.1 (kx - 1) q h1).2
  rcases h2 with z | z
  · rw [z] at hcl
    exact vb_asgS comp _ hc hcl.1
  · exact vb_asgC (h.2.1 _ z rfl) comp _ hc hcl.1
theorem ob_at {G : SG} {M : XM} {H : Heap} {s : State} {a kx : Nat} (hk : sKn G s) (hR : sRel G M H) {E : String} (ha : sAs kx E) (e : (mS M a).1 = kx) : 40 ≤ a ∧ ∃ cell : Cell, H[sMu G a]? = some cell ∧ cell.cls = (gD G).1 (kx - 1) ∧ cell.vm = .none ∧ ∃ q, sCl[kx - 1]? = some q ∧ s.vm.findClass q.1 = some cell.cls ∧ ∃ kC, s.vm.classes[cell.cls]? = some kC := by
  obtain ⟨h1, h2⟩ := okS_new hR.2.2.2.1 (Or.inl ha.1) e
  have h3 := (hR.2.2.2.2.2 a h1 h2).2
  unfold sAt at h3
  rw [if_pos (by rw [e]; have := ha.1; omega), e] at h3
  obtain ⟨cell, g1, g2, g3, -⟩ := h3
  obtain ⟨-, q, w1, -⟩ := ha
  obtain ⟨kC, y, -⟩ := (hk.1.1 (kx - 1) q w1).2.2
  exact ⟨h1, cell, g1, g2, g3, q, w1, by rw [g2]; exact (hk.1.1 (kx - 1) q w1).2.1, kC, by rw [g2]; exact y⟩
theorem snd_aastore {kd : Nat} {es : List Nat} (hk : 104 ≤ kd ∧ kd ≤ 107) (hes : ∀ kx ∈ es, sAs kx (sEk kd)) (hok : kd = 104 → es = okE) (hd : decode cc pc = .ok (.aastore, 1)) (hn : pc + 1 = n) : Snd own cc nL nm ret pc (ia_stR n kd es) := by
  intro G p l e R s m args below meth c Q n0 u0 hC L st M f1 M1 g hx hg h1 h2
  unfold ia_stR at hx
  split at hx
  · next x i a st =>
    cases hx
    subst hn
    refine ⟨⟨Nat.le_refl _, Nat.le_refl _⟩, fun kk => ?_⟩
    intro q1 q2 o H locs ls hR hO hS hl
    obtain ⟨hg, hz⟩ := hg
    obtain ⟨ha, hb, hcell⟩ := ar_at (by omega) hR hg.1
    have o1 := okF_t o.2
    obtain ⟨hin, hix⟩ := vp_ofI hg.2.1 hg.2.2 (okF_h o1)
    have hA := rf_of hC.2.2.2.2.2.1 hk
    have fin : ∀ H1 : Heap, H1[sMu G a]? = some ((arrV (gA G kd) (mS M a).2 (fun j => sEl G (mI M a) (mJ M a) (mR M a) kd j)).setSlot (Int32.ofInt i).toNatClampNeg (va_rf (sRf G x))) → H1.size = H.size → (∀ q, q ≠ sMu G a → H1[q]? = H[q]?) →
        W p l e R s m args below meth c H1 (locs ++ [⟨sMu G a, (Int32.ofInt i).toNatClampNeg⟩]) (mN M - n0) (mU M - u0) Q (F0 m (pc + 1) ls (st.map (sV G))) := by
      intro H1 e1 e2 e3
      refine kk q1 q2 ⟨o.1, okF_t (okF_t o1)⟩ H1 _ ls (hR.stR hk ha hg.1 (okM_wR hR.2.2.1 (fun z => ?_)) ?_ e2 e3) (hO.kept (by omega) (fun q hq => e3 q (ne_mu ha hq))) (hS.put e2 e3 (mu_ge ha)) hl
      · rw [hg.1] at z
        rw [hok z] at hz
        intro j
        unfold ui
        split
        · exact hz
        · exact hR.2.2.1.2.2.2.2 a j (by rw [hg.1]; exact z)
      · rw [e1, arrV_store, hix, ui_up (fun z => va_rf (sRf G z)) _ _ hg.2.1]
        congr 3
        funext j
        exact sEl_R hk.1
    show W p l e R s m args below meth c H locs _ _ Q (F0 m pc ls (va_rf (sRf G x) :: .int (Int32.ofInt i) :: (vR a :: st).map (sV G)))
    rw [sV_cons ha]
    by_cases hx0 : x = 0
    · subst hx0
      exact va_WaastN (C := sEk kd) hC.1 hC.2.1 hcell (hA.1 _ _) (fun q => by cases q) (by rw [arrV_size]; exact hin) rfl rfl hd fin
    · have hz2 := hz.resolve_left hx0
      obtain ⟨hx32, cv, g1, g2, g3, q, w1, w2, kC, w3⟩ := ob_at hC.2.2.2.2.2.1 hR (hes _ hz2) rfl
      have er : sRf G x = some (sMu G x) := sRf_new hx32
      rw [er] at fin ⊢
      obtain ⟨-, kA, comp, k1, k2, k3, -⟩ := hA
      obtain ⟨kE, hkE, -⟩ := Vm.findClass_spec k3
      refine W.aast hC.1 hC.2.1 hcell (fun q h => by cases h) (fun h => by cases h) k1 k2 rfl hkE ⟨fun z => hin (Or.inl z), by rw [arrV_size]; exact Nat.not_le.mp (fun z => hin (Or.inr z))⟩ g1 (fun q h => by rw [g3] at h; cases h) w3 (by rw [g2]; exact (hes _ hz2).asg hC.2.2.2.2.2.1 k3) rfl rfl hd fin
  · cases hx
/-- types with a plain first value -/
def okT : FieldType → Bool
  | .float => false
  | .double => false
  | _ => true
theorem sFv_0 {G : SG} {k : Nat} {t : FieldType} (h : okT t = true) : defaultValue t = sFv G (fun _ => 0) (fun _ => 0) (fun _ => 0) k t := by
  cases t <;> first | rfl | cases h
theorem snd_new {kd N : Nat} {C : String} {T : u_T} {ty : Nat → FieldType} {idx : Nat} (hci : sCi kd C T N ty) (hok : ∀ k, k < N → okT (ty k) = true) (hd : decode cc pc = .ok (.new idx, 3)) (h1q : Cond.classLink own idx C ∈ lw_all) (h2q : Cond.instantiable C N ∈ lw_all) (h3q : Cond.initialized C ∈ lw_all) (hn : pc + 3 = n) : Snd own cc nL nm ret pc (ia_new n kd N) := by
  intro G p l e R s m args below meth c Q n0 u0 hC L st M f1 M1 g hx hg h1 h2
  cases hx
  subst hn
  refine ⟨⟨by rw [mN_nO]; omega, by rw [mU_nO]; omega⟩, fun kk => ?_⟩
  intro q1 q2 o H locs ls hR hO hS hl
  rw [mN_nO] at h1
  rw [mU_nO] at h2
  have hKn := hC.2.2.2.2.2.1.1.1 (kd - 1) _ hci.2.1
  refine W.newcK hC.1 hC.2.1 hC.2.2.2.1 (hC.2.2.2.2.1 _ h1q) (hC.2.2.2.2.1 _ h2q) (hC.2.2.2.2.1 _ h3q) rfl hd (by omega) (by omega) hKn.2.1 rfl fun H1 kC hkC e1 z1 o1 => ?_
  have hsz : H.size = gB G + (mN M - 40) := hR.2.1
  have hmu : sMu G (mN M) = H.size := by rw [sMu_new hR.1, hsz]
  have hat : sAt G (kd, 0) (fun _ => 0) (fun _ => 0) (fun _ => 0) (mN M) H1 := by
    unfold sAt
    rw [if_pos (show kd < 100 by have := hci.1; omega), hmu]
    show t_OB H.size _ (sNf kd) _ H1 (fun k => sFv G _ _ _ k (sTyp kd k))
    rw [hci.2.2.1, hci.2.2.2.1]
    exact (u_born ty hC.2.2.2.2.1 hci.2.2.2.2.1 hKn hkC e1 hci.2.2.2.2.2.1).to (fun k hk => sFv_0 (hok k hk))
  have hk : okK kd := Or.inl hci.1
  have k1 := kk (by rw [mN_nO]; omega) (by rw [mU_nO]; omega) ⟨o.1, okF_c trivial o.2⟩ H1 locs ls (hR.nw hk (by omega) hat z1 o1) (hO.kept (by omega) (fun q hq => o1 q (by have := hO.1.2.2; omega))) ⟨Nat.le_trans hS.1 (by omega), fun x g1 g2 => (o1 x (Nat.lt_of_lt_of_le g1 hS.1)).trans (hS.2.1 x g1 g2), hS.2.2⟩ hl
  rw [mN_nO, mU_nO] at k1
  rw [show mN M + 1 - n0 = mN M - n0 + 1 by omega, show mU M + N - u0 = mU M - u0 + N by omega] at k1
  have e5 : (vR (mN M) :: st).map (sV G) = .ref H.size :: st.map (sV G) := by rw [sV_cons hR.1, hmu]
  show W p l e R s m args below meth c H1 locs _ _ Q (F0 m (pc + 3) ls (.ref H.size :: st.map (sV G)))
  rw [← e5]
  exact k1
theorem snd_newarr {kd t0 : Nat} {atype : ArrayType} (hk : 100 ≤ kd ∧ kd ≤ 103) (hty : newarray.typeOf atype = sTy kd) (ht0 : ∀ G : SG, (sTys G)[t0]? = some (gA G kd, sTy kd)) (hra : ∀ (G : SG) (U : State), va_RA U (gA G kd) (sTy kd) → U.vm.findClass ("[" ++ (sTy kd).toString) = some (gA G kd)) (hdv : ∀ (G : SG) (j : Nat), defaultValue (sTy kd) = sEl G (fun _ => 0) (fun _ => 0) (fun _ => 0) kd j) (hcb : componentBytes (sTy kd) ≤ 8)
    (hq : Cond.arrayClass (newarray.typeOf atype) ∈ lw_all) (hd : decode cc pc = .ok (.newarray atype, 2)) (hn : pc + 2 = n) : Snd own cc nL nm ret pc (ia_newa n kd) := by
  intro G p l e R s m args below meth c Q n0 u0 hC L st M f1 M1 g hx hg h1 h2
  unfold ia_newa at hx
  split at hx
  · next k st =>
    cases hx
    subst hn
    refine ⟨⟨by rw [mN_nO]; omega, by rw [mU_nO]; omega⟩, fun kk => ?_⟩
    intro q1 q2 o H locs ls hR hO hS hl
    rw [mN_nO] at h1
    rw [mU_nO] at h2
    have hkv := okF_h o.2
    have ek : (Int32.ofInt k).toInt = k := ofI_t hkv
    have hN : (Int32.ofInt k).toNatClampNeg = k.toNat := by show ((Int32.ofInt k).toInt).toNat = _; rw [ek]
    have hn0 : ¬ Int32.ofInt k < 0 := by rw [show (0 : Int32) = Int32.ofInt 0 from rfl, ofI_lt hkv ok0]; omega
    have hb : k.toNat * componentBytes (newarray.typeOf atype) ≤ 536870912 := by
      rw [hty]
      have : k.toNat ≤ 1000 := by omega
      calc k.toNat * componentBytes (sTy kd) ≤ 1000 * 8 := Nat.mul_le_mul this hcb
        _ ≤ 536870912 := by omega
    show W p l e R s m args below meth c H locs _ _ Q (F0 m pc ls (.int (Int32.ofInt k) :: st.map (sV G)))
    refine va_newaK hC.1 hC.2.1 (hC.2.2.2.2.1 _ hq) rfl hd rfl hn0 hN hb (by omega) (by omega) rfl fun H1 cA e1 z1 o1 hAr hNm => ?_
    have hcA : cA = gA G kd := by
      have h5 := hra G s (ar_of hC.2.2.2.2.2.1 t0 (ht0 G)).2
      rw [hty] at hNm
      exact Option.some.inj (hNm.symm.trans h5)
    subst hcA
    have hsz : H.size = gB G + (mN M - 40) := hR.2.1
    have hmu : sMu G (mN M) = H.size := by rw [sMu_new hR.1, hsz]
    have hat : sAt G (kd, k.toNat) (fun _ => 0) (fun _ => 0) (fun _ => 0) (mN M) H1 := by
      unfold sAt
      rw [if_neg (show ¬ kd < 100 by omega), hmu, e1]
      congr 2
      funext j
      rw [hty]
      exact hdv G j
    have k1 := kk (by rw [mN_nO]; omega) (by rw [mU_nO]; omega) ⟨o.1, okF_c trivial (okF_t o.2)⟩ H1 locs ls (hR.nw (Or.inr (by omega)) (by omega) hat z1 o1) (hO.kept (by omega) (fun q hq => o1 q (by have := hO.1.2.2; omega))) ⟨Nat.le_trans hS.1 (by omega), fun x g1 g2 => (o1 x (Nat.lt_of_lt_of_le g1 hS.1)).trans (hS.2.1 x g1 g2), hS.2.2⟩ hl
    rw [mN_nO, mU_nO] at k1
    rw [show mN M + 1 - n0 = mN M - n0 + 1 by omega, show mU M + k.toNat - u0 = mU M - u0 + k.toNat by omega] at k1
    have e5 : (vR (mN M) :: st).map (sV G) = .ref H.size :: st.map (sV G) := by rw [sV_cons hR.1, hmu]
    show W p l e R s m args below meth c H1 locs _ _ Q (F0 m (pc + 2) ls (.ref H.size :: st.map (sV G)))
    rw [← e5]
    exact k1
  · cases hx
theorem snd_anew {kd idx : Nat} (hk : 104 ≤ kd ∧ kd ≤ 107) (hq : Cond.classLink own idx (sEk kd) ∈ lw_all) (hd : decode cc pc = .ok (.anewarray idx, 3)) (hn : pc + 3 = n) : Snd own cc nL nm ret pc (ia_newa n kd) := by
  intro G p l e R s m args below meth c Q n0 u0 hC L st M f1 M1 g hx hg h1 h2
  unfold ia_newa at hx
  split at hx
  · next k st =>
    cases hx
    subst hn
    refine ⟨⟨by rw [mN_nO]; omega, by rw [mU_nO]; omega⟩, fun kk => ?_⟩
    intro q1 q2 o H locs ls hR hO hS hl
    rw [mN_nO] at h1
    rw [mU_nO] at h2
    have hkv := okF_h o.2
    have ek : (Int32.ofInt k).toInt = k := ofI_t hkv
    have hN : (Int32.ofInt k).toNatClampNeg = k.toNat := by show ((Int32.ofInt k).toInt).toNat = _; rw [ek]
    have hn0 : ¬ Int32.ofInt k < 0 := by rw [show (0 : Int32) = Int32.ofInt 0 from rfl, ofI_lt hkv ok0]; omega
    have hao : (Cond.arrayOver (.object (sEk kd))).before args s = true := by
      have hh := hC.2.2.2.2.2.1.2.2
      rcases (show kd = 104 ∨ kd = 105 ∨ kd = 106 ∨ kd = 107 by omega) with z | z | z | z <;> subst z
      · exact va_AO.use hh.1
      · exact va_AO.use hh.2.1
      · exact va_AO.use hh.2.2.1
      · exact va_AO.use hh.2.2.2
    show W p l e R s m args below meth c H locs _ _ Q (F0 m pc ls (.int (Int32.ofInt k) :: st.map (sV G)))
    refine W.anew hC.1 hC.2.1 hC.2.2.2.1 (hC.2.2.2.2.1 _ hq) hao rfl hd rfl hn0 (by rw [hN]; omega) (by omega) (by rw [hN]; omega) fun cA kA comp f1 f2 f3 f4 => ?_
    have hcA : cA = gA G kd := by
      obtain ⟨-, kA2, comp2, r1, r2, r3, r4⟩ := rf_of hC.2.2.2.2.2.1 hk
      exact Option.some.inj (f1.symm.trans r4)
    subst hcA
    rw [hN]
    generalize hH1 : H.push ({ cls := gA G kd, slots := Array.replicate k.toNat .null, vm := .none } : Cell) = H1
    have z1 : H1.size = H.size + 1 := by rw [← hH1, Array.size_push]
    have e1 : H1[H.size]? = some (arrV (gA G kd) k.toNat (fun _ => .null)) := by rw [← hH1, Array.getElem?_push_size, ← arrV_new]
    have o1 : ∀ q : Nat, q < H.size → H1[q]? = H[q]? := fun q hq => by rw [← hH1, Array.getElem?_push, if_neg (Nat.ne_of_lt hq)]
    have hsz : H.size = gB G + (mN M - 40) := hR.2.1
    have hmu : sMu G (mN M) = H.size := by rw [sMu_new hR.1, hsz]
    have hat : sAt G (kd, k.toNat) (fun _ => 0) (fun _ => 0) (fun _ => 0) (mN M) H1 := by
      unfold sAt
      rw [if_neg (show ¬ kd < 100 by omega), hmu, e1]
      congr 2
      funext j
      rw [sEl_R hk.1]
      rfl
    have k1 := kk (by rw [mN_nO]; omega) (by rw [mU_nO]; omega) ⟨o.1, okF_c trivial (okF_t o.2)⟩ H1 locs ls (hR.nw (Or.inr (by omega)) (by omega) hat z1 o1) (hO.kept (by omega) (fun q hq => o1 q (by have := hO.1.2.2; omega))) ⟨Nat.le_trans hS.1 (by omega), fun x g1 g2 => (o1 x (Nat.lt_of_lt_of_le g1 hS.1)).trans (hS.2.1 x g1 g2), hS.2.2⟩ hl
    rw [mN_nO, mU_nO] at k1
    rw [show mN M + 1 - n0 = mN M - n0 + 1 by omega, show mU M + k.toNat - u0 = mU M - u0 + k.toNat by omega] at k1
    have e5 : (vR (mN M) :: st).map (sV G) = .ref H.size :: st.map (sV G) := by rw [sV_cons hR.1, hmu]
    show W p l e R s m args below meth c H1 locs _ _ Q (F0 m (pc + 3) ls (.ref H.size :: st.map (sV G)))
    rw [← e5]
    exact k1
  · cases hx
theorem snd_cast {idx : Nat} {E : String} {ks : List Nat} (hes : ∀ kx ∈ ks, sAs kx E) (hq : Cond.classLink own idx E ∈ lw_all) (hd : decode cc pc = .ok (.checkcast idx, 3)) (hn : pc + 3 = n) : Snd own cc nL nm ret pc (ia_cast n ks) := by
  intro G p l e R s m args below meth c Q n0 u0 hC L st M f1 M1 g hx hg h1 h2
  unfold ia_cast at hx
  split at hx
  · next a st =>
    cases hx
    subst hn
    refine ⟨⟨Nat.le_refl _, Nat.le_refl _⟩, fun kk => ?_⟩
    intro q1 q2 o H locs ls hR hO hS hl
    have k1 := kk q1 q2 o H locs ls hR hO hS hl
    by_cases ha0 : a = 0
    · subst ha0
      exact lv_castN hC.1 hC.2.1 hd k1
    · have hz := hg.resolve_left ha0
      obtain ⟨ha, cell, g1, g2, g3, q, w1, w2, -⟩ := ob_at hC.2.2.2.2.2.1 hR (hes _ hz) rfl
      rw [sV_cons ha] at k1 ⊢
      obtain ⟨-, q', w1', w4⟩ := hes _ hz
      cases w1.symm.trans w1'
      rcases w4 with z | z
      · exact va_castE hC.1 hC.2.1 hC.2.2.2.1 (hC.2.2.2.2.1 _ hq) ⟨cell, g1, by rw [g3]; rfl, by rw [← z]; exact w2⟩ hd k1
      · exact va_castY hC.1 hC.2.1 hC.2.2.2.1 (hC.2.2.2.2.1 _ hq) (hC.2.2.2.2.2.1.2.1 _ z rfl) ⟨cell, g1, by rw [g3]; rfl, w2⟩ hd k1
  · cases hx
theorem xs_cat (G : SG) (st : List XV) : ((st.map (sV G)).map fun v => v.category).sum = xs_c st := by
  induction st with
  | nil => rfl
  | cons v st ih =>
    rw [List.map_cons, List.map_cons, List.sum_cons, ih, sV_cat]
    rcases v with x | x | a <;> rfl
theorem snd_obj {idx : Nat} (h1q : Cond.methodLink own idx Lib.objectInit ∈ lw_all) (h2q : Cond.instanceMethod Lib.objectInit ∈ lw_all) (h3q : Cond.code Lib.objectInit ⟨#[0xb1]⟩ 1 none ∈ lw_all) (hd : decode cc pc = .ok (.invokespecial idx, 3)) (hn : pc + 3 = n) : Snd own cc nL nm ret pc (ia_pop1 n) := by
  intro G p l e R s m args below meth c Q n0 u0 hC L st M f1 M1 g hx hg h1 h2
  unfold ia_pop1 at hx
  split at hx
  · next a st =>
    split at hx
    · next hle =>
      cases hx
      subst hn
      refine ⟨⟨Nat.le_refl _, Nat.le_refl _⟩, fun kk => ?_⟩
      intro q1 q2 o H locs ls hR hO hS hl
      have k1 := kk q1 q2 ⟨o.1, okF_t o.2⟩ H locs ls hR hO hS hl
      have hc := Nat.le_of_ble_eq_true hle
      have e : (vR a :: st).map (sV G) = .ref (sMu G a) :: st.map (sV G) := by
        show va_rf (sRf G a) :: _ = _
        rw [show sRf G a = some (sMu G a) from if_neg hg]; rfl
      rw [e]
      refine W.objInit hC.1 hC.2.1 hC.2.2.2.1 (hC.2.2.2.2.1 _ h1q) (hC.2.2.2.2.1 _ h2q) (hC.2.2.2.2.1 _ h3q) rfl (hl.1.trans hC.2.2.1.symm) rfl hd ?_ ?_ k1
      · have := hC.2.2.2.2.2.2.2.2.2.2.1; omega
      · rw [xs_cat]
        have := hC.2.2.2.2.2.2.2.2.2.2.2
        show 2 * 0 + _ + 12 ≤ _
        omega
    · cases hx
  · cases hx
/-! copies -/
theorem nn_i {z : Int} (h : okI z) (h0 : 0 ≤ z) : (Int32.ofInt z).toInt = z ∧ (Int32.ofInt z).toNatClampNeg = z.toNat ∧ ¬ Int32.ofInt z < 0 := by
  have e : (Int32.ofInt z).toInt = z := ofI_t h
  refine ⟨e, ?_, ?_⟩
  · show ((Int32.ofInt z).toInt).toNat = _
    rw [e]
  · rw [show (0 : Int32) = Int32.ofInt 0 from rfl, ofI_lt h ok0]; omega
theorem cpy_up {α : Type} (mk : α → Value) (f g : Int → α) (sp dp c : Int) (h1 : 0 ≤ sp) (h2 : 0 ≤ dp) (h3 : 0 ≤ c) : (fun j : Nat => mk (va_cpy (fun i : Nat => f (i : Int)) (fun i : Nat => g (i : Int)) sp.toNat dp.toNat c.toNat j)) = fun j : Nat => mk (cpy f g sp dp c (j : Int)) := by
  funext j
  unfold va_cpy cpy
  by_cases h : dp ≤ (j : Int) ∧ (j : Int) < dp + c
  · have e : ((sp.toNat + (j - dp.toNat) : Nat) : Int) = sp + ((j : Int) - dp) := by omega
    rw [if_pos h, if_pos (by omega)]
    dsimp only
    rw [e]
  · rw [if_neg h, if_neg (by omega)]
theorem cpy_ok {P : Int → Prop} {f g : Int → Int} {sp dp c : Int} (h1 : ∀ i, P (f i)) (h2 : ∀ i, P (g i)) : ∀ i, P (cpy f g sp dp c i) := by
  intro i; unfold cpy; split
  · exact h1 _
  · exact h2 _
theorem fits_of {M : XM} {a kd : Nat} (hM : okM M) (e : (mS M a).1 = kd) (hk : kd = 100 ∨ kd = 101) (i : Int) : fits (sTy kd) (.int (Int32.ofInt (mI M a i))) = true := by
  rcases hk with z | z <;> subst z
  · rfl
  · rcases hM.2.2.1 a i e with z | z <;> rw [z] <;> rfl
theorem snd_cpI {kd t0 idx : Nat} (hk : kd = 100 ∨ kd = 101) (ht0 : ∀ G : SG, (sTys G)[t0]? = some (gA G kd, sTy kd)) (h1q : Cond.methodLink own idx arraycopyName ∈ lw_all) (h2q : Cond.native arraycopyName ∈ lw_all) (h3q : Cond.static arraycopyName ∈ lw_all) (h4q : Cond.initialized "java/lang/System" ∈ lw_all) (hd : decode cc pc = .ok (.invokestatic idx, 3)) (hn : pc + 3 = n) : Snd own cc nL nm ret pc (ia_cpI n kd) := by
  intro G p l e R s m args below meth c Q n0 u0 hC L st M f1 M1 g hx hg h1 h2
  unfold ia_cpI at hx
  split at hx
  · next len dp b sp a st =>
    split at hx
    · next hle =>
      cases hx
      subst hn
      refine ⟨⟨Nat.le_refl _, Nat.le_refl _⟩, fun kk => ?_⟩
      intro q1 q2 o H locs ls hR hO hS hl
      have hcl := Nat.le_of_ble_eq_true hle
      obtain ⟨⟨ga, gb⟩, g1, g2, g3, g4, g5⟩ := hg
      have hk2 : 100 ≤ kd ∧ kd ≤ 107 := by rcases hk with z | z <;> omega
      obtain ⟨ha, ha2, hca⟩ := ar_at hk2 hR ga
      obtain ⟨hb, hb2, hcb⟩ := ar_at hk2 hR gb
      have hca : H[sMu G a]? = some (arrV (gA G kd) (mS M a).2 (fun j => .int (Int32.ofInt (mI M a (j : Int))))) := by
        rw [hca]; congr 2; funext j; exact sEl_I (by rcases hk with z | z <;> omega)
      have hcb : H[sMu G b]? = some (arrV (gA G kd) (mS M b).2 (fun j => .int (Int32.ofInt (mI M b (j : Int))))) := by
        rw [hcb]; congr 2; funext j; exact sEl_I (by rcases hk with z | z <;> omega)
      have o0 := o.2
      obtain ⟨e1, e2, e3⟩ := nn_i (okF_h o0) g3
      have o0 := okF_t o0
      obtain ⟨d1, d2, d3⟩ := nn_i (okF_h o0) g2
      have o0 := okF_t (okF_t o0)
      obtain ⟨s1, s2, s3⟩ := nn_i (okF_h o0) g1
      have o0 := okF_t (okF_t o0)
      have hA := (ar_of hC.2.2.2.2.2.1 t0 (ht0 G)).1
      show W p l e R s m args below meth c H locs _ _ Q (F0 m pc ls (.int (Int32.ofInt len) :: .int (Int32.ofInt dp) :: sV G (vR b) :: .int (Int32.ofInt sp) :: sV G (vR a) :: st.map (sV G)))
      rw [sV_ref ha, sV_ref hb]
      intro T hT X
      obtain ⟨-, k0, hk0, cm0, hkk0⟩ := hA (mS M a).2 (fun j => .int (Int32.ofInt (mI M a (j : Int))))
      obtain ⟨-, k1, hk1, cm1, hkk1⟩ := hA (mS M b).2 (fun j => .int (Int32.ofInt (mI M b (j : Int))))
      obtain ⟨vm', X', step⟩ := X.arraycopy hC.1 hC.2.2.2.1 (hC.2.2.2.2.1 _ h1q) (hC.2.2.2.2.1 _ h2q) (hC.2.2.2.2.1 _ h3q) (hC.2.2.2.2.1 _ h4q) (src := sMu G a) (dst := sMu G b) (srcPos := Int32.ofInt sp) (destPos := Int32.ofInt dp) (n := Int32.ofInt len) (by rw [hT]; exact hca) (by rw [hT]; exact hcb)
        (fun _ h => by cases h) (fun _ h => by cases h) (fun h => by cases h) (fun h => by cases h) hk0 hk1 hkk0 hkk1 (by rcases hk with z | z <;> subst z <;> rfl) s3 d3 e3
        (by rw [s1, e1, arrV_size]; omega) (by rw [d1, e1, arrV_size]; omega)
        (fun vm₁ _ i hi => by
          rw [s2]
          rw [e2] at hi
          have e9 : (arrV (gA G kd) (mS M a).2 (fun j => .int (Int32.ofInt (mI M a (j : Int))))).slots.getD (sp.toNat + i) .null = .int (Int32.ofInt (mI M a ((sp.toNat + i : Nat) : Int))) := by
            rw [Array.getD_eq_getD_getElem?, arrV_read _ _ (by omega)]
            rfl
          rw [e9]
          exact ⟨fits_of hR.2.2.1 ga hk _, trivial⟩)
        (g := F0 m pc ls (.int (Int32.ofInt len) :: .int (Int32.ofInt dp) :: .ref (sMu G b) :: .int (Int32.ofInt sp) :: .ref (sMu G a) :: st.map (sV G))) rfl (by show ls.size = _; rw [hl.1, hC.2.2.1]) (rest := st.map (sV G)) rfl (by rw [hC.2.1]; exact hd) (by have := hC.2.2.2.2.2.2.2.2.2.2.1; omega)
        (by
          have h9 := hC.2.2.2.2.2.2.2.2.2.2.2
          rw [xs_cat]
          have : nativeFrameWords "java/lang/System" "arraycopy" 5 ≤ 64 := by decide
          show 2 * 0 + _ + _ ≤ _
          omega)
      have e8 : copied (arrV (gA G kd) (mS M a).2 (fun j => .int (Int32.ofInt (mI M a (j : Int))))) (arrV (gA G kd) (mS M b).2 (fun j => .int (Int32.ofInt (mI M b (j : Int))))) (Int32.ofInt sp) (Int32.ofInt dp) (Int32.ofInt len) = arrV (gA G kd) (mS M b).2 (fun j => .int (Int32.ofInt (cpy (mI M a) (mI M b) sp dp len (j : Int)))) := by
        have h9 := va_copied (fun z : Int => Value.int (Int32.ofInt z)) (gA G kd) (gA G kd) (n0 := (mS M a).2) (n1 := (mS M b).2) (sp := sp.toNat) (dp := dp.toNat) (n := len.toNat) (fun j : Nat => mI M a (j : Int)) (fun j : Nat => mI M b (j : Int)) (by omega)
        rw [cpy_up (fun z : Int => Value.int (Int32.ofInt z)) _ _ _ _ _ g1 g2 g3] at h9
        unfold copied
        rw [s2, d2, e2]
        exact h9
      rw [e8] at X' step
      have hlt : sMu G b < H.size := (Array.getElem?_eq_some_iff.mp hcb).1
      have oq : ∀ q : Nat, q ≠ sMu G b → (H.setIfInBounds (sMu G b) (arrV (gA G kd) (mS M b).2 (fun j => .int (Int32.ofInt (cpy (mI M a) (mI M b) sp dp len (j : Int))))))[q]? = H[q]? := fun q hq => by simp [Array.getElem?_setIfInBounds, Ne.symm hq]
      have hheap : ((T.setVm vm').setCell (sMu G b) (arrV (gA G kd) (mS M b).2 (fun j => .int (Int32.ofInt (cpy (mI M a) (mI M b) sp dp len (j : Int)))))).heap = H.setIfInBounds (sMu G b) (arrV (gA G kd) (mS M b).2 (fun j => .int (Int32.ofInt (cpy (mI M a) (mI M b) sp dp len (j : Int))))) := by rw [← hT]; rfl
      have hself : (H.setIfInBounds (sMu G b) (arrV (gA G kd) (mS M b).2 (fun j => .int (Int32.ofInt (cpy (mI M a) (mI M b) sp dp len (j : Int))))))[sMu G b]? = some (arrV (gA G kd) (mS M b).2 (fun j => .int (Int32.ofInt (cpy (mI M a) (mI M b) sp dp len (j : Int))))) := by simp [Array.getElem?_setIfInBounds, hlt]
      have hz : (H.setIfInBounds (sMu G b) (arrV (gA G kd) (mS M b).2 (fun j => .int (Int32.ofInt (cpy (mI M a) (mI M b) sp dp len (j : Int)))))).size = H.size := by simp
      have k1 := fun (L1 : List Loc) (hL1 : ∀ q ∈ L1, q.base = sMu G b) => kk q1 q2 ⟨o.1, o0⟩ _ (locs ++ L1) ls (hR.stI (by rcases hk with z | z <;> omega) hb gb (okM_wI hR.2.2.1 (cpy_ok (P := okI) (hR.2.2.1.1 a) (hR.2.2.1.1 b)) (fun z => cpy_ok (P := fun y => y = 0 ∨ y = 1) (fun i => hR.2.2.1.2.2.1 a i (by rw [ga, ← gb]; exact z)) (fun i => hR.2.2.1.2.2.1 b i z)) (fun z => by rw [gb] at z; rcases hk with w | w <;> omega)) hself hz oq) (hO.kept (by omega) (fun q hq => oq q (ne_mu hb hq))) ⟨by rw [hz]; exact hS.1, fun q w1 w2 => by
        rw [oq q (fun z => w2 (by show gB G ≤ q; rw [z]; exact mu_ge hb))]
        exact hS.2.1 q w1 w2, fun q hq => by
        rcases List.mem_append.mp hq with h | h
        · exact hS.2.2 q h
        · show gB G ≤ q.base
          rw [hL1 q h]
          exact mu_ge hb⟩ hl
      obtain ⟨t, a1, b1⟩ := k1 _ (fun q hq => by obtain ⟨z, -, hz⟩ := List.mem_map.mp hq; rw [← hz]) _ hheap X'
      exact ⟨t, step t a1, b1⟩
    · cases hx
  · cases hx
end
