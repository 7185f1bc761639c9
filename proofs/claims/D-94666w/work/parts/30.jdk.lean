/-! CONTRACTS, 7: the JDK's small methods; texts; lists -/
theorem c_261 (d : Nat) (x y : Int) (M : XM) : Ct d 261 [vI x, vI y] M (RI fun r M1 => M1 = M ∧ r = max x y) := by
  unfold Ct
  refine ev_t rfl ?_
  refine ev_t rfl ?_
  refine sv_b 0 100 rfl rfl (fun h => ?_) (fun h => ?_)
  · have h1 : x < y := h
    refine ev_t rfl ?_
    exact ev_r rfl trivial ⟨_, rfl, rfl, by omega⟩
  · have h1 : ¬ x < y := h
    refine ev_t rfl ?_
    refine ev_t rfl ?_
    exact ev_r rfl trivial ⟨_, rfl, rfl, by omega⟩
theorem c_262 (d : Nat) (x y : Int) (M : XM) : Ct d 262 [vI x, vI y] M (RI fun r M1 => M1 = M ∧ r = min x y) := by
  unfold Ct
  refine ev_t rfl ?_
  refine ev_t rfl ?_
  refine sv_b 0 100 rfl rfl (fun h => ?_) (fun h => ?_)
  · have h1 : y < x := h
    refine ev_t rfl ?_
    exact ev_r rfl trivial ⟨_, rfl, rfl, by omega⟩
  · have h1 : ¬ y < x := h
    refine ev_t rfl ?_
    refine ev_t rfl ?_
    exact ev_r rfl trivial ⟨_, rfl, rfl, by omega⟩
theorem c_264 (d : Nat) (i n : Int) (a : Nat) (M : XM) (h0 : 0 ≤ i) (h1 : i < n) : Ct d 264 [vI i, vI n, vR a] M (RI fun r M1 => M1 = M ∧ r = i) := by
  unfold Ct
  refine ev_t rfl ?_
  refine sv_bf 0 100 rfl rfl (by show ¬ i < 0; omega) ?_
  refine ev_t rfl ?_
  refine ev_t rfl ?_
  refine sv_bt 0 100 rfl rfl h1 ?_
  refine ev_t rfl ?_
  exact ev_r rfl trivial ⟨_, rfl, rfl, rfl⟩
theorem c_263 (d : Nat) (i n : Int) (M : XM) (h0 : 0 ≤ i) (h1 : i < n) : Ct (d + 1) 263 [vI i, vI n] M (RI fun r M1 => M1 = M ∧ r = i) := by
  unfold Ct
  refine ev_t rfl ?_
  refine ev_t rfl ?_
  refine ev_t rfl ?_
  refine sv_cp 0 100 rfl rfl (c_264 _ _ _ _ _ h0 h1) trivial ?_
  exact ev_r rfl trivial ⟨_, rfl, rfl, rfl⟩
/-- a text at a, of n letters -/
abbrev isT (M : XM) (a n : Nat) : Prop := (mS M a).1 = 51 ∧ mS M (a + 16) = (52, n) ∧ ∀ j : Int, 0 ≤ j → j < n → 0 ≤ mI M (a + 16) j ∧ mI M (a + 16) j < 128
theorem c_268 (d a : Nat) (M : XM) (h : (mS M a).1 = 51) : Ct d 268 [vR a] M (RI fun r M1 => M1 = M ∧ r = 0) := by
  unfold Ct
  refine ev_t rfl ?_
  refine sv_bf 0 100 rfl rfl (by decide) ?_
  refine ev_t rfl ?_
  refine ev_g rfl h ?_
  refine ev_t rfl ?_
  exact ev_r rfl (Or.inl rfl) ⟨_, rfl, rfl, rfl⟩
theorem c_270 (d a : Nat) (M : XM) (h : (mS M a).1 = 51) : Ct d 270 [vR a] M (RI fun r M1 => M1 = M ∧ r = 1) := by
  unfold Ct
  refine ev_t rfl ?_
  refine sv_bf 0 100 rfl rfl (by decide) ?_
  refine ev_t rfl ?_
  refine ev_g rfl h ?_
  refine sv_bf 0 100 rfl rfl (by decide) ?_
  refine ev_t rfl ?_
  refine ev_t rfl ?_
  exact ev_r rfl (Or.inr rfl) ⟨_, rfl, rfl, rfl⟩
theorem shr0 (x : Int) (h : okI x) : bShr x 0 = x := by
  refine tb_ext (ok_shr _ _) h (fun k hk => ?_)
  rw [tb_shr (by decide) (by decide) k (by simpa using hk)]
  rfl
theorem c_267 (d a n : Nat) (M : XM) (h : isT M a n) (hn : n ≤ 100) : Ct (d + 1) 267 [vR a] M (RI fun r M1 => M1 = M ∧ r = n) := by
  unfold Ct
  refine ev_t rfl ?_
  refine ev_g rfl h.1 ?_
  refine ev_g rfl (by rw [h.2.1]; exact List.mem_singleton.mpr rfl) ?_
  rw [h.2.1]
  refine ev_t rfl ?_
  refine sv_cp 0 100 rfl rfl (c_268 _ _ _ h.1) h.1 ?_
  refine ev_t rfl ?_
  exact ev_r rfl trivial ⟨_, rfl, rfl, shr0 _ (by unfold okI; show -2147483648 ≤ (n : Int) ∧ (n : Int) < 2147483648; omega)⟩
theorem c_271 (d : Nat) (i n : Int) (M : XM) (h0 : 0 ≤ i) (h1 : i < n) : Ct (d + 1) 271 [vI i, vI n] M (RV fun M1 => M1 = M) := by
  unfold Ct
  refine ev_t rfl ?_
  refine ev_t rfl ?_
  refine ev_t rfl ?_
  refine sv_cp 0 100 rfl rfl (c_264 _ _ _ _ _ h0 h1) trivial ?_
  refine ev_t rfl ?_
  exact ev_r rfl trivial ⟨rfl, rfl⟩
theorem and255 {x : Int} (h0 : 0 ≤ x) (h1 : x < 128) : bAnd x 255 = x := all128 (P := fun x => bAnd x 255 = x) (by decide) h0 h1
theorem c_269 (d a n : Nat) (i : Int) (M : XM) (h : isT M a n) (h0 : 0 ≤ i) (h1 : i < n) : Ct (d + 3) 269 [vR a, vI i] M (RI fun r M1 => M1 = M ∧ r = mI M (a + 16) i) := by
  have hc := h.2.2 i h0 h1
  have k2 : Ct (d + 2) 272 [vR (a + 16), vI i] M (RI fun r M1 => M1 = M ∧ r = mI M (a + 16) i) := by
    unfold Ct
    refine ev_t rfl ?_
    refine ev_t rfl ?_
    refine ev_g rfl (by rw [h.2.1]; exact List.mem_singleton.mpr rfl) ?_
    rw [h.2.1]
    refine ev_cv rfl trivial (c_271 _ _ _ _ h0 h1) (fun M1 hM => ?_)
    subst hM
    refine ev_t rfl ?_
    refine ev_t rfl ?_
    refine ev_g rfl (by rw [h.2.1]; exact ⟨rfl, h0, h1⟩) ?_
    refine ev_t rfl ?_
    refine ev_t rfl ?_
    rw [and255 hc.1 hc.2]
    refine ev_g rfl hc ?_
    exact ev_r rfl hc ⟨_, rfl, rfl, rfl⟩
  unfold Ct
  refine ev_t rfl ?_
  refine sv_cp 0 100 rfl rfl (c_270 _ _ _ h.1) h.1 ?_
  refine sv_bf 0 100 rfl rfl (by decide) ?_
  refine ev_t rfl ?_
  refine ev_g rfl h.1 ?_
  refine ev_t rfl ?_
  refine sv_cp 0 100 rfl rfl k2 trivial ?_
  exact ev_r rfl hc ⟨_, rfl, rfl, rfl⟩
/-! lists -/
/-- a list at l with its row of cells at A -/
abbrev isL (M : XM) (l A n cap : Nat) : Prop := (mS M l).1 = 16 ∧ mR M l 1 = A ∧ mS M A = (104, cap) ∧ mI M l 2 = n ∧ n ≤ cap
theorem isL.g {M : XM} {l A n cap : Nat} (h : isL M l A n cap) {i : Int} (h0 : 0 ≤ i) (h1 : i < cap) : (mS M A).1 = 104 ∧ 0 ≤ i ∧ i < ((mS M A).2 : Int) := by rw [h.2.2.1]; exact ⟨rfl, h0, h1⟩
theorem c_254 (d l A n cap : Nat) (M : XM) (h : isL M l A n cap) : Ct d 254 [vR l] M (RI fun r M1 => M1 = M ∧ r = n) := by
  unfold Ct
  refine ev_t rfl ?_
  refine ev_g rfl h.1 ?_
  exact ev_r rfl trivial ⟨_, rfl, rfl, h.2.2.2.1⟩
theorem c_258 (d l A n cap : Nat) (i : Int) (M : XM) (h : isL M l A n cap) (h0 : 0 ≤ i) (h1 : i < n) : Ct (d + 2) 258 [vR l, vI i] M (RR fun r M1 => M1 = M ∧ r = mR M A i) := by
  have hcap : i < cap := by have := h.2.2.2.2; omega
  have k1 : Ct (d + 1) 259 [vR l, vI i] M (RR fun r M1 => M1 = M ∧ r = mR M A i) := by
    unfold Ct
    refine ev_t rfl ?_
    refine sv_fr 0 100 rfl rfl h.2.1 h.1 ?_
    refine ev_t rfl ?_
    refine ev_g rfl (h.g h0 hcap) ?_
    exact ev_r rfl trivial ⟨_, rfl, rfl, rfl⟩
  unfold Ct
  refine ev_t rfl ?_
  refine ev_t rfl ?_
  refine ev_g rfl h.1 ?_
  rw [h.2.2.2.1]
  refine sv_cp 0 100 rfl rfl (c_263 _ _ _ _ h0 h1) trivial ?_
  refine ev_t rfl ?_
  refine ev_t rfl ?_
  refine ev_t rfl ?_
  refine ev_cr rfl h.1 k1 (fun r M1 hM => ?_)
  obtain ⟨rfl, rfl⟩ := hM
  exact ev_r rfl trivial ⟨_, rfl, rfl, rfl⟩
/-- what was there stays, but the rows of whole numbers of SI, of references of SR -/
def Kp (M M1 : XM) (SI SR : Nat → Prop) : Prop := mN M ≤ mN M1 ∧ ∀ a, a < mN M → mS M1 a = mS M a ∧ mJ M1 a = mJ M a ∧ (¬ SI a → mI M1 a = mI M a) ∧ (¬ SR a → mR M1 a = mR M a)
theorem Kp.rf {M : XM} {SI SR : Nat → Prop} : Kp M M SI SR := ⟨Nat.le_refl _, fun _ _ => ⟨rfl, rfl, fun _ => rfl, fun _ => rfl⟩⟩
theorem Kp.tr {M M1 M2 : XM} {SI SR : Nat → Prop} (h : Kp M M1 SI SR) (h2 : Kp M1 M2 SI SR) : Kp M M2 SI SR :=
  ⟨Nat.le_trans h.1 h2.1, fun a ha => by
    obtain ⟨a1, a2, a3, a4⟩ := h.2 a ha
    obtain ⟨b1, b2, b3, b4⟩ := h2.2 a (Nat.lt_of_lt_of_le ha h.1)
    exact ⟨b1.trans a1, b2.trans a2, fun z => (b3 z).trans (a3 z), fun z => (b4 z).trans (a4 z)⟩⟩
theorem Kp.mono {M M1 : XM} {SI SR TI TR : Nat → Prop} (h : Kp M M1 SI SR) (h1 : ∀ a, a < mN M → SI a → TI a) (h2 : ∀ a, a < mN M → SR a → TR a) : Kp M M1 TI TR :=
  ⟨h.1, fun a ha => ⟨(h.2 a ha).1, (h.2 a ha).2.1, fun z => (h.2 a ha).2.2.1 (fun y => z (h1 a ha y)), fun z => (h.2 a ha).2.2.2 (fun y => z (h2 a ha y))⟩⟩
theorem Kp.sI {M M1 : XM} {SI SR : Nat → Prop} (h : Kp M M1 SI SR) {a : Nat} (f : Int → Int) (ha : mN M ≤ a ∨ SI a) : Kp M (wI M1 a f) SI SR :=
  ⟨h.1, fun b hb => ⟨(h.2 b hb).1, (h.2 b hb).2.1, fun z => by
    rw [mI_wI, up_n _ _ (fun e => by subst e; rcases ha with q | q; omega; exact z q)]
    exact (h.2 b hb).2.2.1 z, (h.2 b hb).2.2.2⟩⟩
theorem Kp.sR {M M1 : XM} {SI SR : Nat → Prop} (h : Kp M M1 SI SR) {a : Nat} (f : Int → Nat) (ha : mN M ≤ a ∨ SR a) : Kp M (wR M1 a f) SI SR :=
  ⟨h.1, fun b hb => ⟨(h.2 b hb).1, (h.2 b hb).2.1, (h.2 b hb).2.2.1, fun z => by
    rw [mR_wR, up_n _ _ (fun e => by subst e; rcases ha with q | q; omega; exact z q)]
    exact (h.2 b hb).2.2.2 z⟩⟩
theorem Kp.sN {M M1 : XM} {SI SR : Nat → Prop} (h : Kp M M1 SI SR) (kd n s : Nat) : Kp M (nO M1 kd n s) SI SR :=
  ⟨by rw [mN_nO]; have := h.1; omega, fun b hb => by
    have h1 := h.1
    have hb2 : b ≠ mN M1 := by omega
    rw [mS_nO, up_n _ _ hb2, mJ_nO, up_n _ _ hb2, mI_nO, up_n _ _ hb2, mR_nO, up_n _ _ hb2]
    exact h.2 b hb⟩
/-- Arrays.copyOf -/
theorem c_273 (d A cap : Nat) (n : Int) (M : XM) (hA : mS M A = (104, cap)) (hAn : A < mN M) (h0 : 0 ≤ n) (h1 : n ≤ 1000) : Ct (d + 2) 273 [vR A, vI n] M (RR fun r M1 => r = mN M ∧ ∃ f, M1 = wR (nO M 104 n.toNat n.toNat) (mN M) f ∧ (∀ j : Int, 0 ≤ j → j < n → j < cap → f j = mR M A j)) := by
  have k1 : Ct (d + 1) 274 [vR A, vI n, vR 37] M (RR fun r M1 => r = mN M ∧ ∃ f, M1 = wR (nO M 104 n.toNat n.toNat) (mN M) f ∧ (∀ j : Int, 0 ≤ j → j < n → j < cap → f j = mR M A j)) := by
    unfold Ct
    refine ev_t rfl ?_
    refine ev_t rfl ?_
    refine ev_g rfl rfl ?_
    refine ev_t rfl ?_
    refine ev_g rfl ⟨h0, h1⟩ ?_
    refine ev_t rfl ?_
    have e1 : mS (nO M 104 n.toNat n.toNat) A = (104, cap) := by rw [mS_nO, up_n _ _ (by omega)]; exact hA
    have e2 : mS (nO M 104 n.toNat n.toNat) (mN M) = (104, n.toNat) := by rw [mS_nO, up_s]
    refine ev_t rfl ?_
    refine ev_t rfl ?_
    refine ev_t rfl ?_
    refine ev_t rfl ?_
    refine ev_t rfl ?_
    refine ev_t rfl ?_
    refine ev_g rfl (by rw [e1]; exact List.mem_singleton.mpr rfl) ?_
    rw [e1]
    refine ev_t rfl ?_
    refine sv_cp 0 100 rfl rfl (c_262 _ _ _ _) trivial ?_
    refine ev_g rfl (by rw [e1, e2]; exact ⟨⟨rfl, rfl⟩, by decide, by decide, by omega, by show (0 : Int) + min (cap : Int) n ≤ cap; omega, by show (0 : Int) + min (cap : Int) n ≤ (n.toNat : Int); omega⟩) ?_
    refine ev_t rfl ?_
    refine ev_r rfl trivial ⟨_, rfl, rfl, _, rfl, fun j h2 h3 h4 => ?_⟩
    unfold cpy
    rw [if_pos ⟨h2, by show j < 0 + min (cap : Int) n; omega⟩, mR_nO, up_n _ _ (by omega)]
    congr 1
    omega
  unfold Ct
  refine ev_t rfl ?_
  refine ev_t rfl ?_
  refine ev_t rfl ?_
  refine ev_g rfl (by rw [hA]) ?_
  refine ev_cr rfl trivial k1 (fun r M1 hM => ?_)
  obtain ⟨rfl, f, rfl, hf⟩ := hM
  exact ev_r rfl trivial ⟨_, rfl, rfl, f, rfl, hf⟩
theorem half_b {x : Int} (h0 : 0 ≤ x) (h1 : x < 2147483648) : bShr x 1 = x / 2 := by
  unfold bShr
  have e : ((Int32.ofInt 1 &&& 31).toBitVec.smod 32).toNat = 1 := by decide
  show ((Int32.ofInt x).toBitVec.sshiftRight ((Int32.ofInt 1 &&& 31).toBitVec.smod 32).toNat).toInt = _
  rw [e, BitVec.toInt_sshiftRight, show (Int32.ofInt x).toBitVec.toInt = (Int32.ofInt x).toInt from rfl, ofI_t ⟨by omega, h1⟩, Int.shiftRight_eq_div_pow]
  rfl
theorem c_260 (d : Nat) (x y z : Int) (M : XM) (h0 : 0 ≤ x) (h1 : x ≤ 1000) (h2 : 0 < y) (h3 : y ≤ 1000) (h4 : 0 ≤ z) (h5 : z ≤ 1000) : Ct (d + 1) 260 [vI x, vI y, vI z] M (RI fun r M1 => M1 = M ∧ r = x + max y z) := by
  unfold Ct
  refine ev_t rfl ?_
  refine ev_t rfl ?_
  refine ev_t rfl ?_
  refine sv_cp 0 100 rfl rfl (c_261 _ _ _ _) trivial ?_
  refine ev_g rfl (by omega) ?_
  refine ev_t rfl ?_
  refine ev_t rfl ?_
  refine ev_t rfl ?_
  refine sv_bf 0 100 rfl rfl (by show ¬ x + max y z ≤ 0; omega) ?_
  refine ev_t rfl ?_
  refine ev_t rfl ?_
  refine sv_bf 0 100 rfl rfl (by show ¬ 2147483639 < x + max y z; omega) ?_
  refine ev_t rfl ?_
  exact ev_r rfl trivial ⟨_, rfl, rfl, rfl⟩
/-- the row of a list made longer -/
def gCap (cap : Nat) (mn : Int) : Int := cap + max (mn - cap) ((cap : Int) / 2)
theorem c_253 (d l A n cap : Nat) (mn : Int) (M : XM) (h : isL M l A n cap) (hl : l < mN M) (hA : A < mN M) (hc0 : 0 < cap) (hc1 : cap ≤ 400) (hm0 : (cap : Int) < mn) (hm1 : mn ≤ 400) : Ct (d + 3) 253 [vR l, vI mn] M (RR fun r M1 => r = mN M ∧ isL M1 l (mN M) n (gCap cap mn).toNat ∧ mN M1 = mN M + 1 ∧ mU M1 = mU M + (gCap cap mn).toNat ∧ Kp M M1 (fun _ => False) (fun a => a = l) ∧ (∀ k, k ≠ 1 → mR M1 l k = mR M l k) ∧ (∀ j : Int, 0 ≤ j → j < cap → mR M1 (mN M) j = mR M A j) ∧ mI M1 (mN M) = (fun _ => 0) ∧ mJ M1 (mN M) = fun _ => 0) := by
  have hA1 := h.2.2.1
  have hg0 : (cap : Int) < gCap cap mn := by unfold gCap; omega
  have hg1 : gCap cap mn ≤ 1000 := by unfold gCap; omega
  unfold Ct
  refine ev_t rfl ?_
  refine sv_fr 0 100 rfl rfl h.2.1 h.1 ?_
  refine ev_g rfl (by rw [hA1]; exact List.mem_singleton.mpr rfl) ?_
  rw [hA1]
  refine ev_t rfl ?_
  refine ev_t rfl ?_
  refine sv_bt 0 100 rfl rfl (by show (0 : Int) < cap; omega) ?_
  refine ev_t rfl ?_
  refine ev_t rfl ?_
  refine ev_t rfl ?_
  refine ev_g rfl (by show -2147483648 ≤ mn - (cap : Int) ∧ mn - (cap : Int) < 2147483648; omega) ?_
  refine ev_t rfl ?_
  refine ev_t rfl ?_
  refine ev_t rfl ?_
  refine sv_cp 0 100 rfl rfl (c_260 _ _ _ _ _ (by omega) (by omega) (by omega) (by omega) (by rw [half_b (by omega) (by omega)]; omega) (by rw [half_b (by omega) (by omega)]; omega)) trivial ?_
  rw [half_b (by omega) (by omega)]
  refine ev_t rfl ?_
  refine ev_t rfl ?_
  refine ev_t rfl ?_
  refine sv_fr 0 100 rfl rfl h.2.1 h.1 ?_
  refine ev_t rfl ?_
  have e9 : (cap : Int) + max (mn - cap) ((cap : Int) / 2) = gCap cap mn := rfl
  rw [e9]
  refine ev_cr rfl trivial (c_273 _ _ _ _ _ hA1 hA (by omega) hg1) (fun r M1 hM => ?_)
  obtain ⟨rfl, f, rfl, hf⟩ := hM
  refine ev_t rfl ?_
  refine ev_g rfl (by show (mS (nO M 104 (gCap cap mn).toNat (gCap cap mn).toNat) l).1 = 16; rw [mS_nO, up_n _ _ (by omega)]; exact h.1) ?_
  have hne : l ≠ mN M := by omega
  refine ev_r rfl trivial ⟨_, rfl, rfl, ⟨?_, ?_, ?_, ?_, ?_⟩, rfl, rfl, ?_, ?_, ?_, ?_, ?_⟩
  · show (mS (nO M 104 (gCap cap mn).toNat (gCap cap mn).toNat) l).1 = 16
    rw [mS_nO, up_n _ _ hne]; exact h.1
  · rw [mR_wR, up_s, ui_s]
  · show mS (nO M 104 (gCap cap mn).toNat (gCap cap mn).toNat) (mN M) = _
    rw [mS_nO, up_s]
  · show mI (nO M 104 (gCap cap mn).toNat (gCap cap mn).toNat) l 2 = _
    rw [mI_nO, up_n _ _ hne]; exact h.2.2.2.1
  · have := h.2.2.2.2; omega
  · exact ((Kp.rf.sN _ _ _).sR _ (Or.inl (Nat.le_refl _))).sR _ (Or.inr rfl)
  · intro k hk
    rw [mR_wR, up_s, ui_n _ _ hk, mR_wR, up_n _ _ hne, mR_nO, up_n _ _ hne]
  · intro j h1 h2
    rw [mR_wR, up_n _ _ (fun e => hne e.symm), mR_wR, up_s]
    exact hf j h1 (by omega) h2
  · show mI (nO M 104 (gCap cap mn).toNat (gCap cap mn).toNat) (mN M) = _
    rw [mI_nO, up_s]
  · show mJ (nO M 104 (gCap cap mn).toNat (gCap cap mn).toNat) (mN M) = _
    rw [mJ_nO, up_s]
def addQ (M : XM) (l A n cap x : Nat) (M1 : XM) : Prop := ∃ A1 cap1, isL M1 l A1 (n + 1) cap1 ∧ ((A1 = A ∧ cap1 = cap) ∨ (A1 = mN M ∧ cap1 ≤ 900)) ∧ mN M1 ≤ mN M + 1 ∧ A1 < mN M1 ∧ mU M1 ≤ mU M + 900 ∧ Kp M M1 (fun a => a = l) (fun a => a = l ∨ a = A) ∧ (∀ k, k ≠ 1 → mR M1 l k = mR M l k) ∧ (∀ j : Int, 0 ≤ j → j < n → mR M1 A1 j = mR M A j) ∧ mR M1 A1 n = x
theorem c_256 (d l A n cap x : Nat) (M : XM) (h : isL M l A n cap) (hl : l < mN M) (hA : A < mN M) (hc0 : 0 < cap) (hc1 : cap ≤ 300) (hn : n ≤ 250) (hx : (mS M x).1 ∈ okE) (hxn : x < mN M) :
    Ct (d + 5) 256 [vR l, vR x, vR A, vI n] M (RV fun M1 => addQ M l A n cap x M1 ∧ ∀ k, k ≠ 2 → mI M1 l k = mI M l k) := by
  have hne : l ≠ A := fun e => by
    have h1 := h.1
    rw [e, h.2.2.1] at h1
    exact absurd h1 (show (104 : Nat) ≠ 16 by decide)
  have fin : ∀ (A1 cap1 : Nat) (M2 : XM), isL M2 l A1 n cap1 → n < cap1 → ((A1 = A ∧ cap1 = cap) ∨ (A1 = mN M ∧ cap1 ≤ 900)) → mN M2 ≤ mN M + 1 → A1 < mN M2 → mU M2 ≤ mU M + 900 → Kp M M2 (fun a => a = l) (fun a => a = l ∨ a = A) → (∀ k, k ≠ 1 → mR M2 l k = mR M l k) → (∀ k, k ≠ 2 → mI M2 l k = mI M l k) → (∀ j : Int, 0 ≤ j → j < n → mR M2 A1 j = mR M A j) → (mS M2 x).1 ∈ okE →
      Ev (d + 5) 256 (11, [(0, vR l), (1, vR x), (2, vR A1), (3, vI n)], []) M2 (RV fun M1 => addQ M l A n cap x M1 ∧ ∀ k, k ≠ 2 → mI M1 l k = mI M l k) := by
    intro A1 cap1 M2 h2 hlt hor hN hA2 hU hK hr hi hj hx2
    have hne1 : l ≠ A1 := fun e => by
      have h1 := h2.1
      rw [e, h2.2.2.1] at h1
      exact absurd h1 (show (104 : Nat) ≠ 16 by decide)
    refine ev_t rfl ?_
    refine ev_t rfl ?_
    refine ev_t rfl ?_
    refine ev_g rfl ⟨h2.g (by omega) (by omega), Or.inr hx2⟩ ?_
    refine ev_t rfl ?_
    refine ev_t rfl ?_
    refine ev_t rfl ?_
    refine ev_g rfl (by omega) ?_
    refine ev_g rfl (by exact h2.1) ?_
    refine ev_r rfl trivial ⟨rfl, ⟨A1, cap1, ⟨h2.1, ?_, h2.2.2.1, ?_, hlt⟩, hor, hN, hA2, hU, ?_, ?_, ?_, ?_⟩, ?_⟩
    · show mR (wR M2 A1 _) l 1 = A1
      rw [mR_wR, up_n _ _ hne1]; exact h2.2.1
    · rw [mI_wI, up_s, ui_s]; omega
    · refine (hK.sR _ ?_).sI _ (Or.inr rfl)
      rcases hor with ⟨e, -⟩ | ⟨e, -⟩
      · exact Or.inr (Or.inr e)
      · exact Or.inl (by omega)
    · intro k hk
      show mR (wR M2 A1 _) l k = _
      rw [mR_wR, up_n _ _ hne1]; exact hr k hk
    · intro j h3 h4
      show mR (wR M2 A1 _) A1 j = _
      rw [mR_wR, up_s, ui_n _ _ (by omega)]; exact hj j h3 h4
    · show mR (wR M2 A1 _) A1 n = _
      rw [mR_wR, up_s, ui_s]
    · intro k hk
      rw [mI_wI, up_s, ui_n _ _ hk]
      exact hi k hk
  unfold Ct
  refine ev_t rfl ?_
  refine ev_t rfl ?_
  refine ev_g rfl (by rw [h.2.2.1]; exact List.mem_singleton.mpr rfl) ?_
  rw [h.2.2.1]
  refine sv_b 0 100 rfl rfl (fun e => ?_) (fun e => ?_)
  · have e1 : (n : Int) ≠ cap := e
    have := h.2.2.2.2
    exact fin A cap M h (by omega) (Or.inl ⟨rfl, rfl⟩) (by omega) hA (by omega) Kp.rf (fun _ _ => rfl) (fun _ _ => rfl) (fun _ _ _ => rfl) hx
  · have e1 : (n : Int) = cap := Classical.byContradiction fun z => e z
    have hg : (gCap cap ((n : Int) + 1)).toNat ≤ 900 ∧ n < (gCap cap ((n : Int) + 1)).toNat := by unfold gCap; omega
    have k1 : Ct (d + 4) 257 [vR l] M (RR fun r M1 => r = mN M ∧ isL M1 l (mN M) n (gCap cap ((n : Int) + 1)).toNat ∧ mN M1 = mN M + 1 ∧ mU M1 = mU M + (gCap cap ((n : Int) + 1)).toNat ∧ Kp M M1 (fun _ => False) (fun a => a = l) ∧ (∀ k, k ≠ 1 → mR M1 l k = mR M l k) ∧ (∀ j : Int, 0 ≤ j → j < cap → mR M1 (mN M) j = mR M A j) ∧ mI M1 (mN M) = (fun _ => 0) ∧ mJ M1 (mN M) = fun _ => 0) := by
      unfold Ct
      refine ev_t rfl ?_
      refine ev_t rfl ?_
      refine ev_g rfl h.1 ?_
      rw [h.2.2.2.1]
      refine ev_t rfl ?_
      refine ev_g rfl (by omega) ?_
      refine ev_cr rfl h.1 (c_253 d l A n cap _ M h hl hA hc0 (by omega) (by omega) (by omega)) (fun r M1 hM => ?_)
      exact ev_r rfl trivial ⟨_, rfl, hM⟩
    refine ev_t rfl ?_
    refine ev_cr rfl h.1 k1 (fun r M1 hM => ?_)
    obtain ⟨rfl, m1, m2, m3, m4, m5, m6, -, -⟩ := hM
    refine ev_t rfl ?_
    exact fin (mN M) _ M1 m1 hg.2 (Or.inr ⟨rfl, hg.1⟩) (by omega) (by omega) (by omega) (m4.mono (fun _ _ z => z.elim) (fun _ _ z => Or.inl z)) m5 (fun k _ => by rw [(m4.2 l hl).2.2.1 (fun z => z)]) (fun j h1 h2 => m6 j h1 (by omega)) (by rw [(m4.2 x hxn).1]; exact hx)
/-- a thing added -/
theorem c_255 (d l A n cap x : Nat) (M : XM) (h : isL M l A n cap) (hl : l < mN M) (hA : A < mN M) (hc0 : 0 < cap) (hc1 : cap ≤ 300) (hn : n ≤ 250) (hx : (mS M x).1 ∈ okE) (hxn : x < mN M) (hmc0 : 0 ≤ mI M l 0) (hmc1 : mI M l 0 ≤ 1000000) :
    Ct (d + 6) 255 [vR l, vR x] M (RI fun r M1 => addQ M l A n cap x M1 ∧ (∀ k, k ≠ 0 → k ≠ 2 → mI M1 l k = mI M l k) ∧ mI M1 l 0 = mI M l 0 + 1) := by
  have e0 : mI (wI M l (ui (mI M l) 0 (mI M l 0 + 1))) l = ui (mI M l) 0 (mI M l 0 + 1) := by rw [mI_wI, up_s]
  have h1 : isL (wI M l (ui (mI M l) 0 (mI M l 0 + 1))) l A n cap := ⟨h.1, h.2.1, h.2.2.1, by rw [e0, ui_n _ _ (by decide)]; exact h.2.2.2.1, h.2.2.2.2⟩
  unfold Ct
  refine ev_t rfl ?_
  refine ev_t rfl ?_
  refine ev_g rfl h.1 ?_
  refine ev_t rfl ?_
  refine ev_g rfl (by omega) ?_
  refine ev_g rfl h.1 ?_
  refine ev_t rfl ?_
  refine ev_t rfl ?_
  refine ev_t rfl ?_
  refine sv_fr 0 100 rfl rfl h1.2.1 h1.1 ?_
  refine ev_t rfl ?_
  refine ev_g rfl h1.1 ?_
  rw [h1.2.2.2.1]
  refine ev_cv rfl h1.1 (c_256 d l A n cap x _ h1 hl hA hc0 hc1 hn hx hxn) (fun M1 hM => ?_)
  obtain ⟨⟨A1, cap1, m1, m2, m3, m4, m5, m6, m7, m8, m9⟩, m10⟩ := hM
  refine ev_t rfl ?_
  refine ev_r rfl (Or.inr rfl) ⟨_, rfl, ⟨A1, cap1, m1, m2, m3, m4, m5, ?_, m7, m8, m9⟩, fun k hk1 hk2 => ?_, ?_⟩
  · refine ⟨m6.1, fun a ha => ?_⟩
    obtain ⟨z1, z2, z3, z4⟩ := m6.2 a ha
    exact ⟨z1, z2, fun z => (z3 z).trans (by rw [mI_wI, up_n _ _ z]), z4⟩
  · rw [m10 k hk2, e0, ui_n _ _ hk1]
  · rw [m10 0 (by decide), e0, ui_s]
theorem isL.ne {M : XM} {l A n cap : Nat} (h : isL M l A n cap) : l ≠ A := fun e => by
  have h1 := h.1
  rw [e, h.2.2.1] at h1
  exact absurd h1 (show (104 : Nat) ≠ 16 by decide)
theorem t_250 (d A cap n l : Nat) (M0 : XM) (hA : mS M0 A = (104, cap)) (hn : n ≤ cap) (hn2 : n ≤ 1000) (Q : XO → XM → Prop) (kk : ∀ f : Int → Nat, Q oV (wR M0 A f)) : ∀ (m i : Nat) (f : Int → Nat), i + m = n → Ev d 250 (27, [(1, vR A), (2, vI n), (3, vI i)], []) (wR M0 A f) Q := by
  intro m
  induction m with
  | zero =>
    intro i f hi
    refine ev_t rfl ?_
    refine ev_t rfl ?_
    refine sv_bt 0 100 rfl rfl (by show (n : Int) ≤ i; omega) ?_
    exact ev_r rfl trivial (kk f)
  | succ m ih =>
    intro i f hi
    refine ev_t rfl ?_
    refine ev_t rfl ?_
    refine sv_bf 0 100 rfl rfl (by show ¬ (n : Int) ≤ i; omega) ?_
    refine ev_t rfl ?_
    refine ev_t rfl ?_
    refine ev_t rfl ?_
    refine ev_g rfl (by show ((mS M0 A).1 = 104 ∧ 0 ≤ (i : Int) ∧ (i : Int) < ((mS M0 A).2 : Int)) ∧ _; rw [hA]; exact ⟨⟨rfl, by omega, by show (i : Int) < cap; omega⟩, Or.inl rfl⟩) ?_
    rw [wR_wR]
    refine ev_g rfl (by omega) ?_
    refine ev_t rfl ?_
    have ih1 := ih (i + 1) (ui (mR (wR M0 A f) A) i 0) (by omega)
    rw [show ((i + 1 : Nat) : Int) = (i : Int) + 1 by omega] at ih1
    exact ih1
/-- a list emptied -/
theorem c_250 (d l A n cap : Nat) (M : XM) (h : isL M l A n cap) (hn : n ≤ 1000) (hmc0 : 0 ≤ mI M l 0) (hmc1 : mI M l 0 ≤ 1000000) :
    Ct d 250 [vR l] M (RV fun M1 => ∃ f, M1 = wR (wI M l (ui (ui (mI M l) 0 (mI M l 0 + 1)) 2 0)) A f) := by
  have hne := h.ne
  unfold Ct
  refine ev_t rfl ?_
  refine ev_t rfl ?_
  refine ev_g rfl h.1 ?_
  refine ev_t rfl ?_
  refine ev_g rfl (by omega) ?_
  refine ev_g rfl h.1 ?_
  refine ev_t rfl ?_
  refine sv_fr 0 100 rfl rfl h.2.1 h.1 ?_
  refine ev_t rfl ?_
  refine ev_t rfl ?_
  refine ev_g rfl h.1 ?_
  have e0 : mI (wI M l (ui (mI M l) 0 (mI M l 0 + 1))) l = ui (mI M l) 0 (mI M l 0 + 1) := by rw [mI_wI, up_s]
  rw [e0, ui_n _ _ (by decide), h.2.2.2.1]
  refine ev_t rfl ?_
  refine ev_t rfl ?_
  refine ev_t rfl ?_
  refine ev_t rfl ?_
  refine ev_g rfl h.1 ?_
  rw [wI_wI, e0]
  refine ev_t rfl ?_
  refine ev_h (L1 := [(1, vR A), (2, vI n), (3, vI (0 : Nat))]) rfl ?_
  have k0 := fun Q kk => t_250 d A cap n l (wI M l (ui (ui (mI M l) 0 (mI M l 0 + 1)) 2 0)) h.2.2.1 h.2.2.2.2 hn Q kk n 0 (mR (wI M l (ui (ui (mI M l) 0 (mI M l 0 + 1)) 2 0)) A) (by omega)
  rw [wR_self] at k0
  exact k0 _ (fun f => ⟨rfl, f, rfl⟩)
theorem c_252 (d l A n cap : Nat) (M : XM) (h : isL M l A n cap) (hAn : A < mN M) (hn : n ≤ 1000) : Ct (d + 3) 252 [vR l] M (RR fun r M1 => r = mN M ∧ ∃ f, M1 = wR (nO M 104 n n) (mN M) f ∧ (∀ j : Int, 0 ≤ j → j < n → f j = mR M A j)) := by
  unfold Ct
  refine ev_t rfl ?_
  refine sv_fr 0 100 rfl rfl h.2.1 h.1 ?_
  refine ev_t rfl ?_
  refine ev_g rfl h.1 ?_
  rw [h.2.2.2.1]
  refine ev_cr rfl trivial (c_273 d A cap n M h.2.2.1 hAn (by omega) (by omega)) (fun r M1 hM => ?_)
  obtain ⟨rfl, f, rfl, hf⟩ := hM
  have := h.2.2.2.2
  exact ev_r rfl trivial ⟨_, rfl, rfl, f, rfl, fun j h1 h2 => hf j h1 h2 (by omega)⟩
/-- all of one list to another one -/
theorem c_251 (d l A n cap l2 A2 n2 cap2 : Nat) (M : XM) (h : isL M l A n cap) (h2 : isL M l2 A2 n2 cap2) (hl : l < mN M) (hA : A < mN M) (hl2 : l2 < mN M) (hA2 : A2 < mN M) (hll : l ≠ l2) (hAA : A ≠ A2) (hc0 : 0 < cap) (hc1 : cap ≤ 300) (hn : n = 0) (hn2 : n2 ≤ 250) (hmc0 : 0 ≤ mI M l 0) (hmc1 : mI M l 0 ≤ 1000000) :
    Ct (d + 4) 251 [vR l, vR l2] M (RI fun r M1 => (∃ A1 cap1, isL M1 l A1 n2 cap1 ∧ ((A1 = A ∧ cap1 = cap) ∨ (mN M ≤ A1 ∧ cap1 ≤ 900)) ∧ mN M1 ≤ mN M + 2 ∧ A1 < mN M1 ∧ mU M1 ≤ mU M + 1150 ∧ Kp M M1 (fun a => a = l) (fun a => a = l ∨ a = A) ∧ (∀ k, k ≠ 1 → mR M1 l k = mR M l k) ∧ ∀ j : Int, 0 ≤ j → j < n2 → mR M1 A1 j = mR M A2 j) ∧ (∀ k, k ≠ 0 → k ≠ 2 → mI M1 l k = mI M l k) ∧ mI M1 l 0 = mI M l 0 + 1) := by
  subst hn
  have hne := h.ne
  unfold Ct
  refine ev_t rfl ?_
  refine ev_cr rfl h2.1 (c_252 d l2 A2 n2 cap2 M h2 hA2 (by omega)) (fun r M1 hM => ?_)
  obtain ⟨rfl, f, rfl, hf⟩ := hM
  have eI : mI (wR (nO M 104 n2 n2) (mN M) f) l = mI M l := by show mI (nO M 104 n2 n2) l = _; rw [mI_nO, up_n _ _ (by omega)]
  have eS : ∀ a, a < mN M → mS (wR (nO M 104 n2 n2) (mN M) f) a = mS M a := fun a ha => by show mS (nO M 104 n2 n2) a = _; rw [mS_nO, up_n _ _ (by omega)]
  have eR : ∀ a, a < mN M → mR (wR (nO M 104 n2 n2) (mN M) f) a = mR M a := fun a ha => by rw [mR_wR, up_n _ _ (by omega), mR_nO, up_n _ _ (by omega)]
  have eT : mS (wR (nO M 104 n2 n2) (mN M) f) (mN M) = (104, n2) := by show mS (nO M 104 n2 n2) (mN M) = _; rw [mS_nO, up_s]
  have eTr : mR (wR (nO M 104 n2 n2) (mN M) f) (mN M) = f := by rw [mR_wR, up_s]
  have eN : mN (wR (nO M 104 n2 n2) (mN M) f) = mN M + 1 := rfl
  have eU : mU (wR (nO M 104 n2 n2) (mN M) f) = mU M + n2 := rfl
  have hK : Kp M (wR (nO M 104 n2 n2) (mN M) f) (fun a => a = l) (fun a => a = l ∨ a = A) := (Kp.rf.sN _ _ _).sR _ (Or.inl (Nat.le_refl _))
  generalize hT : wR (nO M 104 n2 n2) (mN M) f = T at *
  generalize hX : wI T l (ui (mI T l) 0 (mI T l 0 + 1)) = X
  have xI : mI X l = ui (mI M l) 0 (mI M l 0 + 1) := by rw [← hX, mI_wI, up_s, eI]
  have xS : ∀ a, a < mN M → mS X a = mS M a := fun a ha => by rw [← hX]; exact eS a ha
  have xR : ∀ a, a < mN M → mR X a = mR M a := fun a ha => by rw [← hX]; exact eR a ha
  have xT : mS X (mN M) = (104, n2) := by rw [← hX]; exact eT
  have xTr : mR X (mN M) = f := by rw [← hX]; exact eTr
  have xN : mN X = mN M + 1 := by rw [← hX]; exact eN
  have xU : mU X = mU M + n2 := by rw [← hX]; exact eU
  have xK : Kp M X (fun a => a = l) (fun a => a = l ∨ a = A) := by rw [← hX]; exact hK.sI _ (Or.inr rfl)
  have xL : isL X l A 0 cap := ⟨by rw [xS l hl]; exact h.1, by rw [xR l hl]; exact h.2.1, by rw [xS A hA]; exact h.2.2.1, by rw [xI, ui_n _ _ (by decide)]; exact h.2.2.2.1, Nat.zero_le _⟩
  refine ev_t rfl ?_
  refine ev_t rfl ?_
  refine ev_t rfl ?_
  refine ev_g rfl (by rw [eS l hl]; exact h.1) ?_
  refine ev_t rfl ?_
  refine ev_g rfl (by rw [eI]; omega) ?_
  refine ev_g rfl (by rw [eS l hl]; exact h.1) ?_
  rw [hX]
  refine ev_t rfl ?_
  refine ev_g rfl (by rw [xT]; exact List.mem_singleton.mpr rfl) ?_
  rw [xT]
  dsimp only
  refine ev_t rfl ?_
  refine ev_t rfl ?_
  refine sv_b 0 100 rfl rfl (fun e => ?_) (fun e => ?_)
  · have e1 : (n2 : Int) ≠ 0 := e
    have fin : ∀ (A1 cap1 : Nat) (Y : XM), isL Y l A1 0 cap1 → A1 ≠ mN M → n2 ≤ cap1 → ((A1 = A ∧ cap1 = cap) ∨ (mN M ≤ A1 ∧ cap1 ≤ 900)) → mN Y ≤ mN M + 2 → A1 < mN Y → mU Y ≤ mU M + 1150 → Kp M Y (fun a => a = l) (fun a => a = l ∨ a = A) → (∀ k, k ≠ 1 → mR Y l k = mR M l k) → mI Y l = mI X l → mS Y (mN M) = (104, n2) → mR Y (mN M) = f →
        Ev (d + 4) 251 (56, [(0, vR l), (1, vR l2), (2, vR (mN M)), (3, vI n2), (4, vR A1), (5, vI (0 : Nat))], []) Y (RI fun r M1 => (∃ A1 cap1, isL M1 l A1 n2 cap1 ∧ ((A1 = A ∧ cap1 = cap) ∨ (mN M ≤ A1 ∧ cap1 ≤ 900)) ∧ mN M1 ≤ mN M + 2 ∧ A1 < mN M1 ∧ mU M1 ≤ mU M + 1150 ∧ Kp M M1 (fun a => a = l) (fun a => a = l ∨ a = A) ∧ (∀ k, k ≠ 1 → mR M1 l k = mR M l k) ∧ ∀ j : Int, 0 ≤ j → j < n2 → mR M1 A1 j = mR M A2 j) ∧ (∀ k, k ≠ 0 → k ≠ 2 → mI M1 l k = mI M l k) ∧ mI M1 l 0 = mI M l 0 + 1) := by
      intro A1 cap1 Y y1 y2 y3 y4 y5 y6 y7 y8 y9 y10 y11 y12
      have yne := y1.ne
      refine ev_t rfl ?_
      refine ev_t rfl ?_
      refine ev_t rfl ?_
      refine ev_t rfl ?_
      refine ev_t rfl ?_
      refine ev_g rfl (by rw [y11, y1.2.2.1]; exact ⟨⟨rfl, rfl⟩, by decide, by decide, by omega, by show (0 : Int) + n2 ≤ n2; omega, by show ((0 : Nat) : Int) + n2 ≤ cap1; omega⟩) ?_
      rw [y12]
      refine ev_t rfl ?_
      refine ev_t rfl ?_
      refine ev_t rfl ?_
      refine ev_g rfl (by omega) ?_
      refine ev_g rfl (by exact y1.1) ?_
      refine ev_t rfl ?_
      refine ev_r rfl (Or.inr rfl) ⟨_, rfl, ⟨A1, cap1, ⟨y1.1, ?_, y1.2.2.1, ?_, y3⟩, y4, y5, y6, y7, ?_, ?_, ?_⟩, ?_, ?_⟩
      · show mR (wR Y A1 _) l 1 = A1
        rw [mR_wR, up_n _ _ yne]; exact y1.2.1
      · rw [mI_wI, up_s, ui_s]; omega
      · refine (y8.sR _ ?_).sI _ (Or.inr rfl)
        rcases y4 with ⟨e, -⟩ | ⟨e, -⟩
        · exact Or.inr (Or.inr e)
        · exact Or.inl e
      · intro k hk
        show mR (wR Y A1 _) l k = _
        rw [mR_wR, up_n _ _ yne]; exact y9 k hk
      · intro j h3 h4
        show mR (wR Y A1 _) A1 j = _
        rw [mR_wR, up_s]
        unfold cpy
        rw [if_pos ⟨by omega, by omega⟩]
        rw [← hf j h3 h4]
        congr 1
        omega
      · intro k hk1 hk2
        rw [mI_wI, up_s, ui_n _ _ hk2]
        show mI Y l k = _
        rw [y10, xI, ui_n _ _ hk1]
      · rw [mI_wI, up_s, ui_n _ _ (by decide)]
        show mI Y l 0 = _
        rw [y10, xI, ui_s]
    refine ev_t rfl ?_
    refine ev_t rfl ?_
    refine sv_fr 0 100 rfl rfl xL.2.1 xL.1 ?_
    refine ev_t rfl ?_
    refine ev_t rfl ?_
    refine ev_g rfl (by rw [xL.2.2.1]; exact List.mem_singleton.mpr rfl) ?_
    rw [xL.2.2.1]
    refine ev_t rfl ?_
    refine ev_g rfl xL.1 ?_
    rw [xL.2.2.2.1]
    refine ev_t rfl ?_
    refine ev_t rfl ?_
    refine ev_g rfl (by show -2147483648 ≤ (cap : Int) - ((0 : Nat) : Int) ∧ (cap : Int) - ((0 : Nat) : Int) < 2147483648; omega) ?_
    refine sv_b 0 100 rfl rfl (fun e => ?_) (fun e => ?_)
    · have e2 : (n2 : Int) ≤ (cap : Int) - ((0 : Nat) : Int) := e
      exact fin A cap X xL (by omega) (by omega) (Or.inl ⟨rfl, rfl⟩) (by omega) (by omega) (by omega) xK (fun k _ => by rw [xR l hl]) rfl xT xTr
    · have e2 : ¬ (n2 : Int) ≤ (cap : Int) - ((0 : Nat) : Int) := e
      refine ev_t rfl ?_
      refine ev_t rfl ?_
      refine ev_t rfl ?_
      refine ev_g rfl (by omega) ?_
      have hg : (gCap cap (((0 : Nat) : Int) + n2)).toNat ≤ 900 ∧ n2 ≤ (gCap cap (((0 : Nat) : Int) + n2)).toNat := by unfold gCap; omega
      refine ev_cr rfl xL.1 (c_253 d l A 0 cap _ X xL (by omega) (by omega) hc0 (by omega) (by omega) (by omega)) (fun r Y hY => ?_)
      obtain ⟨rfl, m1, m2, m3, m4, m5, m6, -, -⟩ := hY
      refine ev_t rfl ?_
      refine fin (mN X) _ Y m1 (by omega) hg.2 (Or.inr ⟨by omega, hg.1⟩) (by omega) (by omega) (by omega) ?_ (fun k hk => by rw [m5 k hk, xR l hl]) ((m4.2 l (by omega)).2.2.1 (fun z => z)) (by rw [(m4.2 (mN M) (by omega)).1]; exact xT) (by rw [(m4.2 (mN M) (by omega)).2.2.2 (fun z => by omega)]; exact xTr)
      exact xK.tr (m4.mono (fun _ _ z => z.elim) (fun _ _ z => Or.inl z))
  · have e1 : n2 = 0 := by
      have : (n2 : Int) = 0 := Classical.byContradiction fun z => e z
      omega
    subst e1
    refine ev_t rfl ?_
    refine ev_r rfl (Or.inl rfl) ⟨_, rfl, ⟨A, cap, xL, Or.inl ⟨rfl, rfl⟩, by omega, by omega, by omega, xK, fun k _ => by rw [xR l hl], fun j h3 h4 => by omega⟩, fun k hk1 hk2 => by rw [xI, ui_n _ _ hk1], by rw [xI, ui_s]⟩
theorem c_247 (d l : Nat) (M : XM) (hl : l ≠ 0) : Ct d 247 [vR l] M (RV fun M1 => M1 = M) := by
  unfold Ct
  refine ev_t rfl ?_
  refine ev_g rfl hl ?_
  exact ev_r rfl trivial ⟨rfl, rfl⟩
/-- a new list -/
theorem c_249 (d l : Nat) (n : Int) (M : XM) (hl : l ≠ 0) (hk : (mS M l).1 = 16) (hlN : l < mN M) (h0 : 0 < n) (h1 : n ≤ 1000) : Ct (d + 2) 249 [vR l, vI n] M (RV fun M1 => M1 = wR (nO (wI M l (ui (mI M l) 0 0)) 104 n.toNat n.toNat) l (ui (mR M l) 1 (mN M))) := by
  have k1 : Ct (d + 1) 248 [vR l] M (RV fun M1 => M1 = wI M l (ui (mI M l) 0 0)) := by
    unfold Ct
    refine ev_t rfl ?_
    refine ev_cv rfl hk (c_247 d l M hl) (fun M1 hM => ?_)
    subst hM
    refine ev_t rfl ?_
    refine ev_t rfl ?_
    refine ev_g rfl hk ?_
    exact ev_r rfl trivial ⟨rfl, rfl⟩
  unfold Ct
  refine ev_t rfl ?_
  refine ev_cv rfl hk k1 (fun M1 hM => ?_)
  subst hM
  refine ev_t rfl ?_
  refine sv_bf 0 100 rfl rfl (by show ¬ n ≤ 0; omega) ?_
  refine ev_t rfl ?_
  refine ev_t rfl ?_
  refine ev_g rfl ⟨by omega, h1⟩ ?_
  refine ev_g rfl (by show (mS (nO (wI M l (ui (mI M l) 0 0)) 104 n.toNat n.toNat) l).1 = 16; rw [mS_nO, up_n _ _ (by show l ≠ mN M; omega)]; exact hk) ?_
  refine ev_t rfl ?_
  refine ev_r rfl trivial ⟨rfl, ?_⟩
  have e : mR (nO (wI M l (ui (mI M l) 0 0)) 104 n.toNat n.toNat) l = mR M l := by rw [mR_nO, up_n _ _ (by show l ≠ mN M; omega)]; rfl
  rw [e]; rfl
