/-! CONTRACTS, 8: entries and states of the component -/
/-- an entry's cell -/
abbrev isE (M : XM) (p : Nat) (t w n k : Int) : Prop := (mS M p).1 = 7 ∧ mI M p 0 = t ∧ mI M p 1 = w ∧ mI M p 2 = n ∧ mI M p 3 = k
theorem c_106 (d p : Nat) (t w n k : Int) (M : XM) (h : (mS M p).1 = 7) (hp : p ≠ 0) : Ct d 106 [vR p, vI t, vI w, vI n, vI k] M (RV fun M1 => M1 = wI M p (ui (ui (ui (ui (mI M p) 0 t) 1 w) 2 n) 3 k)) := by
  unfold Ct
  refine ev_t rfl ?_
  refine ev_g rfl hp ?_
  refine ev_t rfl ?_
  refine ev_t rfl ?_
  refine ev_g rfl h ?_
  refine ev_t rfl ?_
  refine ev_t rfl ?_
  refine ev_g rfl h ?_
  rw [wI_wI, mI_wI, up_s]
  refine ev_t rfl ?_
  refine ev_t rfl ?_
  refine ev_g rfl h ?_
  rw [wI_wI, mI_wI, up_s]
  refine ev_t rfl ?_
  refine ev_t rfl ?_
  refine ev_g rfl h ?_
  rw [wI_wI, mI_wI, up_s]
  exact ev_r rfl trivial ⟨rfl, rfl⟩
def eLow (n k : Int) : Int := if k = 2 then 2 * n - 1 else 2 * n
def eHigh (n k : Int) : Int := if k = 2 then 2 * n + 1 else if k = 1 then 2 * n + 2 else 2 * n
theorem c_107 (d p : Nat) (t w n k : Int) (M : XM) (h : isE M p t w n k) (h0 : 1 ≤ n) (h1 : n ≤ 99) : Ct d 107 [vR p] M (RI fun r M1 => M1 = M ∧ r = eLow n k) := by
  obtain ⟨e0, -, -, e3, e4⟩ := h
  unfold Ct
  refine ev_t rfl ?_
  refine ev_g rfl e0 ?_
  rw [e4]
  refine ev_t rfl ?_
  refine sv_b 0 100 rfl rfl (fun c => ?_) (fun c => ?_)
  · have c1 : k ≠ 2 := c
    refine ev_t rfl ?_
    refine ev_t rfl ?_
    refine ev_g rfl e0 ?_
    rw [e3]
    refine ev_g rfl (by omega) ?_
    exact ev_r rfl trivial ⟨_, rfl, rfl, by unfold eLow; rw [if_neg c1]⟩
  · have c1 : k = 2 := Classical.byContradiction fun z => c z
    refine ev_t rfl ?_
    refine ev_t rfl ?_
    refine ev_g rfl e0 ?_
    rw [e3]
    refine ev_g rfl (by omega) ?_
    refine ev_t rfl ?_
    refine ev_g rfl (by omega) ?_
    refine ev_t rfl ?_
    exact ev_r rfl trivial ⟨_, rfl, rfl, by unfold eLow; rw [if_pos c1]⟩
theorem c_108 (d p : Nat) (t w n k : Int) (M : XM) (h : isE M p t w n k) (h0 : 1 ≤ n) (h1 : n ≤ 99) : Ct d 108 [vR p] M (RI fun r M1 => M1 = M ∧ r = eHigh n k) := by
  obtain ⟨e0, -, -, e3, e4⟩ := h
  unfold Ct
  refine ev_t rfl ?_
  refine ev_g rfl e0 ?_
  rw [e4]
  refine ev_t rfl ?_
  refine sv_b 0 100 rfl rfl (fun c => ?_) (fun c => ?_)
  · have c1 : k ≠ 2 := c
    refine ev_t rfl ?_
    refine ev_g rfl e0 ?_
    rw [e4]
    refine ev_t rfl ?_
    refine sv_b 0 100 rfl rfl (fun c => ?_) (fun c => ?_)
    · have c2 : k ≠ 1 := c
      refine ev_t rfl ?_
      refine ev_t rfl ?_
      refine ev_g rfl e0 ?_
      rw [e3]
      refine ev_g rfl (by omega) ?_
      exact ev_r rfl trivial ⟨_, rfl, rfl, by unfold eHigh; rw [if_neg c1, if_neg c2]⟩
    · have c2 : k = 1 := Classical.byContradiction fun z => c z
      refine ev_t rfl ?_
      refine ev_t rfl ?_
      refine ev_g rfl e0 ?_
      rw [e3]
      refine ev_g rfl (by omega) ?_
      refine ev_t rfl ?_
      refine ev_g rfl (by omega) ?_
      refine ev_t rfl ?_
      exact ev_r rfl trivial ⟨_, rfl, rfl, by unfold eHigh; rw [if_neg c1, if_pos c2]⟩
  · have c1 : k = 2 := Classical.byContradiction fun z => c z
    refine ev_t rfl ?_
    refine ev_t rfl ?_
    refine ev_g rfl e0 ?_
    rw [e3]
    refine ev_g rfl (by omega) ?_
    refine ev_t rfl ?_
    refine ev_g rfl (by omega) ?_
    refine ev_t rfl ?_
    exact ev_r rfl trivial ⟨_, rfl, rfl, by unfold eHigh; rw [if_pos c1]⟩
/-- whether an entry is so -/
def eSo (n k len foot : Int) : Prop := eLow n k * foot ≤ 2 * len ∧ if k = 0 then 2 * len = eHigh n k * foot else 2 * len < eHigh n k * foot
theorem eLow_b {n k : Int} (h0 : 1 ≤ n) (h1 : n ≤ 99) : 1 ≤ eLow n k ∧ eLow n k ≤ 198 := by unfold eLow; split <;> omega
theorem eHigh_b {n k : Int} (h0 : 1 ≤ n) (h1 : n ≤ 99) : 2 ≤ eHigh n k ∧ eHigh n k ≤ 200 := by unfold eHigh; split <;> (try split) <;> omega
theorem c_109 (d p : Nat) (t w n k len foot : Int) (M : XM) (h : isE M p t w n k) (h0 : 1 ≤ n) (h1 : n ≤ 99) (hl0 : 0 ≤ len) (hl1 : len ≤ 10000) (hf0 : 0 ≤ foot) (hf1 : foot ≤ 10000) : Ct (d + 1) 109 [vR p, vI len, vI foot] M (RI fun r M1 => M1 = M ∧ r = bi (eSo n k len foot)) := by
  have b1 := eLow_b (k := k) h0 h1
  have b2 := eHigh_b (k := k) h0 h1
  have m1 : eLow n k * foot ≤ 198 * foot := Int.mul_le_mul_of_nonneg_right b1.2 hf0
  have m2 : eHigh n k * foot ≤ 200 * foot := Int.mul_le_mul_of_nonneg_right b2.2 hf0
  have m3 : 0 ≤ eLow n k * foot := Int.mul_nonneg (by omega) hf0
  have m4 : 0 ≤ eHigh n k * foot := Int.mul_nonneg (by omega) hf0
  have e4 := h.2.2.2.2
  unfold Ct
  refine ev_t rfl ?_
  refine ev_t rfl ?_
  refine ev_g rfl (by omega) ?_
  refine ev_t rfl ?_
  refine ev_t rfl ?_
  refine ev_t rfl ?_
  refine sv_cp 0 100 rfl rfl (c_107 _ _ _ _ _ _ _ h h0 h1) h.1 ?_
  refine ev_t rfl ?_
  refine ev_g rfl (by omega) ?_
  refine sv_b 0 100 rfl rfl (fun c => ?_) (fun c => ?_)
  · have c1 : 2 * len < eLow n k * foot := c
    refine ev_t rfl ?_
    exact ev_r rfl (Or.inl rfl) ⟨_, rfl, rfl, (bi_f (fun z => by have := z.1; omega)).symm⟩
  · have c1 : ¬ 2 * len < eLow n k * foot := c
    refine ev_t rfl ?_
    refine ev_g rfl h.1 ?_
    rw [e4]
    refine sv_b 0 100 rfl rfl (fun c => ?_) (fun c => ?_)
    · have c2 : k ≠ 0 := c
      refine ev_t rfl ?_
      refine ev_t rfl ?_
      refine sv_cp 0 100 rfl rfl (c_108 _ _ _ _ _ _ _ h h0 h1) h.1 ?_
      refine ev_t rfl ?_
      refine ev_g rfl (by omega) ?_
      refine sv_b 0 100 rfl rfl (fun c => ?_) (fun c => ?_)
      · have c3 : eHigh n k * foot ≤ 2 * len := c
        refine ev_t rfl ?_
        exact ev_r rfl (Or.inl rfl) ⟨_, rfl, rfl, (bi_f (fun z => by have := z.2; rw [if_neg c2] at this; omega)).symm⟩
      · have c3 : ¬ eHigh n k * foot ≤ 2 * len := c
        refine ev_t rfl ?_
        refine ev_t rfl ?_
        exact ev_r rfl (Or.inr rfl) ⟨_, rfl, rfl, (bi_t ⟨by omega, by rw [if_neg c2]; omega⟩).symm⟩
    · have c2 : k = 0 := Classical.byContradiction fun z => c z
      refine ev_t rfl ?_
      refine ev_t rfl ?_
      refine sv_cp 0 100 rfl rfl (c_108 _ _ _ _ _ _ _ h h0 h1) h.1 ?_
      refine ev_t rfl ?_
      refine ev_g rfl (by omega) ?_
      refine sv_b 0 100 rfl rfl (fun c => ?_) (fun c => ?_)
      · have c3 : 2 * len ≠ eHigh n k * foot := c
        refine ev_t rfl ?_
        exact ev_r rfl (Or.inl rfl) ⟨_, rfl, rfl, (bi_f (fun z => by have := z.2; rw [if_pos c2] at this; omega)).symm⟩
      · have c3 : 2 * len = eHigh n k * foot := Classical.byContradiction fun z => c z
        refine ev_t rfl ?_
        refine ev_t rfl ?_
        refine ev_t rfl ?_
        exact ev_r rfl (Or.inr rfl) ⟨_, rfl, rfl, (bi_t ⟨by omega, by rw [if_pos c2]; omega⟩).symm⟩
/-- a state's cells: they lie one behind the other -/
abbrev isSt (M : XM) (s : Nat) : Prop := (mS M s).1 = 3 ∧ (mR M s 0 = s + 1 ∧ mR M s 1 = s + 2 ∧ mR M s 2 = s + 3 ∧ mR M s 3 = s + 4 ∧ mR M s 4 = s + 5 ∧ mR M s 5 = s + 6) ∧ mS M (s + 1) = (100, 32) ∧ mS M (s + 2) = (100, 6) ∧ mS M (s + 3) = (100, 12) ∧ mS M (s + 4) = (100, 16) ∧ mS M (s + 5) = (101, 24)
theorem gAr {M : XM} {a kd n : Nat} (h : mS M a = (kd, n)) {i : Int} (h0 : 0 ≤ i) (h1 : i < n) : (mS M a).1 = kd ∧ 0 ≤ i ∧ i < ((mS M a).2 : Int) := by rw [h]; exact ⟨rfl, h0, h1⟩
/-- which length an entry is of, by the cuts -/
def lenOf (cut : Int → Int) (t w : Int) : Int := if cut t ≠ -1 ∧ cut t ≤ w then t + 6 else t
theorem c_86 (d s p : Nat) (t w n k : Int) (M : XM) (hs : isSt M s) (h : isE M p t w n k) (h0 : 0 ≤ t) (h1 : t ≤ 5) : Ct d 86 [vR s, vR p] M (RI fun r M1 => M1 = M ∧ r = lenOf (mI M (s + 2)) t w) := by
  obtain ⟨e0, e1, e2, -, -⟩ := h
  unfold Ct
  refine ev_t rfl ?_
  refine sv_fr 0 100 rfl rfl hs.2.1.2.1 hs.1 ?_
  refine ev_t rfl ?_
  refine ev_g rfl e0 ?_
  rw [e1]
  refine ev_g rfl (gAr hs.2.2.2.1 h0 (by omega)) ?_
  refine ev_t rfl ?_
  refine sv_b 0 100 rfl rfl (fun c => ?_) (fun c => ?_)
  · have c1 : mI M (s + 2) t = -1 := c
    refine ev_t rfl ?_
    refine ev_g rfl e0 ?_
    rw [e1]
    exact ev_r rfl trivial ⟨_, rfl, rfl, by unfold lenOf; rw [if_neg (fun z => z.1 c1)]⟩
  · have c1 : ¬ mI M (s + 2) t = -1 := c
    refine ev_t rfl ?_
    refine ev_g rfl e0 ?_
    rw [e2]
    refine ev_t rfl ?_
    refine sv_fr 0 100 rfl rfl hs.2.1.2.1 hs.1 ?_
    refine ev_t rfl ?_
    refine ev_g rfl e0 ?_
    rw [e1]
    refine ev_g rfl (gAr hs.2.2.2.1 h0 (by omega)) ?_
    refine sv_b 0 100 rfl rfl (fun c => ?_) (fun c => ?_)
    · have c2 : w < mI M (s + 2) t := c
      refine ev_t rfl ?_
      refine ev_g rfl e0 ?_
      rw [e1]
      exact ev_r rfl trivial ⟨_, rfl, rfl, by unfold lenOf; rw [if_neg (fun z => by have := z.2; omega)]⟩
    · have c2 : ¬ w < mI M (s + 2) t := c
      refine ev_t rfl ?_
      refine ev_g rfl e0 ?_
      rw [e1]
      refine ev_t rfl ?_
      refine ev_g rfl (by omega) ?_
      refine ev_t rfl ?_
      exact ev_r rfl trivial ⟨_, rfl, rfl, by unfold lenOf; rw [if_pos ⟨c1, by omega⟩]⟩
/-- whether a pair is told -/
def hasP (f : Int → Int) (n x y : Int) : Prop := ∃ k : Int, 0 ≤ k ∧ k < n ∧ f (2 * k) = x ∧ f (2 * k + 1) = y
theorem hasP_s {f : Int → Int} {n x y : Int} (hn : 0 ≤ n) : hasP f (n + 1) x y ↔ hasP f n x y ∨ (f (2 * n) = x ∧ f (2 * n + 1) = y) := by
  constructor
  · rintro ⟨k, h0, h1, h2⟩
    by_cases e : k = n
    · subst e; exact Or.inr h2
    · exact Or.inl ⟨k, h0, by omega, h2⟩
  · rintro (⟨k, h0, h1, h2⟩ | h)
    · exact ⟨k, h0, by omega, h2⟩
    · exact ⟨n, hn, by omega, h⟩
theorem t_83 (d s n : Nat) (x y : Int) (M : XM) (hs : isSt M s) (hn : mI M s 6 = n) (hn6 : n ≤ 6) : ∀ (m k : Nat), k + m = n →
    Ev d 83 (5, [(0, vR s), (1, vI x), (2, vI y), (3, vI (bi (hasP (mI M (s + 3)) k x y))), (4, vI k)], []) M (RI fun r M1 => M1 = M ∧ r = bi (hasP (mI M (s + 3)) n x y)) := by
  intro m
  induction m with
  | zero =>
    intro k hk
    obtain rfl : k = n := by omega
    refine ev_t rfl ?_
    refine ev_t rfl ?_
    refine ev_g rfl hs.1 ?_
    rw [hn]
    refine sv_bt 0 100 rfl rfl (Int.le_refl _) ?_
    refine ev_t rfl ?_
    exact ev_r rfl (bi_01 _) ⟨_, rfl, rfl, rfl⟩
  | succ m ih =>
    intro k hk
    have ih1 := ih (k + 1) (by omega)
    rw [show ((k + 1 : Nat) : Int) = (k : Int) + 1 by omega] at ih1
    have fin : ∀ z : Int, z = bi (hasP (mI M (s + 3)) ((k : Int) + 1) x y) → Ev d 83 (51, [(0, vR s), (1, vI x), (2, vI y), (3, vI (bi (hasP (mI M (s + 3)) k x y))), (4, vI k)], [vI z]) M (RI fun r M1 => M1 = M ∧ r = bi (hasP (mI M (s + 3)) n x y)) := by
      intro z hz
      subst hz
      refine ev_t rfl ?_
      refine ev_g rfl (by omega) ?_
      refine ev_t rfl ?_
      exact ih1
    refine ev_t rfl ?_
    refine ev_t rfl ?_
    refine ev_g rfl hs.1 ?_
    rw [hn]
    refine sv_bf 0 100 rfl rfl (by show ¬ (n : Int) ≤ k; omega) ?_
    refine ev_t rfl ?_
    refine sv_b1 0 100 rfl rfl (fun c => ?_) (fun c => ?_)
    · refine ev_t rfl ?_
      refine ev_t rfl ?_
      exact fin 1 (bi_t ((hasP_s (by omega)).mpr (Or.inl c))).symm
    · refine ev_t rfl ?_
      refine sv_fr 0 100 rfl rfl hs.2.1.2.2.1 hs.1 ?_
      refine ev_t rfl ?_
      refine ev_t rfl ?_
      refine ev_g rfl (by omega) ?_
      refine ev_g rfl (gAr hs.2.2.2.2.1 (by omega) (by omega)) ?_
      refine ev_t rfl ?_
      refine sv_b 0 100 rfl rfl (fun c1 => ?_) (fun c1 => ?_)
      · have c2 : mI M (s + 3) (2 * (k : Int)) ≠ x := c1
        refine ev_t rfl ?_
        exact fin 0 (bi_f (fun z => ((hasP_s (by omega)).mp z).elim c (fun w => c2 w.1))).symm
      · have c2 : mI M (s + 3) (2 * (k : Int)) = x := Classical.byContradiction fun z => c1 z
        refine ev_t rfl ?_
        refine sv_fr 0 100 rfl rfl hs.2.1.2.2.1 hs.1 ?_
        refine ev_t rfl ?_
        refine ev_t rfl ?_
        refine ev_g rfl (by omega) ?_
        refine ev_t rfl ?_
        refine ev_g rfl (by omega) ?_
        refine ev_g rfl (gAr hs.2.2.2.2.1 (by omega) (by omega)) ?_
        refine ev_t rfl ?_
        refine sv_b 0 100 rfl rfl (fun c3 => ?_) (fun c3 => ?_)
        · have c4 : mI M (s + 3) (2 * (k : Int) + 1) ≠ y := c3
          refine ev_t rfl ?_
          exact fin 0 (bi_f (fun z => ((hasP_s (by omega)).mp z).elim c (fun w => c4 w.2))).symm
        · have c4 : mI M (s + 3) (2 * (k : Int) + 1) = y := Classical.byContradiction fun z => c3 z
          refine ev_t rfl ?_
          refine ev_t rfl ?_
          exact fin 1 (bi_t ((hasP_s (by omega)).mpr (Or.inr ⟨c2, c4⟩))).symm
theorem c_83 (d s n : Nat) (x y : Int) (M : XM) (hs : isSt M s) (hn : mI M s 6 = n) (hn6 : n ≤ 6) : Ct d 83 [vR s, vI x, vI y] M (RI fun r M1 => M1 = M ∧ r = bi (hasP (mI M (s + 3)) n x y)) := by
  unfold Ct
  refine ev_t rfl ?_
  refine ev_t rfl ?_
  refine ev_t rfl ?_
  refine ev_t rfl ?_
  have k0 := t_83 d s n x y M hs hn hn6 n 0 (by omega)
  rw [bi_f (fun z => by obtain ⟨k, h0, h1, -⟩ := z; omega)] at k0
  exact ev_h (L1 := [(0, vR s), (1, vI x), (2, vI y), (3, vI 0), (4, vI (0 : Nat))]) rfl k0
/-- a pair more -/
theorem c_84 (d s n : Nat) (x y : Int) (M : XM) (hs : isSt M s) (hn : mI M s 6 = n) (hn6 : n < 6) : Ct d 84 [vR s, vI x, vI y] M (RV fun M1 => M1 = wI (wI M (s + 3) (ui (ui (mI M (s + 3)) (2 * n) x) (2 * n + 1) y)) s (ui (mI M s) 6 (n + 1))) := by
  have e1 : ∀ f, mI (wI M (s + 3) f) s = mI M s := fun f => by rw [mI_wI, up_n _ _ (by omega)]
  unfold Ct
  refine ev_t rfl ?_
  refine sv_fr 0 100 rfl rfl hs.2.1.2.2.1 hs.1 ?_
  refine ev_t rfl ?_
  refine ev_t rfl ?_
  refine ev_g rfl hs.1 ?_
  rw [hn]
  refine ev_g rfl (by omega) ?_
  refine ev_t rfl ?_
  refine ev_g rfl (gAr hs.2.2.2.2.1 (by omega) (by omega)) ?_
  refine ev_t rfl ?_
  refine sv_fr 0 100 rfl rfl hs.2.1.2.2.1 hs.1 ?_
  refine ev_t rfl ?_
  refine ev_t rfl ?_
  refine ev_g rfl hs.1 ?_
  rw [e1, hn]
  refine ev_g rfl (by omega) ?_
  refine ev_t rfl ?_
  refine ev_g rfl (by omega) ?_
  refine ev_t rfl ?_
  refine ev_g rfl (gAr hs.2.2.2.2.1 (by omega) (by omega)) ?_
  rw [wI_wI, mI_wI, up_s]
  refine ev_t rfl ?_
  refine ev_t rfl ?_
  refine ev_g rfl hs.1 ?_
  rw [e1, hn]
  refine ev_t rfl ?_
  refine ev_g rfl (by omega) ?_
  refine ev_g rfl hs.1 ?_
  rw [e1]
  exact ev_r rfl trivial ⟨rfl, rfl⟩
