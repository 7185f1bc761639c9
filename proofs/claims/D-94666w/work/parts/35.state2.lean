/-! CONTRACTS, 12: states: an entry added -/
theorem c_85 (d s A n cap p : Nat) (M : XM) (hs : isSt M s) (hL : isL M (s + 6) A n cap) (hsN : s + 7 ≤ mN M) (hA : A < mN M) (hc0 : 0 < cap) (hc1 : cap ≤ 300) (hn : n < 24) (hp : (mS M p).1 = 7) (hpN : p < mN M) (hmc0 : 0 ≤ mI M (s + 6) 0) (hmc1 : mI M (s + 6) 0 ≤ 1000000) :
    Ct (d + 7) 85 [vR s, vR p] M (RV fun M1 => addQ (wI M (s + 5) (ui (mI M (s + 5)) n 1)) (s + 6) A n cap p M1 ∧ (∀ k, k ≠ 0 → k ≠ 2 → mI M1 (s + 6) k = mI M (s + 6) k) ∧ mI M1 (s + 6) 0 = mI M (s + 6) 0 + 1) := by
  have q1 : 0 ≤ (n : Int) ∧ (n : Int) < 24 := by omega
  have q2 : s + 6 ≠ s + 5 := by omega
  have q3 : s + 6 < mN M := by omega
  have q4 : n ≤ 250 := by omega
  have e1 : mI (wI M (s + 5) (ui (mI M (s + 5)) n 1)) (s + 6) = mI M (s + 6) := by rw [mI_wI, up_n _ _ q2]
  have hL1 : isL (wI M (s + 5) (ui (mI M (s + 5)) n 1)) (s + 6) A n cap := ⟨hL.1, hL.2.1, hL.2.2.1, by rw [e1]; exact hL.2.2.2.1, hL.2.2.2.2⟩
  unfold Ct
  refine ev_t rfl ?_
  refine sv_fr 0 200 rfl rfl hs.2.1.2.2.2.2.1 hs.1 ?_
  refine ev_t rfl ?_
  refine sv_fr 0 200 rfl rfl hs.2.1.2.2.2.2.2 hs.1 ?_
  refine sv_cp 0 200 rfl rfl (c_254 _ _ A n cap M hL) hL.1 ?_
  refine ev_t rfl ?_
  refine ev_g rfl ⟨gAr hs.2.2.2.2.2.2 q1.1 q1.2, Or.inr rfl⟩ ?_
  refine ev_t rfl ?_
  refine sv_fr 0 200 rfl rfl hs.2.1.2.2.2.2.2 hs.1 ?_
  refine ev_t rfl ?_
  refine ev_ci rfl hL1.1 (c_255 d (s + 6) A n cap p _ hL1 q3 hA hc0 hc1 q4 (by show (mS M p).1 ∈ okE; rw [hp]; decide) hpN (by rw [e1]; exact hmc0) (by rw [e1]; exact hmc1)) (fun r M1 h => ?_)
  obtain ⟨h1, h2, h3⟩ := h
  rw [e1] at h2 h3
  refine ev_t rfl ?_
  exact ev_r rfl trivial ⟨rfl, h1, h2, h3⟩
