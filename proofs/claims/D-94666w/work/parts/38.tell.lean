/-! CONTRACTS, 15: the component's calls: one thing told -/
theorem c_23 (d : Nat) (M : XM) (hW : Wf M) : Ct d 23 [vR 40] M (RI fun r M1 => M1 = M ∧ r = mI M 40 9) := by
  unfold Ct
  refine ev_t rfl ?_
  refine ev_g rfl (hW.k rfl (by decide) (by decide)) ?_
  exact ev_r rfl trivial ⟨_, rfl, rfl, rfl⟩
theorem c_25 (d : Nat) (M : XM) (hW : Wf M) : Ct d 25 [vR 40] M (RI fun r M1 => M1 = M ∧ r = mI M 40 8) := by
  unfold Ct
  refine ev_t rfl ?_
  refine ev_g rfl (hW.k rfl (by decide) (by decide)) ?_
  exact ev_r rfl trivial ⟨_, rfl, rfl, rfl⟩
theorem c_74 (d : Nat) (M : XM) (hW : Wf M) : Ct d 74 [vR 40] M (RI fun r M1 => M1 = M ∧ r = mI M 40 0) := by
  unfold Ct
  refine ev_t rfl ?_
  refine ev_g rfl (hW.k rfl (by decide) (by decide)) ?_
  exact ev_r rfl trivial ⟨_, rfl, rfl, rfl⟩
/-- a place of a row replaced, and told -/
def mRep (M : XM) (A : Nat) (i v : Int) : XM := mTold (wI M A (ui (mI M A) i v))
theorem c_10 (d A n : Nat) (i v : Int) (M : XM) (hW : Wf M) (hA : mS M A = (100, n)) (hA40 : A ≠ 40) (h0 : 0 ≤ i) (h1 : i < n) (hv0 : 0 ≤ mI M 40 10) (hv1 : mI M 40 10 ≤ 1000) : Ct (d + 2) 10 [vR 40, vR A, vI i, vI v] M (RI fun r M1 => r = mI M A i ∧ M1 = mRep M A i v) := by
  have hW1 : Wf (wI M A (ui (mI M A) i v)) := hW
  have e1 : mI (wI M A (ui (mI M A) i v)) 40 = mI M 40 := by rw [mI_wI, up_n _ _ (fun z => hA40 z.symm)]
  unfold Ct
  refine ev_t rfl ?_
  refine ev_t rfl ?_
  refine ev_g rfl (gAr hA h0 h1) ?_
  refine ev_t rfl ?_
  refine ev_t rfl ?_
  refine ev_t rfl ?_
  refine ev_t rfl ?_
  refine ev_g rfl (gAr hA h0 h1) ?_
  refine ev_t rfl ?_
  refine ev_t rfl ?_
  refine ev_ci rfl (hW1.k rfl (by decide) (by decide)) (c_6 d _ _ hW1 (by rw [e1]; exact hv0) (by rw [e1]; exact hv1)) (fun r M1 h => ?_)
  obtain ⟨rfl, rfl⟩ := h
  exact ev_r rfl trivial ⟨_, rfl, rfl, rfl⟩
/-- what a call that replaces comes to -/
noncomputable def mOrRef (p : Prop) (M : XM) (A : Nat) (i v : Int) (r : Int) (M1 : XM) : Prop := (p → r = mI M A i ∧ M1 = mRep M A i v) ∧ (¬ p → r = -1 ∧ M1 = mRef M (-1))
theorem c_7 (d : Nat) (w k : Int) (M : XM) (hW : Wf M) (hv0 : 0 ≤ mI M 40 10) (hv1 : mI M 40 10 ≤ 1000) (hr0 : 0 ≤ mI M 41 1) (hr1 : mI M 41 1 ≤ 1000) : Ct (d + 3) 7 [vR 40, vI w, vI k] M (RI fun r M1 => mOrRef ((0 ≤ w ∧ w ≤ 31) ∧ (k = -1 ∨ (0 ≤ k ∧ k ≤ 3))) M 47 w k r M1) := by
  have yes : ((0 ≤ w ∧ w ≤ 31) ∧ (k = -1 ∨ (0 ≤ k ∧ k ≤ 3))) → Ev (d + 3) 7 (19, xl_e 0 [vR 40, vI w, vI k], []) M (RI fun r M1 => mOrRef ((0 ≤ w ∧ w ≤ 31) ∧ (k = -1 ∨ (0 ≤ k ∧ k ≤ 3))) M 47 w k r M1) := by
    intro h
    have q1 : w < 32 := by omega
    refine ev_t rfl ?_
    refine ev_t rfl ?_
    refine sv_fr 0 200 rfl rfl (r_40_4 hW) (hW.k rfl (by decide) (by decide)) ?_
    refine sv_fr 0 200 rfl rfl (r_46_0 hW) (hW.k rfl (by decide) (by decide)) ?_
    refine ev_t rfl ?_
    refine ev_t rfl ?_
    refine ev_ci rfl (hW.k rfl (by decide) (by decide)) (c_10 _ 47 32 w k M hW (hW.2.1 47 (by decide) (by decide)) (by decide) h.1.1 q1 hv0 hv1) (fun r M1 hM => ?_)
    refine ev_t rfl ?_
    exact ev_r rfl trivial ⟨r, rfl, fun _ => hM, fun z => absurd h z⟩
  have no : ¬ ((0 ≤ w ∧ w ≤ 31) ∧ (k = -1 ∨ (0 ≤ k ∧ k ≤ 3))) → Ev (d + 3) 7 (35, xl_e 0 [vR 40, vI w, vI k], []) M (RI fun r M1 => mOrRef ((0 ≤ w ∧ w ≤ 31) ∧ (k = -1 ∨ (0 ≤ k ∧ k ≤ 3))) M 47 w k r M1) := by
    intro h
    refine ev_t rfl ?_
    refine ev_t rfl ?_
    refine ev_ci rfl (hW.k rfl (by decide) (by decide)) (c_3 _ (-1) M hW (by decide) (by decide) hr0 hr1) (fun r M1 hM => ?_)
    exact ev_r rfl trivial ⟨r, rfl, fun z => absurd z h, fun _ => hM⟩
  unfold Ct
  refine ev_t rfl ?_
  refine sv_cb 0 200 rfl rfl (c_8 _ _ _) trivial ?_
  refine sv_b0 0 200 rfl rfl (fun c => ?_) (fun c => ?_)
  · exact no (fun z => c z.1)
  · refine ev_t rfl ?_
    refine ev_t rfl ?_
    refine sv_b 0 200 rfl rfl (fun c1 => ?_) (fun c1 => ?_)
    · exact yes ⟨c, Or.inl c1⟩
    · have c2 : ¬ k = -1 := c1
      refine ev_t rfl ?_
      refine sv_cb 0 200 rfl rfl (c_9 _ _ _) trivial ?_
      refine sv_b0 0 200 rfl rfl (fun c3 => ?_) (fun c3 => ?_)
      · exact no (fun z => z.2.elim c2 c3)
      · exact yes ⟨c, Or.inr c3⟩
theorem c_11 (d : Nat) (w k : Int) (M : XM) (hW : Wf M) (hv0 : 0 ≤ mI M 40 10) (hv1 : mI M 40 10 ≤ 1000) (hr0 : 0 ≤ mI M 41 1) (hr1 : mI M 41 1 ≤ 1000) : Ct (d + 3) 11 [vR 40, vI w, vI k] M (RI fun r M1 => mOrRef ((0 ≤ w ∧ w ≤ 5) ∧ (k = -1 ∨ (1 ≤ k ∧ k ≤ 31))) M 48 w k r M1) := by
  have yes : ((0 ≤ w ∧ w ≤ 5) ∧ (k = -1 ∨ (1 ≤ k ∧ k ≤ 31))) → Ev (d + 3) 11 (22, xl_e 0 [vR 40, vI w, vI k], []) M (RI fun r M1 => mOrRef ((0 ≤ w ∧ w ≤ 5) ∧ (k = -1 ∨ (1 ≤ k ∧ k ≤ 31))) M 48 w k r M1) := by
    intro h
    have q1 : w < 6 := by omega
    refine ev_t rfl ?_
    refine ev_t rfl ?_
    refine sv_fr 0 200 rfl rfl (r_40_4 hW) (hW.k rfl (by decide) (by decide)) ?_
    refine sv_fr 0 200 rfl rfl (r_46_1 hW) (hW.k rfl (by decide) (by decide)) ?_
    refine ev_t rfl ?_
    refine ev_t rfl ?_
    refine ev_ci rfl (hW.k rfl (by decide) (by decide)) (c_10 _ 48 6 w k M hW (hW.2.1 48 (by decide) (by decide)) (by decide) h.1.1 q1 hv0 hv1) (fun r M1 hM => ?_)
    refine ev_t rfl ?_
    exact ev_r rfl trivial ⟨r, rfl, fun _ => hM, fun z => absurd h z⟩
  have no : ¬ ((0 ≤ w ∧ w ≤ 5) ∧ (k = -1 ∨ (1 ≤ k ∧ k ≤ 31))) → Ev (d + 3) 11 (38, xl_e 0 [vR 40, vI w, vI k], []) M (RI fun r M1 => mOrRef ((0 ≤ w ∧ w ≤ 5) ∧ (k = -1 ∨ (1 ≤ k ∧ k ≤ 31))) M 48 w k r M1) := by
    intro h
    refine ev_t rfl ?_
    refine ev_t rfl ?_
    refine ev_ci rfl (hW.k rfl (by decide) (by decide)) (c_3 _ (-1) M hW (by decide) (by decide) hr0 hr1) (fun r M1 hM => ?_)
    exact ev_r rfl trivial ⟨r, rfl, fun z => absurd z h, fun _ => hM⟩
  unfold Ct
  refine ev_t rfl ?_
  refine sv_cb 0 200 rfl rfl (c_12 _ _ _) trivial ?_
  refine sv_b0 0 200 rfl rfl (fun c => ?_) (fun c => ?_)
  · exact no (fun z => c z.1)
  · refine ev_t rfl ?_
    refine ev_t rfl ?_
    refine sv_b 0 200 rfl rfl (fun c1 => ?_) (fun c1 => ?_)
    · exact yes ⟨c, Or.inl c1⟩
    · have c2 : ¬ k = -1 := c1
      refine ev_t rfl ?_
      refine ev_t rfl ?_
      refine ev_t rfl ?_
      refine sv_cb 0 200 rfl rfl (c_2 _ _ _ _ _) trivial ?_
      refine sv_b0 0 200 rfl rfl (fun c3 => ?_) (fun c3 => ?_)
      · exact no (fun z => z.2.elim c2 c3)
      · exact yes ⟨c, Or.inr c3⟩
theorem c_65 (d : Nat) (w k : Int) (M : XM) (hW : Wf M) (hv0 : 0 ≤ mI M 40 10) (hv1 : mI M 40 10 ≤ 1000) (hr0 : 0 ≤ mI M 41 1) (hr1 : mI M 41 1 ≤ 1000) : Ct (d + 3) 65 [vR 40, vI w, vI k] M (RI fun r M1 => mOrRef ((0 ≤ w ∧ w ≤ 15) ∧ (1 ≤ k ∧ k ≤ 9999)) M 50 w k r M1) := by
  have yes : ((0 ≤ w ∧ w ≤ 15) ∧ (1 ≤ k ∧ k ≤ 9999)) → Ev (d + 3) 65 (21, xl_e 0 [vR 40, vI w, vI k], []) M (RI fun r M1 => mOrRef ((0 ≤ w ∧ w ≤ 15) ∧ (1 ≤ k ∧ k ≤ 9999)) M 50 w k r M1) := by
    intro h
    have q1 : w < 16 := by omega
    refine ev_t rfl ?_
    refine ev_t rfl ?_
    refine sv_fr 0 200 rfl rfl (r_40_4 hW) (hW.k rfl (by decide) (by decide)) ?_
    refine sv_fr 0 200 rfl rfl (r_46_3 hW) (hW.k rfl (by decide) (by decide)) ?_
    refine ev_t rfl ?_
    refine ev_t rfl ?_
    refine ev_ci rfl (hW.k rfl (by decide) (by decide)) (c_10 _ 50 16 w k M hW (hW.2.1 50 (by decide) (by decide)) (by decide) h.1.1 q1 hv0 hv1) (fun r M1 hM => ?_)
    refine ev_t rfl ?_
    exact ev_r rfl trivial ⟨r, rfl, fun _ => hM, fun z => absurd h z⟩
  have no : ¬ ((0 ≤ w ∧ w ≤ 15) ∧ (1 ≤ k ∧ k ≤ 9999)) → Ev (d + 3) 65 (37, xl_e 0 [vR 40, vI w, vI k], []) M (RI fun r M1 => mOrRef ((0 ≤ w ∧ w ≤ 15) ∧ (1 ≤ k ∧ k ≤ 9999)) M 50 w k r M1) := by
    intro h
    refine ev_t rfl ?_
    refine ev_t rfl ?_
    refine ev_ci rfl (hW.k rfl (by decide) (by decide)) (c_3 _ (-1) M hW (by decide) (by decide) hr0 hr1) (fun r M1 hM => ?_)
    exact ev_r rfl trivial ⟨r, rfl, fun z => absurd z h, fun _ => hM⟩
  unfold Ct
  refine ev_t rfl ?_
  refine ev_t rfl ?_
  refine ev_t rfl ?_
  refine sv_cb 0 200 rfl rfl (c_2 _ _ _ _ _) trivial ?_
  refine sv_b0 0 200 rfl rfl (fun c => ?_) (fun c => ?_)
  · exact no (fun z => c z.1)
  · refine ev_t rfl ?_
    refine ev_t rfl ?_
    refine ev_t rfl ?_
    refine sv_cb 0 200 rfl rfl (c_2 _ _ _ _ _) trivial ?_
    refine sv_b0 0 200 rfl rfl (fun c3 => ?_) (fun c3 => ?_)
    · exact no (fun z => c3 z.2)
    · exact yes ⟨c, c3⟩
