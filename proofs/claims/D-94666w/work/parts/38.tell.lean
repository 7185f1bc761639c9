/-! CONTRACTS, 15: the component's calls: one thing told -/
theorem c_23 (d : Nat) (M : XM) (hW : Wf M) : Ct d 23 [vR 40] M (RI fun r M1 => M1 = M ∧ r = mI M 40 9) := by
  unfold Ct
  refine ev_t rfl ?_
  refine ev_g rfl (hW.k rfl (by decide) (by decide)) ?_
  exact ev_r rfl trivial ⟨_, rfl, rfl, rfl⟩
theorem c_25 (d : Nat) (M : XM) (hW : Wf M) : Ct d 25 [vR 40] M (RI fun r M1 => M1 = M ∧ r = mI M 40 8) := by
  unfold Ct
  refine ev_t rfl ?_
  refine ev_g rfl (hW.k rfl (by decide) (by decide)) ?_
  exact ev_r rfl trivial ⟨_, rfl, rfl, rfl⟩
theorem c_74 (d : Nat) (M : XM) (hW : Wf M) : Ct d 74 [vR 40] M (RI fun r M1 => M1 = M ∧ r = mI M 40 0) := by
  unfold Ct
  refine ev_t rfl ?_
  refine ev_g rfl (hW.k rfl (by decide) (by decide)) ?_
  exact ev_r rfl trivial ⟨_, rfl, rfl, rfl⟩
/-- a place of a row replaced, and told -/
def mRep (M : XM) (A : Nat) (i v : Int) : XM := mTold (wI M A (ui (mI M A) i v))
theorem c_10 (d A n : Nat) (i v : Int) (M : XM) (hW : Wf M) (hA : mS M A = (100, n)) (hA40 : A ≠ 40) (h0 : 0 ≤ i) (h1 : i < n) (hv0 : 0 ≤ mI M 40 10) (hv1 : mI M 40 10 ≤ 1000) : Ct (d + 2) 10 [vR 40, vR A, vI i, vI v] M (RI fun r M1 => r = mI M A i ∧ M1 = mRep M A i v) := by
  have hW1 : Wf (wI M A (ui (mI M A) i v)) := hW
  have e1 : mI (wI M A (ui (mI M A) i v)) 40 = mI M 40 := by rw [mI_wI, up_n _ _ (fun z => hA40 z.symm)]
  unfold Ct
  refine ev_t rfl ?_
  refine ev_t rfl ?_
  refine ev_g rfl (gAr hA h0 h1) ?_
  refine ev_t rfl ?_
  refine ev_t rfl ?_
  refine ev_t rfl ?_
  refine ev_t rfl ?_
  refine ev_g rfl (gAr hA h0 h1) ?_
  refine ev_t rfl ?_
  refine ev_t rfl ?_
  refine ev_ci rfl (hW1.k rfl (by decide) (by decide)) (c_6 d _ _ hW1 (by rw [e1]; exact hv0) (by rw [e1]; exact hv1)) (fun r M1 h => ?_)
  obtain ⟨rfl, rfl⟩ := h
  exact ev_r rfl trivial ⟨_, rfl, rfl, rfl⟩
