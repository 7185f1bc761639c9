/-! CONTRACTS, 3: small methods of the component -/
theorem ret_c {d id pc : Nat} {L : XL} {M : XM} {v : XV} {g : Prop} {Q : XO → XM → Prop} (hs : prog id pc L [v] M = rT g (some v)) (hg : g) (k : Q (Sum.inl (some v)) M) : Ev d id (pc, L, [v]) M Q := ev_r hs hg k
theorem c_9 (d : Nat) (v : Int) (M : XM) : Ct (d + 1) 9 [vI v] M (RI fun r M1 => M1 = M ∧ r = bi (0 ≤ v ∧ v ≤ 3)) := by
  unfold Ct
  repeat' (first
    | refine sv_t 0 100 rfl rfl rfl ?_
    | refine sv_g 0 100 rfl rfl rfl (by (first | exact trivial | assumption | decide | omega | exact bi_01 _)) ?_
    | refine sv_b0 0 100 rfl rfl (fun _ => ?_) (fun _ => ?_)
    | refine sv_b1 0 100 rfl rfl (fun _ => ?_) (fun _ => ?_)
    | refine sv_bt 0 100 rfl rfl (by decide) ?_
    | refine sv_bf 0 100 rfl rfl (by decide) ?_
    | refine sv_b 0 100 rfl rfl (fun _ => ?_) (fun _ => ?_)
    | refine sv_cb 0 100 rfl rfl (c_2 _ _ _ _ _) (by (first | exact trivial | assumption | decide | omega | exact bi_01 _)) ?_)
  exact ev_r rfl (bi_01 _) ⟨_, rfl, rfl, rfl⟩
theorem c_12 (d : Nat) (v : Int) (M : XM) : Ct (d + 1) 12 [vI v] M (RI fun r M1 => M1 = M ∧ r = bi (0 ≤ v ∧ v ≤ 5)) := by
  unfold Ct
  repeat' (first
    | refine sv_t 0 100 rfl rfl rfl ?_
    | refine sv_g 0 100 rfl rfl rfl (by (first | exact trivial | assumption | decide | omega | exact bi_01 _)) ?_
    | refine sv_b0 0 100 rfl rfl (fun _ => ?_) (fun _ => ?_)
    | refine sv_b1 0 100 rfl rfl (fun _ => ?_) (fun _ => ?_)
    | refine sv_bt 0 100 rfl rfl (by decide) ?_
    | refine sv_bf 0 100 rfl rfl (by decide) ?_
    | refine sv_b 0 100 rfl rfl (fun _ => ?_) (fun _ => ?_)
    | refine sv_cb 0 100 rfl rfl (c_2 _ _ _ _ _) (by (first | exact trivial | assumption | decide | omega | exact bi_01 _)) ?_)
  exact ev_r rfl (bi_01 _) ⟨_, rfl, rfl, rfl⟩
theorem c_45 (d : Nat) (n k : Int) (M : XM) : Ct (d + 1) 45 [vI n, vI k] M (RI fun r M1 => M1 = M ∧ r = bi ((1 ≤ n ∧ n ≤ 99) ∧ 0 ≤ k ∧ k ≤ 2)) := by
  unfold Ct
  repeat' (first
    | refine sv_t 0 100 rfl rfl rfl ?_
    | refine sv_g 0 100 rfl rfl rfl (by (first | exact trivial | assumption | decide | omega | exact bi_01 _)) ?_
    | refine sv_b0 0 100 rfl rfl (fun _ => ?_) (fun _ => ?_)
    | refine sv_b1 0 100 rfl rfl (fun _ => ?_) (fun _ => ?_)
    | refine sv_bt 0 100 rfl rfl (by decide) ?_
    | refine sv_bf 0 100 rfl rfl (by decide) ?_
    | refine sv_b 0 100 rfl rfl (fun _ => ?_) (fun _ => ?_)
    | refine sv_cb 0 100 rfl rfl (c_2 _ _ _ _ _) (by (first | exact trivial | assumption | decide | omega | exact bi_01 _)) ?_)
  all_goals (refine ev_r rfl (by first | decide | exact bi_01 _) ⟨_, rfl, rfl, ?_⟩)
  all_goals (first | (rw [bi_t (by omega)]; done) | (rw [bi_f (by omega)]; done))
theorem c_15 (d : Nat) (t w n k : Int) (M : XM) : Ct (d + 2) 15 [vI t, vI w, vI n, vI k] M (RI fun r M1 => M1 = M ∧ r = bi ((0 ≤ t ∧ t ≤ 5) ∧ (0 ≤ w ∧ w ≤ 31) ∧ (1 ≤ n ∧ n ≤ 99) ∧ 0 ≤ k ∧ k ≤ 2)) := by
  unfold Ct
  repeat' (first
    | refine sv_t 0 100 rfl rfl rfl ?_
    | refine sv_g 0 100 rfl rfl rfl (by (first | exact trivial | assumption | decide | omega | exact bi_01 _)) ?_
    | refine sv_b0 0 100 rfl rfl (fun _ => ?_) (fun _ => ?_)
    | refine sv_b1 0 100 rfl rfl (fun _ => ?_) (fun _ => ?_)
    | refine sv_bt 0 100 rfl rfl (by decide) ?_
    | refine sv_bf 0 100 rfl rfl (by decide) ?_
    | refine sv_b 0 100 rfl rfl (fun _ => ?_) (fun _ => ?_)
    | refine sv_cb 0 100 rfl rfl (c_2 _ _ _ _ _) (by (first | exact trivial | assumption | decide | omega | exact bi_01 _)) ?_
    | refine sv_cb 0 100 rfl rfl (c_8 _ _ _) (by (first | exact trivial | assumption | decide | omega | exact bi_01 _)) ?_
    | refine sv_cb 0 100 rfl rfl (c_12 _ _ _) (by (first | exact trivial | assumption | decide | omega | exact bi_01 _)) ?_)
  all_goals (refine ev_r rfl (by first | decide | exact bi_01 _) ⟨_, rfl, rfl, ?_⟩)
  all_goals (first | (rw [bi_t (by omega)]; done) | (rw [bi_f (by omega)]; done))
/-- refuse(code) -/
def mRef (M : XM) (c : Int) : XM := wI (wI M 40 (ui (mI M 40) 0 c)) 41 (ui (mI M 41) (-c) (mI M 41 (-c) + 1))
theorem c_3 (d : Nat) (c : Int) (M : XM) (hW : Wf M) (h1 : -6 ≤ c) (h2 : c ≤ -1) (h3 : 0 ≤ mI M 41 (-c)) (h4 : mI M 41 (-c) ≤ 1000) : Ct d 3 [vR 40, vI c] M (RI fun r M1 => r = c ∧ M1 = mRef M c) := by
  unfold Ct
  have h5 : 0 ≤ mI (wI M 40 (ui (mI M 40) 0 c)) 41 (-c) := h3
  have h6 : mI (wI M 40 (ui (mI M 40) 0 c)) 41 (-c) ≤ 1000 := h4
  repeat' (first
    | refine sv_t 0 100 rfl rfl rfl ?_
    | refine sv_fr 0 100 rfl rfl (r_40_1 hW) (by (first | exact trivial | assumption | decide | exact hW.k rfl (by decide) (by decide) | exact hW.a rfl (by decide) (by decide) (by first | decide | omega) (by first | decide | omega) | exact ⟨hW.a rfl (by decide) (by decide) (by first | decide | omega) (by first | decide | omega), by first | decide | omega | exact bi_01 _ | assumption⟩ | exact ⟨hW.k rfl (by decide) (by decide), by first | decide | omega | exact bi_01 _ | assumption⟩ | exact (hW.k (n := 0) rfl (by decide) (by decide)) ▸ (by decide) | omega | exact bi_01 _)) ?_
    | refine sv_g 0 100 rfl rfl rfl (by (first | exact trivial | assumption | decide | exact hW.k rfl (by decide) (by decide) | exact hW.a rfl (by decide) (by decide) (by first | decide | omega) (by first | decide | omega) | exact ⟨hW.a rfl (by decide) (by decide) (by first | decide | omega) (by first | decide | omega), by first | decide | omega | exact bi_01 _ | assumption⟩ | exact ⟨hW.k rfl (by decide) (by decide), by first | decide | omega | exact bi_01 _ | assumption⟩ | exact (hW.k (n := 0) rfl (by decide) (by decide)) ▸ (by decide) | omega | exact bi_01 _)) ?_
    | refine sv_b0 0 100 rfl rfl (fun _ => ?_) (fun _ => ?_)
    | refine sv_b1 0 100 rfl rfl (fun _ => ?_) (fun _ => ?_)
    | refine sv_bt 0 100 rfl rfl (by decide) ?_
    | refine sv_bf 0 100 rfl rfl (by decide) ?_
    | refine sv_b 0 100 rfl rfl (fun _ => ?_) (fun _ => ?_))
  exact ev_r rfl trivial ⟨_, rfl, rfl, rfl⟩
def mDone (M : XM) : XM := wI M 40 (ui (mI M 40) 0 0)
theorem c_4 (d : Nat) (v : Int) (M : XM) (hW : Wf M) : Ct d 4 [vR 40, vI v] M (RI fun r M1 => r = v ∧ M1 = mDone M) := by
  unfold Ct
  repeat' (first
    | refine sv_t 0 100 rfl rfl rfl ?_
    | refine sv_g 0 100 rfl rfl rfl (by (first | exact trivial | assumption | decide | exact hW.k rfl (by decide) (by decide) | exact hW.a rfl (by decide) (by decide) (by first | decide | omega) (by first | decide | omega) | exact ⟨hW.a rfl (by decide) (by decide) (by first | decide | omega) (by first | decide | omega), by first | decide | omega | exact bi_01 _ | assumption⟩ | exact ⟨hW.k rfl (by decide) (by decide), by first | decide | omega | exact bi_01 _ | assumption⟩ | exact (hW.k (n := 0) rfl (by decide) (by decide)) ▸ (by decide) | omega | exact bi_01 _)) ?_
    | refine sv_b0 0 100 rfl rfl (fun _ => ?_) (fun _ => ?_)
    | refine sv_b1 0 100 rfl rfl (fun _ => ?_) (fun _ => ?_)
    | refine sv_bt 0 100 rfl rfl (by decide) ?_
    | refine sv_bf 0 100 rfl rfl (by decide) ?_
    | refine sv_b 0 100 rfl rfl (fun _ => ?_) (fun _ => ?_))
  exact ev_r rfl trivial ⟨_, rfl, rfl, rfl⟩
def mTold (M : XM) : XM := wI M 40 (ui (ui (mI M 40) 10 (mI M 40 10 + 1)) 0 0)
theorem c_6 (d : Nat) (v : Int) (M : XM) (hW : Wf M) (h1 : 0 ≤ mI M 40 10) (h2 : mI M 40 10 ≤ 1000) : Ct (d + 1) 6 [vR 40, vI v] M (RI fun r M1 => r = v ∧ M1 = mTold M) := by
  unfold Ct
  repeat' (first
    | refine sv_t 0 100 rfl rfl rfl ?_
    | refine sv_g 0 100 rfl rfl rfl (by (first | exact trivial | assumption | decide | exact hW.k rfl (by decide) (by decide) | exact hW.a rfl (by decide) (by decide) (by first | decide | omega) (by first | decide | omega) | exact ⟨hW.a rfl (by decide) (by decide) (by first | decide | omega) (by first | decide | omega), by first | decide | omega | exact bi_01 _ | assumption⟩ | exact ⟨hW.k rfl (by decide) (by decide), by first | decide | omega | exact bi_01 _ | assumption⟩ | exact (hW.k (n := 0) rfl (by decide) (by decide)) ▸ (by decide) | omega | exact bi_01 _)) ?_
    | refine sv_b0 0 100 rfl rfl (fun _ => ?_) (fun _ => ?_)
    | refine sv_b1 0 100 rfl rfl (fun _ => ?_) (fun _ => ?_)
    | refine sv_bt 0 100 rfl rfl (by decide) ?_
    | refine sv_bf 0 100 rfl rfl (by decide) ?_
    | refine sv_b 0 100 rfl rfl (fun _ => ?_) (fun _ => ?_))
  refine ev_ci rfl (hW.k rfl (by decide) (by decide)) (c_4 _ _ _ (hW.wI _ _)) (fun r M1 h => ?_)
  obtain ⟨rfl, rfl⟩ := h
  refine ev_r rfl trivial ⟨_, rfl, rfl, ?_⟩
  unfold mDone mTold
  rw [wI_wI]; rfl
