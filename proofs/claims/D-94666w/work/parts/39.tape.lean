/-! CONTRACTS, 16: the component's tape -/
theorem c_21 (d : Nat) (n : Int) (M : XM) (hW : Wf M) : Ct d 21 [vR 40, vI n] M (RI fun r M1 => (0 ≤ n ∧ n ≤ mI M 40 7 → r = n ∧ M1 = wI M 40 (ui (mI M 40) 7 n)) ∧ (¬ (0 ≤ n ∧ n ≤ mI M 40 7) → r = -1 ∧ M1 = M)) := by
  unfold Ct
  refine ev_t rfl ?_
  refine sv_b 0 200 rfl rfl (fun c => ?_) (fun c => ?_)
  · have c1 : n < 0 := c
    refine ev_t rfl ?_
    exact ev_r rfl trivial ⟨_, rfl, fun z => absurd z.1 (by omega), fun _ => ⟨rfl, rfl⟩⟩
  · have c1 : ¬ n < 0 := c
    refine ev_t rfl ?_
    refine ev_t rfl ?_
    refine ev_g rfl (hW.k rfl (by decide) (by decide)) ?_
    refine sv_b 0 200 rfl rfl (fun c2 => ?_) (fun c2 => ?_)
    · have c3 : n ≤ mI M 40 7 := c2
      refine ev_t rfl ?_
      refine ev_t rfl ?_
      refine ev_g rfl (hW.k rfl (by decide) (by decide)) ?_
      refine ev_t rfl ?_
      exact ev_r rfl trivial ⟨_, rfl, fun _ => ⟨rfl, rfl⟩, fun z => absurd ⟨by omega, c3⟩ z⟩
    · have c3 : ¬ n ≤ mI M 40 7 := c2
      refine ev_t rfl ?_
      exact ev_r rfl trivial ⟨_, rfl, fun z => absurd z.2 c3, fun _ => ⟨rfl, rfl⟩⟩
