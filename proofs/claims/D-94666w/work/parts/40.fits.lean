/-! CONTRACTS, 17: whether it can be: the square filled -/
/-- step by step -/
def fold {α : Type} (f : Nat → α → α) : Nat → α → α
  | 0, x => x
  | n + 1, x => f n (fold f n x)
def dZ : Int → EN := fun _ => (0, 0, 0, 0)
/-- nothing is there -/
theorem t_89a (d e kp : Nat) (s ct cw : Int) (M0 : XM) (hW : Wf M0) (he : isEn e) (Q : XO → XM → Prop)
    (kk : ∀ f : Int → Int, (∀ j : Int, 0 ≤ j → j < 256 → f j = 0) → ∀ x, Ev d 89 (25, [(0, vR e), (1, vI s), (2, vR kp), (3, vI ct), (4, vI cw), (5, x)], []) (wI M0 (e + 7) f) Q) : ∀ (n i : Nat) (f : Int → Int), i + n = 256 → (∀ j : Int, 0 ≤ j → j < i → f j = 0) → Ev d 89 (3, [(0, vR e), (1, vI s), (2, vR kp), (3, vI ct), (4, vI cw), (5, vI i)], []) (wI M0 (e + 7) f) Q := by
  intro n
  induction n with
  | zero =>
    intro i f hi hf
    obtain rfl : i = 256 := by omega
    refine ev_t rfl ?_
    refine ev_t rfl ?_
    refine sv_bt 0 300 rfl rfl (by decide) ?_
    exact kk f hf _
  | succ n ih =>
    intro i f hi hf
    have hE := hW.en he
    have q1 : ¬ (256 : Int) ≤ i := by omega
    have q2 : 0 ≤ (i : Int) ∧ (i : Int) < 256 := by omega
    have q3 : -2147483648 ≤ (i : Int) + 1 ∧ (i : Int) + 1 < 2147483648 := by omega
    have qa : ((i + 1 : Nat) : Int) = (i : Int) + 1 := by omega
    have ih1 := ih (i + 1) (ui f i 0) (by omega) (fun j h0 h1 => by
      unfold ui
      split
      · rfl
      · exact hf j h0 (by omega))
    rw [qa] at ih1
    refine ev_t rfl ?_
    refine ev_t rfl ?_
    refine sv_bf 0 300 rfl rfl q1 ?_
    refine ev_t rfl ?_
    refine sv_fr 0 300 rfl rfl hE.2.1.2.2.2.2.1 hE.1 ?_
    refine ev_t rfl ?_
    refine ev_t rfl ?_
    refine ev_g rfl ⟨gAr hE.2.2.2.2.2.2.1 q2.1 q2.2, Or.inl rfl⟩ ?_
    rw [wI_wI, mI_wI, up_s]
    refine ev_g rfl q3 ?_
    refine ev_t rfl ?_
    exact ih1
