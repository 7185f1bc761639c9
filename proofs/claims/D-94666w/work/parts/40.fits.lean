/-! CONTRACTS, 17: whether it can be: the square filled -/
/-- step by step -/
def fold {α : Type} (f : Nat → α → α) : Nat → α → α
  | 0, x => x
  | n + 1, x => f n (fold f n x)
def dZ : Int → EN := fun _ => (0, 0, 0, 0)
/-- nothing is there -/
theorem t_89a (d e kp : Nat) (s ct cw : Int) (M0 : XM) (hW : Wf M0) (he : isEn e) (Q : XO → XM → Prop)
    (kk : ∀ f : Int → Int, (∀ j : Int, 0 ≤ j → j < 256 → f j = 0) → ∀ x, Ev d 89 (25, [(0, vR e), (1, vI s), (2, vR kp), (3, vI ct), (4, vI cw), (5, x)], []) (wI M0 (e + 7) f) Q) : ∀ (n i : Nat) (f : Int → Int), i + n = 256 → (∀ j : Int, 0 ≤ j → j < i → f j = 0) → Ev d 89 (3, [(0, vR e), (1, vI s), (2, vR kp), (3, vI ct), (4, vI cw), (5, vI i)], []) (wI M0 (e + 7) f) Q := by
  intro n
  induction n with
  | zero =>
    intro i f hi hf
    obtain rfl : i = 256 := by omega
    refine ev_t rfl ?_
    refine ev_t rfl ?_
    refine sv_bt 0 300 rfl rfl (by decide) ?_
    exact kk f hf _
  | succ n ih =>
    intro i f hi hf
    have hE := hW.en he
    have q1 : ¬ (256 : Int) ≤ i := by omega
    have q2 : 0 ≤ (i : Int) ∧ (i : Int) < 256 := by omega
    have q3 : -2147483648 ≤ (i : Int) + 1 ∧ (i : Int) + 1 < 2147483648 := by omega
    have qa : ((i + 1 : Nat) : Int) = (i : Int) + 1 := by omega
    have ih1 := ih (i + 1) (ui f i 0) (by omega) (fun j h0 h1 => by
      unfold ui
      split
      · rfl
      · exact hf j h0 (by omega))
    rw [qa] at ih1
    refine ev_t rfl ?_
    refine ev_t rfl ?_
    refine sv_bf 0 300 rfl rfl q1 ?_
    refine ev_t rfl ?_
    refine sv_fr 0 300 rfl rfl hE.2.1.2.2.2.2.1 hE.1 ?_
    refine ev_t rfl ?_
    refine ev_t rfl ?_
    refine ev_g rfl ⟨gAr hE.2.2.2.2.2.2.1 q2.1 q2.2, Or.inl rfl⟩ ?_
    rw [wI_wI, mI_wI, up_s]
    refine ev_g rfl q3 ?_
    refine ev_t rfl ?_
    exact ih1
/-- the state of the square on the way -/
def sQ (e : Nat) (M0 M : XM) (D : Int → EN) : Prop := Fe e M0 M ∧ (MX M e D ∧ smD D) ∧ mI M e = mI M0 e
noncomputable def dDiag : Nat → (Int → EN) → Int → EN := fun k D => mCom D (pI k k) (1, 1, 1, 0)
theorem t_89b (d e kp : Nat) (s ct cw : Int) (M0 : XM) (hW0 : Wf M0) (he : isEn e) (Q : XO → XM → Prop)
    (kk : ∀ (M : XM), sQ e M0 M (fold dDiag 16 dZ) → ∀ x, Ev (d + 4) 89 (52, [(0, vR e), (1, vI s), (2, vR kp), (3, vI ct), (4, vI cw), (5, x)], []) M Q) : ∀ (n i : Nat) (M : XM), i + n = 16 → sQ e M0 M (fold dDiag i dZ) → Ev (d + 4) 89 (28, [(0, vR e), (1, vI s), (2, vR kp), (3, vI ct), (4, vI cw), (5, vI i)], []) M Q := by
  intro n
  induction n with
  | zero =>
    intro i M hi hM
    obtain rfl : i = 16 := by omega
    refine ev_t rfl ?_
    refine ev_t rfl ?_
    refine sv_bt 0 300 rfl rfl (by decide) ?_
    exact kk M hM _
  | succ n ih =>
    intro i M hi hM
    have q1 : ¬ (16 : Int) ≤ i := by omega
    have q2 : 0 ≤ (i : Int) ∧ (i : Int) < 16 := by omega
    have q3 : -2147483648 ≤ (i : Int) + 1 ∧ (i : Int) + 1 < 2147483648 := by omega
    have qa : ((i + 1 : Nat) : Int) = (i : Int) + 1 := by omega
    have q6 : i + 1 + n = 16 := by omega
    obtain ⟨f1, ⟨f2, f3⟩, f4⟩ := hM
    have hW := f1.wf hW0
    refine ev_t rfl ?_
    refine ev_t rfl ?_
    refine sv_bf 0 300 rfl rfl q1 ?_
    refine ev_t rfl ?_
    refine ev_t rfl ?_
    refine ev_t rfl ?_
    refine ev_t rfl ?_
    refine ev_t rfl ?_
    refine ev_t rfl ?_
    refine ev_cv rfl (hW.en he).1 (c_90s _ e i i 1 1 0 M _ hW he f2 f3 q2.1 q2.2 q2.1 q2.2 (by decide) (by decide) (by decide) (by decide) (Or.inl rfl)) (fun M1 h => ?_)
    obtain ⟨g1, g2, g3⟩ := h
    have ih1 := ih (i + 1) M1 q6 ⟨f1.tr g1, g2, g3.trans f4⟩
    rw [qa] at ih1
    refine ev_g rfl q3 ?_
    refine ev_t rfl ?_
    exact ih1
