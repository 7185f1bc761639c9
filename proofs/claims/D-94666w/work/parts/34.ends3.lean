/-! CONTRACTS, 11: ends along ways: beside one another; the square closed -/
/-- 2: greater for sure, 1: alike at least, else 0 -/
noncomputable def mAbv (x : EN) : Int := xc_w (x.1 = 0) 0 (xc_w (mBad x) 2 (xc_w (x.2.1 = x.2.2.1) 1 0))
theorem c_96 (d e : Nat) (a b : Int) (M : XM) (D : Int → EN) (hW : Wf M) (he : isEn e) (hM : MX M e D) (ha0 : 0 ≤ a) (ha1 : a < 16) (hb0 : 0 ≤ b) (hb1 : b < 16) : Ct (d + 2) 96 [vR e, vI a, vI b] M (RI fun r M1 => M1 = M ∧ r = mAbv (D (16 * a + b))) := by
  have a0 : 0 ≤ 16 * a + b ∧ 16 * a + b < 256 := by omega
  have g0 : -2147483648 ≤ 16 * a ∧ 16 * a < 2147483648 := by omega
  have g1 : -2147483648 ≤ 16 * a + b ∧ 16 * a + b < 2147483648 := by omega
  have hE := hW.en he
  obtain ⟨u1, u2⟩ := hW.up (k := 16 * a + b) he a0.1 a0.2
  obtain ⟨w1, w2⟩ := hW.lo (k := 16 * a + b) he a0.1 a0.2
  obtain ⟨m1, m2, m3⟩ := hM (16 * a + b) a0.1 a0.2
  unfold Ct
  refine ev_t rfl ?_
  refine ev_t rfl ?_
  refine ev_g rfl g0 ?_
  refine ev_t rfl ?_
  refine ev_g rfl g1 ?_
  refine ev_t rfl ?_
  refine ev_t rfl ?_
  refine sv_fr 0 200 rfl rfl hE.2.1.2.2.2.2.1 hE.1 ?_
  refine ev_t rfl ?_
  refine ev_g rfl (gAr hE.2.2.2.2.2.2.1 a0.1 a0.2) ?_
  rw [m1]
  refine sv_b 0 200 rfl rfl (fun c => ?_) (fun c => ?_)
  · have c1 : (D (16 * a + b)).1 = 1 := m2.resolve_left c
    have c0 : ¬ (D (16 * a + b)).1 = 0 := c
    obtain ⟨⟨du, vu⟩, ⟨dw, vw⟩, mo, mk⟩ := m3 c1
    refine ev_t rfl ?_
    refine sv_fr 0 200 rfl rfl hE.2.1.1 hE.1 ?_
    refine ev_t rfl ?_
    refine sv_fr 0 200 rfl rfl u1 (gAr hE.2.2.2.2.1 a0.1 a0.2) ?_
    refine ev_t rfl ?_
    refine sv_fr 0 200 rfl rfl hE.2.1.2.1 hE.1 ?_
    refine ev_t rfl ?_
    refine sv_fr 0 200 rfl rfl w1 (gAr hE.2.2.2.2.2.1 a0.1 a0.2) ?_
    refine sv_cp 0 200 rfl rfl (c_78 _ _ _ _ _ _ u2 w2 du dw) u2.1 ?_
    rw [vu, vw]
    have bad : mBad (D (16 * a + b)) → ∀ z, Ev (d + 2) 96 (54, z, []) M (RI fun r M1 => M1 = M ∧ r = mAbv (D (16 * a + b))) := by
      intro hb z
      refine ev_t rfl ?_
      refine ev_t rfl ?_
      exact ev_r rfl trivial ⟨_, rfl, rfl, by unfold mAbv; rw [xc_f c0, xc_t hb]⟩
    have nob2 : ¬ mBad (D (16 * a + b)) → Ev (d + 2) 96 (58, [(0, vR e), (1, vI a), (2, vI b), (3, vI (16 * a + b)), (4, vI (sg ((D (16 * a + b)).2.1 - (D (16 * a + b)).2.2.1)))], []) M (RI fun r M1 => M1 = M ∧ r = mAbv (D (16 * a + b))) := by
      intro hb
      refine ev_t rfl ?_
      refine sv_b 0 200 rfl rfl (fun c2 => ?_) (fun c2 => ?_)
      · have c3 : sg ((D (16 * a + b)).2.1 - (D (16 * a + b)).2.2.1) ≠ 0 := c2
        refine ev_t rfl ?_
        exact ev_r rfl trivial ⟨_, rfl, rfl, by unfold mAbv; rw [xc_f c0, xc_f hb, xc_f (fun z => c3 (sg_zero.mpr z))]⟩
      · have c3 : sg ((D (16 * a + b)).2.1 - (D (16 * a + b)).2.2.1) = 0 := Classical.byContradiction fun z => c2 z
        refine ev_t rfl ?_
        refine ev_t rfl ?_
        exact ev_r rfl trivial ⟨_, rfl, rfl, by unfold mAbv; rw [xc_f c0, xc_f hb, xc_t (sg_zero.mp c3)]⟩
    refine ev_t rfl ?_
    refine ev_t rfl ?_
    refine sv_b 0 200 rfl rfl (fun c2 => ?_) (fun c2 => ?_)
    · have c3 : 0 < sg ((D (16 * a + b)).2.1 - (D (16 * a + b)).2.2.1) := c2
      exact bad (Or.inl (sg_pos.mp c3)) _
    · have c3 : ¬ 0 < sg ((D (16 * a + b)).2.1 - (D (16 * a + b)).2.2.1) := c2
      refine ev_t rfl ?_
      refine sv_b 0 200 rfl rfl (fun c4 => ?_) (fun c4 => ?_)
      · have c5 : sg ((D (16 * a + b)).2.1 - (D (16 * a + b)).2.2.1) ≠ 0 := c4
        exact nob2 (fun z => z.elim (fun z => c3 (sg_pos.mpr z)) (fun z => c5 (sg_zero.mpr z.1)))
      · have c5 : sg ((D (16 * a + b)).2.1 - (D (16 * a + b)).2.2.1) = 0 := Classical.byContradiction fun z => c4 z
        refine ev_t rfl ?_
        refine sv_fr 0 200 rfl rfl hE.2.1.2.2.2.2.2.1 hE.1 ?_
        refine ev_t rfl ?_
        refine ev_g rfl (gAr hE.2.2.2.2.2.2.2 a0.1 a0.2) ?_
        rw [mo]
        refine sv_b 0 200 rfl rfl (fun c6 => ?_) (fun c6 => ?_)
        · have c7 : (D (16 * a + b)).2.2.2 = 0 := c6
          exact nob2 (fun z => z.elim (fun z => c3 (sg_pos.mpr z)) (fun z => by rw [c7] at z; exact absurd z.2 (by decide)))
        · have c7 : (D (16 * a + b)).2.2.2 = 1 := mk.2.2.resolve_left c6
          exact bad (Or.inr ⟨sg_zero.mp c5, c7⟩) _
  · have c1 : (D (16 * a + b)).1 = 0 := Classical.byContradiction fun z => c z
    refine ev_t rfl ?_
    exact ev_r rfl trivial ⟨_, rfl, rfl, by unfold mAbv; rw [xc_t c1]⟩
abbrev pI (a b : Nat) : Int := 16 * (a : Int) + b
/-- what the closing of the square needs: I at the head of a row, J within a row -/
def clH (I : Nat → Nat → (Int → EN) → Prop) (J : Nat → Nat → Nat → (Int → EN) → Prop) : Prop :=
  (∀ k i D, k < 16 → i < 16 → I k i D → (i = k ∨ (D (pI i k)).1 = 0) → I k (i + 1) D) ∧
  (∀ k i D, k < 16 → i < 16 → I k i D → i ≠ k → (D (pI i k)).1 = 1 → J k i 0 D) ∧
  (∀ k i j D, k < 16 → i < 16 → j < 16 → i ≠ k → J k i j D → (j = k ∨ (D (pI k j)).1 = 0) → J k i (j + 1) D) ∧
  (∀ k i j D, k < 16 → i < 16 → j < 16 → i ≠ k → J k i j D → j ≠ k → (D (pI k j)).1 = 1 → (D (pI i k)).1 = 1 ∧ ((D (pI i k)).2.1 * (D (pI k j)).2.1 < pw 7 ∧ (D (pI i k)).2.2.1 * (D (pI k j)).2.2.1 < pw 7 ∧ ((D (pI i j)).1 = 1 → (D (pI i k)).2.1 * (D (pI k j)).2.1 * (D (pI i j)).2.2.1 < pw 7) ∧ ((D (pI i j)).1 = 1 → (D (pI i j)).2.1 * ((D (pI i k)).2.2.1 * (D (pI k j)).2.2.1) < pw 7)) ∧ J k i (j + 1) (mCom D (pI i j) (mJoin (D (pI i k)) (D (pI k j))))) ∧
  (∀ k i D, k < 16 → i < 16 → i ≠ k → J k i 16 D → (D (pI i i)).1 = 1 ∧ (¬ mBad (D (pI i i)) → I k (i + 1) D)) ∧
  (∀ k D, k < 16 → I k 16 D → I (k + 1) 0 D)
/-- what it comes to -/
def clQ (I : Nat → Nat → (Int → EN) → Prop) (J : Nat → Nat → Nat → (Int → EN) → Prop) (e : Nat) (M0 : XM) (D0 : Int → EN) : XO → XM → Prop := RI fun r M1 => Fe e M0 M1 ∧ mI M1 e = mI M0 e ∧ ∃ D1, MX M1 e D1 ∧ ((r = 1 ∧ I 16 0 D1) ∨ (r = 0 ∧ ((∃ k i : Nat, k < 16 ∧ i < 16 ∧ J k i 16 D1 ∧ mBad (D1 (pI i i))) ∨ (D1 = D0 ∧ ∃ k : Nat, k < 16 ∧ mBad (D0 (pI k k))))))
theorem t_93j (d e : Nat) (M0 : XM) (D0 : Int → EN) (hW0 : Wf M0) (he : isEn e) {I : Nat → Nat → (Int → EN) → Prop} {J : Nat → Nat → Nat → (Int → EN) → Prop} (H : clH I J) (k i : Nat) (hk : k < 16) (hi : i < 16) (hik : i ≠ k)
    (kk : ∀ (M : XM) (D : Int → EN), Fe e M0 M → mI M e = mI M0 e → MX M e D → J k i 16 D → ∀ z, Ev (d + 4) 93 (102, (0, vR e) :: (1, vI k) :: (2, vI i) :: z, []) M (clQ I J e M0 D0)) : ∀ (n j : Nat) (M : XM) (D : Int → EN), j + n = 16 → Fe e M0 M → mI M e = mI M0 e → MX M e D → J k i j D → Ev (d + 4) 93 (64, [(0, vR e), (1, vI k), (2, vI i), (3, vI j)], []) M (clQ I J e M0 D0) := by
  intro n
  induction n with
  | zero =>
    intro j M D hj hF h0 hM hJ
    obtain rfl : j = 16 := by omega
    refine ev_t rfl ?_
    refine ev_t rfl ?_
    refine sv_bt 0 200 rfl rfl (by decide) ?_
    exact kk M D hF h0 hM hJ _
  | succ n ih =>
    intro j M D hj hF h0 hM hJ
    have hW := hF.wf hW0
    have hE := hW.en he
    have hj16 : j < 16 := by omega
    have q1 : ¬ (16 : Int) ≤ j := by omega
    have q2 : -2147483648 ≤ 16 * (k : Int) ∧ 16 * (k : Int) < 2147483648 := by omega
    have q3 : -2147483648 ≤ 16 * (k : Int) + j ∧ 16 * (k : Int) + j < 2147483648 := by omega
    have q4 : 0 ≤ 16 * (k : Int) + j ∧ 16 * (k : Int) + j < 256 := by omega
    have q5 : -2147483648 ≤ (j : Int) + 1 ∧ (j : Int) + 1 < 2147483648 := by omega
    have q6 : j + 1 + n = 16 := by omega
    have q7 : 0 ≤ (i : Int) ∧ (i : Int) < 16 := by omega
    have q8 : 0 ≤ (k : Int) ∧ (k : Int) < 16 := by omega
    have q9 : 0 ≤ (j : Int) ∧ (j : Int) < 16 := by omega
    have qa : ((j + 1 : Nat) : Int) = (j : Int) + 1 := by omega
    have qb : (j : Int) = k → j = k := by omega
    have nxt : ∀ (M2 : XM) (D2 : Int → EN), Fe e M0 M2 → mI M2 e = mI M0 e → MX M2 e D2 → J k i (j + 1) D2 → Ev (d + 4) 93 (96, [(0, vR e), (1, vI k), (2, vI i), (3, vI j)], []) M2 (clQ I J e M0 D0) := by
      intro M2 D2 f1 f2 f3 f4
      have ih1 := ih (j + 1) M2 D2 q6 f1 f2 f3 f4
      rw [qa] at ih1
      refine ev_g rfl q5 ?_
      refine ev_t rfl ?_
      exact ih1
    obtain ⟨-, -, H3, H4, -, -⟩ := H
    refine ev_t rfl ?_
    refine ev_t rfl ?_
    refine sv_bf 0 200 rfl rfl q1 ?_
    refine ev_t rfl ?_
    refine ev_t rfl ?_
    refine sv_b 0 200 rfl rfl (fun c => ?_) (fun c => ?_)
    · exact nxt M D hF h0 hM (H3 k i j D hk hi hj16 hik hJ (Or.inl (qb c)))
    · have c1 : j ≠ k := fun z => c (by rw [z])
      obtain ⟨m1, m2, -⟩ := hM (16 * (k : Int) + j) q4.1 q4.2
      refine ev_t rfl ?_
      refine sv_fr 0 200 rfl rfl hE.2.1.2.2.2.2.1 hE.1 ?_
      refine ev_t rfl ?_
      refine ev_t rfl ?_
      refine ev_g rfl q2 ?_
      refine ev_t rfl ?_
      refine ev_g rfl q3 ?_
      refine ev_g rfl (gAr hE.2.2.2.2.2.2.1 q4.1 q4.2) ?_
      rw [m1]
      refine sv_b 0 200 rfl rfl (fun c2 => ?_) (fun c2 => ?_)
      · exact nxt M D hF h0 hM (H3 k i j D hk hi hj16 hik hJ (Or.inr c2))
      · have c3 : (D (pI k j)).1 = 1 := m2.resolve_left c2
        obtain ⟨g1, ⟨g2, g3, g4, g5⟩, g6⟩ := H4 k i j D hk hi hj16 hik hJ c1 c3
        refine ev_t rfl ?_
        refine ev_t rfl ?_
        refine ev_t rfl ?_
        refine ev_t rfl ?_
        refine ev_cv rfl hE.1 (c_95 d e i k j M D hW he hM q7.1 q7.2 q8.1 q8.2 q9.1 q9.2 g1 c3 g2 g3 g4 g5) (fun M2 h => ?_)
        exact nxt M2 _ (hF.tr h.1) (h.2.2.trans h0) h.2.1 g6
