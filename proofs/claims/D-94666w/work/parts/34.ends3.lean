/-! CONTRACTS, 11: ends along ways: beside one another; the square closed -/
/-- 2: greater for sure, 1: alike at least, else 0 -/
noncomputable def mAbv (x : EN) : Int := xc_w (x.1 = 0) 0 (xc_w (mBad x) 2 (xc_w (x.2.1 = x.2.2.1) 1 0))
theorem c_96 (d e : Nat) (a b : Int) (M : XM) (D : Int → EN) (hW : Wf M) (he : isEn e) (hM : MX M e D) (ha0 : 0 ≤ a) (ha1 : a < 16) (hb0 : 0 ≤ b) (hb1 : b < 16) : Ct (d + 2) 96 [vR e, vI a, vI b] M (RI fun r M1 => M1 = M ∧ r = mAbv (D (16 * a + b))) := by
  have a0 : 0 ≤ 16 * a + b ∧ 16 * a + b < 256 := by omega
  have g0 : -2147483648 ≤ 16 * a ∧ 16 * a < 2147483648 := by omega
  have g1 : -2147483648 ≤ 16 * a + b ∧ 16 * a + b < 2147483648 := by omega
  have hE := hW.en he
  obtain ⟨u1, u2⟩ := hW.up (k := 16 * a + b) he a0.1 a0.2
  obtain ⟨w1, w2⟩ := hW.lo (k := 16 * a + b) he a0.1 a0.2
  obtain ⟨m1, m2, m3⟩ := hM (16 * a + b) a0.1 a0.2
  unfold Ct
  refine ev_t rfl ?_
  refine ev_t rfl ?_
  refine ev_g rfl g0 ?_
  refine ev_t rfl ?_
  refine ev_g rfl g1 ?_
  refine ev_t rfl ?_
  refine ev_t rfl ?_
  refine sv_fr 0 200 rfl rfl hE.2.1.2.2.2.2.1 hE.1 ?_
  refine ev_t rfl ?_
  refine ev_g rfl (gAr hE.2.2.2.2.2.2.1 a0.1 a0.2) ?_
  rw [m1]
  refine sv_b 0 200 rfl rfl (fun c => ?_) (fun c => ?_)
  · have c1 : (D (16 * a + b)).1 = 1 := m2.resolve_left c
    have c0 : ¬ (D (16 * a + b)).1 = 0 := c
    obtain ⟨⟨du, vu⟩, ⟨dw, vw⟩, mo, mk⟩ := m3 c1
    refine ev_t rfl ?_
    refine sv_fr 0 200 rfl rfl hE.2.1.1 hE.1 ?_
    refine ev_t rfl ?_
    refine sv_fr 0 200 rfl rfl u1 (gAr hE.2.2.2.2.1 a0.1 a0.2) ?_
    refine ev_t rfl ?_
    refine sv_fr 0 200 rfl rfl hE.2.1.2.1 hE.1 ?_
    refine ev_t rfl ?_
    refine sv_fr 0 200 rfl rfl w1 (gAr hE.2.2.2.2.2.1 a0.1 a0.2) ?_
    refine sv_cp 0 200 rfl rfl (c_78 _ _ _ _ _ _ u2 w2 du dw) u2.1 ?_
    rw [vu, vw]
    have bad : mBad (D (16 * a + b)) → ∀ z, Ev (d + 2) 96 (54, z, []) M (RI fun r M1 => M1 = M ∧ r = mAbv (D (16 * a + b))) := by
      intro hb z
      refine ev_t rfl ?_
      refine ev_t rfl ?_
      exact ev_r rfl trivial ⟨_, rfl, rfl, by unfold mAbv; rw [xc_f c0, xc_t hb]⟩
    have nob2 : ¬ mBad (D (16 * a + b)) → Ev (d + 2) 96 (58, [(0, vR e), (1, vI a), (2, vI b), (3, vI (16 * a + b)), (4, vI (sg ((D (16 * a + b)).2.1 - (D (16 * a + b)).2.2.1)))], []) M (RI fun r M1 => M1 = M ∧ r = mAbv (D (16 * a + b))) := by
      intro hb
      refine ev_t rfl ?_
      refine sv_b 0 200 rfl rfl (fun c2 => ?_) (fun c2 => ?_)
      · have c3 : sg ((D (16 * a + b)).2.1 - (D (16 * a + b)).2.2.1) ≠ 0 := c2
        refine ev_t rfl ?_
        exact ev_r rfl trivial ⟨_, rfl, rfl, by unfold mAbv; rw [xc_f c0, xc_f hb, xc_f (fun z => c3 (sg_zero.mpr z))]⟩
      · have c3 : sg ((D (16 * a + b)).2.1 - (D (16 * a + b)).2.2.1) = 0 := Classical.byContradiction fun z => c2 z
        refine ev_t rfl ?_
        refine ev_t rfl ?_
        exact ev_r rfl trivial ⟨_, rfl, rfl, by unfold mAbv; rw [xc_f c0, xc_f hb, xc_t (sg_zero.mp c3)]⟩
    refine ev_t rfl ?_
    refine ev_t rfl ?_
    refine sv_b 0 200 rfl rfl (fun c2 => ?_) (fun c2 => ?_)
    · have c3 : 0 < sg ((D (16 * a + b)).2.1 - (D (16 * a + b)).2.2.1) := c2
      exact bad (Or.inl (sg_pos.mp c3)) _
    · have c3 : ¬ 0 < sg ((D (16 * a + b)).2.1 - (D (16 * a + b)).2.2.1) := c2
      refine ev_t rfl ?_
      refine sv_b 0 200 rfl rfl (fun c4 => ?_) (fun c4 => ?_)
      · have c5 : sg ((D (16 * a + b)).2.1 - (D (16 * a + b)).2.2.1) ≠ 0 := c4
        exact nob2 (fun z => z.elim (fun z => c3 (sg_pos.mpr z)) (fun z => c5 (sg_zero.mpr z.1)))
      · have c5 : sg ((D (16 * a + b)).2.1 - (D (16 * a + b)).2.2.1) = 0 := Classical.byContradiction fun z => c4 z
        refine ev_t rfl ?_
        refine sv_fr 0 200 rfl rfl hE.2.1.2.2.2.2.2.1 hE.1 ?_
        refine ev_t rfl ?_
        refine ev_g rfl (gAr hE.2.2.2.2.2.2.2 a0.1 a0.2) ?_
        rw [mo]
        refine sv_b 0 200 rfl rfl (fun c6 => ?_) (fun c6 => ?_)
        · have c7 : (D (16 * a + b)).2.2.2 = 0 := c6
          exact nob2 (fun z => z.elim (fun z => c3 (sg_pos.mpr z)) (fun z => by rw [c7] at z; exact absurd z.2 (by decide)))
        · have c7 : (D (16 * a + b)).2.2.2 = 1 := mk.2.2.resolve_left c6
          exact bad (Or.inr ⟨sg_zero.mp c5, c7⟩) _
  · have c1 : (D (16 * a + b)).1 = 0 := Classical.byContradiction fun z => c z
    refine ev_t rfl ?_
    exact ev_r rfl trivial ⟨_, rfl, rfl, by unfold mAbv; rw [xc_t c1]⟩
abbrev pI (a b : Nat) : Int := 16 * (a : Int) + b
/-- what the closing of the square needs: I at the head of a row, J within a row -/
def clH (I : Nat → Nat → (Int → EN) → Prop) (J : Nat → Nat → Nat → (Int → EN) → Prop) : Prop :=
  (∀ k i D, k < 16 → i < 16 → I k i D → (i = k ∨ (D (pI i k)).1 = 0) → I k (i + 1) D) ∧
  (∀ k i D, k < 16 → i < 16 → I k i D → i ≠ k → (D (pI i k)).1 = 1 → J k i 0 D) ∧
  (∀ k i j D, k < 16 → i < 16 → j < 16 → i ≠ k → J k i j D → (j = k ∨ (D (pI k j)).1 = 0) → J k i (j + 1) D) ∧
  (∀ k i j D, k < 16 → i < 16 → j < 16 → i ≠ k → J k i j D → j ≠ k → (D (pI k j)).1 = 1 → (D (pI i k)).1 = 1 ∧ ((D (pI i k)).2.1 * (D (pI k j)).2.1 < pw 7 ∧ (D (pI i k)).2.2.1 * (D (pI k j)).2.2.1 < pw 7 ∧ ((D (pI i j)).1 = 1 → (D (pI i k)).2.1 * (D (pI k j)).2.1 * (D (pI i j)).2.2.1 < pw 7) ∧ ((D (pI i j)).1 = 1 → (D (pI i j)).2.1 * ((D (pI i k)).2.2.1 * (D (pI k j)).2.2.1) < pw 7)) ∧ J k i (j + 1) (mCom D (pI i j) (mJoin (D (pI i k)) (D (pI k j))))) ∧
  (∀ k i D, k < 16 → i < 16 → i ≠ k → J k i 16 D → (D (pI i i)).1 = 1 ∧ (¬ mBad (D (pI i i)) → I k (i + 1) D)) ∧
  (∀ k D, k < 16 → I k 16 D → I (k + 1) 0 D)
/-- what it comes to -/
def clQ (I : Nat → Nat → (Int → EN) → Prop) (J : Nat → Nat → Nat → (Int → EN) → Prop) (e : Nat) (M0 : XM) (D0 : Int → EN) : XO → XM → Prop := RI fun r M1 => Fe e M0 M1 ∧ mI M1 e = mI M0 e ∧ ∃ D1, MX M1 e D1 ∧ ((r = 1 ∧ I 16 0 D1) ∨ (r = 0 ∧ ((∃ k i : Nat, k < 16 ∧ i < 16 ∧ J k i 16 D1 ∧ mBad (D1 (pI i i))) ∨ (D1 = D0 ∧ ∃ k : Nat, k < 16 ∧ mBad (D0 (pI k k))))))
theorem t_93j (d e : Nat) (M0 : XM) (D0 : Int → EN) (hW0 : Wf M0) (he : isEn e) {I : Nat → Nat → (Int → EN) → Prop} {J : Nat → Nat → Nat → (Int → EN) → Prop} (H : clH I J) (k i : Nat) (hk : k < 16) (hi : i < 16) (hik : i ≠ k)
    (kk : ∀ (M : XM) (D : Int → EN), Fe e M0 M → mI M e = mI M0 e → MX M e D → J k i 16 D → ∀ z, Ev (d + 4) 93 (102, (0, vR e) :: (1, vI k) :: (2, vI i) :: z, []) M (clQ I J e M0 D0)) : ∀ (n j : Nat) (M : XM) (D : Int → EN), j + n = 16 → Fe e M0 M → mI M e = mI M0 e → MX M e D → J k i j D → Ev (d + 4) 93 (64, [(0, vR e), (1, vI k), (2, vI i), (3, vI j)], []) M (clQ I J e M0 D0) := by
  intro n
  induction n with
  | zero =>
    intro j M D hj hF h0 hM hJ
    obtain rfl : j = 16 := by omega
    refine ev_t rfl ?_
    refine ev_t rfl ?_
    refine sv_bt 0 200 rfl rfl (by decide) ?_
    exact kk M D hF h0 hM hJ _
  | succ n ih =>
    intro j M D hj hF h0 hM hJ
    have hW := hF.wf hW0
    have hE := hW.en he
    have hj16 : j < 16 := by omega
    have q1 : ¬ (16 : Int) ≤ j := by omega
    have q2 : -2147483648 ≤ 16 * (k : Int) ∧ 16 * (k : Int) < 2147483648 := by omega
    have q3 : -2147483648 ≤ 16 * (k : Int) + j ∧ 16 * (k : Int) + j < 2147483648 := by omega
    have q4 : 0 ≤ 16 * (k : Int) + j ∧ 16 * (k : Int) + j < 256 := by omega
    have q5 : -2147483648 ≤ (j : Int) + 1 ∧ (j : Int) + 1 < 2147483648 := by omega
    have q6 : j + 1 + n = 16 := by omega
    have q7 : 0 ≤ (i : Int) ∧ (i : Int) < 16 := by omega
    have q8 : 0 ≤ (k : Int) ∧ (k : Int) < 16 := by omega
    have q9 : 0 ≤ (j : Int) ∧ (j : Int) < 16 := by omega
    have qa : ((j + 1 : Nat) : Int) = (j : Int) + 1 := by omega
    have qb : (j : Int) = k → j = k := by omega
    have nxt : ∀ (M2 : XM) (D2 : Int → EN), Fe e M0 M2 → mI M2 e = mI M0 e → MX M2 e D2 → J k i (j + 1) D2 → Ev (d + 4) 93 (96, [(0, vR e), (1, vI k), (2, vI i), (3, vI j)], []) M2 (clQ I J e M0 D0) := by
      intro M2 D2 f1 f2 f3 f4
      have ih1 := ih (j + 1) M2 D2 q6 f1 f2 f3 f4
      rw [qa] at ih1
      refine ev_g rfl q5 ?_
      refine ev_t rfl ?_
      exact ih1
    obtain ⟨-, -, H3, H4, -, -⟩ := H
    refine ev_t rfl ?_
    refine ev_t rfl ?_
    refine sv_bf 0 200 rfl rfl q1 ?_
    refine ev_t rfl ?_
    refine ev_t rfl ?_
    refine sv_b 0 200 rfl rfl (fun c => ?_) (fun c => ?_)
    · exact nxt M D hF h0 hM (H3 k i j D hk hi hj16 hik hJ (Or.inl (qb c)))
    · have c1 : j ≠ k := fun z => c (by rw [z])
      obtain ⟨m1, m2, -⟩ := hM (16 * (k : Int) + j) q4.1 q4.2
      refine ev_t rfl ?_
      refine sv_fr 0 200 rfl rfl hE.2.1.2.2.2.2.1 hE.1 ?_
      refine ev_t rfl ?_
      refine ev_t rfl ?_
      refine ev_g rfl q2 ?_
      refine ev_t rfl ?_
      refine ev_g rfl q3 ?_
      refine ev_g rfl (gAr hE.2.2.2.2.2.2.1 q4.1 q4.2) ?_
      rw [m1]
      refine sv_b 0 200 rfl rfl (fun c2 => ?_) (fun c2 => ?_)
      · exact nxt M D hF h0 hM (H3 k i j D hk hi hj16 hik hJ (Or.inr c2))
      · have c3 : (D (pI k j)).1 = 1 := m2.resolve_left c2
        obtain ⟨g1, ⟨g2, g3, g4, g5⟩, g6⟩ := H4 k i j D hk hi hj16 hik hJ c1 c3
        refine ev_t rfl ?_
        refine ev_t rfl ?_
        refine ev_t rfl ?_
        refine ev_t rfl ?_
        refine ev_cv rfl hE.1 (c_95 d e i k j M D hW he hM q7.1 q7.2 q8.1 q8.2 q9.1 q9.2 g1 c3 g2 g3 g4 g5) (fun M2 h => ?_)
        exact nxt M2 _ (hF.tr h.1) (h.2.2.trans h0) h.2.1 g6
theorem t_93i (d e : Nat) (M0 : XM) (D0 : Int → EN) (hW0 : Wf M0) (he : isEn e) {I : Nat → Nat → (Int → EN) → Prop} {J : Nat → Nat → Nat → (Int → EN) → Prop} (H : clH I J) (k : Nat) (hk : k < 16)
    (kk : ∀ (M : XM) (D : Int → EN), Fe e M0 M → mI M e = mI M0 e → MX M e D → I k 16 D → ∀ z, Ev (d + 4) 93 (118, (0, vR e) :: (1, vI k) :: z, []) M (clQ I J e M0 D0)) : ∀ (n i : Nat) (M : XM) (D : Int → EN), i + n = 16 → Fe e M0 M → mI M e = mI M0 e → MX M e D → I k i D → Ev (d + 4) 93 (34, [(0, vR e), (1, vI k), (2, vI i)], []) M (clQ I J e M0 D0) := by
  intro n
  induction n with
  | zero =>
    intro i M D hi hF h0 hM hI
    obtain rfl : i = 16 := by omega
    refine ev_t rfl ?_
    refine ev_t rfl ?_
    refine sv_bt 0 200 rfl rfl (by decide) ?_
    exact kk M D hF h0 hM hI _
  | succ n ih =>
    intro i M D hi hF h0 hM hI
    have hW := hF.wf hW0
    have hE := hW.en he
    have hi16 : i < 16 := by omega
    have q1 : ¬ (16 : Int) ≤ i := by omega
    have q2 : -2147483648 ≤ 16 * (i : Int) ∧ 16 * (i : Int) < 2147483648 := by omega
    have q3 : -2147483648 ≤ 16 * (i : Int) + k ∧ 16 * (i : Int) + k < 2147483648 := by omega
    have q4 : 0 ≤ 16 * (i : Int) + k ∧ 16 * (i : Int) + k < 256 := by omega
    have q5 : -2147483648 ≤ (i : Int) + 1 ∧ (i : Int) + 1 < 2147483648 := by omega
    have q6 : i + 1 + n = 16 := by omega
    have q7 : 0 ≤ (i : Int) ∧ (i : Int) < 16 := by omega
    have qa : ((i + 1 : Nat) : Int) = (i : Int) + 1 := by omega
    have qb : (i : Int) = k → i = k := by omega
    have nxt : ∀ (M2 : XM) (D2 : Int → EN), Fe e M0 M2 → mI M2 e = mI M0 e → MX M2 e D2 → I k (i + 1) D2 → ∀ z, Ev (d + 4) 93 (112, (0, vR e) :: (1, vI k) :: (2, vI i) :: z, []) M2 (clQ I J e M0 D0) := by
      intro M2 D2 f1 f2 f3 f4 z
      have ih1 := ih (i + 1) M2 D2 q6 f1 f2 f3 f4
      rw [qa] at ih1
      refine ev_g rfl q5 ?_
      refine ev_t rfl ?_
      exact ev_h (L1 := [(0, vR e), (1, vI k), (2, vI ((i : Int) + 1))]) rfl ih1
    have H0 := H
    obtain ⟨H1, H2, -, -, H5, -⟩ := H
    refine ev_t rfl ?_
    refine ev_t rfl ?_
    refine sv_bf 0 200 rfl rfl q1 ?_
    refine ev_t rfl ?_
    refine ev_t rfl ?_
    refine sv_b 0 200 rfl rfl (fun c => ?_) (fun c => ?_)
    · exact nxt M D hF h0 hM (H1 k i D hk hi16 hI (Or.inl (qb c))) _
    · have c1 : i ≠ k := fun z => c (by rw [z])
      obtain ⟨m1, m2, -⟩ := hM (16 * (i : Int) + k) q4.1 q4.2
      refine ev_t rfl ?_
      refine sv_fr 0 200 rfl rfl hE.2.1.2.2.2.2.1 hE.1 ?_
      refine ev_t rfl ?_
      refine ev_t rfl ?_
      refine ev_g rfl q2 ?_
      refine ev_t rfl ?_
      refine ev_g rfl q3 ?_
      refine ev_g rfl (gAr hE.2.2.2.2.2.2.1 q4.1 q4.2) ?_
      rw [m1]
      refine sv_b 0 200 rfl rfl (fun c2 => ?_) (fun c2 => ?_)
      · have c3 : (D (pI i k)).1 = 1 := m2.resolve_left c2
        refine ev_t rfl ?_
        refine ev_t rfl ?_
        refine ev_h (L1 := [(0, vR e), (1, vI k), (2, vI i), (3, vI (0 : Nat))]) rfl ?_
        refine t_93j d e M0 D0 hW0 he H0 k i hk hi16 c1 (fun M2 D2 f1 f2 f3 f4 z => ?_) 16 0 M D rfl hF h0 hM (H2 k i D hk hi16 hI c1 c3)
        obtain ⟨g1, g2⟩ := H5 k i D2 hk hi16 c1 f4
        have hW2 := f1.wf hW0
        refine ev_t rfl ?_
        refine ev_t rfl ?_
        refine sv_cb 0 200 rfl rfl (c_94 _ e i M2 D2 hW2 he f3 q7.1 q7.2 g1) (hW2.en he).1 ?_
        refine sv_b0 0 200 rfl rfl (fun c4 => ?_) (fun c4 => ?_)
        · exact nxt M2 D2 f1 f2 f3 (g2 c4) _
        · refine ev_t rfl ?_
          exact ev_r rfl (Or.inl rfl) ⟨_, rfl, f1, f2, D2, f3, Or.inr ⟨rfl, Or.inl ⟨k, i, hk, hi16, f4, c4⟩⟩⟩
      · have c3 : (D (pI i k)).1 = 0 := Classical.byContradiction fun z => c2 z
        refine ev_t rfl ?_
        exact nxt M D hF h0 hM (H1 k i D hk hi16 hI (Or.inr c3)) _
theorem t_93k (d e : Nat) (M0 : XM) (D0 : Int → EN) (hW0 : Wf M0) (he : isEn e) {I : Nat → Nat → (Int → EN) → Prop} {J : Nat → Nat → Nat → (Int → EN) → Prop} (H : clH I J) : ∀ (n k : Nat) (M : XM) (D : Int → EN), k + n = 16 → Fe e M0 M → mI M e = mI M0 e → MX M e D → I k 0 D → Ev (d + 4) 93 (26, [(0, vR e), (1, vI k)], []) M (clQ I J e M0 D0) := by
  intro n
  induction n with
  | zero =>
    intro k M D hk hF h0 hM hI
    obtain rfl : k = 16 := by omega
    refine ev_t rfl ?_
    refine ev_t rfl ?_
    refine sv_bt 0 200 rfl rfl (by decide) ?_
    refine ev_t rfl ?_
    exact ev_r rfl (Or.inr rfl) ⟨_, rfl, hF, h0, D, hM, Or.inl ⟨rfl, hI⟩⟩
  | succ n ih =>
    intro k M D hk hF h0 hM hI
    have hk16 : k < 16 := by omega
    have q1 : ¬ (16 : Int) ≤ k := by omega
    have q5 : -2147483648 ≤ (k : Int) + 1 ∧ (k : Int) + 1 < 2147483648 := by omega
    have q6 : k + 1 + n = 16 := by omega
    have qa : ((k + 1 : Nat) : Int) = (k : Int) + 1 := by omega
    refine ev_t rfl ?_
    refine ev_t rfl ?_
    refine sv_bf 0 200 rfl rfl q1 ?_
    refine ev_t rfl ?_
    refine ev_t rfl ?_
    refine ev_h (L1 := [(0, vR e), (1, vI k), (2, vI (0 : Nat))]) rfl ?_
    refine t_93i d e M0 D0 hW0 he H k hk16 (fun M2 D2 f1 f2 f3 f4 z => ?_) 16 0 M D rfl hF h0 hM hI
    have ih1 := ih (k + 1) M2 D2 q6 f1 f2 f3 (H.2.2.2.2.2 k D2 hk16 f4)
    rw [qa] at ih1
    refine ev_g rfl q5 ?_
    refine ev_t rfl ?_
    exact ev_h (L1 := [(0, vR e), (1, vI ((k : Int) + 1))]) rfl ih1
theorem t_93b (d e : Nat) (M : XM) (D : Int → EN) (hW : Wf M) (he : isEn e) (hM : MX M e D) (hd : ∀ k : Nat, k < 16 → (D (pI k k)).1 = 1) {I : Nat → Nat → (Int → EN) → Prop} {J : Nat → Nat → Nat → (Int → EN) → Prop} (H : clH I J) (H0 : (∀ k : Nat, k < 16 → ¬ mBad (D (pI k k))) → I 0 0 D) : ∀ (n k : Nat), k + n = 16 → (∀ x : Nat, x < k → ¬ mBad (D (pI x x))) → Ev (d + 4) 93 (2, [(0, vR e), (1, vI k)], []) M (clQ I J e M D) := by
  intro n
  induction n with
  | zero =>
    intro k hk hb
    obtain rfl : k = 16 := by omega
    refine ev_t rfl ?_
    refine ev_t rfl ?_
    refine sv_bt 0 200 rfl rfl (by decide) ?_
    refine ev_t rfl ?_
    refine ev_t rfl ?_
    exact ev_h (L1 := [(0, vR e), (1, vI (0 : Nat))]) rfl (t_93k d e M D hW he H 16 0 M D rfl Fe.rf rfl hM (H0 hb))
  | succ n ih =>
    intro k hk hb
    have hk16 : k < 16 := by omega
    have q1 : ¬ (16 : Int) ≤ k := by omega
    have q5 : -2147483648 ≤ (k : Int) + 1 ∧ (k : Int) + 1 < 2147483648 := by omega
    have q6 : k + 1 + n = 16 := by omega
    have q7 : 0 ≤ (k : Int) ∧ (k : Int) < 16 := by omega
    have qa : ((k + 1 : Nat) : Int) = (k : Int) + 1 := by omega
    refine ev_t rfl ?_
    refine ev_t rfl ?_
    refine sv_bf 0 200 rfl rfl q1 ?_
    refine ev_t rfl ?_
    refine ev_t rfl ?_
    refine sv_cb 0 200 rfl rfl (c_94 _ e k M D hW he hM q7.1 q7.2 (hd k hk16)) (hW.en he).1 ?_
    refine sv_b0 0 200 rfl rfl (fun c => ?_) (fun c => ?_)
    · have ih1 := ih (k + 1) q6 (fun x hx => by
        by_cases e1 : x = k
        · rw [e1]; exact c
        · exact hb x (by omega))
      rw [qa] at ih1
      refine ev_g rfl q5 ?_
      refine ev_t rfl ?_
      exact ih1
    · refine ev_t rfl ?_
      exact ev_r rfl (Or.inl rfl) ⟨_, rfl, Fe.rf, rfl, D, hM, Or.inr ⟨rfl, Or.inr ⟨rfl, k, hk16, c⟩⟩⟩
/-- the square closed: what holds all through is for the plain law to say (I, J) -/
theorem c_93 (d e : Nat) (M : XM) (D : Int → EN) (hW : Wf M) (he : isEn e) (hM : MX M e D) (hd : ∀ k : Nat, k < 16 → (D (pI k k)).1 = 1) {I : Nat → Nat → (Int → EN) → Prop} {J : Nat → Nat → Nat → (Int → EN) → Prop} (H : clH I J) (H0 : (∀ k : Nat, k < 16 → ¬ mBad (D (pI k k))) → I 0 0 D) : Ct (d + 4) 93 [vR e] M (clQ I J e M D) := by
  unfold Ct
  refine ev_t rfl ?_
  refine ev_t rfl ?_
  exact ev_h (L1 := [(0, vR e), (1, vI (0 : Nat))]) rfl (t_93b d e M D hW he hM hd H H0 16 0 rfl (fun x hx => absurd hx (Nat.not_lt_zero x)))
