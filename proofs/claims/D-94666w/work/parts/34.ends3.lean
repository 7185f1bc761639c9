/-! CONTRACTS, 11: ends along ways: beside one another; the square closed -/
/-- 2: greater for sure, 1: alike at least, else 0 -/
noncomputable def mAbv (x : EN) : Int := xc_w (x.1 = 0) 0 (xc_w (mBad x) 2 (xc_w (x.2.1 = x.2.2.1) 1 0))
theorem c_96 (d e : Nat) (a b : Int) (M : XM) (D : Int → EN) (hW : Wf M) (he : isEn e) (hM : MX M e D) (ha0 : 0 ≤ a) (ha1 : a < 16) (hb0 : 0 ≤ b) (hb1 : b < 16) : Ct (d + 2) 96 [vR e, vI a, vI b] M (RI fun r M1 => M1 = M ∧ r = mAbv (D (16 * a + b))) := by
  have a0 : 0 ≤ 16 * a + b ∧ 16 * a + b < 256 := by omega
  have g0 : -2147483648 ≤ 16 * a ∧ 16 * a < 2147483648 := by omega
  have g1 : -2147483648 ≤ 16 * a + b ∧ 16 * a + b < 2147483648 := by omega
  have hE := hW.en he
  obtain ⟨u1, u2⟩ := hW.up (k := 16 * a + b) he a0.1 a0.2
  obtain ⟨w1, w2⟩ := hW.lo (k := 16 * a + b) he a0.1 a0.2
  obtain ⟨m1, m2, m3⟩ := hM (16 * a + b) a0.1 a0.2
  unfold Ct
  refine ev_t rfl ?_
  refine ev_t rfl ?_
  refine ev_g rfl g0 ?_
  refine ev_t rfl ?_
  refine ev_g rfl g1 ?_
  refine ev_t rfl ?_
  refine ev_t rfl ?_
  refine sv_fr 0 200 rfl rfl hE.2.1.2.2.2.2.1 hE.1 ?_
  refine ev_t rfl ?_
  refine ev_g rfl (gAr hE.2.2.2.2.2.2.1 a0.1 a0.2) ?_
  rw [m1]
  refine sv_b 0 200 rfl rfl (fun c => ?_) (fun c => ?_)
  · have c1 : (D (16 * a + b)).1 = 1 := m2.resolve_left c
    have c0 : ¬ (D (16 * a + b)).1 = 0 := c
    obtain ⟨⟨du, vu⟩, ⟨dw, vw⟩, mo, mk⟩ := m3 c1
    refine ev_t rfl ?_
    refine sv_fr 0 200 rfl rfl hE.2.1.1 hE.1 ?_
    refine ev_t rfl ?_
    refine sv_fr 0 200 rfl rfl u1 (gAr hE.2.2.2.2.1 a0.1 a0.2) ?_
    refine ev_t rfl ?_
    refine sv_fr 0 200 rfl rfl hE.2.1.2.1 hE.1 ?_
    refine ev_t rfl ?_
    refine sv_fr 0 200 rfl rfl w1 (gAr hE.2.2.2.2.2.1 a0.1 a0.2) ?_
    refine sv_cp 0 200 rfl rfl (c_78 _ _ _ _ _ _ u2 w2 du dw) u2.1 ?_
    rw [vu, vw]
    have bad : mBad (D (16 * a + b)) → ∀ z, Ev (d + 2) 96 (54, z, []) M (RI fun r M1 => M1 = M ∧ r = mAbv (D (16 * a + b))) := by
      intro hb z
      refine ev_t rfl ?_
      refine ev_t rfl ?_
      exact ev_r rfl trivial ⟨_, rfl, rfl, by unfold mAbv; rw [xc_f c0, xc_t hb]⟩
    have nob2 : ¬ mBad (D (16 * a + b)) → Ev (d + 2) 96 (58, [(0, vR e), (1, vI a), (2, vI b), (3, vI (16 * a + b)), (4, vI (sg ((D (16 * a + b)).2.1 - (D (16 * a + b)).2.2.1)))], []) M (RI fun r M1 => M1 = M ∧ r = mAbv (D (16 * a + b))) := by
      intro hb
      refine ev_t rfl ?_
      refine sv_b 0 200 rfl rfl (fun c2 => ?_) (fun c2 => ?_)
      · have c3 : sg ((D (16 * a + b)).2.1 - (D (16 * a + b)).2.2.1) ≠ 0 := c2
        refine ev_t rfl ?_
        exact ev_r rfl trivial ⟨_, rfl, rfl, by unfold mAbv; rw [xc_f c0, xc_f hb, xc_f (fun z => c3 (sg_zero.mpr z))]⟩
      · have c3 : sg ((D (16 * a + b)).2.1 - (D (16 * a + b)).2.2.1) = 0 := Classical.byContradiction fun z => c2 z
        refine ev_t rfl ?_
        refine ev_t rfl ?_
        exact ev_r rfl trivial ⟨_, rfl, rfl, by unfold mAbv; rw [xc_f c0, xc_f hb, xc_t (sg_zero.mp c3)]⟩
    refine ev_t rfl ?_
    refine ev_t rfl ?_
    refine sv_b 0 200 rfl rfl (fun c2 => ?_) (fun c2 => ?_)
    · have c3 : 0 < sg ((D (16 * a + b)).2.1 - (D (16 * a + b)).2.2.1) := c2
      exact bad (Or.inl (sg_pos.mp c3)) _
    · have c3 : ¬ 0 < sg ((D (16 * a + b)).2.1 - (D (16 * a + b)).2.2.1) := c2
      refine ev_t rfl ?_
      refine sv_b 0 200 rfl rfl (fun c4 => ?_) (fun c4 => ?_)
      · have c5 : sg ((D (16 * a + b)).2.1 - (D (16 * a + b)).2.2.1) ≠ 0 := c4
        exact nob2 (fun z => z.elim (fun z => c3 (sg_pos.mpr z)) (fun z => c5 (sg_zero.mpr z.1)))
      · have c5 : sg ((D (16 * a + b)).2.1 - (D (16 * a + b)).2.2.1) = 0 := Classical.byContradiction fun z => c4 z
        refine ev_t rfl ?_
        refine sv_fr 0 200 rfl rfl hE.2.1.2.2.2.2.2.1 hE.1 ?_
        refine ev_t rfl ?_
        refine ev_g rfl (gAr hE.2.2.2.2.2.2.2 a0.1 a0.2) ?_
        rw [mo]
        refine sv_b 0 200 rfl rfl (fun c6 => ?_) (fun c6 => ?_)
        · have c7 : (D (16 * a + b)).2.2.2 = 0 := c6
          exact nob2 (fun z => z.elim (fun z => c3 (sg_pos.mpr z)) (fun z => by rw [c7] at z; exact absurd z.2 (by decide)))
        · have c7 : (D (16 * a + b)).2.2.2 = 1 := mk.2.2.resolve_left c6
          exact bad (Or.inr ⟨sg_zero.mp c5, c7⟩) _
  · have c1 : (D (16 * a + b)).1 = 0 := Classical.byContradiction fun z => c z
    refine ev_t rfl ?_
    exact ev_r rfl trivial ⟨_, rfl, rfl, by unfold mAbv; rw [xc_t c1]⟩
