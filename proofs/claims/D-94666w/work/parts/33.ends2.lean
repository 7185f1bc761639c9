/-! CONTRACTS, 10: ends along ways: ties, ways joined, bad places -/
theorem Fe.en {e : Nat} {M M1 : XM} (h : Fe e M M1) (a : Nat) (h1 : a ≠ 43) (h2 : a ≠ 45) (h3 : ¬ (e ≤ a ∧ a < e + 1033)) : mI M1 a = mI M a := h.2.2.2.2.2 a h1 h2 h3
theorem tb_f (M : XM) (e : Nat) (f1 f2 : Int → Int) : (∀ x, x ≠ e + 4 → x ≠ e + 6 → mI (wI (wI M (e + 4) f1) (e + 6) f2) x = mI M x) ∧ mI (wI (wI M (e + 4) f1) (e + 6) f2) (e + 4) = f1 ∧ mI (wI (wI M (e + 4) f1) (e + 6) f2) (e + 6) = f2 ∧ Fe e M (wI (wI M (e + 4) f1) (e + 6) f2) ∧ mI (wI (wI M (e + 4) f1) (e + 6) f2) e = mI M e ∧ mI (wI (wI M (e + 4) f1) (e + 6) f2) (e + 8) = mI M (e + 8) := by
  have h : ∀ x, x ≠ e + 4 → x ≠ e + 6 → mI (wI (wI M (e + 4) f1) (e + 6) f2) x = mI M x := fun x x1 x2 => by rw [mI_wI, up_n _ _ x2, mI_wI, up_n _ _ x1]
  exact ⟨h, by rw [mI_wI, up_n _ _ (by omega), mI_wI, up_s], by rw [mI_wI, up_s], (Fe.rf.sI _ (by omega)).sI _ (by omega), h e (by omega) (by omega), h (e + 8) (by omega) (by omega)⟩
theorem tb_m {M : XM} {e : Nat} {D : Int → EN} (hM : MX M e D) (f1 f2 : Int → Int) : MX (wI (wI M (e + 4) f1) (e + 6) f2) e D := hM.kp (fun x hx => (tb_f M e f1 f2).1 x (by omega) (by omega))
theorem c_90 (d e : Nat) (a b u w o : Int) (M : XM) (D : Int → EN) (hW : Wf M) (he : isEn e) (hM : MX M e D) (ha0 : 0 ≤ a) (ha1 : a < 16) (hb0 : 0 ≤ b) (hb1 : b < 16) (hu0 : 0 < u) (hu1 : u < 1000) (hw0 : 0 < w) (hw1 : w < 1000) (ho : o = 0 ∨ o = 1)
    (hv1 : (D (16 * a + b)).1 = 1 → u * (D (16 * a + b)).2.2.1 < pw 7) (hv2 : (D (16 * a + b)).1 = 1 → (D (16 * a + b)).2.1 * w < pw 7) :
    Ct (d + 3) 90 [vR e, vI a, vI b, vI u, vI w, vI o] M (RV fun M1 => Fe e M M1 ∧ MX M1 e (mCom D (16 * a + b) (1, u, w, o)) ∧ mI M1 e = mI M e) := by
  have q0 : 0 ≤ 16 * a + b := by omega
  have q1 : 16 * a + b < 256 := by omega
  have q2 : -2147483648 ≤ 16 * a ∧ 16 * a < 2147483648 := by omega
  have q3 : -2147483648 ≤ 16 * a + b ∧ 16 * a + b < 2147483648 := by omega
  have q4 : 0 ≤ u := by omega
  have q5 : u < 1000000000 := by omega
  have q6 : 0 ≤ w := by omega
  have q7 : w < 1000000000 := by omega
  have hE := hW.en he
  unfold Ct
  refine ev_t rfl ?_
  refine sv_fr 0 200 rfl rfl hE.2.1.2.2.1 hE.1 ?_
  refine ev_t rfl ?_
  refine ev_cv rfl hE.2.2.1.1 (c_76 _ (e + 3) (e + 4) u M hE.2.2.1 q4 q5) (fun M1 h => ?_)
  obtain ⟨f1, rfl, hf1, vf1⟩ := h
  have hW1 : Wf (wI M (e + 4) f1) := hW
  have hE1 := hW1.en he
  refine ev_t rfl ?_
  refine sv_fr 0 200 rfl rfl hE.2.1.2.2.2.1 hE.1 ?_
  refine ev_t rfl ?_
  refine ev_cv rfl hE1.2.2.2.1.1 (c_76 _ (e + 5) (e + 6) w _ hE1.2.2.2.1 q6 q7) (fun M1 h => ?_)
  obtain ⟨f2, rfl, hf2, vf2⟩ := h
  have hW2 : Wf (wI (wI M (e + 4) f1) (e + 6) f2) := hW
  obtain ⟨-, y4, y6, hF2, ye, y8⟩ := tb_f M e f1 f2
  have hM2 : MX (wI (wI M (e + 4) f1) (e + 6) f2) e D := tb_m hM f1 f2
  refine ev_t rfl ?_
  refine ev_t rfl ?_
  refine ev_t rfl ?_
  refine ev_g rfl q2 ?_
  refine ev_t rfl ?_
  refine ev_g rfl q3 ?_
  refine ev_t rfl ?_
  refine ev_cv rfl hE1.1 (c_91 d e (16 * a + b) _ D (1, u, w, o) hW2 he hM2 q0 q1 (by rw [y4]; exact ⟨hf1, vf1⟩) (by rw [y6]; exact ⟨hf2, vf2⟩) ⟨hu0, hw0, ho⟩ rfl hv1 hv2) (fun M3 h => ?_)
  obtain ⟨g1, g2, g3⟩ := h
  exact ev_r rfl trivial ⟨rfl, hF2.tr g1, g2, by rw [g3]; exact ye⟩
/-- whether a length would have to be greater than itself -/
def mBad (x : EN) : Prop := x.2.1 > x.2.2.1 ∨ (x.2.1 = x.2.2.1 ∧ x.2.2.2 = 1)
theorem sg_pos {x y : Int} : sg (x - y) > 0 ↔ y < x := by unfold sg; split <;> (try split) <;> constructor <;> intro h <;> omega
theorem sg_neg {x y : Int} : sg (x - y) < 0 ↔ x < y := by unfold sg; split <;> (try split) <;> constructor <;> intro h <;> omega
theorem sg_zero {x y : Int} : sg (x - y) = 0 ↔ x = y := by unfold sg; split <;> (try split) <;> constructor <;> intro h <;> omega
theorem c_94 (d e : Nat) (k : Int) (M : XM) (D : Int → EN) (hW : Wf M) (he : isEn e) (hM : MX M e D) (h0 : 0 ≤ k) (h1 : k < 16) (ht : (D (16 * k + k)).1 = 1) : Ct (d + 2) 94 [vR e, vI k] M (RI fun r M1 => M1 = M ∧ r = bi (mBad (D (16 * k + k)))) := by
  have hE := hW.en he
  obtain ⟨u1, u2⟩ := hW.up (k := 16 * k + k) he (by omega) (by omega)
  obtain ⟨w1, w2⟩ := hW.lo (k := 16 * k + k) he (by omega) (by omega)
  obtain ⟨m1, m2, m3⟩ := hM (16 * k + k) (by omega) (by omega)
  obtain ⟨⟨du, vu⟩, ⟨dw, vw⟩, mo, mk⟩ := m3 ht
  unfold Ct
  refine ev_t rfl ?_
  refine ev_t rfl ?_
  refine ev_g rfl (by omega) ?_
  refine ev_t rfl ?_
  refine ev_g rfl (by omega) ?_
  refine ev_t rfl ?_
  refine ev_t rfl ?_
  refine sv_fr 0 200 rfl rfl hE.2.1.1 hE.1 ?_
  refine ev_t rfl ?_
  refine sv_fr 0 200 rfl rfl u1 (gAr hE.2.2.2.2.1 (by omega) (by omega)) ?_
  refine ev_t rfl ?_
  refine sv_fr 0 200 rfl rfl hE.2.1.2.1 hE.1 ?_
  refine ev_t rfl ?_
  refine sv_fr 0 200 rfl rfl w1 (gAr hE.2.2.2.2.2.1 (by omega) (by omega)) ?_
  refine sv_cp 0 200 rfl rfl (c_78 _ _ _ _ _ _ u2 w2 du dw) u2.1 ?_
  rw [vu, vw]
  refine ev_t rfl ?_
  refine ev_t rfl ?_
  refine sv_b 0 200 rfl rfl (fun c => ?_) (fun c => ?_)
  · have c1 : 0 < sg ((D (16 * k + k)).2.1 - (D (16 * k + k)).2.2.1) := c
    refine ev_t rfl ?_
    refine ev_t rfl ?_
    exact ev_r rfl (Or.inr rfl) ⟨_, rfl, rfl, (bi_t (Or.inl (sg_pos.mp c1))).symm⟩
  · have c1 : ¬ 0 < sg ((D (16 * k + k)).2.1 - (D (16 * k + k)).2.2.1) := c
    refine ev_t rfl ?_
    refine sv_b 0 200 rfl rfl (fun c2 => ?_) (fun c2 => ?_)
    · have c3 : sg ((D (16 * k + k)).2.1 - (D (16 * k + k)).2.2.1) ≠ 0 := c2
      refine ev_t rfl ?_
      exact ev_r rfl (Or.inl rfl) ⟨_, rfl, rfl, (bi_f (fun z => z.elim (fun z => c1 (sg_pos.mpr z)) (fun z => c3 (sg_zero.mpr z.1)))).symm⟩
    · have c3 : sg ((D (16 * k + k)).2.1 - (D (16 * k + k)).2.2.1) = 0 := Classical.byContradiction fun z => c2 z
      refine ev_t rfl ?_
      refine sv_fr 0 200 rfl rfl hE.2.1.2.2.2.2.2.1 hE.1 ?_
      refine ev_t rfl ?_
      refine ev_g rfl (gAr hE.2.2.2.2.2.2.2 (by omega) (by omega)) ?_
      rw [mo]
      refine sv_b 0 200 rfl rfl (fun c4 => ?_) (fun c4 => ?_)
      · have c5 : (D (16 * k + k)).2.2.2 = 0 := c4
        refine ev_t rfl ?_
        exact ev_r rfl (Or.inl rfl) ⟨_, rfl, rfl, (bi_f (fun z => z.elim (fun z => c1 (sg_pos.mpr z)) (fun z => by have := z.2; omega))).symm⟩
      · have c5 : (D (16 * k + k)).2.2.2 = 1 := mk.2.2.resolve_left c4
        refine ev_t rfl ?_
        refine ev_t rfl ?_
        exact ev_r rfl (Or.inr rfl) ⟨_, rfl, rfl, (bi_t (Or.inr ⟨sg_zero.mp c3, c5⟩)).symm⟩
/-- two ways joined -/
def mJoin (x y : EN) : EN := (1, x.2.1 * y.2.1, x.2.2.1 * y.2.2.1, if x.2.2.2 = 1 ∨ y.2.2.2 = 1 then 1 else 0)
theorem c_95 (d e : Nat) (i k j : Int) (M : XM) (D : Int → EN) (hW : Wf M) (he : isEn e) (hM : MX M e D) (hi0 : 0 ≤ i) (hi1 : i < 16) (hk0 : 0 ≤ k) (hk1 : k < 16) (hj0 : 0 ≤ j) (hj1 : j < 16) (t1 : (D (16 * i + k)).1 = 1) (t2 : (D (16 * k + j)).1 = 1)
    (hv1 : (D (16 * i + k)).2.1 * (D (16 * k + j)).2.1 < pw 7) (hv2 : (D (16 * i + k)).2.2.1 * (D (16 * k + j)).2.2.1 < pw 7)
    (hv3 : (D (16 * i + j)).1 = 1 → (D (16 * i + k)).2.1 * (D (16 * k + j)).2.1 * (D (16 * i + j)).2.2.1 < pw 7) (hv4 : (D (16 * i + j)).1 = 1 → (D (16 * i + j)).2.1 * ((D (16 * i + k)).2.2.1 * (D (16 * k + j)).2.2.1) < pw 7) :
    Ct (d + 3) 95 [vR e, vI i, vI k, vI j] M (RV fun M1 => Fe e M M1 ∧ MX M1 e (mCom D (16 * i + j) (mJoin (D (16 * i + k)) (D (16 * k + j)))) ∧ mI M1 e = mI M e) := by
  have n1 : e + 4 ≠ eU e (16 * i + k) := by unfold eU; omega
  have n2 : e + 4 ≠ eU e (16 * k + j) := by unfold eU; omega
  have n3 : e + 4 ≠ eW e (16 * i + k) := by unfold eW; omega
  have n4 : e + 4 ≠ eW e (16 * k + j) := by unfold eW; omega
  have n5 : e + 6 ≠ eW e (16 * i + k) := by unfold eW; omega
  have n6 : e + 6 ≠ eW e (16 * k + j) := by unfold eW; omega
  have n7 : e + 3 ≠ e + 4 := by omega
  have n8 : e + 5 ≠ e + 6 := by omega
  have a0 : 0 ≤ 16 * i + k ∧ 16 * i + k < 256 := by omega
  have a1 : 0 ≤ 16 * k + j ∧ 16 * k + j < 256 := by omega
  have a2 : 0 ≤ 16 * i + j ∧ 16 * i + j < 256 := by omega
  have g0 : -2147483648 ≤ 16 * i ∧ 16 * i < 2147483648 := by omega
  have g1 : -2147483648 ≤ 16 * k ∧ 16 * k < 2147483648 := by omega
  have g2 : -2147483648 ≤ 16 * i + k ∧ 16 * i + k < 2147483648 := by omega
  have g3 : -2147483648 ≤ 16 * k + j ∧ 16 * k + j < 2147483648 := by omega
  have g4 : -2147483648 ≤ 16 * i + j ∧ 16 * i + j < 2147483648 := by omega
  have hE := hW.en he
  obtain ⟨u1, u2⟩ := hW.up (k := 16 * i + k) he a0.1 a0.2
  obtain ⟨w1, w2⟩ := hW.lo (k := 16 * i + k) he a0.1 a0.2
  obtain ⟨x1, x2⟩ := hW.up (k := 16 * k + j) he a1.1 a1.2
  obtain ⟨y1, y2⟩ := hW.lo (k := 16 * k + j) he a1.1 a1.2
  obtain ⟨⟨du, vu⟩, ⟨dw, vw⟩, mo, mk⟩ := (hM (16 * i + k) a0.1 a0.2).2.2 t1
  obtain ⟨⟨dx, vx⟩, ⟨dy, vy⟩, no, nk⟩ := (hM (16 * k + j) a1.1 a1.2).2.2 t2
  unfold Ct
  refine ev_t rfl ?_
  refine ev_t rfl ?_
  refine ev_g rfl g0 ?_
  refine ev_t rfl ?_
  refine ev_g rfl g2 ?_
  refine ev_t rfl ?_
  refine ev_t rfl ?_
  refine ev_t rfl ?_
  refine ev_g rfl g1 ?_
  refine ev_t rfl ?_
  refine ev_g rfl g3 ?_
  refine ev_t rfl ?_
  refine ev_t rfl ?_
  refine sv_fr 0 200 rfl rfl hE.2.1.2.2.1 hE.1 ?_
  refine ev_t rfl ?_
  refine sv_fr 0 200 rfl rfl hE.2.1.1 hE.1 ?_
  refine ev_t rfl ?_
  refine sv_fr 0 200 rfl rfl u1 (gAr hE.2.2.2.2.1 a0.1 a0.2) ?_
  refine ev_t rfl ?_
  refine sv_fr 0 200 rfl rfl hE.2.1.1 hE.1 ?_
  refine ev_t rfl ?_
  refine sv_fr 0 200 rfl rfl x1 (gAr hE.2.2.2.2.1 a1.1 a1.2) ?_
  refine ev_cv rfl hE.2.2.1.1 (c_77 _ (e + 3) (e + 4) (eU e (16 * i + k)) (eU e (16 * k + j)) _ _ M hE.2.2.1 u2 x2 n1.symm n2.symm n7 du dx (by rw [vu, vx]; exact hv1)) (fun M1 h => ?_)
  obtain ⟨f1, rfl, hf1, vf1⟩ := h
  rw [vu, vx] at vf1
  have hW1 : Wf (wI M (e + 4) f1) := hW
  have hE1 := hW1.en he
  have z1 : mI (wI M (e + 4) f1) (eW e (16 * i + k)) = mI M (eW e (16 * i + k)) := by rw [mI_wI, up_n _ _ n3.symm]
  have z2 : mI (wI M (e + 4) f1) (eW e (16 * k + j)) = mI M (eW e (16 * k + j)) := by rw [mI_wI, up_n _ _ n4.symm]
  refine ev_t rfl ?_
  refine sv_fr 0 200 rfl rfl hE.2.1.2.2.2.1 hE.1 ?_
  refine ev_t rfl ?_
  refine sv_fr 0 200 rfl rfl hE.2.1.2.1 hE.1 ?_
  refine ev_t rfl ?_
  refine sv_fr 0 200 rfl rfl w1 (gAr hE.2.2.2.2.2.1 a0.1 a0.2) ?_
  refine ev_t rfl ?_
  refine sv_fr 0 200 rfl rfl hE.2.1.2.1 hE.1 ?_
  refine ev_t rfl ?_
  refine sv_fr 0 200 rfl rfl y1 (gAr hE.2.2.2.2.2.1 a1.1 a1.2) ?_
  refine ev_cv rfl hE1.2.2.2.1.1 (c_77 _ (e + 5) (e + 6) (eW e (16 * i + k)) (eW e (16 * k + j)) _ _ _ hE1.2.2.2.1 w2 y2 n5.symm n6.symm n8 (by rw [z1]; exact dw) (by rw [z2]; exact dy) (by rw [z1, z2, vw, vy]; exact hv2)) (fun M1 h => ?_)
  obtain ⟨f2, rfl, hf2, vf2⟩ := h
  rw [z1, z2, vw, vy] at vf2
  have hW2 : Wf (wI (wI M (e + 4) f1) (e + 6) f2) := hW
  obtain ⟨-, y4, y6, hF2, ye, y8⟩ := tb_f M e f1 f2
  have hM2 : MX (wI (wI M (e + 4) f1) (e + 6) f2) e D := tb_m hM f1 f2
  have fin : ∀ o : Int, o = (mJoin (D (16 * i + k)) (D (16 * k + j))).2.2.2 → Ev (d + 3) 95 (90, [(0, vR e), (1, vI i), (2, vI k), (3, vI j), (4, vI (16 * i + k)), (5, vI (16 * k + j))], [vI o, vI (16 * i + j), vR e]) (wI (wI M (e + 4) f1) (e + 6) f2) (RV fun M1 => Fe e M M1 ∧ MX M1 e (mCom D (16 * i + j) (mJoin (D (16 * i + k)) (D (16 * k + j)))) ∧ mI M1 e = mI M e) := by
    intro o ho
    subst ho
    have ho1 : (mJoin (D (16 * i + k)) (D (16 * k + j))).2.2.2 = 0 ∨ (mJoin (D (16 * i + k)) (D (16 * k + j))).2.2.2 = 1 := by
      show (if _ then (1 : Int) else 0) = 0 ∨ (if _ then (1 : Int) else 0) = 1
      split
      · exact Or.inr rfl
      · exact Or.inl rfl
    refine ev_cv rfl hE1.1 (c_91 d e (16 * i + j) _ D (mJoin (D (16 * i + k)) (D (16 * k + j))) hW2 he hM2 a2.1 a2.2 (by rw [y4]; exact ⟨hf1, vf1⟩) (by rw [y6]; exact ⟨hf2, vf2⟩) ⟨Int.mul_pos mk.1 nk.1, Int.mul_pos mk.2.1 nk.2.1, ho1⟩ rfl hv3 hv4) (fun M3 h => ?_)
    exact ev_r rfl trivial ⟨rfl, hF2.tr h.1, h.2.1, by rw [h.2.2]; exact ye⟩
  refine ev_t rfl ?_
  refine ev_t rfl ?_
  refine ev_t rfl ?_
  refine ev_g rfl g0 ?_
  refine ev_t rfl ?_
  refine ev_g rfl g4 ?_
  refine ev_t rfl ?_
  refine sv_fr 0 200 rfl rfl hE.2.1.2.2.2.2.2.1 hE.1 ?_
  refine ev_t rfl ?_
  refine ev_g rfl (gAr hE.2.2.2.2.2.2.2 a0.1 a0.2) ?_
  rw [y8, mo]
  refine sv_b 0 200 rfl rfl (fun c => ?_) (fun c => ?_)
  · have c1 : (D (16 * i + k)).2.2.2 = 1 := mk.2.2.resolve_left c
    refine ev_t rfl ?_
    refine ev_t rfl ?_
    exact fin 1 (if_pos (Or.inl c1)).symm
  · have c1 : (D (16 * i + k)).2.2.2 = 0 := Classical.byContradiction fun z => c z
    refine ev_t rfl ?_
    refine sv_fr 0 200 rfl rfl hE.2.1.2.2.2.2.2.1 hE.1 ?_
    refine ev_t rfl ?_
    refine ev_g rfl (gAr hE.2.2.2.2.2.2.2 a1.1 a1.2) ?_
    rw [y8, no]
    refine sv_b 0 200 rfl rfl (fun c2 => ?_) (fun c2 => ?_)
    · have c3 : (D (16 * k + j)).2.2.2 = 0 := c2
      refine ev_t rfl ?_
      exact fin 0 (if_neg (fun z => z.elim (fun z => by rw [c1] at z; cases z) (fun z => by rw [c3] at z; cases z))).symm
    · have c3 : (D (16 * k + j)).2.2.2 = 1 := nk.2.2.resolve_left c2
      refine ev_t rfl ?_
      refine ev_t rfl ?_
      exact fin 1 (if_pos (Or.inr c3)).symm
