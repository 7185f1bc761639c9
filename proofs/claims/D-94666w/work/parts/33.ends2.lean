/-! CONTRACTS, 10: ends along ways: ties, ways joined, bad places -/
theorem Fe.en {e : Nat} {M M1 : XM} (h : Fe e M M1) (a : Nat) (h1 : a ≠ 43) (h2 : a ≠ 45) (h3 : ¬ (e ≤ a ∧ a < e + 1033)) : mI M1 a = mI M a := h.2.2.2.2.2 a h1 h2 h3
theorem c_90 (d e : Nat) (a b u w o : Int) (M : XM) (D : Int → EN) (hW : Wf M) (he : isEn e) (hM : MX M e D) (ha0 : 0 ≤ a) (ha1 : a < 16) (hb0 : 0 ≤ b) (hb1 : b < 16) (hu0 : 0 < u) (hu1 : u < 1000) (hw0 : 0 < w) (hw1 : w < 1000) (ho : o = 0 ∨ o = 1)
    (hv1 : (D (16 * a + b)).1 = 1 → u * (D (16 * a + b)).2.2.1 < pw 7) (hv2 : (D (16 * a + b)).1 = 1 → (D (16 * a + b)).2.1 * w < pw 7) :
    Ct (d + 3) 90 [vR e, vI a, vI b, vI u, vI w, vI o] M (RV fun M1 => Fe e M M1 ∧ MX M1 e (mCom D (16 * a + b) (1, u, w, o)) ∧ mI M1 e = mI M e) := by
  have hlo := he.lo
  have hE := hW.en he
  unfold Ct
  refine ev_t rfl ?_
  refine sv_fr 0 200 rfl rfl hE.2.1.2.2.1 hE.1 ?_
  refine ev_t rfl ?_
  refine ev_cv rfl hE.2.2.1.1 (c_76 _ (e + 3) (e + 4) u M hE.2.2.1 (by omega) (by omega)) (fun M1 h => ?_)
  obtain ⟨f1, rfl, hf1, vf1⟩ := h
  have hW1 : Wf (wI M (e + 4) f1) := hW
  have hE1 := hW1.en he
  refine ev_t rfl ?_
  refine sv_fr 0 200 rfl rfl hE.2.1.2.2.2.1 hE.1 ?_
  refine ev_t rfl ?_
  refine ev_cv rfl hE1.2.2.2.1.1 (c_76 _ (e + 5) (e + 6) w _ hE1.2.2.2.1 (by omega) (by omega)) (fun M1 h => ?_)
  obtain ⟨f2, rfl, hf2, vf2⟩ := h
  have hW2 : Wf (wI (wI M (e + 4) f1) (e + 6) f2) := hW
  have ne2 : ∀ x, x ≠ e + 4 → x ≠ e + 6 → mI (wI (wI M (e + 4) f1) (e + 6) f2) x = mI M x := fun x x1 x2 => by rw [mI_wI, up_n _ _ x2, mI_wI, up_n _ _ x1]
  have hM2 : MX (wI (wI M (e + 4) f1) (e + 6) f2) e D := hM.kp (fun x hx => ne2 x (by omega) (by omega))
  have y4 : mI (wI (wI M (e + 4) f1) (e + 6) f2) (e + 4) = f1 := by rw [mI_wI, up_n _ _ (by omega), mI_wI, up_s]
  have y6 : mI (wI (wI M (e + 4) f1) (e + 6) f2) (e + 6) = f2 := by rw [mI_wI, up_s]
  have hF2 : Fe e M (wI (wI M (e + 4) f1) (e + 6) f2) := (Fe.rf.sI _ (by omega)).sI _ (by omega)
  refine ev_t rfl ?_
  refine ev_t rfl ?_
  refine ev_t rfl ?_
  refine ev_g rfl (by omega) ?_
  refine ev_t rfl ?_
  refine ev_g rfl (by omega) ?_
  refine ev_t rfl ?_
  refine ev_cv rfl hE1.1 (c_91 d e (16 * a + b) _ D (1, u, w, o) hW2 he hM2 (by omega) (by omega) (by rw [y4]; exact ⟨hf1, vf1⟩) (by rw [y6]; exact ⟨hf2, vf2⟩) ⟨hu0, hw0, ho⟩ rfl hv1 hv2) (fun M3 h => ?_)
  obtain ⟨g1, g2, g3⟩ := h
  exact ev_r rfl trivial ⟨rfl, hF2.tr g1, g2, by rw [g3]; exact ne2 e (by omega) (by omega)⟩
/-- whether a length would have to be greater than itself -/
def mBad (x : EN) : Prop := x.2.1 > x.2.2.1 ∨ (x.2.1 = x.2.2.1 ∧ x.2.2.2 = 1)
theorem sg_pos {x y : Int} : sg (x - y) > 0 ↔ y < x := by unfold sg; split <;> (try split) <;> constructor <;> intro h <;> omega
theorem sg_neg {x y : Int} : sg (x - y) < 0 ↔ x < y := by unfold sg; split <;> (try split) <;> constructor <;> intro h <;> omega
theorem sg_zero {x y : Int} : sg (x - y) = 0 ↔ x = y := by unfold sg; split <;> (try split) <;> constructor <;> intro h <;> omega
theorem c_94 (d e : Nat) (k : Int) (M : XM) (D : Int → EN) (hW : Wf M) (he : isEn e) (hM : MX M e D) (h0 : 0 ≤ k) (h1 : k < 16) (ht : (D (16 * k + k)).1 = 1) : Ct (d + 2) 94 [vR e, vI k] M (RI fun r M1 => M1 = M ∧ r = bi (mBad (D (16 * k + k)))) := by
  have hE := hW.en he
  obtain ⟨u1, u2⟩ := hW.up (k := 16 * k + k) he (by omega) (by omega)
  obtain ⟨w1, w2⟩ := hW.lo (k := 16 * k + k) he (by omega) (by omega)
  obtain ⟨m1, m2, m3⟩ := hM (16 * k + k) (by omega) (by omega)
  obtain ⟨⟨du, vu⟩, ⟨dw, vw⟩, mo, mk⟩ := m3 ht
  unfold Ct
  refine ev_t rfl ?_
  refine ev_t rfl ?_
  refine ev_g rfl (by omega) ?_
  refine ev_t rfl ?_
  refine ev_g rfl (by omega) ?_
  refine ev_t rfl ?_
  refine ev_t rfl ?_
  refine sv_fr 0 200 rfl rfl hE.2.1.1 hE.1 ?_
  refine ev_t rfl ?_
  refine sv_fr 0 200 rfl rfl u1 (gAr hE.2.2.2.2.1 (by omega) (by omega)) ?_
  refine ev_t rfl ?_
  refine sv_fr 0 200 rfl rfl hE.2.1.2.1 hE.1 ?_
  refine ev_t rfl ?_
  refine sv_fr 0 200 rfl rfl w1 (gAr hE.2.2.2.2.2.1 (by omega) (by omega)) ?_
  refine sv_cp 0 200 rfl rfl (c_78 _ _ _ _ _ _ u2 w2 du dw) u2.1 ?_
  rw [vu, vw]
  refine ev_t rfl ?_
  refine ev_t rfl ?_
  refine sv_b 0 200 rfl rfl (fun c => ?_) (fun c => ?_)
  · have c1 : 0 < sg ((D (16 * k + k)).2.1 - (D (16 * k + k)).2.2.1) := c
    refine ev_t rfl ?_
    refine ev_t rfl ?_
    exact ev_r rfl (Or.inr rfl) ⟨_, rfl, rfl, (bi_t (Or.inl (sg_pos.mp c1))).symm⟩
  · have c1 : ¬ 0 < sg ((D (16 * k + k)).2.1 - (D (16 * k + k)).2.2.1) := c
    refine ev_t rfl ?_
    refine sv_b 0 200 rfl rfl (fun c2 => ?_) (fun c2 => ?_)
    · have c3 : sg ((D (16 * k + k)).2.1 - (D (16 * k + k)).2.2.1) ≠ 0 := c2
      refine ev_t rfl ?_
      exact ev_r rfl (Or.inl rfl) ⟨_, rfl, rfl, (bi_f (fun z => z.elim (fun z => c1 (sg_pos.mpr z)) (fun z => c3 (sg_zero.mpr z.1)))).symm⟩
    · have c3 : sg ((D (16 * k + k)).2.1 - (D (16 * k + k)).2.2.1) = 0 := Classical.byContradiction fun z => c2 z
      refine ev_t rfl ?_
      refine sv_fr 0 200 rfl rfl hE.2.1.2.2.2.2.2.1 hE.1 ?_
      refine ev_t rfl ?_
      refine ev_g rfl (gAr hE.2.2.2.2.2.2.2 (by omega) (by omega)) ?_
      rw [mo]
      refine sv_b 0 200 rfl rfl (fun c4 => ?_) (fun c4 => ?_)
      · have c5 : (D (16 * k + k)).2.2.2 = 0 := c4
        refine ev_t rfl ?_
        exact ev_r rfl (Or.inl rfl) ⟨_, rfl, rfl, (bi_f (fun z => z.elim (fun z => c1 (sg_pos.mpr z)) (fun z => by have := z.2; omega))).symm⟩
      · have c5 : (D (16 * k + k)).2.2.2 = 1 := mk.2.2.resolve_left c4
        refine ev_t rfl ?_
        refine ev_t rfl ?_
        exact ev_r rfl (Or.inr rfl) ⟨_, rfl, rfl, (bi_t (Or.inr ⟨sg_zero.mp c3, c5⟩)).symm⟩
/-- two ways joined -/
def mJoin (x y : EN) : EN := (1, x.2.1 * y.2.1, x.2.2.1 * y.2.2.1, if x.2.2.2 = 1 ∨ y.2.2.2 = 1 then 1 else 0)
theorem c_95 (d e : Nat) (i k j : Int) (M : XM) (D : Int → EN) (hW : Wf M) (he : isEn e) (hM : MX M e D) (hi0 : 0 ≤ i) (hi1 : i < 16) (hk0 : 0 ≤ k) (hk1 : k < 16) (hj0 : 0 ≤ j) (hj1 : j < 16) (t1 : (D (16 * i + k)).1 = 1) (t2 : (D (16 * k + j)).1 = 1)
    (hv1 : (D (16 * i + k)).2.1 * (D (16 * k + j)).2.1 < pw 7) (hv2 : (D (16 * i + k)).2.2.1 * (D (16 * k + j)).2.2.1 < pw 7)
    (hv3 : (D (16 * i + j)).1 = 1 → (D (16 * i + k)).2.1 * (D (16 * k + j)).2.1 * (D (16 * i + j)).2.2.1 < pw 7) (hv4 : (D (16 * i + j)).1 = 1 → (D (16 * i + j)).2.1 * ((D (16 * i + k)).2.2.1 * (D (16 * k + j)).2.2.1) < pw 7) :
    Ct (d + 3) 95 [vR e, vI i, vI k, vI j] M (RV fun M1 => Fe e M M1 ∧ MX M1 e (mCom D (16 * i + j) (mJoin (D (16 * i + k)) (D (16 * k + j)))) ∧ mI M1 e = mI M e) := by
  have hlo := he.lo
  have hE := hW.en he
  obtain ⟨u1, u2⟩ := hW.up (k := 16 * i + k) he (by omega) (by omega)
  obtain ⟨w1, w2⟩ := hW.lo (k := 16 * i + k) he (by omega) (by omega)
  obtain ⟨x1, x2⟩ := hW.up (k := 16 * k + j) he (by omega) (by omega)
  obtain ⟨y1, y2⟩ := hW.lo (k := 16 * k + j) he (by omega) (by omega)
  obtain ⟨⟨du, vu⟩, ⟨dw, vw⟩, mo, mk⟩ := (hM (16 * i + k) (by omega) (by omega)).2.2 t1
  obtain ⟨⟨dx, vx⟩, ⟨dy, vy⟩, no, nk⟩ := (hM (16 * k + j) (by omega) (by omega)).2.2 t2
  unfold Ct
  refine ev_t rfl ?_
  refine ev_t rfl ?_
  refine ev_g rfl (by omega) ?_
  refine ev_t rfl ?_
  refine ev_g rfl (by omega) ?_
  refine ev_t rfl ?_
  refine ev_t rfl ?_
  refine ev_t rfl ?_
  refine ev_g rfl (by omega) ?_
  refine ev_t rfl ?_
  refine ev_g rfl (by omega) ?_
  refine ev_t rfl ?_
  refine ev_t rfl ?_
  refine sv_fr 0 200 rfl rfl hE.2.1.2.2.1 hE.1 ?_
  refine ev_t rfl ?_
  refine sv_fr 0 200 rfl rfl hE.2.1.1 hE.1 ?_
  refine ev_t rfl ?_
  refine sv_fr 0 200 rfl rfl u1 (gAr hE.2.2.2.2.1 (by omega) (by omega)) ?_
  refine ev_t rfl ?_
  refine sv_fr 0 200 rfl rfl hE.2.1.1 hE.1 ?_
  refine ev_t rfl ?_
  refine sv_fr 0 200 rfl rfl x1 (gAr hE.2.2.2.2.1 (by omega) (by omega)) ?_
  refine ev_cv rfl hE.2.2.1.1 (c_77 _ (e + 3) (e + 4) (eU e (16 * i + k)) (eU e (16 * k + j)) _ _ M hE.2.2.1 u2 x2 (by unfold eU; omega) (by unfold eU; omega) (by omega) du dx (by rw [vu, vx]; exact hv1)) (fun M1 h => ?_)
  obtain ⟨f1, rfl, hf1, vf1⟩ := h
  rw [vu, vx] at vf1
  have hW1 : Wf (wI M (e + 4) f1) := hW
  have hE1 := hW1.en he
  have z1 : mI (wI M (e + 4) f1) (eW e (16 * i + k)) = mI M (eW e (16 * i + k)) := by rw [mI_wI, up_n _ _ (by unfold eW; omega)]
  have z2 : mI (wI M (e + 4) f1) (eW e (16 * k + j)) = mI M (eW e (16 * k + j)) := by rw [mI_wI, up_n _ _ (by unfold eW; omega)]
  refine ev_t rfl ?_
  refine sv_fr 0 200 rfl rfl hE.2.1.2.2.2.1 hE.1 ?_
  refine ev_t rfl ?_
  refine sv_fr 0 200 rfl rfl hE.2.1.2.1 hE.1 ?_
  refine ev_t rfl ?_
  refine sv_fr 0 200 rfl rfl w1 (gAr hE.2.2.2.2.2.1 (by omega) (by omega)) ?_
  refine ev_t rfl ?_
  refine sv_fr 0 200 rfl rfl hE.2.1.2.1 hE.1 ?_
  refine ev_t rfl ?_
  refine sv_fr 0 200 rfl rfl y1 (gAr hE.2.2.2.2.2.1 (by omega) (by omega)) ?_
  refine ev_cv rfl hE1.2.2.2.1.1 (c_77 _ (e + 5) (e + 6) (eW e (16 * i + k)) (eW e (16 * k + j)) _ _ _ hE1.2.2.2.1 w2 y2 (by unfold eW; omega) (by unfold eW; omega) (by omega) (by rw [z1]; exact dw) (by rw [z2]; exact dy) (by rw [z1, z2, vw, vy]; exact hv2)) (fun M1 h => ?_)
  obtain ⟨f2, rfl, hf2, vf2⟩ := h
  rw [z1, z2, vw, vy] at vf2
  have hW2 : Wf (wI (wI M (e + 4) f1) (e + 6) f2) := hW
  have ne2 : ∀ x, x ≠ e + 4 → x ≠ e + 6 → mI (wI (wI M (e + 4) f1) (e + 6) f2) x = mI M x := fun x x1 x2 => by rw [mI_wI, up_n _ _ x2, mI_wI, up_n _ _ x1]
  have hM2 : MX (wI (wI M (e + 4) f1) (e + 6) f2) e D := hM.kp (fun x hx => ne2 x (by omega) (by omega))
  have y4 : mI (wI (wI M (e + 4) f1) (e + 6) f2) (e + 4) = f1 := by rw [mI_wI, up_n _ _ (by omega), mI_wI, up_s]
  have y6 : mI (wI (wI M (e + 4) f1) (e + 6) f2) (e + 6) = f2 := by rw [mI_wI, up_s]
  have hF2 : Fe e M (wI (wI M (e + 4) f1) (e + 6) f2) := (Fe.rf.sI _ (by omega)).sI _ (by omega)
  have fin : ∀ o : Int, o = (mJoin (D (16 * i + k)) (D (16 * k + j))).2.2.2 → Ev (d + 3) 95 (90, [(0, vR e), (1, vI i), (2, vI k), (3, vI j), (4, vI (16 * i + k)), (5, vI (16 * k + j))], [vI o, vI (16 * i + j), vR e]) (wI (wI M (e + 4) f1) (e + 6) f2) (RV fun M1 => Fe e M M1 ∧ MX M1 e (mCom D (16 * i + j) (mJoin (D (16 * i + k)) (D (16 * k + j)))) ∧ mI M1 e = mI M e) := by
    intro o ho
    subst ho
    have ho1 : (mJoin (D (16 * i + k)) (D (16 * k + j))).2.2.2 = 0 ∨ (mJoin (D (16 * i + k)) (D (16 * k + j))).2.2.2 = 1 := by
      show (if _ then (1 : Int) else 0) = 0 ∨ (if _ then (1 : Int) else 0) = 1
      split
      · exact Or.inr rfl
      · exact Or.inl rfl
    refine ev_cv rfl hE1.1 (c_91 d e (16 * i + j) _ D (mJoin (D (16 * i + k)) (D (16 * k + j))) hW2 he hM2 (by omega) (by omega) (by rw [y4]; exact ⟨hf1, vf1⟩) (by rw [y6]; exact ⟨hf2, vf2⟩) ⟨Int.mul_pos mk.1 nk.1, Int.mul_pos mk.2.1 nk.2.1, ho1⟩ rfl hv3 hv4) (fun M3 h => ?_)
    obtain ⟨g1, g2, g3⟩ := h
    exact ev_r rfl trivial ⟨rfl, hF2.tr g1, g2, by rw [g3]; exact ne2 e (by omega) (by omega)⟩
  refine ev_t rfl ?_
  refine ev_t rfl ?_
  refine ev_t rfl ?_
  refine ev_g rfl (by omega) ?_
  refine ev_t rfl ?_
  refine ev_g rfl (by omega) ?_
  refine ev_t rfl ?_
  refine sv_fr 0 200 rfl rfl hE.2.1.2.2.2.2.2.1 hE.1 ?_
  refine ev_t rfl ?_
  refine ev_g rfl (gAr hE.2.2.2.2.2.2.2 (by omega) (by omega)) ?_
  rw [ne2 (e + 8) (by omega) (by omega), mo]
  refine sv_b 0 200 rfl rfl (fun c => ?_) (fun c => ?_)
  · have c1 : (D (16 * i + k)).2.2.2 = 1 := mk.2.2.resolve_left c
    refine ev_t rfl ?_
    refine ev_t rfl ?_
    exact fin 1 (if_pos (Or.inl c1)).symm
  · have c1 : (D (16 * i + k)).2.2.2 = 0 := Classical.byContradiction fun z => c z
    refine ev_t rfl ?_
    refine sv_fr 0 200 rfl rfl hE.2.1.2.2.2.2.2.1 hE.1 ?_
    refine ev_t rfl ?_
    refine ev_g rfl (gAr hE.2.2.2.2.2.2.2 (by omega) (by omega)) ?_
    rw [ne2 (e + 8) (by omega) (by omega), no]
    refine sv_b 0 200 rfl rfl (fun c2 => ?_) (fun c2 => ?_)
    · have c3 : (D (16 * k + j)).2.2.2 = 0 := c2
      refine ev_t rfl ?_
      exact fin 0 (if_neg (by omega)).symm
    · have c3 : (D (16 * k + j)).2.2.2 = 1 := nk.2.2.resolve_left c2
      refine ev_t rfl ?_
      refine ev_t rfl ?_
      exact fin 1 (if_pos (Or.inr c3)).symm
