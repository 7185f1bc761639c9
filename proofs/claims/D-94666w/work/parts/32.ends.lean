/-! CONTRACTS, 9: ends along ways: the cells -/
abbrev isEn (e : Nat) : Prop := e = 56 ∨ e = 1089
theorem Wf.b1 {M : XM} (h : Wf M) {a : Nat} (h1 : 65 ≤ a) (h2 : a < 1089) (h3 : a % 2 = 1) : isB M a (a + 1) := by
  have e1 : fS a = (2, 0) := by unfold fS; rw [if_pos (by omega), if_neg (by omega), if_pos h2]; unfold fSb; rw [if_neg (by omega)]
  have e2 : fS (a + 1) = (100, 7) := by
    unfold fS
    rw [if_pos (by omega), if_neg (by omega), if_pos (by omega)]; unfold fSb; rw [if_pos (by omega)]
  have e3 : fR a 0 = a + 1 := by
    unfold fR
    rw [if_neg (by omega), if_neg (by omega), if_neg (by omega), if_neg (by omega), if_neg (by omega), if_pos (by omega), if_neg (by omega), if_pos h2]
    unfold fRb
    rw [if_neg (by omega), if_pos rfl]
  exact ⟨h.k e1 (by omega) (by omega), h.r e3 (by omega), by rw [h.2.1 (a + 1) (by omega) (by omega), e2]⟩
theorem Wf.b2 {M : XM} (h : Wf M) {a : Nat} (h1 : 1098 ≤ a) (h2 : a < 2122) (h3 : a % 2 = 0) : isB M a (a + 1) := by
  have e1 : fS a = (2, 0) := by unfold fS; rw [if_neg (by omega), if_pos (by omega), if_pos h2]; unfold fSc; rw [if_pos h3]
  have e2 : fS (a + 1) = (100, 7) := by
    unfold fS
    rw [if_neg (by omega), if_pos (by omega), if_pos (by omega)]; unfold fSc; rw [if_neg (by omega)]
  have e3 : fR a 0 = a + 1 := by
    unfold fR
    rw [if_neg (by omega), if_neg (by omega), if_neg (by omega), if_neg (by omega), if_neg (by omega), if_neg (by omega), if_pos (by omega), if_pos h2]
    unfold fRc
    rw [if_pos h3, if_pos rfl]
  exact ⟨h.k e1 (by omega) (by omega), h.r e3 (by omega), by rw [h.2.1 (a + 1) (by omega) (by omega), e2]⟩
abbrev eU (e : Nat) (k : Int) : Nat := e + 10 + 4 * k.toNat
abbrev eW (e : Nat) (k : Int) : Nat := e + 12 + 4 * k.toNat
theorem Wf.up {M : XM} (h : Wf M) {e : Nat} (he : isEn e) {k : Int} (h0 : 0 ≤ k) (h1 : k < 256) : mR M (e + 1) k = e + 9 + 4 * k.toNat ∧ isB M (e + 9 + 4 * k.toNat) (eU e k) := by
  have hk : k.toNat < 256 := by omega
  rcases he with rfl | rfl
  · refine ⟨h.r (show fRn 65 k = _ from ?_) (by omega), ?_⟩
    · unfold fRn; rw [if_pos ⟨h0, h1⟩]
    · have := h.b1 (a := 65 + 4 * k.toNat) (by omega) (by omega) (by omega)
      rw [show eU 56 k = 65 + 4 * k.toNat + 1 by unfold eU; omega]
      exact this
  · refine ⟨h.r (show fRn 1098 k = _ from ?_) (by omega), ?_⟩
    · unfold fRn; rw [if_pos ⟨h0, h1⟩]
    · have := h.b2 (a := 1098 + 4 * k.toNat) (by omega) (by omega) (by omega)
      rw [show eU 1089 k = 1098 + 4 * k.toNat + 1 by unfold eU; omega]
      exact this
theorem Wf.lo {M : XM} (h : Wf M) {e : Nat} (he : isEn e) {k : Int} (h0 : 0 ≤ k) (h1 : k < 256) : mR M (e + 2) k = e + 11 + 4 * k.toNat ∧ isB M (e + 11 + 4 * k.toNat) (eW e k) := by
  have hk : k.toNat < 256 := by omega
  rcases he with rfl | rfl
  · refine ⟨h.r (show fRn 67 k = _ from ?_) (by omega), ?_⟩
    · unfold fRn; rw [if_pos ⟨h0, h1⟩]
    · have := h.b1 (a := 67 + 4 * k.toNat) (by omega) (by omega) (by omega)
      rw [show eW 56 k = 67 + 4 * k.toNat + 1 by unfold eW; omega]
      exact this
  · refine ⟨h.r (show fRn 1100 k = _ from ?_) (by omega), ?_⟩
    · unfold fRn; rw [if_pos ⟨h0, h1⟩]
    · have := h.b2 (a := 1100 + 4 * k.toNat) (by omega) (by omega) (by omega)
      rw [show eW 1089 k = 1100 + 4 * k.toNat + 1 by unfold eW; omega]
      exact this
/-- the fixed parts of ends -/
theorem Wf.en {M : XM} (h : Wf M) {e : Nat} (he : isEn e) : (mS M e).1 = 4 ∧ (mR M e 0 = e + 1 ∧ mR M e 1 = e + 2 ∧ mR M e 2 = e + 3 ∧ mR M e 3 = e + 5 ∧ mR M e 4 = e + 7 ∧ mR M e 5 = e + 8 ∧ mR M e 8 = 40) ∧ isB M (e + 3) (e + 4) ∧ isB M (e + 5) (e + 6) ∧ mS M (e + 1) = (106, 256) ∧ mS M (e + 2) = (106, 256) ∧ mS M (e + 7) = (101, 256) ∧ mS M (e + 8) = (101, 256) := by
  rcases he with rfl | rfl
  · exact ⟨h.k rfl (by decide) (by decide), ⟨r_56_0 h, r_56_1 h, r_56_2 h, r_56_3 h, r_56_4 h, r_56_5 h, r_56_8 h⟩, ⟨h.k rfl (by decide) (by decide), r_59_0 h, h.2.1 60 (by decide) (by decide)⟩, ⟨h.k rfl (by decide) (by decide), r_61_0 h, h.2.1 62 (by decide) (by decide)⟩, h.2.1 57 (by decide) (by decide), h.2.1 58 (by decide) (by decide), h.2.1 63 (by decide) (by decide), h.2.1 64 (by decide) (by decide)⟩
  · exact ⟨h.k rfl (by decide) (by decide), ⟨r_1089_0 h, r_1089_1 h, r_1089_2 h, r_1089_3 h, r_1089_4 h, r_1089_5 h, r_1089_8 h⟩, ⟨h.k rfl (by decide) (by decide), r_1092_0 h, h.2.1 1093 (by decide) (by decide)⟩, ⟨h.k rfl (by decide) (by decide), r_1094_0 h, h.2.1 1095 (by decide) (by decide)⟩, h.2.1 1090 (by decide) (by decide), h.2.1 1091 (by decide) (by decide), h.2.1 1096 (by decide) (by decide), h.2.1 1097 (by decide) (by decide)⟩
/-- what a place of the square holds: whether there, upper, lower, whether open -/
abbrev EN : Type := Int × Int × Int × Int
def okEN (x : EN) : Prop := 0 < x.2.1 ∧ 0 < x.2.2.1 ∧ (x.2.2.2 = 0 ∨ x.2.2.2 = 1)
/-- the square in the memory -/
def MX (M : XM) (e : Nat) (D : Int → EN) : Prop := ∀ k : Int, 0 ≤ k → k < 256 → mI M (e + 7) k = (D k).1 ∧ ((D k).1 = 0 ∨ (D k).1 = 1) ∧ ((D k).1 = 1 → (isD (mI M (eU e k)) ∧ bv (mI M (eU e k)) = (D k).2.1) ∧ (isD (mI M (eW e k)) ∧ bv (mI M (eW e k)) = (D k).2.2.1) ∧ mI M (e + 8) k = (D k).2.2.2 ∧ okEN (D k))
/-- nothing else is touched: but two numbers of the system and the ends' own cells -/
def Fe (e : Nat) (M M1 : XM) : Prop := mS M1 = mS M ∧ mJ M1 = mJ M ∧ mR M1 = mR M ∧ mN M1 = mN M ∧ mU M1 = mU M ∧ ∀ a, a ≠ 43 → a ≠ 45 → ¬ (e ≤ a ∧ a < e + 1033) → mI M1 a = mI M a
theorem Fe.rf {e : Nat} {M : XM} : Fe e M M := ⟨rfl, rfl, rfl, rfl, rfl, fun _ _ _ _ => rfl⟩
theorem Fe.tr {e : Nat} {M M1 M2 : XM} (h : Fe e M M1) (h2 : Fe e M1 M2) : Fe e M M2 :=
  ⟨h2.1.trans h.1, h2.2.1.trans h.2.1, h2.2.2.1.trans h.2.2.1, h2.2.2.2.1.trans h.2.2.2.1, h2.2.2.2.2.1.trans h.2.2.2.2.1, fun a a1 a2 a3 => (h2.2.2.2.2.2 a a1 a2 a3).trans (h.2.2.2.2.2 a a1 a2 a3)⟩
theorem Fe.sI {e : Nat} {M M1 : XM} (h : Fe e M M1) {a : Nat} (f : Int → Int) (ha : a = 43 ∨ a = 45 ∨ (e ≤ a ∧ a < e + 1033)) : Fe e M (wI M1 a f) :=
  ⟨h.1, h.2.1, h.2.2.1, h.2.2.2.1, h.2.2.2.2.1, fun b b1 b2 b3 => by
    rw [mI_wI, up_n _ _ (fun z => by subst z; rcases ha with q | q | q; exact b1 q; exact b2 q; exact b3 q)]
    exact h.2.2.2.2.2 b b1 b2 b3⟩
theorem Fe.wf {e : Nat} {M M1 : XM} (h : Fe e M M1) (hW : Wf M) : Wf M1 := by
  unfold Wf at hW ⊢
  rw [h.1, h.2.2.1, h.2.2.2.1]
  exact hW
/-- an end that is tried -/
def mBet (D : Int → EN) (k : Int) (x : EN) : Prop := (D k).1 = 0 ∨ x.2.1 * (D k).2.2.1 > (D k).2.1 * x.2.2.1 ∨ (x.2.1 * (D k).2.2.1 = (D k).2.1 * x.2.2.1 ∧ (D k).2.2.2 = 0 ∧ x.2.2.2 = 1)
noncomputable def mCom (D : Int → EN) (k : Int) (x : EN) : Int → EN := xc_w (mBet D k x) (ui D k x) D
theorem MX.acc {M : XM} {e : Nat} {D : Int → EN} (hM : MX M e D) {k : Int} (h0 : 0 ≤ k) {X : EN} (hX : okEN X) (hX1 : X.1 = 1) {fu fw : Int → Int} (hu : isD fu ∧ bv fu = X.2.1) (hw : isD fw ∧ bv fw = X.2.2.1) :
    MX (wI (wI (wI (wI M (e + 7) (ui (mI M (e + 7)) k 1)) (eU e k) fu) (eW e k) fw) (e + 8) (ui (mI M (e + 8)) k X.2.2.2)) e (ui D k X) := by
  intro j j0 j1
  have q7 : mI (wI (wI (wI (wI M (e + 7) (ui (mI M (e + 7)) k 1)) (eU e k) fu) (eW e k) fw) (e + 8) (ui (mI M (e + 8)) k X.2.2.2)) (e + 7) = ui (mI M (e + 7)) k 1 := by
    rw [mI_wI, up_n _ _ (by omega), mI_wI, up_n _ _ (by unfold eW; omega), mI_wI, up_n _ _ (by unfold eU; omega), mI_wI, up_s]
  have q8 : mI (wI (wI (wI (wI M (e + 7) (ui (mI M (e + 7)) k 1)) (eU e k) fu) (eW e k) fw) (e + 8) (ui (mI M (e + 8)) k X.2.2.2)) (e + 8) = ui (mI M (e + 8)) k X.2.2.2 := by
    rw [mI_wI, up_s]
  rw [q7, q8]
  by_cases hj : j = k
  · subst hj
    rw [ui_s, ui_s, ui_s, hX1]
    refine ⟨rfl, Or.inr rfl, fun _ => ⟨?_, ?_, rfl, hX⟩⟩
    · rw [mI_wI, up_n _ _ (by unfold eU; omega), mI_wI, up_n _ _ (by unfold eU eW; omega), mI_wI, up_s]; exact hu
    · rw [mI_wI, up_n _ _ (by unfold eW; omega), mI_wI, up_s]; exact hw
  · have hn : j.toNat ≠ k.toNat := by omega
    rw [ui_n _ _ hj, ui_n _ _ hj, ui_n _ _ hj]
    have r1 : mI (wI (wI (wI (wI M (e + 7) (ui (mI M (e + 7)) k 1)) (eU e k) fu) (eW e k) fw) (e + 8) (ui (mI M (e + 8)) k X.2.2.2)) (eU e j) = mI M (eU e j) := by
      rw [mI_wI, up_n _ _ (by unfold eU; omega), mI_wI, up_n _ _ (by unfold eU eW; omega), mI_wI, up_n _ _ (by unfold eU; omega), mI_wI, up_n _ _ (by unfold eU; omega)]
    have r2 : mI (wI (wI (wI (wI M (e + 7) (ui (mI M (e + 7)) k 1)) (eU e k) fu) (eW e k) fw) (e + 8) (ui (mI M (e + 8)) k X.2.2.2)) (eW e j) = mI M (eW e j) := by
      rw [mI_wI, up_n _ _ (by unfold eW; omega), mI_wI, up_n _ _ (by unfold eW; omega), mI_wI, up_n _ _ (by unfold eU eW; omega), mI_wI, up_n _ _ (by unfold eW; omega)]
    rw [r1, r2]
    exact hM j j0 j1
/-- the square is blind to other cells -/
theorem MX.kp {M M1 : XM} {e : Nat} {D : Int → EN} (hM : MX M e D) (h : ∀ a, (a = e + 7 ∨ a = e + 8 ∨ e + 9 ≤ a ∧ a < e + 1033) → mI M1 a = mI M a) : MX M1 e D := by
  intro j j0 j1
  have hj : j.toNat < 256 := by omega
  rw [h (e + 7) (by omega), h (e + 8) (by omega), h (eU e j) (by unfold eU; omega), h (eW e j) (by unfold eW; omega)]
  exact hM j j0 j1
theorem isEn.lo {e : Nat} (h : isEn e) : 46 ≤ e ∧ e + 1033 ≤ 2122 := by rcases h with rfl | rfl <;> omega
theorem c_91 (d e : Nat) (k : Int) (M : XM) (D : Int → EN) (X : EN) (hW : Wf M) (he : isEn e) (hM : MX M e D) (h0 : 0 ≤ k) (h1 : k < 256) (ht : isD (mI M (e + 4)) ∧ bv (mI M (e + 4)) = X.2.1) (hb : isD (mI M (e + 6)) ∧ bv (mI M (e + 6)) = X.2.2.1) (hX : okEN X) (hX1 : X.1 = 1)
    (hv1 : (D k).1 = 1 → X.2.1 * (D k).2.2.1 < pw 7) (hv2 : (D k).1 = 1 → (D k).2.1 * X.2.2.1 < pw 7) :
    Ct (d + 2) 91 [vR e, vI k, vI X.2.2.2] M (RV fun M1 => Fe e M M1 ∧ MX M1 e (mCom D k X) ∧ mI M1 e = mI M e) := by
  have hlo := he.lo
  -- what is done when it stays
  have acc : ∀ M2 : XM, Fe e M M2 → MX M2 e D → mI M2 (e + 4) = mI M (e + 4) → mI M2 (e + 6) = mI M (e + 6) → mI M2 e = mI M e → mBet D k X → ∀ z : XL,
      Ev (d + 2) 91 (89, (0, vR e) :: (1, vI k) :: (2, vI X.2.2.2) :: z, []) M2 (RV fun M1 => Fe e M M1 ∧ MX M1 e (mCom D k X) ∧ mI M1 e = mI M e) := by
    intro M2 hF hM2 q4 q6 q0 hB z
    have hW2 := hF.wf hW
    have hE := hW2.en he
    obtain ⟨u1, u2⟩ := hW2.up he h0 h1
    obtain ⟨w1, w2⟩ := hW2.lo he h0 h1
    refine ev_t rfl ?_
    refine sv_fr 0 200 rfl rfl hE.2.1.2.2.2.2.1 hE.1 ?_
    refine ev_t rfl ?_
    refine ev_t rfl ?_
    refine ev_g rfl ⟨gAr hE.2.2.2.2.2.2.1 h0 h1, Or.inr rfl⟩ ?_
    refine ev_t rfl ?_
    refine sv_fr 0 200 rfl rfl hE.2.1.1 hE.1 ?_
    refine ev_t rfl ?_
    refine sv_fr 0 200 rfl rfl u1 (gAr hE.2.2.2.2.1 h0 h1) ?_
    refine ev_t rfl ?_
    refine sv_fr 0 200 rfl rfl hE.2.1.2.2.1 hE.1 ?_
    refine ev_cv rfl u2.1 (c_79 _ _ _ (e + 3) (e + 4) _ u2 hE.2.2.1) (fun M3 h => ?_)
    obtain ⟨fu, rfl, hfu⟩ := h
    have z4 : mI (wI M2 (e + 7) (ui (mI M2 (e + 7)) k 1)) (e + 4) = mI M (e + 4) := by rw [mI_wI, up_n _ _ (by omega), q4]
    rw [z4] at hfu
    refine ev_t rfl ?_
    refine sv_fr 0 200 rfl rfl hE.2.1.2.1 hE.1 ?_
    refine ev_t rfl ?_
    refine sv_fr 0 200 rfl rfl w1 (gAr hE.2.2.2.2.2.1 h0 h1) ?_
    refine ev_t rfl ?_
    refine sv_fr 0 200 rfl rfl hE.2.1.2.2.2.1 hE.1 ?_
    refine ev_cv rfl w2.1 (c_79 _ _ _ (e + 5) (e + 6) _ w2 hE.2.2.2.1) (fun M4 h => ?_)
    obtain ⟨fw, rfl, hfw⟩ := h
    have z6 : mI (wI (wI M2 (e + 7) (ui (mI M2 (e + 7)) k 1)) (eU e k) fu) (e + 6) = mI M (e + 6) := by rw [mI_wI, up_n _ _ (by unfold eU; omega), mI_wI, up_n _ _ (by omega), q6]
    rw [z6] at hfw
    refine ev_t rfl ?_
    refine sv_fr 0 200 rfl rfl hE.2.1.2.2.2.2.2.1 hE.1 ?_
    refine ev_t rfl ?_
    refine ev_t rfl ?_
    refine ev_g rfl ⟨gAr hE.2.2.2.2.2.2.2 h0 h1, hX.2.2⟩ ?_
    have z8 : mI (wI (wI (wI M2 (e + 7) (ui (mI M2 (e + 7)) k 1)) (eU e k) fu) (eW e k) fw) (e + 8) = mI M2 (e + 8) := by
      rw [mI_wI, up_n _ _ (by unfold eW; omega), mI_wI, up_n _ _ (by unfold eU; omega), mI_wI, up_n _ _ (by omega)]
    rw [z8]
    refine ev_r rfl trivial ⟨rfl, ?_, ?_, ?_⟩
    · exact (((hF.sI _ (by omega)).sI _ (by unfold eU; omega)).sI _ (by unfold eW; omega)).sI _ (by omega)
    · rw [show mCom D k X = ui D k X from xc_t hB]
      exact hM2.acc h0 hX hX1 ⟨isD_cong hfu ht.1, by rw [bv_cong hfu]; exact ht.2⟩ ⟨isD_cong hfw hb.1, by rw [bv_cong hfw]; exact hb.2⟩
    · rw [mI_wI, up_n _ _ (by omega), mI_wI, up_n _ _ (by unfold eW; omega), mI_wI, up_n _ _ (by unfold eU; omega), mI_wI, up_n _ _ (by omega), q0]
  have hE := hW.en he
  obtain ⟨m1, m2, m3⟩ := hM k h0 h1
  unfold Ct
  refine ev_t rfl ?_
  refine sv_fr 0 200 rfl rfl hE.2.1.2.2.2.2.1 hE.1 ?_
  refine ev_t rfl ?_
  refine ev_g rfl (gAr hE.2.2.2.2.2.2.1 h0 h1) ?_
  rw [m1]
  refine sv_b 0 200 rfl rfl (fun c => ?_) (fun c => ?_)
  · have c1 : (D k).1 = 0 := c
    exact acc M Fe.rf hM rfl rfl rfl (Or.inl c1) []
  · have c1 : (D k).1 = 1 := m2.resolve_left c
    obtain ⟨⟨du, vu⟩, ⟨dw, vw⟩, mo, mk⟩ := m3 c1
    obtain ⟨u1, u2⟩ := hW.up he h0 h1
    obtain ⟨w1, w2⟩ := hW.lo he h0 h1
    refine ev_t rfl ?_
    refine sv_fr 0 200 rfl rfl hE.2.1.2.2.2.2.2.2 hE.1 ?_
    refine sv_fr 0 200 rfl rfl (r_40_2 hW) (hW.k rfl (by decide) (by decide)) ?_
    refine ev_t rfl ?_
    refine sv_fr 0 200 rfl rfl hE.2.1.2.2.1 hE.1 ?_
    refine ev_t rfl ?_
    refine sv_fr 0 200 rfl rfl hE.2.1.2.1 hE.1 ?_
    refine ev_t rfl ?_
    refine sv_fr 0 200 rfl rfl w1 (gAr hE.2.2.2.2.2.1 h0 h1) ?_
    refine ev_cv rfl (hW.k rfl (by decide) (by decide)) (c_77 _ 42 43 (e + 4) (eW e k) _ _ M (one_B hW) hE.2.2.1 w2 (by omega) (by unfold eW; omega) (by decide) ht.1 dw (by rw [ht.2, vw]; exact hv1 c1)) (fun M1 h => ?_)
    obtain ⟨f1, rfl, hf1, vf1⟩ := h
    rw [ht.2, vw] at vf1
    have hW1 : Wf (wI M 43 f1) := hW
    refine ev_t rfl ?_
    refine sv_fr 0 200 rfl rfl hE.2.1.2.2.2.2.2.2 hE.1 ?_
    refine sv_fr 0 200 rfl rfl (r_40_3 hW1) (hW1.k rfl (by decide) (by decide)) ?_
    refine ev_t rfl ?_
    refine sv_fr 0 200 rfl rfl hE.2.1.1 hE.1 ?_
    refine ev_t rfl ?_
    refine sv_fr 0 200 rfl rfl u1 (gAr hE.2.2.2.2.1 h0 h1) ?_
    refine ev_t rfl ?_
    refine sv_fr 0 200 rfl rfl hE.2.1.2.2.2.1 hE.1 ?_
    have y1 : mI (wI M 43 f1) (eU e k) = mI M (eU e k) := by rw [mI_wI, up_n _ _ (by unfold eU; omega)]
    have y2 : mI (wI M 43 f1) (e + 6) = mI M (e + 6) := by rw [mI_wI, up_n _ _ (by omega)]
    refine ev_cv rfl (hW1.k rfl (by decide) (by decide)) (c_77 _ 44 45 (eU e k) (e + 6) _ _ (wI M 43 f1) (two_B hW1) u2 hE.2.2.2.1 (by unfold eU; omega) (by omega) (by decide) (by rw [y1]; exact du) (by rw [y2]; exact hb.1) (by rw [y1, y2, hb.2, vu]; exact hv2 c1)) (fun M1 h => ?_)
    obtain ⟨f2, rfl, hf2, vf2⟩ := h
    rw [y1, y2, hb.2, vu] at vf2
    have hW2 : Wf (wI (wI M 43 f1) 45 f2) := hW
    have y3 : mI (wI (wI M 43 f1) 45 f2) 43 = f1 := by rw [mI_wI, up_n _ _ (by decide), mI_wI, up_s]
    have y4 : mI (wI (wI M 43 f1) 45 f2) 45 = f2 := by rw [mI_wI, up_s]
    have hF2 : Fe e M (wI (wI M 43 f1) 45 f2) := (Fe.rf.sI _ (Or.inl rfl)).sI _ (Or.inr (Or.inl rfl))
    have ne2 : ∀ a, a ≠ 43 → a ≠ 45 → mI (wI (wI M 43 f1) 45 f2) a = mI M a := fun a a1 a2 => by rw [mI_wI, up_n _ _ a2, mI_wI, up_n _ _ a1]
    have hM2 : MX (wI (wI M 43 f1) 45 f2) e D := hM.kp (fun a ha => ne2 a (by omega) (by omega))
    refine ev_t rfl ?_
    refine sv_fr 0 200 rfl rfl hE.2.1.2.2.2.2.2.2 hE.1 ?_
    refine sv_fr 0 200 rfl rfl (r_40_2 hW2) (hW2.k rfl (by decide) (by decide)) ?_
    refine ev_t rfl ?_
    refine sv_fr 0 200 rfl rfl hE.2.1.2.2.2.2.2.2 hE.1 ?_
    refine sv_fr 0 200 rfl rfl (r_40_3 hW2) (hW2.k rfl (by decide) (by decide)) ?_
    refine sv_cp 0 200 rfl rfl (c_78 _ 42 43 44 45 _ (one_B hW2) (two_B hW2) (by rw [y3]; exact hf1) (by rw [y4]; exact hf2)) (hW2.k rfl (by decide) (by decide)) ?_
    rw [y3, y4, vf1, vf2]
    have acc2 := fun hB z => acc _ hF2 hM2 (ne2 _ (by omega) (by omega)) (ne2 _ (by omega) (by omega)) (ne2 _ (by omega) (by omega)) hB z
    have rej : ¬ mBet D k X → ∀ z : XL, Ev (d + 2) 91 (88, (0, vR e) :: (1, vI k) :: (2, vI X.2.2.2) :: z, []) (wI (wI M 43 f1) 45 f2) (RV fun M1 => Fe e M M1 ∧ MX M1 e (mCom D k X) ∧ mI M1 e = mI M e) := by
      intro hB z
      refine ev_r rfl trivial ⟨rfl, hF2, ?_, ne2 _ (by omega) (by omega)⟩
      rw [show mCom D k X = D from xc_f hB]
      exact hM2
    refine ev_t rfl ?_
    refine ev_t rfl ?_
    refine sv_b 0 200 rfl rfl (fun c2 => ?_) (fun c2 => ?_)
    · have c3 : sg (X.2.1 * (D k).2.2.1 - (D k).2.1 * X.2.2.1) < 0 := c2
      have c4 : X.2.1 * (D k).2.2.1 < (D k).2.1 * X.2.2.1 := by unfold sg at c3; split at c3; omega; split at c3 <;> omega
      refine rej ?_ _
      rintro (z | z | ⟨z, -⟩)
      · exact c z
      · omega
      · omega
    · have c3 : ¬ sg (X.2.1 * (D k).2.2.1 - (D k).2.1 * X.2.2.1) < 0 := c2
      refine ev_t rfl ?_
      refine sv_b 0 200 rfl rfl (fun c4 => ?_) (fun c4 => ?_)
      · have c5 : sg (X.2.1 * (D k).2.2.1 - (D k).2.1 * X.2.2.1) ≠ 0 := c4
        have c6 : X.2.1 * (D k).2.2.1 > (D k).2.1 * X.2.2.1 := by unfold sg at c3 c5; split at c3; omega; split at c5 <;> omega
        exact acc2 (Or.inr (Or.inl c6)) _
      · have c5 : sg (X.2.1 * (D k).2.2.1 - (D k).2.1 * X.2.2.1) = 0 := Classical.byContradiction fun z => c4 z
        have c6 : X.2.1 * (D k).2.2.1 = (D k).2.1 * X.2.2.1 := by unfold sg at c5; split at c5; omega; split at c5 <;> omega
        refine ev_t rfl ?_
        refine sv_fr 0 200 rfl rfl hE.2.1.2.2.2.2.2.1 hE.1 ?_
        refine ev_t rfl ?_
        refine ev_g rfl (gAr hE.2.2.2.2.2.2.2 h0 h1) ?_
        rw [ne2 (e + 8) (by omega) (by omega), mo]
        refine sv_b 0 200 rfl rfl (fun c7 => ?_) (fun c7 => ?_)
        · have c8 : (D k).2.2.2 ≠ 0 := c7
          refine rej ?_ _
          rintro (z | z | ⟨-, z, -⟩)
          · exact c z
          · omega
          · exact c8 z
        · have c8 : (D k).2.2.2 = 0 := Classical.byContradiction fun z => c7 z
          refine ev_t rfl ?_
          refine sv_b 0 200 rfl rfl (fun c9 => ?_) (fun c9 => ?_)
          · have c10 : X.2.2.2 ≠ 0 := c9
            exact acc2 (Or.inr (Or.inr ⟨c6, c8, hX.2.2.resolve_left c10⟩)) _
          · have c10 : X.2.2.2 = 0 := Classical.byContradiction fun z => c9 z
            refine rej ?_ _
            rintro (z | z | ⟨-, -, z⟩)
            · exact c z
            · omega
            · omega
