/-! CONTRACTS, 9: ends along ways: the cells -/
abbrev isEn (e : Nat) : Prop := e = 56 ∨ e = 1089
theorem Wf.b1 {M : XM} (h : Wf M) {a : Nat} (h1 : 65 ≤ a) (h2 : a < 1089) (h3 : a % 2 = 1) : isB M a (a + 1) := by
  have e1 : fS a = (2, 0) := by unfold fS; rw [if_pos (by omega), if_neg (by omega), if_pos h2]; unfold fSb; rw [if_neg (by omega)]
  have e2 : fS (a + 1) = (100, 7) := by
    unfold fS
    rw [if_pos (by omega), if_neg (by omega), if_pos (by omega)]; unfold fSb; rw [if_pos (by omega)]
  have e3 : fR a 0 = a + 1 := by
    unfold fR
    rw [if_neg (by omega), if_neg (by omega), if_neg (by omega), if_neg (by omega), if_neg (by omega), if_pos (by omega), if_neg (by omega), if_pos h2]
    unfold fRb
    rw [if_neg (by omega), if_pos rfl]
  exact ⟨h.k e1 (by omega) (by omega), h.r e3 (by omega), by rw [h.2.1 (a + 1) (by omega) (by omega), e2]⟩
theorem Wf.b2 {M : XM} (h : Wf M) {a : Nat} (h1 : 1098 ≤ a) (h2 : a < 2122) (h3 : a % 2 = 0) : isB M a (a + 1) := by
  have e1 : fS a = (2, 0) := by unfold fS; rw [if_neg (by omega), if_pos (by omega), if_pos h2]; unfold fSc; rw [if_pos h3]
  have e2 : fS (a + 1) = (100, 7) := by
    unfold fS
    rw [if_neg (by omega), if_pos (by omega), if_pos (by omega)]; unfold fSc; rw [if_neg (by omega)]
  have e3 : fR a 0 = a + 1 := by
    unfold fR
    rw [if_neg (by omega), if_neg (by omega), if_neg (by omega), if_neg (by omega), if_neg (by omega), if_neg (by omega), if_pos (by omega), if_pos h2]
    unfold fRc
    rw [if_pos h3, if_pos rfl]
  exact ⟨h.k e1 (by omega) (by omega), h.r e3 (by omega), by rw [h.2.1 (a + 1) (by omega) (by omega), e2]⟩
abbrev eU (e : Nat) (k : Int) : Nat := e + 10 + 4 * k.toNat
abbrev eW (e : Nat) (k : Int) : Nat := e + 12 + 4 * k.toNat
theorem Wf.up {M : XM} (h : Wf M) {e : Nat} (he : isEn e) {k : Int} (h0 : 0 ≤ k) (h1 : k < 256) : mR M (e + 1) k = e + 9 + 4 * k.toNat ∧ isB M (e + 9 + 4 * k.toNat) (eU e k) := by
  have hk : k.toNat < 256 := by omega
  rcases he with rfl | rfl
  · refine ⟨h.r (show fRn 65 k = _ from ?_) (by omega), ?_⟩
    · unfold fRn; rw [if_pos ⟨h0, h1⟩]
    · have := h.b1 (a := 65 + 4 * k.toNat) (by omega) (by omega) (by omega)
      rw [show eU 56 k = 65 + 4 * k.toNat + 1 by unfold eU; omega]
      exact this
  · refine ⟨h.r (show fRn 1098 k = _ from ?_) (by omega), ?_⟩
    · unfold fRn; rw [if_pos ⟨h0, h1⟩]
    · have := h.b2 (a := 1098 + 4 * k.toNat) (by omega) (by omega) (by omega)
      rw [show eU 1089 k = 1098 + 4 * k.toNat + 1 by unfold eU; omega]
      exact this
theorem Wf.lo {M : XM} (h : Wf M) {e : Nat} (he : isEn e) {k : Int} (h0 : 0 ≤ k) (h1 : k < 256) : mR M (e + 2) k = e + 11 + 4 * k.toNat ∧ isB M (e + 11 + 4 * k.toNat) (eW e k) := by
  have hk : k.toNat < 256 := by omega
  rcases he with rfl | rfl
  · refine ⟨h.r (show fRn 67 k = _ from ?_) (by omega), ?_⟩
    · unfold fRn; rw [if_pos ⟨h0, h1⟩]
    · have := h.b1 (a := 67 + 4 * k.toNat) (by omega) (by omega) (by omega)
      rw [show eW 56 k = 67 + 4 * k.toNat + 1 by unfold eW; omega]
      exact this
  · refine ⟨h.r (show fRn 1100 k = _ from ?_) (by omega), ?_⟩
    · unfold fRn; rw [if_pos ⟨h0, h1⟩]
    · have := h.b2 (a := 1100 + 4 * k.toNat) (by omega) (by omega) (by omega)
      rw [show eW 1089 k = 1100 + 4 * k.toNat + 1 by unfold eW; omega]
      exact this
/-- the fixed parts of ends -/
theorem Wf.en {M : XM} (h : Wf M) {e : Nat} (he : isEn e) : (mS M e).1 = 4 ∧ (mR M e 0 = e + 1 ∧ mR M e 1 = e + 2 ∧ mR M e 2 = e + 3 ∧ mR M e 3 = e + 5 ∧ mR M e 4 = e + 7 ∧ mR M e 5 = e + 8 ∧ mR M e 8 = 40) ∧ isB M (e + 3) (e + 4) ∧ isB M (e + 5) (e + 6) ∧ mS M (e + 1) = (106, 256) ∧ mS M (e + 2) = (106, 256) ∧ mS M (e + 7) = (101, 256) ∧ mS M (e + 8) = (101, 256) := by
  rcases he with rfl | rfl
  · exact ⟨h.k rfl (by decide) (by decide), ⟨r_56_0 h, r_56_1 h, r_56_2 h, r_56_3 h, r_56_4 h, r_56_5 h, r_56_8 h⟩, ⟨h.k rfl (by decide) (by decide), r_59_0 h, h.2.1 60 (by decide) (by decide)⟩, ⟨h.k rfl (by decide) (by decide), r_61_0 h, h.2.1 62 (by decide) (by decide)⟩, h.2.1 57 (by decide) (by decide), h.2.1 58 (by decide) (by decide), h.2.1 63 (by decide) (by decide), h.2.1 64 (by decide) (by decide)⟩
  · exact ⟨h.k rfl (by decide) (by decide), ⟨r_1089_0 h, r_1089_1 h, r_1089_2 h, r_1089_3 h, r_1089_4 h, r_1089_5 h, r_1089_8 h⟩, ⟨h.k rfl (by decide) (by decide), r_1092_0 h, h.2.1 1093 (by decide) (by decide)⟩, ⟨h.k rfl (by decide) (by decide), r_1094_0 h, h.2.1 1095 (by decide) (by decide)⟩, h.2.1 1090 (by decide) (by decide), h.2.1 1091 (by decide) (by decide), h.2.1 1096 (by decide) (by decide), h.2.1 1097 (by decide) (by decide)⟩
/-- what a place of the square holds: whether there, upper, lower, whether open -/
abbrev EN : Type := Int × Int × Int × Int
def okEN (x : EN) : Prop := 0 < x.2.1 ∧ 0 < x.2.2.1 ∧ (x.2.2.2 = 0 ∨ x.2.2.2 = 1)
/-- the square in the memory -/
def MX (M : XM) (e : Nat) (D : Int → EN) : Prop := ∀ k : Int, 0 ≤ k → k < 256 → mI M (e + 7) k = (D k).1 ∧ ((D k).1 = 0 ∨ (D k).1 = 1) ∧ ((D k).1 = 1 → (isD (mI M (eU e k)) ∧ bv (mI M (eU e k)) = (D k).2.1) ∧ (isD (mI M (eW e k)) ∧ bv (mI M (eW e k)) = (D k).2.2.1) ∧ mI M (e + 8) k = (D k).2.2.2 ∧ okEN (D k))
/-- nothing else is touched: but two numbers of the system and the ends' own cells -/
def Fe (e : Nat) (M M1 : XM) : Prop := mS M1 = mS M ∧ mJ M1 = mJ M ∧ mR M1 = mR M ∧ mN M1 = mN M ∧ mU M1 = mU M ∧ ∀ a, a ≠ 43 → a ≠ 45 → ¬ (e ≤ a ∧ a < e + 1033) → mI M1 a = mI M a
theorem Fe.rf {e : Nat} {M : XM} : Fe e M M := ⟨rfl, rfl, rfl, rfl, rfl, fun _ _ _ _ => rfl⟩
theorem Fe.tr {e : Nat} {M M1 M2 : XM} (h : Fe e M M1) (h2 : Fe e M1 M2) : Fe e M M2 :=
  ⟨h2.1.trans h.1, h2.2.1.trans h.2.1, h2.2.2.1.trans h.2.2.1, h2.2.2.2.1.trans h.2.2.2.1, h2.2.2.2.2.1.trans h.2.2.2.2.1, fun a a1 a2 a3 => (h2.2.2.2.2.2 a a1 a2 a3).trans (h.2.2.2.2.2 a a1 a2 a3)⟩
theorem Fe.sI {e : Nat} {M M1 : XM} (h : Fe e M M1) {a : Nat} (f : Int → Int) (ha : a = 43 ∨ a = 45 ∨ (e ≤ a ∧ a < e + 1033)) : Fe e M (wI M1 a f) :=
  ⟨h.1, h.2.1, h.2.2.1, h.2.2.2.1, h.2.2.2.2.1, fun b b1 b2 b3 => by
    rw [mI_wI, up_n _ _ (fun z => by subst z; rcases ha with q | q | q; exact b1 q; exact b2 q; exact b3 q)]
    exact h.2.2.2.2.2 b b1 b2 b3⟩
theorem Fe.wf {e : Nat} {M M1 : XM} (h : Fe e M M1) (hW : Wf M) : Wf M1 := by
  unfold Wf at hW ⊢
  rw [h.1, h.2.2.1, h.2.2.2.1]
  exact hW
/-- an end that is tried -/
def mBet (D : Int → EN) (k : Int) (x : EN) : Prop := (D k).1 = 0 ∨ x.2.1 * (D k).2.2.1 > (D k).2.1 * x.2.2.1 ∨ (x.2.1 * (D k).2.2.1 = (D k).2.1 * x.2.2.1 ∧ (D k).2.2.2 = 0 ∧ x.2.2.2 = 1)
noncomputable def mCom (D : Int → EN) (k : Int) (x : EN) : Int → EN := xc_w (mBet D k x) (ui D k x) D
