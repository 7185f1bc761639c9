/-! CONTRACTS, 13: the ties of an entry -/
/-- the numbers of the square are small -/
def smD (D : Int → EN) : Prop := ∀ k : Int, 0 ≤ k → k < 256 → (D k).1 = 1 → (D k).2.1 < 1000 ∧ (D k).2.2.1 < 1000
theorem smD.com {D : Int → EN} (h : smD D) {k : Int} {X : EN} (h1 : X.2.1 < 1000) (h2 : X.2.2.1 < 1000) : smD (mCom D k X) := by
  intro j j0 j1
  by_cases hb : mBet D k X
  · rw [show mCom D k X = ui D k X from xc_t hb]
    unfold ui
    split
    · intro _; exact ⟨h1, h2⟩
    · exact h j j0 j1
  · rw [show mCom D k X = D from xc_f hb]
    exact h j j0 j1
theorem sm_pw {x y : Int} (h0 : 0 < x) (h1 : x < 1000) (h2 : 0 < y) (h3 : y < 1000) : x * y < pw 7 := by
  have h4 : x * y ≤ 999 * y := Int.mul_le_mul_of_nonneg_right (by omega) (by omega)
  rw [pw7]
  omega
/-- a tie that comes: c_90 for small numbers -/
theorem c_90s (d e : Nat) (a b u w o : Int) (M : XM) (D : Int → EN) (hW : Wf M) (he : isEn e) (hM : MX M e D) (hs : smD D) (ha0 : 0 ≤ a) (ha1 : a < 16) (hb0 : 0 ≤ b) (hb1 : b < 16) (hu0 : 0 < u) (hu1 : u < 1000) (hw0 : 0 < w) (hw1 : w < 1000) (ho : o = 0 ∨ o = 1) :
    Ct (d + 3) 90 [vR e, vI a, vI b, vI u, vI w, vI o] M (RV fun M1 => Fe e M M1 ∧ (MX M1 e (mCom D (16 * a + b) (1, u, w, o)) ∧ smD (mCom D (16 * a + b) (1, u, w, o))) ∧ mI M1 e = mI M e) := by
  have q : 0 ≤ 16 * a + b ∧ 16 * a + b < 256 := by omega
  have k0 := c_90 d e a b u w o M D hW he hM ha0 ha1 hb0 hb1 hu0 hu1 hw0 hw1 ho
    (fun t => sm_pw hu0 hu1 ((hM _ q.1 q.2).2.2 t).2.2.2.2.1 (hs _ q.1 q.2 t).2)
    (fun t => sm_pw ((hM _ q.1 q.2).2.2 t).2.2.2.1 (hs _ q.1 q.2 t).1 hw0 hw1)
  refine Ev.mono k0 (fun o1 M1 h => ?_)
  obtain ⟨h0, h1, h2, h3⟩ := h
  exact ⟨h0, h1, ⟨h2, hs.com hu1 hw1⟩, h3⟩
