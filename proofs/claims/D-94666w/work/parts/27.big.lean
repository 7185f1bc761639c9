/-! CONTRACTS, 4: long numbers of the component -/
def pw : Nat → Int
  | 0 => 1
  | n + 1 => 1000000000 * pw n
def pv (f : Int → Int) : Nat → Int
  | 0 => 0
  | n + 1 => pv f n + f n * pw n
theorem pw_pos : ∀ n, 0 < pw n
  | 0 => by decide
  | n + 1 => by have := pw_pos n; show 0 < 1000000000 * pw n; omega
theorem pv_c {f g : Int → Int} : ∀ {n : Nat}, (∀ j : Int, 0 ≤ j → j < n → f j = g j) → pv f n = pv g n
  | 0, _ => rfl
  | n + 1, h => by
    show pv f n + f n * pw n = pv g n + g n * pw n
    rw [pv_c (n := n) (fun j h1 h2 => h j h1 (by omega)), h n (by omega) (by omega)]
theorem bCut_i {x : Int} (h1 : -2147483648 ≤ x) (h2 : x < 2147483648) : bCut x = x := by
  unfold bCut
  rw [Int64.toInt_toInt32, Int64.toInt_ofInt]
  rw [show x.bmod Int64.size = x from Int.bmod_eq_of_le (by show -(18446744073709551616 / 2 : Int) ≤ x; omega) (by show x < (18446744073709551616 + 1) / 2; omega)]
  exact Int.bmod_eq_of_le (by show -(4294967296 / 2 : Int) ≤ x; omega) (by show x < (4294967296 + 1) / 2; omega)
/-- nine figures in each place -/
def isD (f : Int → Int) : Prop := ∀ j : Int, 0 ≤ j → j < 7 → 0 ≤ f j ∧ f j < 1000000000
/-- the number -/
def bv (f : Int → Int) : Int := pv f 7
theorem pv_lt {f : Int → Int} : ∀ {n : Nat}, (∀ j : Int, 0 ≤ j → j < n → 0 ≤ f j ∧ f j < 1000000000) → 0 ≤ pv f n ∧ pv f n < pw n
  | 0, _ => ⟨Int.le_refl 0, show (0 : Int) < 1 by decide⟩
  | n + 1, h => by
    have h1 := pv_lt (n := n) (fun j h1 h2 => h j h1 (by omega))
    have h2 := h n (by omega) (by omega)
    have h3 := pw_pos n
    have h4 : f n * pw n ≤ 999999999 * pw n := Int.mul_le_mul_of_nonneg_right (by omega) (by omega)
    have h5 : 0 ≤ f n * pw n := Int.mul_nonneg h2.1 (by omega)
    show 0 ≤ pv f n + f n * pw n ∧ pv f n + f n * pw n < 1000000000 * pw n
    omega
abbrev isB (M : XM) (b p : Nat) : Prop := (mS M b).1 = 2 ∧ mR M b 0 = p ∧ mS M p = (100, 7)
theorem isB.g {M : XM} {b p : Nat} (h : isB M b p) {i : Int} (h1 : 0 ≤ i) (h2 : i < 7) : (mS M p).1 = 100 ∧ 0 ≤ i ∧ i < ((mS M p).2 : Int) := by rw [h.2.2]; exact ⟨rfl, h1, h2⟩
theorem t_76 (d b p : Nat) (x : Int) (M0 : XM) (hB : isB M0 b p) (Q : XO → XM → Prop) : ∀ (n : Nat) (i : Int) (f : Int → Int), i + n = 7 → 0 ≤ i → (∀ j, 0 ≤ j → j < i → f j = 0) →
    (∀ f : Int → Int, (∀ j, 0 ≤ j → j < 7 → f j = 0) → Ev d 76 (21, [(0, vR b), (1, vI x), (2, vI 7)], []) (wI M0 p f) Q) → Ev d 76 (2, [(0, vR b), (1, vI x), (2, vI i)], []) (wI M0 p f) Q := by
  intro n
  induction n with
  | zero =>
    intro i f hi h0 hz k
    obtain rfl : i = 7 := by omega
    refine ev_t rfl ?_
    refine ev_t rfl ?_
    refine sv_bt 0 100 rfl rfl (by decide) ?_
    exact k f hz
  | succ n ih =>
    intro i f hi h0 hz k
    refine ev_t rfl ?_
    refine ev_t rfl ?_
    refine sv_bf 0 100 rfl rfl (by show ¬ (7 ≤ i); omega) ?_
    refine ev_t rfl ?_
    refine sv_fr 0 100 rfl rfl hB.2.1 hB.1 ?_
    refine ev_t rfl ?_
    refine ev_t rfl ?_
    refine ev_g rfl (hB.g h0 (by omega)) ?_
    rw [wI_wI, mI_wI, up_s]
    refine ev_g rfl (by omega) ?_
    refine ev_t rfl ?_
    refine ih (i + 1) (ui f i 0) (by omega) (by omega) (fun j h1 h2 => ?_) k
    unfold ui
    split
    · rfl
    · exact hz j h1 (by omega)
theorem c_76 (d b p : Nat) (x : Int) (M : XM) (hB : isB M b p) (h1 : 0 ≤ x) (h2 : x < 1000000000) : Ct d 76 [vR b, vI x] M (RV fun M1 => ∃ f, M1 = wI M p f ∧ isD f ∧ bv f = x) := by
  unfold Ct
  refine ev_t rfl ?_
  refine ev_t rfl ?_
  refine ev_h (L1 := [(0, vR b), (1, vI x), (2, vI 0)]) rfl ?_
  have k0 := fun Q h => t_76 d b p x M hB Q 7 0 (mI M p) rfl (by decide) (fun j h1 h2 => by omega) h
  simp only [wI_self] at k0
  refine k0 _ (fun f hf => ?_)
  refine ev_t rfl ?_
  refine sv_fr 0 100 rfl rfl hB.2.1 hB.1 ?_
  refine ev_t rfl ?_
  refine ev_t rfl ?_
  refine ev_g rfl (hB.g (by decide) (by decide)) ?_
  rw [wI_wI, mI_wI, up_s]
  refine ev_r rfl trivial ⟨rfl, _, rfl, fun j h3 h4 => ?_, ?_⟩
  · unfold ui
    split
    · exact ⟨h1, h2⟩
    · rw [hf j h3 h4]; decide
  · have e0 : ∀ j : Int, j ≠ 0 → 0 ≤ j → j < 7 → ui f 0 x j = 0 := fun j h3 h4 h5 => by rw [ui_n _ _ h3]; exact hf j h4 h5
    show ((((((0 + ui f 0 x 0 * 1) + ui f 0 x 1 * _) + ui f 0 x 2 * _) + ui f 0 x 3 * _) + ui f 0 x 4 * _) + ui f 0 x 5 * _) + ui f 0 x 6 * _ = x
    rw [ui_s, e0 1 (by decide) (by decide) (by decide), e0 2 (by decide) (by decide) (by decide), e0 3 (by decide) (by decide) (by decide), e0 4 (by decide) (by decide) (by decide), e0 5 (by decide) (by decide) (by decide), e0 6 (by decide) (by decide) (by decide)]
    omega
theorem c_79 (d b p c q : Nat) (M : XM) (hB : isB M b p) (hC : isB M c q) : Ct d 79 [vR b, vR c] M (RV fun M1 => ∃ f, M1 = wI M p f ∧ (∀ j : Int, 0 ≤ j → j < 7 → f j = mI M q j)) := by
  unfold Ct
  refine ev_t rfl ?_
  refine sv_fr 0 100 rfl rfl hC.2.1 hC.1 ?_
  refine ev_t rfl ?_
  refine ev_t rfl ?_
  refine sv_fr 0 100 rfl rfl hB.2.1 hB.1 ?_
  refine ev_t rfl ?_
  refine ev_t rfl ?_
  refine ev_g rfl (by rw [hB.2.2, hC.2.2]; decide) ?_
  refine ev_r rfl trivial ⟨rfl, _, rfl, fun j h1 h2 => ?_⟩
  unfold cpy
  rw [if_pos ⟨h1, by omega⟩]
  congr 1
  omega
theorem t_80 (d b p : Nat) (x : Int) (M0 : XM) (hB : isB M0 b p) (hx0 : 0 ≤ x) (hx1 : x < 2147483648) (g0 : Int → Int) (hg : isD g0) (Q : XO → XM → Prop) : ∀ (n k : Nat) (c : Int) (f : Int → Int), k + n = 7 → 0 ≤ c → c ≤ x → isD f → (∀ j : Int, k ≤ j → j < 7 → f j = g0 j) → pv f k + c * pw k = x * pv g0 k →
    (∀ (f : Int → Int) (c : Int), isD f → 0 ≤ c → pv f 7 + c * pw 7 = x * pv g0 7 → Q oV (wI M0 p f)) → Ev d 80 (5, [(0, vR b), (1, vI x), (2, vL c), (4, vI k)], []) (wI M0 p f) Q := by
  intro n
  induction n with
  | zero =>
    intro k c f hk hc0 hc1 hf he hs kk
    obtain rfl : k = 7 := by omega
    refine ev_t rfl ?_
    refine ev_t rfl ?_
    refine sv_bt 0 100 rfl rfl (by decide) ?_
    exact ev_r rfl trivial (kk f c hf hc0 hs)
  | succ n ih =>
    intro k c f hk hc0 hc1 hf he hs kk
    have hd := hg k (by omega) (by omega)
    have hm : mI (wI M0 p f) p k = g0 k := by rw [mI_wI, up_s]; exact he k (by omega) (by omega)
    have hp0 : 0 ≤ g0 k * x := Int.mul_nonneg hd.1 hx0
    have hp1 : g0 k * x ≤ 999999999 * x := Int.mul_le_mul_of_nonneg_right (by omega) hx0
    refine ev_t rfl ?_
    refine ev_t rfl ?_
    refine sv_bf 0 100 rfl rfl (by show ¬ (7 ≤ (k : Int)); omega) ?_
    refine ev_t rfl ?_
    refine ev_t rfl ?_
    refine sv_fr 0 100 rfl rfl hB.2.1 hB.1 ?_
    refine ev_t rfl ?_
    refine ev_g rfl (hB.g (by omega) (by omega)) ?_
    rw [hm]
    refine ev_t rfl ?_
    refine ev_t rfl ?_
    refine ev_t rfl ?_
    refine ev_g rfl (by omega) ?_
    refine ev_g rfl (by omega) ?_
    refine ev_t rfl ?_
    refine ev_t rfl ?_
    refine sv_fr 0 100 rfl rfl hB.2.1 hB.1 ?_
    refine ev_t rfl ?_
    refine ev_t rfl ?_
    refine ev_t rfl ?_
    refine ev_g rfl (by omega) ?_
    refine ev_t rfl ?_
    refine ev_g rfl (hB.g (by omega) (by omega)) ?_
    rw [wI_wI, mI_wI, up_s]
    have hcut : bCut ((c + g0 k * x) % 1000000000) = (c + g0 k * x) % 1000000000 := bCut_i (by omega) (by omega)
    rw [hcut]
    refine ev_t rfl ?_
    refine ev_t rfl ?_
    refine ev_g rfl (by omega) ?_
    refine ev_t rfl ?_
    refine ev_g rfl (by omega) ?_
    refine ev_t rfl ?_
    have e9 : ((k + 1 : Nat) : Int) = (k : Int) + 1 := by omega
    have ih1 := ih (k + 1) ((c + g0 k * x) / 1000000000) (ui f k ((c + g0 k * x) % 1000000000)) (by omega) (by omega) (by omega) (fun j h1 h2 => ?_) (fun j h1 h2 => ?_) ?_ kk
    · rw [e9] at ih1
      exact ih1
    · unfold ui
      split
      · omega
      · exact hf j h1 h2
    · rw [ui_n _ _ (by omega)]
      exact he j (by omega) h2
    · have e1 : pv (ui f k ((c + g0 k * x) % 1000000000)) k = pv f k := pv_c (fun j h1 h2 => ui_n _ _ (by omega))
      show pv (ui f k ((c + g0 k * x) % 1000000000)) k + ui f k ((c + g0 k * x) % 1000000000) k * pw k + (c + g0 k * x) / 1000000000 * (1000000000 * pw k) = x * (pv g0 k + g0 k * pw k)
      rw [e1, ui_s]
      have e2 : (c + g0 k * x) % 1000000000 + 1000000000 * ((c + g0 k * x) / 1000000000) = c + g0 k * x := Int.emod_add_mul_ediv _ _
      generalize (c + g0 k * x) % 1000000000 = r at e2 ⊢
      generalize (c + g0 k * x) / 1000000000 = q at e2 ⊢
      grind
theorem c_80 (d b p : Nat) (x : Int) (M : XM) (hB : isB M b p) (hx0 : 0 ≤ x) (hx1 : x < 2147483648) (hg : isD (mI M p)) (hv : bv (mI M p) * x < pw 7) : Ct d 80 [vR b, vI x] M (RV fun M1 => ∃ f, M1 = wI M p f ∧ isD f ∧ bv f = bv (mI M p) * x) := by
  unfold Ct
  refine ev_t rfl ?_
  refine ev_t rfl ?_
  refine ev_t rfl ?_
  refine ev_t rfl ?_
  refine ev_h (L1 := [(0, vR b), (1, vI x), (2, vL 0), (4, vI (0 : Nat))]) rfl ?_
  have k0 := fun Q h => t_80 d b p x M hB hx0 hx1 (mI M p) hg Q 7 0 0 (mI M p) rfl (by decide) hx0 hg (fun j h1 h2 => rfl) (by show (0 : Int) + 0 * 1 = x * 0; omega) h
  simp only [wI_self] at k0
  refine k0 _ (fun f c hf hc hs => ⟨rfl, f, rfl, hf, ?_⟩)
  have h1 := pv_lt (n := 7) hf
  unfold bv at hv ⊢
  have hp : pw 7 = 1000000000000000000000000000000000000000000000000000000000000000 := by decide
  rw [Int.mul_comm x] at hs
  rw [hp] at hs h1 hv
  generalize pv (mI M p) 7 * x = y at *
  omega
theorem pw_add (i : Nat) : ∀ j : Nat, pw (i + j) = pw i * pw j
  | 0 => by show pw i = pw i * 1; omega
  | j + 1 => by
    show 1000000000 * pw (i + j) = pw i * (1000000000 * pw j)
    rw [pw_add i j, Int.mul_left_comm]
theorem pv_tail (f : Int → Int) (m : Nat) : ∀ n : Nat, ∃ s : Int, pv f (m + n) = pv f m + pw m * s
  | 0 => ⟨0, by show pv f m = pv f m + pw m * 0; omega⟩
  | n + 1 => by
    obtain ⟨s, h⟩ := pv_tail f m n
    refine ⟨s + f ((m + n : Nat) : Int) * pw n, ?_⟩
    show pv f (m + n) + f ((m + n : Nat) : Int) * pw (m + n) = _
    rw [h, pw_add]
    grind
theorem t_77i (d b p q r pa pb : Nat) (M0 : XM) (hB : isB M0 b p) (hA : isB M0 pa q) (hC : isB M0 pb r) (hpq : q ≠ p) (hpr : r ≠ p) (ha : isD (mI M0 q)) (hb : isD (mI M0 r)) (f0 : Int → Int) (hf0 : isD f0) (i : Nat) (hi : i < 7) (Q : XO → XM → Prop) : ∀ (n j : Nat) (c : Int) (f : Int → Int), i + j + n = 7 → 0 ≤ c → c < 1000000000 → isD f → (∀ x : Int, (i + j : Nat) ≤ x → x < 7 → f x = f0 x) → pv f (i + j) + c * pw (i + j) = pv f0 (i + j) + mI M0 q i * pw i * pv (mI M0 r) j →
    (∀ (f : Int → Int) (c : Int) (x : XV) (y : XV), isD f → pv f 7 + c * pw 7 = pv f0 7 + mI M0 q i * pw i * pv (mI M0 r) (7 - i) → Ev d 77 (102, [(0, vR b), (1, vR pa), (2, vR pb), (3, vI i), (4, x), (6, y)], []) (wI M0 p f) Q) → Ev d 77 (31, [(0, vR b), (1, vR pa), (2, vR pb), (3, vI i), (4, vL c), (6, vI j)], []) (wI M0 p f) Q := by
  intro n
  induction n with
  | zero =>
    intro j c f hj hc0 hc1 hf he hs kk
    refine ev_t rfl ?_
    refine ev_t rfl ?_
    refine ev_g rfl (by omega) ?_
    refine ev_t rfl ?_
    refine sv_bt 0 200 rfl rfl (by show 7 ≤ (i : Int) + j; omega) ?_
    have hij : i + j = 7 := hj
    have ej : j = 7 - i := by omega
    rw [hij, ej] at hs
    exact kk f c _ _ hf hs
  | succ n ih =>
    intro j c f hj hc0 hc1 hf he hs kk
    have e0 : ((i + j : Nat) : Int) = (i : Int) + j := by omega
    have da := ha i (by omega) (by omega)
    have db := hb j (by omega) (by omega)
    have hm : mI (wI M0 p f) p ((i : Int) + j) = f0 ((i : Int) + j) := by rw [mI_wI, up_s, ← e0]; exact he _ (by omega) (by omega)
    have hma : mI (wI M0 p f) q i = mI M0 q i := by rw [mI_wI, up_n _ _ hpq]
    have hmb : mI (wI M0 p f) r j = mI M0 r j := by rw [mI_wI, up_n _ _ hpr]
    have df := hf0 ((i : Int) + j) (by omega) (by omega)
    have hp0 : 0 ≤ mI M0 q i * mI M0 r j := Int.mul_nonneg da.1 db.1
    have hp1 : mI M0 q i * mI M0 r j ≤ 999999999 * mI M0 r j := Int.mul_le_mul_of_nonneg_right (by omega) db.1
    refine ev_t rfl ?_
    refine ev_t rfl ?_
    refine ev_g rfl (by omega) ?_
    refine ev_t rfl ?_
    refine sv_bf 0 200 rfl rfl (by show ¬ 7 ≤ (i : Int) + j; omega) ?_
    refine ev_t rfl ?_
    refine ev_t rfl ?_
    refine sv_fr 0 200 rfl rfl hB.2.1 hB.1 ?_
    refine ev_t rfl ?_
    refine ev_t rfl ?_
    refine ev_g rfl (by omega) ?_
    refine ev_g rfl (hB.g (by omega) (by omega)) ?_
    rw [hm]
    refine ev_t rfl ?_
    refine ev_t rfl ?_
    refine sv_fr 0 200 rfl rfl hA.2.1 hA.1 ?_
    refine ev_t rfl ?_
    refine ev_g rfl (hA.g (by omega) (by omega)) ?_
    rw [hma]
    refine ev_t rfl ?_
    refine ev_t rfl ?_
    refine sv_fr 0 200 rfl rfl hC.2.1 hC.1 ?_
    refine ev_t rfl ?_
    refine ev_g rfl (hC.g (by omega) (by omega)) ?_
    rw [hmb]
    refine ev_t rfl ?_
    refine ev_g rfl (by omega) ?_
    refine ev_g rfl (by omega) ?_
    refine ev_g rfl (by omega) ?_
    refine ev_t rfl ?_
    refine ev_t rfl ?_
    refine sv_fr 0 200 rfl rfl hB.2.1 hB.1 ?_
    refine ev_t rfl ?_
    refine ev_t rfl ?_
    refine ev_g rfl (by omega) ?_
    refine ev_t rfl ?_
    refine ev_t rfl ?_
    refine ev_g rfl (by omega) ?_
    refine ev_t rfl ?_
    refine ev_g rfl (hB.g (by omega) (by omega)) ?_
    rw [wI_wI, mI_wI, up_s, bCut_i (by omega) (by omega)]
    refine ev_t rfl ?_
    refine ev_t rfl ?_
    refine ev_g rfl (by omega) ?_
    refine ev_t rfl ?_
    refine ev_g rfl (by omega) ?_
    refine ev_t rfl ?_
    have e2 : (c + (f0 ((i : Int) + j) + mI M0 q i * mI M0 r j)) % 1000000000 + 1000000000 * ((c + (f0 ((i : Int) + j) + mI M0 q i * mI M0 r j)) / 1000000000) = c + (f0 ((i : Int) + j) + mI M0 q i * mI M0 r j) := Int.emod_add_mul_ediv _ _
    have e9 : ((j + 1 : Nat) : Int) = (j : Int) + 1 := by omega
    have ih1 := ih (j + 1) ((c + (f0 ((i : Int) + j) + mI M0 q i * mI M0 r j)) / 1000000000) (ui f ((i : Int) + j) ((c + (f0 ((i : Int) + j) + mI M0 q i * mI M0 r j)) % 1000000000)) (by omega) (by omega) (by omega) (fun x h1 h2 => ?_) (fun x h1 h2 => ?_) ?_ kk
    · rw [e9] at ih1
      exact ih1
    · unfold ui
      split
      · omega
      · exact hf x h1 h2
    · rw [ui_n _ _ (by omega)]
      exact he x (by omega) h2
    · have e1 : pv (ui f ((i : Int) + j) ((c + (f0 ((i : Int) + j) + mI M0 q i * mI M0 r j)) % 1000000000)) (i + j) = pv f (i + j) := pv_c (fun x h1 h2 => ui_n _ _ (by omega))
      have e3 : i + (j + 1) = (i + j) + 1 := rfl
      rw [e3]
      show pv (ui f ((i : Int) + j) ((c + (f0 ((i : Int) + j) + mI M0 q i * mI M0 r j)) % 1000000000)) (i + j) + ui f ((i : Int) + j) ((c + (f0 ((i : Int) + j) + mI M0 q i * mI M0 r j)) % 1000000000) ((i + j : Nat) : Int) * pw (i + j) + (c + (f0 ((i : Int) + j) + mI M0 q i * mI M0 r j)) / 1000000000 * (1000000000 * pw (i + j)) = (pv f0 (i + j) + f0 ((i + j : Nat) : Int) * pw (i + j)) + mI M0 q i * pw i * (pv (mI M0 r) j + mI M0 r j * pw j)
      rw [e1, e0, ui_s]
      have e4 := pw_add i j
      generalize (c + (f0 ((i : Int) + j) + mI M0 q i * mI M0 r j)) % 1000000000 = x at e2 ⊢
      generalize (c + (f0 ((i : Int) + j) + mI M0 q i * mI M0 r j)) / 1000000000 = y at e2 ⊢
      grind
theorem t_77 (d b p q r pa pb : Nat) (M0 : XM) (hB : isB M0 b p) (hA : isB M0 pa q) (hC : isB M0 pb r) (hpq : q ≠ p) (hpr : r ≠ p) (ha : isD (mI M0 q)) (hb : isD (mI M0 r)) (Q : XO → XM → Prop) : ∀ (n i : Nat) (t : Int) (f : Int → Int), i + n = 7 → isD f → pv f 7 + t * pw 7 = pv (mI M0 q) i * pv (mI M0 r) 7 →
    (∀ (f : Int → Int) (t : Int), isD f → pv f 7 + t * pw 7 = pv (mI M0 q) 7 * pv (mI M0 r) 7 → Q oV (wI M0 p f)) → Ev d 77 (7, [(0, vR b), (1, vR pa), (2, vR pb), (3, vI i)], []) (wI M0 p f) Q := by
  intro n
  induction n with
  | zero =>
    intro i t f hi hf hs kk
    obtain rfl : i = 7 := by omega
    refine ev_t rfl ?_
    refine ev_t rfl ?_
    refine sv_bt 0 200 rfl rfl (by decide) ?_
    exact ev_r rfl trivial (kk f t hf hs)
  | succ n ih =>
    intro i t f hi hf hs kk
    have hma : mI (wI M0 p f) q i = mI M0 q i := by rw [mI_wI, up_n _ _ hpq]
    have e9 : ((i + 1 : Nat) : Int) = (i : Int) + 1 := by omega
    refine ev_t rfl ?_
    refine ev_t rfl ?_
    refine sv_bf 0 200 rfl rfl (by show ¬ 7 ≤ (i : Int); omega) ?_
    refine ev_t rfl ?_
    refine sv_fr 0 200 rfl rfl hA.2.1 hA.1 ?_
    refine ev_t rfl ?_
    refine ev_g rfl (hA.g (by omega) (by omega)) ?_
    rw [hma]
    refine sv_b 0 200 rfl rfl (fun h => ?_) (fun h => ?_)
    · refine ev_t rfl ?_
      refine ev_t rfl ?_
      refine ev_t rfl ?_
      refine ev_t rfl ?_
      refine ev_h (L1 := [(0, vR b), (1, vR pa), (2, vR pb), (3, vI i), (4, vL 0), (6, vI (0 : Nat))]) rfl ?_
      refine t_77i d b p q r pa pb M0 hB hA hC hpq hpr ha hb f hf i (by omega) Q (7 - i) 0 0 f (by omega) (by decide) (by decide) hf (fun _ _ _ => rfl) (by show pv f i + 0 * _ = pv f i + _ * 0; omega) (fun f2 c x y hf2 hs2 => ?_)
      refine ev_g rfl (by omega) ?_
      refine ev_t rfl ?_
      obtain ⟨s, hs3⟩ := pv_tail (mI M0 r) (7 - i) i
      have ih1 := ih (i + 1) (t + c + mI M0 q i * s) f2 (by omega) hf2 ?_ kk
      · rw [e9] at ih1
        exact ev_h (L1 := [(0, vR b), (1, vR pa), (2, vR pb), (3, vI (i + 1))]) rfl ih1
      · have e1 : 7 - i + i = 7 := by omega
        have e2 := pw_add i (7 - i)
        have e3 : i + (7 - i) = 7 := by omega
        rw [e1] at hs3
        rw [e3] at e2
        show pv f2 7 + (t + c + mI M0 q i * s) * pw 7 = (pv (mI M0 q) i + mI M0 q i * pw i) * pv (mI M0 r) 7
        grind
    · have h0 : mI M0 q i = 0 := Classical.byContradiction fun z => h z
      refine ev_t rfl ?_
      refine ev_g rfl (by omega) ?_
      refine ev_t rfl ?_
      have ih1 := ih (i + 1) t f (by omega) hf ?_ kk
      · rw [e9] at ih1
        exact ev_h (L1 := [(0, vR b), (1, vR pa), (2, vR pb), (3, vI (i + 1))]) rfl ih1
      · show _ = (pv (mI M0 q) i + mI M0 q i * pw i) * pv (mI M0 r) 7
        rw [h0, hs, Int.zero_mul, Int.add_zero]
theorem pw7 : pw 7 = 1000000000000000000000000000000000000000000000000000000000000000 := by decide
theorem mod_one {x y t : Int} (h : x + t * pw 7 = y) (h1 : 0 ≤ x) (h2 : x < pw 7) (h3 : 0 ≤ y) (h4 : y < pw 7) : x = y := by
  rw [pw7] at h h2 h4
  omega
theorem bv_nn {f : Int → Int} (h : isD f) : 0 ≤ bv f ∧ bv f < pw 7 := pv_lt (n := 7) h
theorem c_77 (d b p q r pa pb : Nat) (M : XM) (hB : isB M b p) (hA : isB M pa q) (hC : isB M pb r) (hpq : q ≠ p) (hpr : r ≠ p) (hpp : b ≠ p) (ha : isD (mI M q)) (hb : isD (mI M r)) (hv : bv (mI M q) * bv (mI M r) < pw 7) : Ct (d + 1) 77 [vR b, vR pa, vR pb] M (RV fun M1 => ∃ f, M1 = wI M p f ∧ isD f ∧ bv f = bv (mI M q) * bv (mI M r)) := by
  unfold Ct
  refine ev_t rfl ?_
  refine ev_t rfl ?_
  refine ev_cv rfl hB.1 (c_76 d b p 0 M hB (by decide) (by decide)) (fun M1 h => ?_)
  obtain ⟨f0, rfl, hf0, hv0⟩ := h
  refine ev_t rfl ?_
  refine ev_t rfl ?_
  refine ev_h (L1 := [(0, vR b), (1, vR pa), (2, vR pb), (3, vI (0 : Nat))]) rfl ?_
  refine t_77 (d + 1) b p q r pa pb M hB hA hC hpq hpr ha hb _ 7 0 0 f0 rfl hf0 (by show bv f0 + 0 * _ = 0 * _; rw [hv0]; omega) (fun f t hf hs => ⟨rfl, f, rfl, hf, ?_⟩)
  have h1 := bv_nn hf
  exact mod_one hs h1.1 h1.2 (Int.mul_nonneg (bv_nn ha).1 (bv_nn hb).1) hv
