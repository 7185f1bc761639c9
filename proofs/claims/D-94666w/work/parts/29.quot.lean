/-! CONTRACTS, 6: long numbers: beside one another, how often, sums -/
theorem pv_cmp {f g : Int → Int} (hf : isD f) (hg : isD g) {k : Nat} (hk : k < 7) (h : f k ≠ g k) : sg (pv f (k + 1) - pv g (k + 1)) = sg (f k - g k) := by
  have h1 := pv_lt (f := f) (n := k) (fun j h1 h2 => hf j h1 (by omega))
  have h2 := pv_lt (f := g) (n := k) (fun j h1 h2 => hg j h1 (by omega))
  have hp := pw_pos k
  show sg ((pv f k + f k * pw k) - (pv g k + g k * pw k)) = _
  unfold sg
  rcases Int.lt_trichotomy (f k) (g k) with z | z | z
  · have h3 : (f k + 1) * pw k ≤ g k * pw k := Int.mul_le_mul_of_nonneg_right (by omega) (by omega)
    rw [Int.add_mul, Int.one_mul] at h3
    rw [if_pos (show f k - g k < 0 by omega), if_pos (by omega)]
  · exact absurd z h
  · have h3 : (g k + 1) * pw k ≤ f k * pw k := Int.mul_le_mul_of_nonneg_right (by omega) (by omega)
    rw [Int.add_mul, Int.one_mul] at h3
    rw [if_neg (show ¬ f k - g k < 0 by omega), if_neg (show ¬ f k - g k = 0 by omega), if_neg (by omega), if_neg (by omega)]
theorem t_78 (d b p c q : Nat) (M : XM) (hB : isB M b p) (hC : isB M c q) (hf : isD (mI M p)) (hg : isD (mI M q)) : ∀ (n : Nat), n < 7 → pv (mI M p) 7 - pv (mI M q) 7 = pv (mI M p) (n + 1) - pv (mI M q) (n + 1) →
    Ev (d + 1) 78 (3, [(0, vR b), (1, vR c), (2, vI n)], []) M (RI fun r M1 => M1 = M ∧ r = sg (bv (mI M p) - bv (mI M q))) := by
  have fin : ∀ (n : Nat), n < 7 → sg (mI M p n - mI M q n) = sg (bv (mI M p) - bv (mI M q)) → Ev (d + 1) 78 (28, [(0, vR b), (1, vR c), (2, vI n)], []) M (RI fun r M1 => M1 = M ∧ r = sg (bv (mI M p) - bv (mI M q))) := by
    intro n hn he
    have d1 := hf n (by omega) (by omega)
    have d2 := hg n (by omega) (by omega)
    refine ev_t rfl ?_
    refine sv_fr 0 100 rfl rfl hB.2.1 hB.1 ?_
    refine ev_t rfl ?_
    refine ev_g rfl (hB.g (by omega) (by omega)) ?_
    refine ev_t rfl ?_
    refine sv_fr 0 100 rfl rfl hC.2.1 hC.1 ?_
    refine ev_t rfl ?_
    refine ev_g rfl (hC.g (by omega) (by omega)) ?_
    refine ev_g rfl (by omega) ?_
    refine sv_cp 0 100 rfl rfl (c_266 _ _ _ (by omega) (by omega)) trivial ?_
    exact ev_r rfl trivial ⟨_, rfl, rfl, he⟩
  intro n
  induction n with
  | zero =>
    intro hn hs
    refine ev_t rfl ?_
    refine sv_bt 0 100 rfl rfl (by decide) ?_
    refine fin 0 hn ?_
    show _ = sg (pv (mI M p) 7 - pv (mI M q) 7)
    rw [hs]
    show sg (mI M p (0 : Nat) - mI M q (0 : Nat)) = sg ((0 + mI M p (0 : Nat) * 1) - (0 + mI M q (0 : Nat) * 1))
    congr 1
    omega
  | succ n ih =>
    intro hn hs
    refine ev_t rfl ?_
    refine sv_bf 0 100 rfl rfl (by show ¬ ((n + 1 : Nat) : Int) ≤ 0; omega) ?_
    refine ev_t rfl ?_
    refine sv_fr 0 100 rfl rfl hB.2.1 hB.1 ?_
    refine ev_t rfl ?_
    refine ev_g rfl (hB.g (by omega) (by omega)) ?_
    refine ev_t rfl ?_
    refine sv_fr 0 100 rfl rfl hC.2.1 hC.1 ?_
    refine ev_t rfl ?_
    refine ev_g rfl (hC.g (by omega) (by omega)) ?_
    refine sv_b 0 100 rfl rfl (fun h => ?_) (fun h => ?_)
    · refine fin (n + 1) hn ?_
      show _ = sg (pv (mI M p) 7 - pv (mI M q) 7)
      rw [hs]
      exact (pv_cmp hf hg hn h).symm
    · have h0 : mI M p ((n + 1 : Nat) : Int) = mI M q ((n + 1 : Nat) : Int) := Classical.byContradiction fun z => h z
      refine ev_g rfl (by omega) ?_
      refine ev_t rfl ?_
      have e : ((n + 1 : Nat) : Int) + -1 = (n : Int) := by omega
      have ih1 := ih (by omega) (by
        rw [hs]
        show (pv (mI M p) (n + 1) + mI M p ((n + 1 : Nat) : Int) * pw (n + 1)) - (pv (mI M q) (n + 1) + mI M q ((n + 1 : Nat) : Int) * pw (n + 1)) = _
        rw [h0]
        omega)
      rw [← e] at ih1
      exact ih1
theorem c_78 (d b p c q : Nat) (M : XM) (hB : isB M b p) (hC : isB M c q) (hf : isD (mI M p)) (hg : isD (mI M q)) : Ct (d + 1) 78 [vR b, vR c] M (RI fun r M1 => M1 = M ∧ r = sg (bv (mI M p) - bv (mI M q))) := by
  unfold Ct
  refine ev_t rfl ?_
  refine ev_t rfl ?_
  refine ev_h (L1 := [(0, vR b), (1, vR c), (2, vI (6 : Nat))]) rfl ?_
  exact t_78 d b p c q M hB hC hf hg 6 (by decide) rfl
/-- as often as it goes, at most so much -/
def isQ (u l most r : Int) : Prop := (0 ≤ r ∧ r ≤ most) ∧ l * r ≤ u ∧ (r = most ∨ u < l * (r + 1))
theorem bv_cong {f g : Int → Int} (h : ∀ j : Int, 0 ≤ j → j < 7 → f j = g j) : bv f = bv g := pv_c (n := 7) h
theorem isD_cong {f g : Int → Int} (h : ∀ j : Int, 0 ≤ j → j < 7 → f j = g j) (hg : isD g) : isD f := fun j h1 h2 => by rw [h j h1 h2]; exact hg j h1 h2
theorem one_B {M : XM} (h : Wf M) : isB M 42 43 := ⟨h.k rfl (by decide) (by decide), r_42_0 h, h.2.1 43 (by decide) (by decide)⟩
theorem two_B {M : XM} (h : Wf M) : isB M 44 45 := ⟨h.k rfl (by decide) (by decide), r_44_0 h, h.2.1 45 (by decide) (by decide)⟩
theorem t_31 (d lo pl : Nat) (u most : Int) (M0 : XM) (hW : Wf M0) (hB : isB M0 lo pl) (h43 : pl ≠ 43) (h45 : pl ≠ 45) (hl : isD (mI M0 pl)) (hm0 : 0 ≤ most) (hm : most < 2147483647) (hu : 0 ≤ u) (hv : bv (mI M0 pl) * most < pw 7) (f : Int → Int) (hf : isD f) (hfu : bv f = u) (Q : XO → XM → Prop)
    (kk : ∀ (r : Int) (g : Int → Int), isQ u (bv (mI M0 pl)) most r → Q (oI r) (wI (wI M0 43 f) 45 g)) : ∀ (n : Nat) (a b : Int) (g : Int → Int), b - a ≤ n → 0 ≤ a → a ≤ b → b ≤ most → bv (mI M0 pl) * a ≤ u → (b = most ∨ u < bv (mI M0 pl) * (b + 1)) → Ev (d + 3) 31 (23, [(0, vR 40), (3, vR lo), (5, vI a), (6, vI b)], []) (wI (wI M0 43 f) 45 g) Q := by
  have hl0 := (bv_nn hl).1
  have fin : ∀ (a b : Int) (g : Int → Int), a = b → 0 ≤ a → b ≤ most → bv (mI M0 pl) * a ≤ u → (b = most ∨ u < bv (mI M0 pl) * (b + 1)) → Ev (d + 3) 31 (23, [(0, vR 40), (3, vR lo), (5, vI a), (6, vI b)], []) (wI (wI M0 43 f) 45 g) Q := by
    intro a b g hab h0 h1 h2 h3
    subst hab
    refine ev_t rfl ?_
    refine ev_t rfl ?_
    refine sv_bt 0 100 rfl rfl (Int.le_refl a) ?_
    refine ev_t rfl ?_
    exact ev_r rfl trivial (kk a g ⟨⟨h0, h1⟩, h2, h3⟩)
  intro n
  induction n with
  | zero =>
    intro a b g hn h0 hab hb h2 h3
    exact fin a b g (by omega) h0 hb h2 h3
  | succ n ih =>
    intro a b g hn h0 hab hb h2 h3
    by_cases e : a = b
    · exact fin a b g e h0 hb h2 h3
    · have hW1 : Wf (wI (wI M0 43 f) 45 g) := hW
      have hx0 : a < (a + b + 1) / 2 ∧ (a + b + 1) / 2 ≤ b := by omega
      refine ev_t rfl ?_
      refine ev_t rfl ?_
      refine sv_bf 0 100 rfl rfl (by show ¬ b ≤ a; omega) ?_
      refine ev_t rfl ?_
      refine ev_t rfl ?_
      refine ev_t rfl ?_
      refine ev_t rfl ?_
      refine ev_g rfl (by omega) ?_
      refine ev_t rfl ?_
      refine ev_g rfl (by omega) ?_
      refine ev_t rfl ?_
      refine ev_g rfl (by omega) ?_
      refine ev_t rfl ?_
      rw [bCut_i (by omega) (by omega)]
      generalize hx : (a + b + 1) / 2 = x at hx0 ⊢
      refine ev_t rfl ?_
      refine ev_t rfl ?_
      refine sv_fr 0 100 rfl rfl (r_40_3 hW1) (hW1.k rfl (by decide) (by decide)) ?_
      refine ev_t rfl ?_
      refine ev_cv rfl (hW1.k rfl (by decide) (by decide)) (c_79 _ 44 45 lo pl _ (two_B hW1) hB) (fun M1 h => ?_)
      obtain ⟨g1, rfl, hg1⟩ := h
      have e1 : mI (wI (wI M0 43 f) 45 g) pl = mI M0 pl := by rw [mI_wI, up_n _ _ h45, mI_wI, up_n _ _ h43]
      rw [e1] at hg1
      rw [wI_wI]
      have hD1 : isD g1 := isD_cong hg1 hl
      have hV1 : bv g1 = bv (mI M0 pl) := bv_cong hg1
      have hW2 : Wf (wI (wI M0 43 f) 45 g1) := hW
      have e2 : mI (wI (wI M0 43 f) 45 g1) 45 = g1 := by rw [mI_wI, up_s]
      have e3 : mI (wI (wI M0 43 f) 45 g1) 43 = f := by rw [mI_wI, up_n _ _ (by decide), mI_wI, up_s]
      refine ev_t rfl ?_
      refine sv_fr 0 100 rfl rfl (r_40_3 hW2) (hW2.k rfl (by decide) (by decide)) ?_
      refine ev_t rfl ?_
      have hmx : bv (mI M0 pl) * x ≤ bv (mI M0 pl) * most := Int.mul_le_mul_of_nonneg_left (by omega) hl0
      refine ev_cv rfl (hW2.k rfl (by decide) (by decide)) (c_80 _ 44 45 x _ (two_B hW2) (by omega) (by omega) (by rw [e2]; exact hD1) (by rw [e2, hV1]; omega)) (fun M1 h => ?_)
      obtain ⟨g2, rfl, hg2, hv2⟩ := h
      rw [e2, hV1] at hv2
      rw [wI_wI]
      have hW3 : Wf (wI (wI M0 43 f) 45 g2) := hW
      have e4 : mI (wI (wI M0 43 f) 45 g2) 45 = g2 := by rw [mI_wI, up_s]
      have e5 : mI (wI (wI M0 43 f) 45 g2) 43 = f := by rw [mI_wI, up_n _ _ (by decide), mI_wI, up_s]
      refine ev_t rfl ?_
      refine sv_fr 0 100 rfl rfl (r_40_3 hW3) (hW3.k rfl (by decide) (by decide)) ?_
      refine ev_t rfl ?_
      refine sv_fr 0 100 rfl rfl (r_40_2 hW3) (hW3.k rfl (by decide) (by decide)) ?_
      refine sv_cp 0 100 rfl rfl (c_78 _ 44 45 42 43 _ (two_B hW3) (one_B hW3) (by rw [e4]; exact hg2) (by rw [e5]; exact hf)) (hW3.k rfl (by decide) (by decide)) ?_
      rw [e4, e5, hv2, hfu]
      refine sv_b 0 100 rfl rfl (fun h => ?_) (fun h => ?_)
      · have h5 : bv (mI M0 pl) * x ≤ u := by
          have h6 : sg (bv (mI M0 pl) * x - u) ≤ 0 := h
          unfold sg at h6
          split at h6
          · omega
          · split at h6
            · omega
            · omega
        refine ev_t rfl ?_
        refine ev_t rfl ?_
        refine ev_t rfl ?_
        exact ev_h (L1 := [(0, vR 40), (3, vR lo), (5, vI x), (6, vI b)]) rfl (ih x b g2 (by omega) (by omega) (by omega) hb h5 h3)
      · have h5 : u < bv (mI M0 pl) * x := by
          have h6 : ¬ sg (bv (mI M0 pl) * x - u) ≤ 0 := h
          unfold sg at h6
          split at h6
          · omega
          · split at h6
            · omega
            · omega
        refine ev_t rfl ?_
        refine ev_t rfl ?_
        refine ev_g rfl (by omega) ?_
        refine ev_t rfl ?_
        refine ev_t rfl ?_
        refine ev_t rfl ?_
        exact ev_h (L1 := [(0, vR 40), (3, vR lo), (5, vI a), (6, vI (x - 1))]) rfl (ih a (x - 1) g2 (by omega) h0 (by omega) (by omega) h2 (Or.inr (by rw [Int.sub_add_cancel]; exact h5)))
theorem c_31 (d up pu lo pl : Nat) (times most : Int) (M : XM) (hW : Wf M) (hA : isB M up pu) (hB : isB M lo pl) (h43 : pl ≠ 43) (h45 : pl ≠ 45) (hu : isD (mI M pu)) (hl : isD (mI M pl)) (ht0 : 0 ≤ times) (ht1 : times < 2147483648) (hm0 : 0 ≤ most) (hm : most < 2147483647)
    (hv1 : bv (mI M pu) * times < pw 7) (hv2 : bv (mI M pl) * most < pw 7) : Ct (d + 3) 31 [vR 40, vR up, vI times, vR lo, vI most] M (RI fun r M1 => isQ (bv (mI M pu) * times) (bv (mI M pl)) most r ∧ ∃ f g, M1 = wI (wI M 43 f) 45 g) := by
  unfold Ct
  refine ev_t rfl ?_
  refine sv_fr 0 100 rfl rfl (r_40_2 hW) (hW.k rfl (by decide) (by decide)) ?_
  refine ev_t rfl ?_
  refine ev_cv rfl (hW.k rfl (by decide) (by decide)) (c_79 _ 42 43 up pu _ (one_B hW) hA) (fun M1 h => ?_)
  obtain ⟨f1, rfl, hf1⟩ := h
  have hW1 : Wf (wI M 43 f1) := hW
  have e1 : mI (wI M 43 f1) 43 = f1 := by rw [mI_wI, up_s]
  refine ev_t rfl ?_
  refine sv_fr 0 100 rfl rfl (r_40_2 hW1) (hW1.k rfl (by decide) (by decide)) ?_
  refine ev_t rfl ?_
  refine ev_cv rfl (hW1.k rfl (by decide) (by decide)) (c_80 _ 42 43 times _ (one_B hW1) ht0 ht1 (by rw [e1]; exact isD_cong hf1 hu) (by rw [e1, bv_cong hf1]; exact hv1)) (fun M1 h => ?_)
  obtain ⟨f, rfl, hf, hvf⟩ := h
  rw [e1, bv_cong hf1] at hvf
  rw [wI_wI]
  refine ev_t rfl ?_
  refine ev_t rfl ?_
  refine ev_t rfl ?_
  refine ev_t rfl ?_
  refine ev_h (L1 := [(0, vR 40), (3, vR lo), (5, vI 0), (6, vI most)]) rfl ?_
  have hu0 : 0 ≤ bv (mI M pu) * times := Int.mul_nonneg (bv_nn hu).1 ht0
  have k0 := fun Q kk => t_31 d lo pl (bv (mI M pu) * times) most M hW hB h43 h45 hl hm0 hm hu0 hv2 f hf hvf Q kk most.toNat 0 most (mI (wI M 43 f) 45) (by omega) (by decide) hm0 (Int.le_refl _) (by rw [Int.mul_zero]; exact hu0) (Or.inl rfl)
  rw [wI_self] at k0
  exact k0 _ (fun r g hr => ⟨r, rfl, hr, f, g, rfl⟩)
theorem t_41 (d b p c q : Nat) (M0 : XM) (hB : isB M0 b p) (hC : isB M0 c q) (hqp : q ≠ p) (g0 : Int → Int) (hg0 : isD g0) (hb : isD (mI M0 q)) (Q : XO → XM → Prop) : ∀ (n k : Nat) (x : Int) (f : Int → Int), k + n = 7 → (x = 0 ∨ x = 1) → isD f → (∀ j : Int, k ≤ j → j < 7 → f j = g0 j) → pv f k + x * pw k = pv g0 k + pv (mI M0 q) k →
    (∀ (f : Int → Int) (x : Int), isD f → pv f 7 + x * pw 7 = pv g0 7 + pv (mI M0 q) 7 → Q oV (wI M0 p f)) → Ev d 41 (4, [(0, vR b), (1, vR c), (2, vI x), (3, vI k)], []) (wI M0 p f) Q := by
  intro n
  induction n with
  | zero =>
    intro k x f hk hx hf he hs kk
    obtain rfl : k = 7 := by omega
    refine ev_t rfl ?_
    refine ev_t rfl ?_
    refine sv_bt 0 100 rfl rfl (by decide) ?_
    exact ev_r rfl trivial (kk f x hf hs)
  | succ n ih =>
    intro k x f hk hx hf he hs kk
    have d1 := hg0 k (by omega) (by omega)
    have d2 := hb k (by omega) (by omega)
    have hm : mI (wI M0 p f) p k = g0 k := by rw [mI_wI, up_s]; exact he k (by omega) (by omega)
    have hm2 : mI (wI M0 p f) q k = mI M0 q k := by rw [mI_wI, up_n _ _ hqp]
    have e9 : ((k + 1 : Nat) : Int) = (k : Int) + 1 := by omega
    have nxt : ∀ (y r : Int), (y = 0 ∨ y = 1) → 0 ≤ r → r < 1000000000 → r + y * 1000000000 = g0 k + mI M0 q k + x → Ev d 41 (4, [(0, vR b), (1, vR c), (2, vI y), (3, vI ((k : Int) + 1))], []) (wI M0 p (ui f k r)) Q := by
      intro y r hy hr0 hr1 hr
      have ih1 := ih (k + 1) y (ui f k r) (by omega) hy (fun j h1 h2 => ?_) (fun j h1 h2 => ?_) ?_ kk
      · rw [e9] at ih1
        exact ih1
      · unfold ui
        split
        · omega
        · exact hf j h1 h2
      · rw [ui_n _ _ (by omega)]
        exact he j (by omega) h2
      · have e1 : pv (ui f k r) k = pv f k := pv_c (fun j h1 h2 => ui_n _ _ (by omega))
        show pv (ui f k r) k + ui f k r k * pw k + y * (1000000000 * pw k) = (pv g0 k + g0 k * pw k) + (pv (mI M0 q) k + mI M0 q k * pw k)
        rw [e1, ui_s]
        grind
    refine ev_t rfl ?_
    refine ev_t rfl ?_
    refine sv_bf 0 100 rfl rfl (by show ¬ 7 ≤ (k : Int); omega) ?_
    refine ev_t rfl ?_
    refine sv_fr 0 100 rfl rfl hB.2.1 hB.1 ?_
    refine ev_t rfl ?_
    refine ev_g rfl (hB.g (by omega) (by omega)) ?_
    rw [hm]
    refine ev_t rfl ?_
    refine sv_fr 0 100 rfl rfl hC.2.1 hC.1 ?_
    refine ev_t rfl ?_
    refine ev_g rfl (hC.g (by omega) (by omega)) ?_
    rw [hm2]
    refine ev_g rfl (by omega) ?_
    refine ev_t rfl ?_
    refine ev_g rfl (by omega) ?_
    refine ev_t rfl ?_
    refine ev_t rfl ?_
    refine ev_t rfl ?_
    refine sv_b 0 100 rfl rfl (fun h => ?_) (fun h => ?_)
    · have h5 : g0 k + mI M0 q k + x < 1000000000 := h
      refine ev_t rfl ?_
      refine ev_t rfl ?_
      refine ev_t rfl ?_
      refine sv_fr 0 100 rfl rfl hB.2.1 hB.1 ?_
      refine ev_t rfl ?_
      refine ev_t rfl ?_
      refine ev_t rfl ?_
      refine ev_t rfl ?_
      refine ev_g rfl (by omega) ?_
      refine ev_g rfl (by omega) ?_
      refine ev_g rfl (hB.g (by omega) (by omega)) ?_
      rw [wI_wI, mI_wI, up_s]
      refine ev_g rfl (by omega) ?_
      refine ev_t rfl ?_
      exact ev_h (L1 := [(0, vR b), (1, vR c), (2, vI 0), (3, vI ((k : Int) + 1))]) rfl (nxt 0 _ (Or.inl rfl) (by omega) (by omega) (by omega))
    · have h5 : ¬ g0 k + mI M0 q k + x < 1000000000 := h
      refine ev_t rfl ?_
      refine ev_t rfl ?_
      refine ev_t rfl ?_
      refine ev_t rfl ?_
      refine sv_fr 0 100 rfl rfl hB.2.1 hB.1 ?_
      refine ev_t rfl ?_
      refine ev_t rfl ?_
      refine ev_t rfl ?_
      refine ev_t rfl ?_
      refine ev_g rfl (by omega) ?_
      refine ev_g rfl (by omega) ?_
      refine ev_g rfl (hB.g (by omega) (by omega)) ?_
      rw [wI_wI, mI_wI, up_s]
      refine ev_g rfl (by omega) ?_
      refine ev_t rfl ?_
      exact ev_h (L1 := [(0, vR b), (1, vR c), (2, vI 1), (3, vI ((k : Int) + 1))]) rfl (nxt 1 _ (Or.inr rfl) (by omega) (by omega) (by omega))
theorem c_41 (d b p c q : Nat) (M : XM) (hB : isB M b p) (hC : isB M c q) (hqp : q ≠ p) (ha : isD (mI M p)) (hb : isD (mI M q)) (hv : bv (mI M p) + bv (mI M q) < pw 7) : Ct d 41 [vR b, vR c] M (RV fun M1 => ∃ f, M1 = wI M p f ∧ isD f ∧ bv f = bv (mI M p) + bv (mI M q)) := by
  unfold Ct
  refine ev_t rfl ?_
  refine ev_t rfl ?_
  refine ev_t rfl ?_
  refine ev_t rfl ?_
  refine ev_h (L1 := [(0, vR b), (1, vR c), (2, vI 0), (3, vI (0 : Nat))]) rfl ?_
  have k0 := fun Q kk => t_41 d b p c q M hB hC hqp (mI M p) ha hb Q 7 0 0 (mI M p) rfl (Or.inl rfl) ha (fun _ _ _ => rfl) (by show (0 : Int) + 0 * 1 = 0 + 0; rfl) kk
  rw [wI_self] at k0
  refine k0 _ (fun f x hf hs => ⟨rfl, f, rfl, hf, ?_⟩)
  have h1 := bv_nn hf
  have h2 := bv_nn ha
  have h3 := bv_nn hb
  exact mod_one hs h1.1 h1.2 (by unfold bv at *; omega) hv
theorem bv_3 {f : Int → Int} (hf : isD f) (h : bv f < 9223372036854775808) : f 0 + f 1 * 1000000000 + f 2 * 1000000000 * 1000000000 = bv f := by
  have e : bv f = ((((((0 + f 0 * 1) + f 1 * 1000000000) + f 2 * 1000000000000000000) + f 3 * 1000000000000000000000000000) + f 4 * 1000000000000000000000000000000000000) + f 5 * 1000000000000000000000000000000000000000000000) + f 6 * 1000000000000000000000000000000000000000000000000000000 := rfl
  have h0 := hf 0 (by decide) (by decide)
  have h1 := hf 1 (by decide) (by decide)
  have h2 := hf 2 (by decide) (by decide)
  have h3 := hf 3 (by decide) (by decide)
  have h4 := hf 4 (by decide) (by decide)
  have h5 := hf 5 (by decide) (by decide)
  have h6 := hf 6 (by decide) (by decide)
  omega
theorem c_36 (d b p : Nat) (M : XM) (hB : isB M b p) (ha : isD (mI M p)) (hv : bv (mI M p) < 9223372036854775808) : Ct d 36 [vR b] M (RL fun r M1 => M1 = M ∧ r = bv (mI M p)) := by
  have e := bv_3 ha hv
  have h0 := ha 0 (by decide) (by decide)
  have h1 := ha 1 (by decide) (by decide)
  have h2 := ha 2 (by decide) (by decide)
  unfold Ct
  refine ev_t rfl ?_
  refine sv_fr 0 100 rfl rfl hB.2.1 hB.1 ?_
  refine ev_t rfl ?_
  refine ev_g rfl (hB.g (by decide) (by decide)) ?_
  refine ev_t rfl ?_
  refine ev_t rfl ?_
  refine sv_fr 0 100 rfl rfl hB.2.1 hB.1 ?_
  refine ev_t rfl ?_
  refine ev_g rfl (hB.g (by decide) (by decide)) ?_
  refine ev_t rfl ?_
  refine ev_t rfl ?_
  refine ev_g rfl (by omega) ?_
  refine ev_g rfl (by omega) ?_
  refine ev_t rfl ?_
  refine sv_fr 0 100 rfl rfl hB.2.1 hB.1 ?_
  refine ev_t rfl ?_
  refine ev_g rfl (hB.g (by decide) (by decide)) ?_
  refine ev_t rfl ?_
  refine ev_t rfl ?_
  refine ev_g rfl (by omega) ?_
  refine ev_t rfl ?_
  refine ev_g rfl (by omega) ?_
  refine ev_g rfl (by omega) ?_
  exact ev_r rfl trivial ⟨_, rfl, rfl, e⟩
/-- the common measure -/
theorem c_37 : ∀ (k d : Nat) (a b : Int) (M : XM), 0 ≤ a → a < 9223372036854775808 → 0 ≤ b → b < 9223372036854775808 → b < 2 ^ k → Ct (d + 2 * k) 37 [vL a, vL b] M (RL fun r M1 => M1 = M ∧ r = (Nat.gcd a.toNat b.toNat : Int)) := by
  intro k
  induction k with
  | zero =>
    intro d a b M ha0 ha1 hb0 hb1 hb
    obtain rfl : b = 0 := by omega
    unfold Ct
    refine ev_t rfl ?_
    refine ev_t rfl ?_
    refine ev_t rfl ?_
    refine sv_bf 0 100 rfl rfl (by show ¬ (cmpL 0 0 ≠ 0); decide) ?_
    refine ev_t rfl ?_
    refine ev_t rfl ?_
    refine ev_r rfl trivial ⟨_, rfl, rfl, ?_⟩
    rw [show (0 : Int).toNat = 0 from rfl, Nat.gcd_zero_right]
    omega
  | succ k ih =>
    intro d a b M ha0 ha1 hb0 hb1 hb
    have one : ∀ (d : Nat) (a b : Int), 0 ≤ a → a < 9223372036854775808 → 0 ≤ b → b < 9223372036854775808 → (b ≠ 0 → Ct d 37 [vL b, vL (a % b)] M (RL fun r M1 => M1 = M ∧ r = (Nat.gcd b.toNat (a % b).toNat : Int))) → Ct (d + 1) 37 [vL a, vL b] M (RL fun r M1 => M1 = M ∧ r = (Nat.gcd a.toNat b.toNat : Int)) := by
      intro d a b ha0 ha1 hb0 hb1 hr
      unfold Ct
      refine ev_t rfl ?_
      refine ev_t rfl ?_
      refine ev_t rfl ?_
      by_cases hz : b = 0
      · subst hz
        refine sv_bf 0 100 rfl rfl (by show ¬ (cmpL 0 0 ≠ 0); decide) ?_
        refine ev_t rfl ?_
        refine ev_t rfl ?_
        refine ev_r rfl trivial ⟨_, rfl, rfl, ?_⟩
        rw [show (0 : Int).toNat = 0 from rfl, Nat.gcd_zero_right]
        omega
      · have hb2 : 0 < b := by omega
        refine sv_bt 0 100 rfl rfl (by show cmpL b 0 ≠ 0; unfold cmpL; rw [if_neg (by omega), if_neg hz]; decide) ?_
        refine ev_t rfl ?_
        refine ev_t rfl ?_
        refine ev_t rfl ?_
        refine ev_g rfl ⟨ha0, hb2⟩ ?_
        refine ev_cl rfl trivial (hr hz) (fun r M1 h => ?_)
        obtain ⟨rfl, rfl⟩ := h
        refine ev_r rfl trivial ⟨_, rfl, rfl, ?_⟩
        have e : (a % b).toNat = a.toNat % b.toNat := Int.toNat_emod ha0 hb0
        rw [e, Nat.gcd_comm a.toNat, Nat.gcd_rec b.toNat a.toNat, Nat.gcd_comm]
    have hr0 := fun (hz : b ≠ 0) => Int.emod_nonneg a hz
    have hr1 := fun (hz : b ≠ 0) => Int.emod_lt_of_pos a (show 0 < b by omega)
    refine one (d + 2 * k + 1) a b ha0 ha1 hb0 hb1 (fun hz => ?_)
    refine one (d + 2 * k) b (a % b) hb0 hb1 (hr0 hz) (by have := hr1 hz; omega) (fun hz2 => ?_)
    have h3 := Int.emod_nonneg b hz2
    have h4 := Int.emod_lt_of_pos b (show 0 < a % b by have := hr0 hz; omega)
    have h5 : 2 * (b % (a % b)) ≤ b := by
      have h6 := Int.emod_add_mul_ediv b (a % b)
      have h7 : 1 ≤ b / (a % b) := (Int.le_ediv_iff_mul_le (by have := hr0 hz; omega)).mpr (by have := hr1 hz; omega)
      have h8 : (a % b) * 1 ≤ (a % b) * (b / (a % b)) := Int.mul_le_mul_of_nonneg_left h7 (hr0 hz)
      omega
    refine ih d (a % b) (b % (a % b)) M (hr0 hz) (by have := hr1 hz; omega) h3 (by omega) ?_
    have h9 : (2 : Int) ^ (k + 1) = 2 ^ k * 2 := Int.pow_succ 2 k
    omega
