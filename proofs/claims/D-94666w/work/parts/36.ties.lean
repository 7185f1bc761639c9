/-! CONTRACTS, 13: the ties of an entry -/
/-- the numbers of the square are small -/
def smD (D : Int → EN) : Prop := ∀ k : Int, 0 ≤ k → k < 256 → (D k).1 = 1 → (D k).2.1 < 1000 ∧ (D k).2.2.1 < 1000
theorem smD.com {D : Int → EN} (h : smD D) {k : Int} {X : EN} (h1 : X.2.1 < 1000) (h2 : X.2.2.1 < 1000) : smD (mCom D k X) := by
  intro j j0 j1
  by_cases hb : mBet D k X
  · rw [show mCom D k X = ui D k X from xc_t hb]
    unfold ui
    split
    · intro _; exact ⟨h1, h2⟩
    · exact h j j0 j1
  · rw [show mCom D k X = D from xc_f hb]
    exact h j j0 j1
theorem sm_pw {x y : Int} (h0 : 0 < x) (h1 : x < 1000) (h2 : 0 < y) (h3 : y < 1000) : x * y < pw 7 := by
  have h4 : x * y ≤ 999 * y := Int.mul_le_mul_of_nonneg_right (by omega) (by omega)
  rw [pw7]
  omega
/-- a tie that comes: c_90 for small numbers -/
theorem c_90s (d e : Nat) (a b u w o : Int) (M : XM) (D : Int → EN) (hW : Wf M) (he : isEn e) (hM : MX M e D) (hs : smD D) (ha0 : 0 ≤ a) (ha1 : a < 16) (hb0 : 0 ≤ b) (hb1 : b < 16) (hu0 : 0 < u) (hu1 : u < 1000) (hw0 : 0 < w) (hw1 : w < 1000) (ho : o = 0 ∨ o = 1) :
    Ct (d + 3) 90 [vR e, vI a, vI b, vI u, vI w, vI o] M (RV fun M1 => Fe e M M1 ∧ (MX M1 e (mCom D (16 * a + b) (1, u, w, o)) ∧ smD (mCom D (16 * a + b) (1, u, w, o))) ∧ mI M1 e = mI M e) := by
  have q : 0 ≤ 16 * a + b ∧ 16 * a + b < 256 := by omega
  have k0 := c_90 d e a b u w o M D hW he hM ha0 ha1 hb0 hb1 hu0 hu1 hw0 hw1 ho
    (fun t => sm_pw hu0 hu1 ((hM _ q.1 q.2).2.2 t).2.2.2.2.1 (hs _ q.1 q.2 t).2)
    (fun t => sm_pw ((hM _ q.1 q.2).2.2 t).2.2.2.1 (hs _ q.1 q.2 t).1 hw0 hw1)
  refine Ev.mono k0 (fun o1 M1 h => ?_)
  obtain ⟨h0, h1, h2, h3⟩ := h
  exact ⟨h0, h1, ⟨h2, hs.com hu1 hw1⟩, h3⟩
/-- the length that an entry is of, one thing cut perhaps -/
def lenX (cut : Int → Int) (ct cw t w : Int) : Int := if t = ct then (if cw ≤ w then t + 6 else t) else lenOf cut t w
theorem lenX_b {cut : Int → Int} {ct cw t w : Int} (h0 : 0 ≤ t) (h1 : t ≤ 5) : 0 ≤ lenX cut ct cw t w ∧ lenX cut ct cw t w ≤ 11 := by
  unfold lenX lenOf
  split
  · split <;> omega
  · split <;> omega
/-- the square with an entry's two ties -/
noncomputable def mEnt (D : Int → EN) (len foot n k : Int) : Int → EN := mCom (mCom D (16 * len + foot) (1, eLow n k, 2, 0)) (16 * foot + len) (1, 2, eHigh n k, if k ≠ 0 then 1 else 0)
theorem main_St {M : XM} (h : Wf M) : isSt M 46 := ⟨h.k rfl (by decide) (by decide), ⟨r_46_0 h, r_46_1 h, r_46_2 h, r_46_3 h, r_46_4 h, r_46_5 h⟩, h.2.1 47 (by decide) (by decide), h.2.1 48 (by decide) (by decide), h.2.1 49 (by decide) (by decide), h.2.1 50 (by decide) (by decide), h.2.1 51 (by decide) (by decide)⟩
theorem c_92 (d e p kp : Nat) (t w n k ct cw kv : Int) (M : XM) (D : Int → EN) (hW : Wf M) (he : isEn e) (hM : MX M e D) (hs : smD D) (hE : isE M p t w n k) (hp : ¬ (e ≤ p ∧ p < e + 1033) ∧ p ≠ 43 ∧ p ≠ 45) (ht : 0 ≤ t ∧ t ≤ 5) (hw : 0 ≤ w ∧ w ≤ 31) (hn : 1 ≤ n ∧ n ≤ 99) (hkp : mS M kp = (100, 32)) (hkv : mI M kp w = kv) (hkr : -1 ≤ kv ∧ kv ≤ 3) :
    Ct (d + 4) 92 [vR e, vR p, vR kp, vI ct, vI cw] M (RV fun M1 => Fe e M M1 ∧ (kv = -1 → MX M1 e D ∧ smD D) ∧ (kv ≠ -1 → MX M1 e (mEnt D (lenX (mI M 48) ct cw t w) (12 + kv) n k) ∧ smD (mEnt D (lenX (mI M 48) ct cw t w) (12 + kv) n k)) ∧ mI M1 e = mI M e) := by
  have hE0 := hE.1
  have hE1 := hE.2.1
  have hE2 := hE.2.2.1
  have hE4 := hE.2.2.2.2
  have q1 : 0 ≤ w ∧ w < 32 := by omega
  have q2 : 0 ≤ t ∧ t < 6 := by omega
  have q3 : -2147483648 ≤ t + 6 ∧ t + 6 < 2147483648 := by omega
  have q4 : -2147483648 ≤ 12 + kv ∧ 12 + kv < 2147483648 := by omega
  have hEn := hW.en he
  have bl := lenX_b (cut := mI M 48) (ct := ct) (cw := cw) (w := w) ht.1 ht.2
  have b1 := eLow_b (k := k) hn.1 hn.2
  have b2 := eHigh_b (k := k) hn.1 hn.2
  have l0 : 0 ≤ lenX (mI M 48) ct cw t w ∧ lenX (mI M 48) ct cw t w < 16 := by omega
  have r1 : 0 < eLow n k ∧ eLow n k < 1000 := by omega
  have r2 : 0 < eHigh n k ∧ eHigh n k < 1000 := by omega
  have fin : kv ≠ -1 → ∀ len : Int, len = lenX (mI M 48) ct cw t w → Ev (d + 4) 92 (56, [(0, vR e), (1, vR p), (2, vR kp), (3, vI ct), (4, vI cw)], [vI len]) M (RV fun M1 => Fe e M M1 ∧ (kv = -1 → MX M1 e D ∧ smD D) ∧ (kv ≠ -1 → MX M1 e (mEnt D (lenX (mI M 48) ct cw t w) (12 + kv) n k) ∧ smD (mEnt D (lenX (mI M 48) ct cw t w) (12 + kv) n k)) ∧ mI M1 e = mI M e) := by
    intro hk1 len hlen
    subst hlen
    have f0 : 0 ≤ 12 + kv ∧ 12 + kv < 16 := by omega
    refine ev_t rfl ?_
    refine ev_t rfl ?_
    refine ev_t rfl ?_
    refine ev_t rfl ?_
    refine ev_g rfl hE0 ?_
    rw [hE2]
    refine ev_g rfl (gAr hkp q1.1 q1.2) ?_
    rw [hkv]
    refine ev_g rfl q4 ?_
    refine ev_t rfl ?_
    refine ev_t rfl ?_
    refine ev_t rfl ?_
    refine ev_t rfl ?_
    refine ev_t rfl ?_
    refine sv_cp 0 200 rfl rfl (c_107 _ p t w n k M hE hn.1 hn.2) hE0 ?_
    refine ev_t rfl ?_
    refine ev_t rfl ?_
    refine ev_cv rfl hEn.1 (c_90s d e _ _ _ 2 0 M D hW he hM hs l0.1 l0.2 f0.1 f0.2 r1.1 r1.2 (by decide) (by decide) (Or.inl rfl)) (fun M1 h => ?_)
    obtain ⟨g1, ⟨g2, g3⟩, g4⟩ := h
    have hW1 := g1.wf hW
    have ep : mI M1 p = mI M p := g1.en p hp.2.1 hp.2.2 hp.1
    have hEp : isE M1 p t w n k := ⟨by rw [g1.1]; exact hE0, by rw [ep]; exact hE1, by rw [ep]; exact hE2, by rw [ep]; exact hE.2.2.2.1, by rw [ep]; exact hE4⟩
    refine ev_t rfl ?_
    refine ev_t rfl ?_
    refine ev_t rfl ?_
    refine ev_t rfl ?_
    refine ev_t rfl ?_
    refine sv_cp 0 200 rfl rfl (c_108 _ p t w n k M1 hEp hn.1 hn.2) hEp.1 ?_
    refine ev_t rfl ?_
    refine ev_g rfl hEp.1 ?_
    rw [hEp.2.2.2.2]
    have last : ∀ o : Int, o = (if k ≠ 0 then 1 else 0) → Ev (d + 4) 92 (105, [(0, vR e), (1, vR p), (2, vR kp), (3, vI ct), (4, vI cw), (5, vI (lenX (mI M 48) ct cw t w)), (6, vI (12 + kv))], [vI o, vI (eHigh n k), vI 2, vI (lenX (mI M 48) ct cw t w), vI (12 + kv), vR e]) M1 (RV fun M1 => Fe e M M1 ∧ (kv = -1 → MX M1 e D ∧ smD D) ∧ (kv ≠ -1 → MX M1 e (mEnt D (lenX (mI M 48) ct cw t w) (12 + kv) n k) ∧ smD (mEnt D (lenX (mI M 48) ct cw t w) (12 + kv) n k)) ∧ mI M1 e = mI M e) := by
      intro o ho
      have ho1 : o = 0 ∨ o = 1 := by rw [ho]; split; exact Or.inr rfl; exact Or.inl rfl
      refine ev_cv rfl (hW1.en he).1 (c_90s d e _ _ 2 _ o M1 _ hW1 he g2 g3 f0.1 f0.2 l0.1 l0.2 (by decide) (by decide) r2.1 r2.2 ho1) (fun M2 h => ?_)
      obtain ⟨x1, x2, x4⟩ := h
      refine ev_r rfl trivial ⟨rfl, g1.tr x1, fun z => absurd z hk1, fun _ => ?_, x4.trans g4⟩
      rw [ho] at x2
      exact x2
    refine sv_b 0 200 rfl rfl (fun c => ?_) (fun c => ?_)
    · have c1 : k = 0 := c
      refine ev_t rfl ?_
      exact last 0 (by rw [if_neg (fun z => z c1)])
    · have c1 : k ≠ 0 := c
      refine ev_t rfl ?_
      refine ev_t rfl ?_
      exact last 1 (by rw [if_pos c1])
  unfold Ct
  refine ev_t rfl ?_
  refine ev_t rfl ?_
  refine ev_g rfl hE0 ?_
  rw [hE2]
  refine ev_g rfl (gAr hkp q1.1 q1.2) ?_
  rw [hkv]
  refine ev_t rfl ?_
  refine sv_b 0 200 rfl rfl (fun c => ?_) (fun c => ?_)
  · have hk1 : kv ≠ -1 := c
    refine ev_t rfl ?_
    refine ev_g rfl hE0 ?_
    rw [hE1]
    refine ev_t rfl ?_
    refine sv_b 0 200 rfl rfl (fun c2 => ?_) (fun c2 => ?_)
    · have c3 : t ≠ ct := c2
      refine ev_t rfl ?_
      refine sv_fr 0 200 rfl rfl hEn.2.1.2.2.2.2.2.2 hEn.1 ?_
      refine sv_fr 0 200 rfl rfl (r_40_4 hW) (hW.k rfl (by decide) (by decide)) ?_
      refine ev_t rfl ?_
      refine sv_cp 0 200 rfl rfl (c_86 _ 46 p t w n k M (main_St hW) hE ht.1 ht.2) (main_St hW).1 ?_
      exact fin hk1 _ (by unfold lenX; rw [if_neg c3])
    · have c3 : t = ct := Classical.byContradiction fun z => c2 z
      refine ev_t rfl ?_
      refine ev_g rfl hE0 ?_
      rw [hE2]
      refine ev_t rfl ?_
      refine sv_b 0 200 rfl rfl (fun c4 => ?_) (fun c4 => ?_)
      · have c5 : ¬ cw ≤ w := fun z => absurd z (Int.not_le.mpr c4)
        refine ev_t rfl ?_
        refine ev_g rfl hE0 ?_
        rw [hE1]
        refine ev_t rfl ?_
        exact fin hk1 _ (by unfold lenX; rw [if_pos c3, if_neg c5])
      · have c5 : cw ≤ w := Int.not_lt.mp c4
        refine ev_t rfl ?_
        refine ev_g rfl hE0 ?_
        rw [hE1]
        refine ev_t rfl ?_
        refine ev_g rfl q3 ?_
        refine ev_t rfl ?_
        exact fin hk1 _ (by unfold lenX; rw [if_pos c3, if_pos c5])
  · have hk1 : kv = -1 := Classical.byContradiction fun z => c z
    exact ev_r rfl trivial ⟨rfl, Fe.rf, fun _ => ⟨hM, hs⟩, fun z => absurd hk1 z, rfl⟩
