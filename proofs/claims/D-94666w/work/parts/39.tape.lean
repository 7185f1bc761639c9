/-! CONTRACTS, 16: the component's tape -/
theorem c_21 (d : Nat) (n : Int) (M : XM) (hW : Wf M) : Ct d 21 [vR 40, vI n] M (RI fun r M1 => (0 ≤ n ∧ n ≤ mI M 40 7 → r = n ∧ M1 = wI M 40 (ui (mI M 40) 7 n)) ∧ (¬ (0 ≤ n ∧ n ≤ mI M 40 7) → r = -1 ∧ M1 = M)) := by
  unfold Ct
  refine ev_t rfl ?_
  refine sv_b 0 200 rfl rfl (fun c => ?_) (fun c => ?_)
  · have c1 : n < 0 := c
    refine ev_t rfl ?_
    exact ev_r rfl trivial ⟨_, rfl, fun z => absurd z.1 (by omega), fun _ => ⟨rfl, rfl⟩⟩
  · have c1 : ¬ n < 0 := c
    refine ev_t rfl ?_
    refine ev_t rfl ?_
    refine ev_g rfl (hW.k rfl (by decide) (by decide)) ?_
    refine sv_b 0 200 rfl rfl (fun c2 => ?_) (fun c2 => ?_)
    · have c3 : n ≤ mI M 40 7 := c2
      refine ev_t rfl ?_
      refine ev_t rfl ?_
      refine ev_g rfl (hW.k rfl (by decide) (by decide)) ?_
      refine ev_t rfl ?_
      exact ev_r rfl trivial ⟨_, rfl, fun _ => ⟨rfl, rfl⟩, fun z => absurd ⟨by omega, c3⟩ z⟩
    · have c3 : ¬ n ≤ mI M 40 7 := c2
      refine ev_t rfl ?_
      exact ev_r rfl trivial ⟨_, rfl, fun z => absurd z.2 c3, fun _ => ⟨rfl, rfl⟩⟩
theorem byte_b (x : Int) : -128 ≤ bByte x ∧ bByte x < 128 := by
  unfold bByte
  rw [Int8.toInt_toInt32]
  exact ⟨Int8.le_toInt _, Int8.toInt_lt _⟩
/-- one byte more on the tape -/
def pB (M : XM) (b : Int) : XM := wI (wI M 55 (ui (mI M 55) (mI M 40 7) b)) 40 (ui (mI M 40) 7 (mI M 40 7 + 1))
theorem s_20 (d : Nat) (v k : Int) (M : XM) (hW : Wf M) (hk : 0 ≤ k ∧ k ≤ 24) (h0 : 0 ≤ mI M 40 7) (h1 : mI M 40 7 < 400) (Q : XO → XM → Prop) (kk : Ev d 20 (3, [(0, vR 40), (1, vI v), (2, vI (k + -8))], []) (pB M (bByte (bShr v k))) Q) : Ev d 20 (3, [(0, vR 40), (1, vI v), (2, vI k)], []) M Q := by
  have q1 : ¬ k < 0 := by omega
  have q2 : -2147483648 ≤ mI M 40 7 + 1 ∧ mI M 40 7 + 1 < 2147483648 := by omega
  have q3 : -2147483648 ≤ k + -8 ∧ k + -8 < 2147483648 := by omega
  have e1 : ∀ f, mI (wI M 55 f) 40 = mI M 40 := fun f => by rw [mI_wI, up_n _ _ (by decide)]
  refine ev_t rfl ?_
  refine sv_bf 0 200 rfl rfl q1 ?_
  refine ev_t rfl ?_
  refine sv_fr 0 200 rfl rfl (r_40_6 hW) (hW.k rfl (by decide) (by decide)) ?_
  refine ev_t rfl ?_
  refine ev_g rfl (hW.k rfl (by decide) (by decide)) ?_
  refine ev_t rfl ?_
  refine ev_t rfl ?_
  refine ev_t rfl ?_
  refine ev_t rfl ?_
  refine ev_g rfl ⟨hW.a rfl (by decide) (by decide) h0 h1, byte_b _⟩ ?_
  refine ev_t rfl ?_
  refine ev_t rfl ?_
  refine ev_g rfl (hW.k rfl (by decide) (by decide)) ?_
  rw [e1]
  refine ev_t rfl ?_
  refine ev_g rfl q2 ?_
  refine ev_g rfl (hW.k rfl (by decide) (by decide)) ?_
  rw [e1]
  refine ev_g rfl q3 ?_
  refine ev_t rfl ?_
  exact kk
def pF (M : XM) (v : Int) : XM := pB (pB (pB (pB M (bByte (bShr v 24))) (bByte (bShr v 16))) (bByte (bShr v 8))) (bByte (bShr v 0))
theorem pB_t (M : XM) (b : Int) : mI (pB M b) 40 7 = mI M 40 7 + 1 := by unfold pB; rw [mI_wI, up_s, ui_s]
theorem c_20 (d : Nat) (v : Int) (M : XM) (hW : Wf M) (h0 : 0 ≤ mI M 40 7) (h1 : mI M 40 7 ≤ 396) : Ct d 20 [vR 40, vI v] M (RV fun M1 => M1 = pF M v) := by
  unfold Ct
  refine ev_t rfl ?_
  refine ev_t rfl ?_
  refine s_20 d v 24 M hW (by decide) h0 (by omega) _ ?_
  refine s_20 d v 16 (pB M _) hW (by decide) (by rw [pB_t]; omega) (by rw [pB_t]; omega) _ ?_
  refine s_20 d v 8 (pB (pB M _) _) hW (by decide) (by rw [pB_t, pB_t]; omega) (by rw [pB_t, pB_t]; omega) _ ?_
  refine s_20 d v 0 (pB (pB (pB M _) _) _) hW (by decide) (by rw [pB_t, pB_t, pB_t]; omega) (by rw [pB_t, pB_t, pB_t]; omega) _ ?_
  refine ev_t rfl ?_
  refine sv_bt 0 200 rfl rfl (by decide) ?_
  exact ev_r rfl trivial ⟨rfl, rfl⟩
theorem pF_t (M : XM) (v : Int) : mI (pF M v) 40 7 = mI M 40 7 + 4 := by unfold pF; rw [pB_t, pB_t, pB_t, pB_t]; omega
theorem pF_w {M : XM} (h : Wf M) (v : Int) : Wf (pF M v) := h
def pW (M : XM) (a b c d e : Int) : XM := pF (pF (pF (pF (pF M a) b) c) d) e
theorem c_19 (n : Nat) (a b c d e : Int) (M : XM) (hW : Wf M) (h0 : 0 ≤ mI M 40 7) (h1 : mI M 40 7 ≤ 400) : Ct (n + 1) 19 [vR 40, vI a, vI b, vI c, vI d, vI e] M (RI fun r M1 => (mI M 40 7 ≤ 380 → r = mI M 40 7 + 20 ∧ M1 = pW M a b c d e) ∧ (¬ mI M 40 7 ≤ 380 → r = -1 ∧ M1 = M)) := by
  have q1 : -2147483648 ≤ mI M 40 7 + 20 ∧ mI M 40 7 + 20 < 2147483648 := by omega
  unfold Ct
  refine ev_t rfl ?_
  refine ev_g rfl (hW.k rfl (by decide) (by decide)) ?_
  refine ev_t rfl ?_
  refine ev_g rfl q1 ?_
  refine ev_t rfl ?_
  refine sv_b 0 200 rfl rfl (fun x => ?_) (fun x => ?_)
  · have x1 : mI M 40 7 + 20 ≤ 400 := x
    have w1 := pF_w hW a
    have w2 := pF_w w1 b
    have w3 := pF_w w2 c
    have w4 := pF_w w3 d
    have w5 := pF_w w4 e
    refine ev_t rfl ?_
    refine ev_t rfl ?_
    refine ev_cv rfl (hW.k rfl (by decide) (by decide)) (c_20 _ a M hW h0 (by omega)) (fun M1 h => ?_)
    subst h
    refine ev_t rfl ?_
    refine ev_t rfl ?_
    refine ev_cv rfl (w1.k rfl (by decide) (by decide)) (c_20 _ b (pF M a) w1 (by rw [pF_t]; omega) (by rw [pF_t]; omega)) (fun M1 h => ?_)
    subst h
    refine ev_t rfl ?_
    refine ev_t rfl ?_
    refine ev_cv rfl (w2.k rfl (by decide) (by decide)) (c_20 _ c (pF (pF M a) b) w2 (by rw [pF_t, pF_t]; omega) (by rw [pF_t, pF_t]; omega)) (fun M1 h => ?_)
    subst h
    refine ev_t rfl ?_
    refine ev_t rfl ?_
    refine ev_cv rfl (w3.k rfl (by decide) (by decide)) (c_20 _ d (pF (pF (pF M a) b) c) w3 (by rw [pF_t, pF_t, pF_t]; omega) (by rw [pF_t, pF_t, pF_t]; omega)) (fun M1 h => ?_)
    subst h
    refine ev_t rfl ?_
    refine ev_t rfl ?_
    refine ev_cv rfl (w4.k rfl (by decide) (by decide)) (c_20 _ e (pF (pF (pF (pF M a) b) c) d) w4 (by rw [pF_t, pF_t, pF_t, pF_t]; omega) (by rw [pF_t, pF_t, pF_t, pF_t]; omega)) (fun M1 h => ?_)
    subst h
    refine ev_t rfl ?_
    refine ev_g rfl (w5.k rfl (by decide) (by decide)) ?_
    exact ev_r rfl trivial ⟨_, rfl, fun _ => ⟨by rw [pF_t, pF_t, pF_t, pF_t, pF_t]; omega, rfl⟩, fun z => absurd (by omega) z⟩
  · have x1 : ¬ mI M 40 7 + 20 ≤ 400 := x
    refine ev_t rfl ?_
    exact ev_r rfl trivial ⟨_, rfl, fun z => absurd z (by omega), fun _ => ⟨rfl, rfl⟩⟩
