/-! CONTRACTS, 14: what counts, as bits -/
theorem tb1 : ∀ k : Nat, k < 32 → tb 1 k = decide (k = 0) := by decide
theorem tb0 : ∀ k : Nat, k < 32 → tb 0 k = false := by decide
/-- one bit more -/
theorem tb_put {x : Int} {e : Nat} (he : e < 31) (k : Nat) (hk : k < 32) : tb (bOr x (bShl 1 e)) k = (tb x k || decide (k = e)) := by
  rw [tb_or, tb_shl (by omega) (by omega) k hk]
  congr 1
  rw [Int.toNat_natCast]
  by_cases h : k < e
  · rw [decide_eq_true h, decide_eq_false (show ¬ k = e by omega)]; rfl
  · rw [decide_eq_false h, tb1 _ (by omega)]
    by_cases h2 : k = e
    · subst h2; simp
    · rw [decide_eq_false h2, decide_eq_false (show ¬ k - e = 0 by omega)]; rfl
/-- the bits of what counts -/
def isCnt (f : Int → Int) (n : Nat) (x : Int) : Prop := okI x ∧ ∀ k : Nat, k < 32 → tb x k = (decide (k < n) && decide (f k = 1))
theorem t_28 (d A n cap : Nat) (M : XM) (hW : Wf M) (hL : isL M 52 A n cap) (hn : n ≤ 24) (hb : ∀ j : Int, 0 ≤ j → j < n → mI M 51 j = 0 ∨ mI M 51 j = 1) : ∀ (m i : Nat) (x : Int), i + m = n → isCnt (mI M 51) i x → Ev (d + 1) 28 (4, [(0, vR 40), (1, vI x), (2, vI i)], []) M (RI fun r M1 => M1 = M ∧ isCnt (mI M 51) n r) := by
  intro m
  induction m with
  | zero =>
    intro i x hi hx
    obtain rfl : i = n := by omega
    refine ev_t rfl ?_
    refine ev_t rfl ?_
    refine sv_fr 0 200 rfl rfl (r_40_4 hW) (hW.k rfl (by decide) (by decide)) ?_
    refine sv_fr 0 200 rfl rfl (r_46_5 hW) (hW.k rfl (by decide) (by decide)) ?_
    refine sv_cp 0 200 rfl rfl (c_254 _ 52 A i cap M hL) hL.1 ?_
    refine sv_bt 0 200 rfl rfl (Int.le_refl _) ?_
    refine ev_t rfl ?_
    exact ev_r rfl trivial ⟨_, rfl, rfl, hx⟩
  | succ m ih =>
    intro i x hi hx
    have q1 : ¬ (n : Int) ≤ i := by omega
    have q2 : 0 ≤ (i : Int) ∧ (i : Int) < n ∧ (i : Int) < 24 := by omega
    have q3 : -2147483648 ≤ (i : Int) + 1 ∧ (i : Int) + 1 < 2147483648 := by omega
    have qa : ((i + 1 : Nat) : Int) = (i : Int) + 1 := by omega
    have hi31 : i < 31 := by omega
    have q6 : i + 1 + m = n := by omega
    have nxt : ∀ y : Int, isCnt (mI M 51) (i + 1) y → ∀ o : Int, bOr x o = y → Ev (d + 1) 28 (38, [(0, vR 40), (1, vI x), (2, vI i)], [vI o, vI x]) M (RI fun r M1 => M1 = M ∧ isCnt (mI M 51) n r) := by
      intro y hy o ho
      subst ho
      have ih1 := ih (i + 1) _ q6 hy
      rw [qa] at ih1
      refine ev_t rfl ?_
      refine ev_t rfl ?_
      refine ev_g rfl q3 ?_
      refine ev_t rfl ?_
      exact ih1
    refine ev_t rfl ?_
    refine ev_t rfl ?_
    refine sv_fr 0 200 rfl rfl (r_40_4 hW) (hW.k rfl (by decide) (by decide)) ?_
    refine sv_fr 0 200 rfl rfl (r_46_5 hW) (hW.k rfl (by decide) (by decide)) ?_
    refine sv_cp 0 200 rfl rfl (c_254 _ 52 A n cap M hL) hL.1 ?_
    refine sv_bf 0 200 rfl rfl q1 ?_
    refine ev_t rfl ?_
    refine ev_t rfl ?_
    refine sv_fr 0 200 rfl rfl (r_40_4 hW) (hW.k rfl (by decide) (by decide)) ?_
    refine sv_fr 0 200 rfl rfl (r_46_4 hW) (hW.k rfl (by decide) (by decide)) ?_
    refine ev_t rfl ?_
    refine ev_g rfl (hW.a rfl (by decide) (by decide) q2.1 q2.2.2) ?_
    refine sv_b 0 200 rfl rfl (fun c => ?_) (fun c => ?_)
    · have c1 : mI M 51 i = 0 := c
      refine ev_t rfl ?_
      refine nxt x ⟨hx.1, fun k hk => ?_⟩ 0 (tb_ext (ok_or _ _) hx.1 (fun k hk => by rw [tb_or, tb0 k hk, Bool.or_false]))
      rw [hx.2 k hk]
      by_cases e : k = i
      · subst e
        rw [c1]
        simp
      · have : (k < i + 1) = (k < i) := propext ⟨fun z => by omega, fun z => by omega⟩
        simp only [this]
    · have c1 : mI M 51 i = 1 := (hb i q2.1 q2.2.1).resolve_left c
      refine ev_t rfl ?_
      refine ev_t rfl ?_
      refine ev_t rfl ?_
      refine ev_t rfl ?_
      refine nxt _ ⟨ok_or _ _, fun k hk => ?_⟩ _ rfl
      rw [tb_put hi31 k hk, hx.2 k hk]
      by_cases e : k = i
      · subst e
        rw [c1]
        simp
      · have : (k < i + 1) = (k < i) := propext ⟨fun z => by omega, fun z => by omega⟩
        simp only [this, decide_eq_false e, Bool.or_false]
theorem c_28 (d A n cap : Nat) (M : XM) (hW : Wf M) (hL : isL M 52 A n cap) (hn : n ≤ 24) (hb : ∀ j : Int, 0 ≤ j → j < n → mI M 51 j = 0 ∨ mI M 51 j = 1) : Ct (d + 1) 28 [vR 40] M (RI fun r M1 => M1 = M ∧ isCnt (mI M 51) n r) := by
  unfold Ct
  refine ev_t rfl ?_
  refine ev_t rfl ?_
  refine ev_t rfl ?_
  refine ev_t rfl ?_
  refine ev_h (L1 := [(0, vR 40), (1, vI 0), (2, vI (0 : Nat))]) rfl ?_
  exact t_28 d A n cap M hW hL hn hb n 0 0 (Nat.zero_add _) ⟨by unfold okI; decide, fun k hk => by rw [tb0 k hk]; simp⟩
