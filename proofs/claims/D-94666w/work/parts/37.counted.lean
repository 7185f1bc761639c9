/-! CONTRACTS, 14: what counts, as bits -/
theorem tb1 : ∀ k : Nat, k < 32 → tb 1 k = decide (k = 0) := by decide
theorem tb0 : ∀ k : Nat, k < 32 → tb 0 k = false := by decide
/-- one bit more -/
theorem tb_put {x : Int} {e : Nat} (he : e < 31) (k : Nat) (hk : k < 32) : tb (bOr x (bShl 1 e)) k = (tb x k || decide (k = e)) := by
  rw [tb_or, tb_shl (by omega) (by omega) k hk]
  congr 1
  rw [Int.toNat_natCast]
  by_cases h : k < e
  · rw [decide_eq_true h, decide_eq_false (show ¬ k = e by omega)]; rfl
  · rw [decide_eq_false h, tb1 _ (by omega)]
    by_cases h2 : k = e
    · subst h2; simp
    · rw [decide_eq_false h2, decide_eq_false (show ¬ k - e = 0 by omega)]; rfl
