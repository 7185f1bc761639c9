/-! CONTRACTS, 2: the cells that stand from the constructors on (printed by tools/lay.py) -/
def fS0 (a : Nat) : Nat × Nat := if a < 52 then (if a < 46 then (if a < 43 then (if a < 41 then (if a = 40 then (1, 0) else (0, 0)) else (if a < 42 then (if a = 41 then (100, 7) else (0, 0)) else (if a = 42 then (2, 0) else (0, 0)))) else (if a < 44 then (if a = 43 then (100, 7) else (0, 0)) else (if a < 45 then (if a = 44 then (2, 0) else (0, 0)) else (if a = 45 then (100, 7) else (0, 0))))) else (if a < 49 then (if a < 47 then (if a = 46 then (3, 0) else (0, 0)) else (if a < 48 then (if a = 47 then (100, 32) else (0, 0)) else (if a = 48 then (100, 6) else (0, 0)))) else (if a < 50 then (if a = 49 then (100, 12) else (0, 0)) else (if a < 51 then (if a = 50 then (100, 16) else (0, 0)) else (if a = 51 then (101, 24) else (0, 0)))))) else (if a < 58 then (if a < 55 then (if a < 53 then (if a = 52 then (16, 0) else (0, 0)) else (if a < 54 then (if a = 53 then (104, 4) else (0, 0)) else (if a = 54 then (105, 2) else (0, 0)))) else (if a < 56 then (if a = 55 then (102, 400) else (0, 0)) else (if a < 57 then (if a = 56 then (4, 0) else (0, 0)) else (if a = 57 then (106, 256) else (0, 0))))) else (if a < 61 then (if a < 59 then (if a = 58 then (106, 256) else (0, 0)) else (if a < 60 then (if a = 59 then (2, 0) else (0, 0)) else (if a = 60 then (100, 7) else (0, 0)))) else (if a < 63 then (if a < 62 then (if a = 61 then (2, 0) else (0, 0)) else (if a = 62 then (100, 7) else (0, 0))) else (if a < 64 then (if a = 63 then (101, 256) else (0, 0)) else (if a = 64 then (101, 256) else (0, 0))))))
def fS1 (a : Nat) : Nat × Nat := if a < 1093 then (if a < 1091 then (if a < 1090 then (if a = 1089 then (4, 0) else (0, 0)) else (if a = 1090 then (106, 256) else (0, 0))) else (if a < 1092 then (if a = 1091 then (106, 256) else (0, 0)) else (if a = 1092 then (2, 0) else (0, 0)))) else (if a < 1095 then (if a < 1094 then (if a = 1093 then (100, 7) else (0, 0)) else (if a = 1094 then (2, 0) else (0, 0))) else (if a < 1096 then (if a = 1095 then (100, 7) else (0, 0)) else (if a < 1097 then (if a = 1096 then (101, 256) else (0, 0)) else (if a = 1097 then (101, 256) else (0, 0)))))
def fS2 (a : Nat) : Nat × Nat := if a < 2130 then (if a < 2126 then (if a < 2124 then (if a < 2123 then (if a = 2122 then (107, 300) else (0, 0)) else (if a = 2123 then (2, 0) else (0, 0))) else (if a < 2125 then (if a = 2124 then (100, 7) else (0, 0)) else (if a = 2125 then (2, 0) else (0, 0)))) else (if a < 2128 then (if a < 2127 then (if a = 2126 then (100, 7) else (0, 0)) else (if a = 2127 then (2, 0) else (0, 0))) else (if a < 2129 then (if a = 2128 then (100, 7) else (0, 0)) else (if a = 2129 then (2, 0) else (0, 0))))) else (if a < 2134 then (if a < 2132 then (if a < 2131 then (if a = 2130 then (100, 7) else (0, 0)) else (if a = 2131 then (100, 16) else (0, 0))) else (if a < 2133 then (if a = 2132 then (5, 0) else (0, 0)) else (if a = 2133 then (100, 32) else (0, 0)))) else (if a < 2136 then (if a < 2135 then (if a = 2134 then (100, 32) else (0, 0)) else (if a = 2135 then (100, 128) else (0, 0))) else (if a < 2137 then (if a = 2136 then (6, 0) else (0, 0)) else (if a = 2137 then (100, 32) else (0, 0)))))
def fS3 (a : Nat) : Nat × Nat := if a < 2455 then (if a < 2445 then (if a < 2440 then (if a < 2437 then (if a < 2436 then (if a = 2435 then (8, 0) else (0, 0)) else (if a = 2436 then (100, 7) else (0, 0))) else (if a < 2438 then (if a = 2437 then (100, 200) else (0, 0)) else (if a < 2439 then (if a = 2438 then (100, 400) else (0, 0)) else (if a = 2439 then (101, 2) else (0, 0))))) else (if a < 2442 then (if a < 2441 then (if a = 2440 then (100, 400) else (0, 0)) else (if a = 2441 then (100, 1000) else (0, 0))) else (if a < 2443 then (if a = 2442 then (103, 10) else (0, 0)) else (if a < 2444 then (if a = 2443 then (103, 10) else (0, 0)) else (if a = 2444 then (100, 60) else (0, 0)))))) else (if a < 2450 then (if a < 2447 then (if a < 2446 then (if a = 2445 then (100, 60) else (0, 0)) else (if a = 2446 then (100, 60) else (0, 0))) else (if a < 2448 then (if a = 2447 then (100, 60) else (0, 0)) else (if a < 2449 then (if a = 2448 then (101, 60) else (0, 0)) else (if a = 2449 then (100, 32) else (0, 0))))) else (if a < 2452 then (if a < 2451 then (if a = 2450 then (100, 6) else (0, 0)) else (if a = 2451 then (103, 80) else (0, 0))) else (if a < 2453 then (if a = 2452 then (103, 80) else (0, 0)) else (if a < 2454 then (if a = 2453 then (101, 16) else (0, 0)) else (if a = 2454 then (101, 16) else (0, 0))))))) else (if a < 2465 then (if a < 2460 then (if a < 2457 then (if a < 2456 then (if a = 2455 then (103, 80) else (0, 0)) else (if a = 2456 then (103, 80) else (0, 0))) else (if a < 2458 then (if a = 2457 then (101, 16) else (0, 0)) else (if a < 2459 then (if a = 2458 then (101, 16) else (0, 0)) else (if a = 2459 then (103, 5) else (0, 0))))) else (if a < 2462 then (if a < 2461 then (if a = 2460 then (103, 5) else (0, 0)) else (if a = 2461 then (101, 256) else (0, 0))) else (if a < 2463 then (if a = 2462 then (103, 10) else (0, 0)) else (if a < 2464 then (if a = 2463 then (103, 10) else (0, 0)) else (if a = 2464 then (103, 5) else (0, 0)))))) else (if a < 2470 then (if a < 2467 then (if a < 2466 then (if a = 2465 then (103, 20) else (0, 0)) else (if a = 2466 then (103, 10) else (0, 0))) else (if a < 2468 then (if a = 2467 then (103, 10) else (0, 0)) else (if a < 2469 then (if a = 2468 then (103, 10) else (0, 0)) else (if a = 2469 then (103, 10) else (0, 0))))) else (if a < 2472 then (if a < 2471 then (if a = 2470 then (103, 3) else (0, 0)) else (if a = 2471 then (103, 3) else (0, 0))) else (if a < 2473 then (if a = 2472 then (100, 16) else (0, 0)) else (if a < 2474 then (if a = 2473 then (100, 3) else (0, 0)) else (if a = 2474 then (100, 32) else (0, 0)))))))
def fSb (a : Nat) : Nat × Nat := if a % 2 = 0 then (100, 7) else (2, 0)
def fSc (a : Nat) : Nat × Nat := if a % 2 = 0 then (2, 0) else (100, 7)
/-- kind and length -/
def fS (a : Nat) : Nat × Nat := if a < 1098 then (if a < 65 then fS0 a else if a < 1089 then fSb a else fS1 a) else if a < 2138 then (if a < 2122 then fSc a else fS2 a) else if a < 2435 then (7, 0) else fS3 a
def fR0 (a : Nat) (k : Int) : Nat := if a < 46 then (if a < 42 then (if a = 40 then (if k = 1 then 41 else if k = 2 then 42 else if k = 3 then 44 else if k = 4 then 46 else if k = 5 then 54 else if k = 6 then 55 else if k = 11 then 56 else if k = 12 then 1089 else if k = 13 then 2122 else if k = 14 then 2123 else if k = 15 then 2125 else if k = 16 then 2127 else if k = 17 then 2129 else if k = 21 then 2131 else if k = 26 then 2132 else if k = 27 then 2136 else 0) else 0) else (if a < 44 then (if a = 42 then (if k = 0 then 43 else 0) else 0) else (if a = 44 then (if k = 0 then 45 else 0) else 0))) else (if a < 59 then (if a < 56 then (if a = 46 then (if k = 0 then 47 else if k = 1 then 48 else if k = 2 then 49 else if k = 3 then 50 else if k = 4 then 51 else if k = 5 then 52 else 0) else 0) else (if a = 56 then (if k = 0 then 57 else if k = 1 then 58 else if k = 2 then 59 else if k = 3 then 61 else if k = 4 then 63 else if k = 5 then 64 else if k = 8 then 40 else 0) else 0)) else (if a < 61 then (if a = 59 then (if k = 0 then 60 else 0) else 0) else (if a = 61 then (if k = 0 then 62 else 0) else 0)))
def fR1 (a : Nat) (k : Int) : Nat := if a < 1092 then (if a = 1089 then (if k = 0 then 1090 else if k = 1 then 1091 else if k = 2 then 1092 else if k = 3 then 1094 else if k = 4 then 1096 else if k = 5 then 1097 else if k = 8 then 40 else 0) else 0) else (if a < 1094 then (if a = 1092 then (if k = 0 then 1093 else 0) else 0) else (if a = 1094 then (if k = 0 then 1095 else 0) else 0))
def fR2 (a : Nat) (k : Int) : Nat := if a < 2129 then (if a < 2125 then (if a = 2123 then (if k = 0 then 2124 else 0) else 0) else (if a < 2127 then (if a = 2125 then (if k = 0 then 2126 else 0) else 0) else (if a = 2127 then (if k = 0 then 2128 else 0) else 0))) else (if a < 2132 then (if a = 2129 then (if k = 0 then 2130 else 0) else 0) else (if a < 2136 then (if a = 2132 then (if k = 0 then 2133 else if k = 1 then 2134 else if k = 2 then 2135 else if k = 6 then 40 else 0) else 0) else (if a = 2136 then (if k = 0 then 2137 else if k = 5 then 40 else 0) else 0)))
def fR3 (a : Nat) (k : Int) : Nat := if a = 2435 then (if k = 2 then 2436 else if k = 3 then 2437 else if k = 4 then 2438 else if k = 5 then 2439 else if k = 7 then 2440 else if k = 15 then 2441 else if k = 19 then 2442 else if k = 20 then 2443 else if k = 22 then 2444 else if k = 23 then 2445 else if k = 24 then 2446 else if k = 25 then 2447 else if k = 26 then 2448 else if k = 27 then 2449 else if k = 28 then 2450 else if k = 29 then 2451 else if k = 30 then 2452 else if k = 31 then 2453 else if k = 32 then 2454 else if k = 33 then 2455 else if k = 34 then 2456 else if k = 35 then 2457 else if k = 36 then 2458 else if k = 37 then 2459 else if k = 38 then 2460 else if k = 39 then 2461 else if k = 40 then 2462 else if k = 41 then 2463 else if k = 42 then 2464 else if k = 43 then 2465 else if k = 48 then 2466 else if k = 49 then 2467 else if k = 50 then 2468 else if k = 51 then 2469 else if k = 52 then 2470 else if k = 53 then 2471 else if k = 56 then 2472 else if k = 57 then 2473 else if k = 59 then 2474 else 0) else 0
/-- the rows of upper and lower numbers; a number's places -/
def fRb (a : Nat) (k : Int) : Nat := if a % 2 = 0 then 0 else if k = 0 then a + 1 else 0
def fRc (a : Nat) (k : Int) : Nat := if a % 2 = 0 then (if k = 0 then a + 1 else 0) else 0
def fRn (b : Nat) (k : Int) : Nat := if 0 ≤ k ∧ k < 256 then b + 4 * k.toNat else 0
def fR (a : Nat) (k : Int) : Nat := if a = 57 then fRn 65 k else if a = 58 then fRn 67 k else if a = 1090 then fRn 1098 k else if a = 1091 then fRn 1100 k else if a = 2122 then (if 3 ≤ k ∧ k < 300 then 2135 + k.toNat else 0) else if a < 1098 then (if a < 65 then fR0 a k else if a < 1089 then fRb a k else fR1 a k) else if a < 2138 then (if a < 2122 then fRc a k else fR2 a k) else if a < 2435 then 0 else fR3 a k
def Wf (M : XM) : Prop := 2475 ≤ mN M ∧ (∀ a, 40 ≤ a → a < 2475 → mS M a = fS a) ∧ ∀ a k, fR a k ≠ 0 → mR M a k = fR a k
theorem Wf.k {M : XM} (h : Wf M) {a kd n : Nat} (e : fS a = (kd, n)) (h1 : 40 ≤ a) (h2 : a < 2475) : (mS M a).1 = kd := by rw [h.2.1 a h1 h2, e]
theorem Wf.l {M : XM} (h : Wf M) {a kd n : Nat} (e : fS a = (kd, n)) (h1 : 40 ≤ a) (h2 : a < 2475) : (mS M a).2 = n := by rw [h.2.1 a h1 h2, e]
theorem Wf.a {M : XM} (h : Wf M) {a kd n : Nat} {i : Int} (e : fS a = (kd, n)) (h1 : 40 ≤ a) (h2 : a < 2475) (h3 : 0 ≤ i) (h4 : i < (n : Int)) : (mS M a).1 = kd ∧ 0 ≤ i ∧ i < ((mS M a).2 : Int) := by
  rw [h.2.1 a h1 h2, e]; exact ⟨rfl, h3, h4⟩
theorem Wf.r {M : XM} (h : Wf M) {a : Nat} {k : Int} {v : Nat} (e : fR a k = v) (h1 : v ≠ 0) : mR M a k = v := by rw [← e]; exact h.2.2 a k (by rw [e]; exact h1)
theorem Wf.wI {M : XM} (h : Wf M) (a : Nat) (f : Int → Int) : Wf (wI M a f) := h
theorem Wf.wJ {M : XM} (h : Wf M) (a : Nat) (f : Int → Int) : Wf (wJ M a f) := h
theorem Wf.wR {M : XM} (h : Wf M) (a : Nat) (f : Int → Nat) (hf : ∀ k, fR a k ≠ 0 → f k = fR a k) : Wf (wR M a f) := by
  refine ⟨h.1, h.2.1, fun b k hb => ?_⟩
  rw [mR_wR]
  by_cases e : b = a
  · subst e; rw [up_s]; exact hf k hb
  · rw [up_n _ _ e]; exact h.2.2 b k hb
theorem fR_hi {a : Nat} (h : 2475 ≤ a) (k : Int) : fR a k = 0 := by
  unfold fR
  rw [if_neg (by omega), if_neg (by omega), if_neg (by omega), if_neg (by omega), if_neg (by omega), if_neg (by omega), if_neg (by omega), if_neg (by omega)]
  unfold fR3
  simp only [show ∀ n : Nat, n < 2475 → ¬ a < n from fun n hn => by omega, show ¬ a = 2435 by omega, if_false, if_neg]
theorem Wf.nO {M : XM} (h : Wf M) (kd n s : Nat) : Wf (nO M kd n s) := by
  refine ⟨by rw [mN_nO]; have := h.1; omega, fun a h1 h2 => ?_, fun b k hb => ?_⟩
  · rw [mS_nO, up_n _ _ (by have := h.1; omega)]; exact h.2.1 a h1 h2
  · have hb2 : b < 2475 := by
      rcases Nat.lt_or_ge b 2475 with z | z
      · exact z
      · exact absurd (fR_hi z k) hb
    rw [mR_nO, up_n _ _ (by have := h.1; omega)]; exact h.2.2 b k hb
theorem r_40_1 {M : XM} (h : Wf M) : mR M 40 1 = 41 := h.r rfl (by decide)
theorem r_40_2 {M : XM} (h : Wf M) : mR M 40 2 = 42 := h.r rfl (by decide)
theorem r_40_3 {M : XM} (h : Wf M) : mR M 40 3 = 44 := h.r rfl (by decide)
theorem r_40_4 {M : XM} (h : Wf M) : mR M 40 4 = 46 := h.r rfl (by decide)
theorem r_40_5 {M : XM} (h : Wf M) : mR M 40 5 = 54 := h.r rfl (by decide)
theorem r_40_6 {M : XM} (h : Wf M) : mR M 40 6 = 55 := h.r rfl (by decide)
theorem r_40_11 {M : XM} (h : Wf M) : mR M 40 11 = 56 := h.r rfl (by decide)
theorem r_40_12 {M : XM} (h : Wf M) : mR M 40 12 = 1089 := h.r rfl (by decide)
theorem r_40_13 {M : XM} (h : Wf M) : mR M 40 13 = 2122 := h.r rfl (by decide)
theorem r_40_14 {M : XM} (h : Wf M) : mR M 40 14 = 2123 := h.r rfl (by decide)
theorem r_40_15 {M : XM} (h : Wf M) : mR M 40 15 = 2125 := h.r rfl (by decide)
theorem r_40_16 {M : XM} (h : Wf M) : mR M 40 16 = 2127 := h.r rfl (by decide)
theorem r_40_17 {M : XM} (h : Wf M) : mR M 40 17 = 2129 := h.r rfl (by decide)
theorem r_40_21 {M : XM} (h : Wf M) : mR M 40 21 = 2131 := h.r rfl (by decide)
theorem r_40_26 {M : XM} (h : Wf M) : mR M 40 26 = 2132 := h.r rfl (by decide)
theorem r_40_27 {M : XM} (h : Wf M) : mR M 40 27 = 2136 := h.r rfl (by decide)
theorem r_42_0 {M : XM} (h : Wf M) : mR M 42 0 = 43 := h.r rfl (by decide)
theorem r_44_0 {M : XM} (h : Wf M) : mR M 44 0 = 45 := h.r rfl (by decide)
theorem r_46_0 {M : XM} (h : Wf M) : mR M 46 0 = 47 := h.r rfl (by decide)
theorem r_46_1 {M : XM} (h : Wf M) : mR M 46 1 = 48 := h.r rfl (by decide)
theorem r_46_2 {M : XM} (h : Wf M) : mR M 46 2 = 49 := h.r rfl (by decide)
theorem r_46_3 {M : XM} (h : Wf M) : mR M 46 3 = 50 := h.r rfl (by decide)
theorem r_46_4 {M : XM} (h : Wf M) : mR M 46 4 = 51 := h.r rfl (by decide)
theorem r_46_5 {M : XM} (h : Wf M) : mR M 46 5 = 52 := h.r rfl (by decide)
theorem r_56_0 {M : XM} (h : Wf M) : mR M 56 0 = 57 := h.r rfl (by decide)
theorem r_56_1 {M : XM} (h : Wf M) : mR M 56 1 = 58 := h.r rfl (by decide)
theorem r_56_2 {M : XM} (h : Wf M) : mR M 56 2 = 59 := h.r rfl (by decide)
theorem r_56_3 {M : XM} (h : Wf M) : mR M 56 3 = 61 := h.r rfl (by decide)
theorem r_56_4 {M : XM} (h : Wf M) : mR M 56 4 = 63 := h.r rfl (by decide)
theorem r_56_5 {M : XM} (h : Wf M) : mR M 56 5 = 64 := h.r rfl (by decide)
theorem r_56_8 {M : XM} (h : Wf M) : mR M 56 8 = 40 := h.r rfl (by decide)
theorem r_59_0 {M : XM} (h : Wf M) : mR M 59 0 = 60 := h.r rfl (by decide)
theorem r_61_0 {M : XM} (h : Wf M) : mR M 61 0 = 62 := h.r rfl (by decide)
theorem r_1089_0 {M : XM} (h : Wf M) : mR M 1089 0 = 1090 := h.r rfl (by decide)
theorem r_1089_1 {M : XM} (h : Wf M) : mR M 1089 1 = 1091 := h.r rfl (by decide)
theorem r_1089_2 {M : XM} (h : Wf M) : mR M 1089 2 = 1092 := h.r rfl (by decide)
theorem r_1089_3 {M : XM} (h : Wf M) : mR M 1089 3 = 1094 := h.r rfl (by decide)
theorem r_1089_4 {M : XM} (h : Wf M) : mR M 1089 4 = 1096 := h.r rfl (by decide)
theorem r_1089_5 {M : XM} (h : Wf M) : mR M 1089 5 = 1097 := h.r rfl (by decide)
theorem r_1089_8 {M : XM} (h : Wf M) : mR M 1089 8 = 40 := h.r rfl (by decide)
theorem r_1092_0 {M : XM} (h : Wf M) : mR M 1092 0 = 1093 := h.r rfl (by decide)
theorem r_1094_0 {M : XM} (h : Wf M) : mR M 1094 0 = 1095 := h.r rfl (by decide)
theorem r_2123_0 {M : XM} (h : Wf M) : mR M 2123 0 = 2124 := h.r rfl (by decide)
theorem r_2125_0 {M : XM} (h : Wf M) : mR M 2125 0 = 2126 := h.r rfl (by decide)
theorem r_2127_0 {M : XM} (h : Wf M) : mR M 2127 0 = 2128 := h.r rfl (by decide)
theorem r_2129_0 {M : XM} (h : Wf M) : mR M 2129 0 = 2130 := h.r rfl (by decide)
theorem r_2132_0 {M : XM} (h : Wf M) : mR M 2132 0 = 2133 := h.r rfl (by decide)
theorem r_2132_1 {M : XM} (h : Wf M) : mR M 2132 1 = 2134 := h.r rfl (by decide)
theorem r_2132_2 {M : XM} (h : Wf M) : mR M 2132 2 = 2135 := h.r rfl (by decide)
theorem r_2132_6 {M : XM} (h : Wf M) : mR M 2132 6 = 40 := h.r rfl (by decide)
theorem r_2136_0 {M : XM} (h : Wf M) : mR M 2136 0 = 2137 := h.r rfl (by decide)
theorem r_2136_5 {M : XM} (h : Wf M) : mR M 2136 5 = 40 := h.r rfl (by decide)
theorem r_2435_2 {M : XM} (h : Wf M) : mR M 2435 2 = 2436 := h.r rfl (by decide)
theorem r_2435_3 {M : XM} (h : Wf M) : mR M 2435 3 = 2437 := h.r rfl (by decide)
theorem r_2435_4 {M : XM} (h : Wf M) : mR M 2435 4 = 2438 := h.r rfl (by decide)
theorem r_2435_5 {M : XM} (h : Wf M) : mR M 2435 5 = 2439 := h.r rfl (by decide)
theorem r_2435_7 {M : XM} (h : Wf M) : mR M 2435 7 = 2440 := h.r rfl (by decide)
theorem r_2435_15 {M : XM} (h : Wf M) : mR M 2435 15 = 2441 := h.r rfl (by decide)
theorem r_2435_19 {M : XM} (h : Wf M) : mR M 2435 19 = 2442 := h.r rfl (by decide)
theorem r_2435_20 {M : XM} (h : Wf M) : mR M 2435 20 = 2443 := h.r rfl (by decide)
theorem r_2435_22 {M : XM} (h : Wf M) : mR M 2435 22 = 2444 := h.r rfl (by decide)
theorem r_2435_23 {M : XM} (h : Wf M) : mR M 2435 23 = 2445 := h.r rfl (by decide)
theorem r_2435_24 {M : XM} (h : Wf M) : mR M 2435 24 = 2446 := h.r rfl (by decide)
theorem r_2435_25 {M : XM} (h : Wf M) : mR M 2435 25 = 2447 := h.r rfl (by decide)
theorem r_2435_26 {M : XM} (h : Wf M) : mR M 2435 26 = 2448 := h.r rfl (by decide)
theorem r_2435_27 {M : XM} (h : Wf M) : mR M 2435 27 = 2449 := h.r rfl (by decide)
theorem r_2435_28 {M : XM} (h : Wf M) : mR M 2435 28 = 2450 := h.r rfl (by decide)
theorem r_2435_29 {M : XM} (h : Wf M) : mR M 2435 29 = 2451 := h.r rfl (by decide)
theorem r_2435_30 {M : XM} (h : Wf M) : mR M 2435 30 = 2452 := h.r rfl (by decide)
theorem r_2435_31 {M : XM} (h : Wf M) : mR M 2435 31 = 2453 := h.r rfl (by decide)
theorem r_2435_32 {M : XM} (h : Wf M) : mR M 2435 32 = 2454 := h.r rfl (by decide)
theorem r_2435_33 {M : XM} (h : Wf M) : mR M 2435 33 = 2455 := h.r rfl (by decide)
theorem r_2435_34 {M : XM} (h : Wf M) : mR M 2435 34 = 2456 := h.r rfl (by decide)
theorem r_2435_35 {M : XM} (h : Wf M) : mR M 2435 35 = 2457 := h.r rfl (by decide)
theorem r_2435_36 {M : XM} (h : Wf M) : mR M 2435 36 = 2458 := h.r rfl (by decide)
theorem r_2435_37 {M : XM} (h : Wf M) : mR M 2435 37 = 2459 := h.r rfl (by decide)
theorem r_2435_38 {M : XM} (h : Wf M) : mR M 2435 38 = 2460 := h.r rfl (by decide)
theorem r_2435_39 {M : XM} (h : Wf M) : mR M 2435 39 = 2461 := h.r rfl (by decide)
theorem r_2435_40 {M : XM} (h : Wf M) : mR M 2435 40 = 2462 := h.r rfl (by decide)
theorem r_2435_41 {M : XM} (h : Wf M) : mR M 2435 41 = 2463 := h.r rfl (by decide)
theorem r_2435_42 {M : XM} (h : Wf M) : mR M 2435 42 = 2464 := h.r rfl (by decide)
theorem r_2435_43 {M : XM} (h : Wf M) : mR M 2435 43 = 2465 := h.r rfl (by decide)
theorem r_2435_48 {M : XM} (h : Wf M) : mR M 2435 48 = 2466 := h.r rfl (by decide)
theorem r_2435_49 {M : XM} (h : Wf M) : mR M 2435 49 = 2467 := h.r rfl (by decide)
theorem r_2435_50 {M : XM} (h : Wf M) : mR M 2435 50 = 2468 := h.r rfl (by decide)
theorem r_2435_51 {M : XM} (h : Wf M) : mR M 2435 51 = 2469 := h.r rfl (by decide)
theorem r_2435_52 {M : XM} (h : Wf M) : mR M 2435 52 = 2470 := h.r rfl (by decide)
theorem r_2435_53 {M : XM} (h : Wf M) : mR M 2435 53 = 2471 := h.r rfl (by decide)
theorem r_2435_56 {M : XM} (h : Wf M) : mR M 2435 56 = 2472 := h.r rfl (by decide)
theorem r_2435_57 {M : XM} (h : Wf M) : mR M 2435 57 = 2473 := h.r rfl (by decide)
theorem r_2435_59 {M : XM} (h : Wf M) : mR M 2435 59 = 2474 := h.r rfl (by decide)
