/-! CONTRACTS, 5: bits -/
theorem all32 {P : Int → Prop} (h : ∀ k : Fin 32, P ((k.val : Nat) : Int)) {x : Int} (h0 : 0 ≤ x) (h1 : x < 32) : P x := by
  have e : x = ((x.toNat : Nat) : Int) := by omega
  have k := h ⟨x.toNat, by omega⟩
  rw [e]
  exact k
/-- the k-th bit of a number -/
def tb (x : Int) (k : Nat) : Bool := (BitVec.ofInt 32 x).getLsbD k
theorem tb_i (v : Int32) (k : Nat) : tb v.toInt k = v.toBitVec.getLsbD k := by
  unfold tb
  rw [show v.toInt = v.toBitVec.toInt from rfl, BitVec.ofInt_toInt]
theorem tb_o {x : Int} (k : Nat) : (Int32.ofInt x).toBitVec.getLsbD k = tb x k := rfl
theorem tb_and (x y : Int) (k : Nat) : tb (bAnd x y) k = (tb x k && tb y k) := by
  unfold bAnd
  rw [tb_i, Int32.toBitVec_and, BitVec.getLsbD_and, tb_o, tb_o]
theorem tb_or (x y : Int) (k : Nat) : tb (bOr x y) k = (tb x k || tb y k) := by
  unfold bOr
  rw [tb_i, Int32.toBitVec_or, BitVec.getLsbD_or, tb_o, tb_o]
theorem tb_xor (x y : Int) (k : Nat) : tb (bXor x y) k = (tb x k ^^ tb y k) := by
  unfold bXor
  rw [tb_i, Int32.toBitVec_xor, BitVec.getLsbD_xor, tb_o, tb_o]
theorem tb_ext {x y : Int} (hx : okI x) (hy : okI y) (h : ∀ k, k < 32 → tb x k = tb y k) : x = y := by
  have e : BitVec.ofInt 32 x = BitVec.ofInt 32 y := BitVec.eq_of_getLsbD_eq (fun i hi => h i hi)
  have e2 : (Int32.ofInt x) = Int32.ofInt y := Int32.toBitVec_inj.mp e
  exact (ofI_eq hx hy).mp e2
theorem ok_and (x y : Int) : okI (bAnd x y) := ⟨Int32.le_toInt _, Int32.toInt_lt _⟩
theorem ok_or (x y : Int) : okI (bOr x y) := ⟨Int32.le_toInt _, Int32.toInt_lt _⟩
theorem ok_xor (x y : Int) : okI (bXor x y) := ⟨Int32.le_toInt _, Int32.toInt_lt _⟩
theorem ok_shl (x y : Int) : okI (bShl x y) := ⟨Int32.le_toInt _, Int32.toInt_lt _⟩
theorem ok_shr (x y : Int) : okI (bShr x y) := ⟨Int32.le_toInt _, Int32.toInt_lt _⟩
theorem sh_n {e : Int} (h0 : 0 ≤ e) (h1 : e < 32) : ((Int32.ofInt e &&& 31).toBitVec.smod 32).toNat = e.toNat := all32 (P := fun e => ((Int32.ofInt e &&& 31).toBitVec.smod 32).toNat = e.toNat) (by decide) h0 h1
theorem tb_shl {x e : Int} (h0 : 0 ≤ e) (h1 : e < 32) (k : Nat) (hk : k < 32) : tb (bShl x e) k = (!decide (k < e.toNat) && tb x (k - e.toNat)) := by
  unfold bShl
  rw [tb_i]
  show ((Int32.ofInt x).toBitVec <<< ((Int32.ofInt e &&& 31).toBitVec.smod 32)).getLsbD k = _
  rw [BitVec.shiftLeft_eq', BitVec.getLsbD_shiftLeft, sh_n h0 h1, tb_o, decide_eq_true hk, Bool.true_and]
theorem tb_shr {x e : Int} (h0 : 0 ≤ e) (h1 : e < 32) (k : Nat) (hk : k + e.toNat < 32) : tb (bShr x e) k = tb x (k + e.toNat) := by
  unfold bShr
  rw [tb_i]
  show ((Int32.ofInt x).toBitVec.sshiftRight ((Int32.ofInt e &&& 31).toBitVec.smod 32).toNat).getLsbD k = _
  rw [sh_n h0 h1]
  rw [BitVec.getLsbD_sshiftRight, decide_eq_false (show ¬ 32 ≤ k by omega), if_pos (show e.toNat + k < 32 by omega), tb_o, Nat.add_comm]
  rfl
theorem tb_lo (x : Int) : bAnd x 1 = if tb x 0 = true then 1 else 0 := by
  refine tb_ext (ok_and _ _) (by split <;> (unfold okI; decide)) (fun k hk => ?_)
  rw [tb_and]
  have h1 : ∀ k : Nat, k < 32 → tb 1 k = decide (k = 0) := by decide
  have h0 : ∀ k : Nat, k < 32 → tb 0 k = false := by decide
  rw [h1 k hk]
  by_cases e : k = 0
  · subst e
    by_cases h : tb x 0 = true
    · rw [if_pos h, h]; decide
    · rw [if_neg h, Bool.eq_false_iff.mpr h]; decide
  · rw [decide_eq_false e, Bool.and_false]
    by_cases h : tb x 0 = true
    · rw [if_pos h, h1 k hk, decide_eq_false e]
    · rw [if_neg h, h0 k hk]
/-- whether a number is in a set of bits -/
theorem bit_in {x e : Int} (h0 : 0 ≤ e) (h1 : e < 32) : bAnd (bShr x e) 1 = if tb x e.toNat = true then 1 else 0 := by
  rw [tb_lo, tb_shr h0 h1 0 (by omega), Nat.zero_add]
theorem shr31 {x : Int} (h : okI x) : bShr x 31 = if x < 0 then -1 else 0 := by
  unfold bShr
  have e : ((Int32.ofInt 31 &&& 31).toBitVec.smod 32).toNat = 31 := by decide
  show ((Int32.ofInt x).toBitVec.sshiftRight ((Int32.ofInt 31 &&& 31).toBitVec.smod 32).toNat).toInt = _
  rw [e, BitVec.toInt_sshiftRight, show (Int32.ofInt x).toBitVec.toInt = (Int32.ofInt x).toInt from rfl, ofI_t h, Int.shiftRight_eq_div_pow]
  have h1 := h.1
  have h2 := h.2
  show x / 2147483648 = _
  split <;> omega
theorem ush31 {x : Int} (h : okI x) : bUsh x 31 = if x < 0 then 1 else 0 := by
  have h1 := h.1
  have h2 := h.2
  have e : ((Int32.ofInt 31).toUInt32 &&& Int32.toUInt32 31).toNat % 32 = 31 := by decide
  have e2 : (Int32.ofInt x).toUInt32.toNat = (x % 4294967296).toNat := by
    show (BitVec.ofInt 32 x).toNat = _
    rw [BitVec.toNat_ofInt]; rfl
  have e3 : ((Int32.ofInt x).toUInt32 >>> ((Int32.ofInt 31).toUInt32 &&& Int32.toUInt32 31)).toNat = if x < 0 then 1 else 0 := by
    rw [UInt32.toNat_shiftRight, e, e2, Nat.shiftRight_eq_div_pow]
    show (x % 4294967296).toNat / 2147483648 = _
    split <;> omega
  unfold bUsh
  generalize (Int32.ofInt x).toUInt32 >>> ((Int32.ofInt 31).toUInt32 &&& Int32.toUInt32 31) = u at e3 ⊢
  have e4 : u = if x < 0 then 1 else 0 := by
    apply UInt32.toNat_inj.mp
    rw [e3]; split <;> rfl
  rw [e4]
  split <;> rfl
def sg (x : Int) : Int := if x < 0 then -1 else if x = 0 then 0 else 1
theorem c_266 (d : Nat) (x : Int) (M : XM) (h1 : -2147483648 < x) (h2 : x < 2147483648) : Ct d 266 [vI x] M (RI fun r M1 => M1 = M ∧ r = sg x) := by
  unfold Ct
  repeat' (first
    | refine sv_t 0 100 rfl rfl rfl ?_
    | refine sv_g 0 100 rfl rfl rfl (by (first | exact trivial | assumption | decide | omega | exact bi_01 _)) ?_
    | refine sv_b0 0 100 rfl rfl (fun _ => ?_) (fun _ => ?_)
    | refine sv_b1 0 100 rfl rfl (fun _ => ?_) (fun _ => ?_)
    | refine sv_bt 0 100 rfl rfl (by decide) ?_
    | refine sv_bf 0 100 rfl rfl (by decide) ?_
    | refine sv_b 0 100 rfl rfl (fun _ => ?_) (fun _ => ?_))
  refine ev_r rfl trivial ⟨_, rfl, rfl, ?_⟩
  rw [shr31 ⟨by omega, h2⟩, ush31 ⟨by omega, by omega⟩]
  unfold sg
  by_cases h3 : x < 0
  · rw [if_pos h3, if_pos h3, if_neg (by omega)]; decide
  · rw [if_neg h3, if_neg h3]
    by_cases h4 : x = 0
    · rw [if_pos h4, if_neg (by omega)]; decide
    · rw [if_neg h4, if_pos (by omega)]; decide
