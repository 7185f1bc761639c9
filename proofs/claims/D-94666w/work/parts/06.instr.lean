/-! PLAIN MACHINE, 1: values, memory, what one instruction does -/
abbrev XV : Type := Int ⊕ (Int ⊕ Nat)
abbrev vI (x : Int) : XV := Sum.inl x
abbrev vL (x : Int) : XV := Sum.inr (Sum.inl x)
abbrev vR (x : Nat) : XV := Sum.inr (Sum.inr x)
abbrev XL : Type := List (Nat × XV)
/-- a frame: the place in the code, the locals, the operand stack -/
abbrev XF : Type := Nat × XL × List XV
/-- the memory: what a cell is (its kind, its length), whole numbers, long numbers, references, the next cell, slots used -/
abbrev XM : Type := (Nat → Nat × Nat) × (Nat → Int → Int) × (Nat → Int → Int) × (Nat → Int → Nat) × Nat × Nat
def mS (M : XM) : Nat → Nat × Nat := M.1
def mI (M : XM) : Nat → Int → Int := M.2.1
def mJ (M : XM) : Nat → Int → Int := M.2.2.1
def mR (M : XM) : Nat → Int → Nat := M.2.2.2.1
def mN (M : XM) : Nat := M.2.2.2.2.1
def mU (M : XM) : Nat := M.2.2.2.2.2
def up {α : Type} (f : Nat → α) (k : Nat) (v : α) : Nat → α := fun j => if j = k then v else f j
def ui {α : Type} (f : Int → α) (k : Int) (v : α) : Int → α := fun j => if j = k then v else f j
def wI (M : XM) (a : Nat) (f : Int → Int) : XM := (M.1, up M.2.1 a f, M.2.2)
def wJ (M : XM) (a : Nat) (f : Int → Int) : XM := (M.1, M.2.1, up M.2.2.1 a f, M.2.2.2)
def wR (M : XM) (a : Nat) (f : Int → Nat) : XM := (M.1, M.2.1, M.2.2.1, up M.2.2.2.1 a f, M.2.2.2.2)
/-- a new cell of kind k, length n, that costs s slots -/
def nO (M : XM) (k n s : Nat) : XM := (up M.1 (mN M) (k, n), up M.2.1 (mN M) (fun _ => 0), up M.2.2.1 (mN M) (fun _ => 0), up M.2.2.2.1 (mN M) (fun _ => 0), mN M + 1, mU M + s)
def cpy {α : Type} (f g : Int → α) (sp dp n : Int) : Int → α := fun k => if dp ≤ k ∧ k < dp + n then f (sp + (k - dp)) else g k
/-- what a step gives: next, a branch, many ways, a call, a return, a throw, nothing -/
abbrev XR : Type := (Prop × XF × XM) ⊕ ((Prop × XF × XF) ⊕ ((List (Prop × XF)) ⊕ ((Prop × Nat × List XV × XF) ⊕ ((Prop × Option XV) ⊕ ((Prop × Nat) ⊕ Unit)))))
abbrev rN (g : Prop) (f : XF) (M : XM) : XR := Sum.inl (g, f, M)
abbrev rB (c : Prop) (f1 f2 : XF) : XR := Sum.inr (Sum.inl (c, f1, f2))
abbrev rM (cs : List (Prop × XF)) : XR := Sum.inr (Sum.inr (Sum.inl cs))
abbrev rC (g : Prop) (cid : Nat) (as_ : List XV) (f : XF) : XR := Sum.inr (Sum.inr (Sum.inr (Sum.inl (g, cid, as_, f))))
abbrev rT (g : Prop) (v : Option XV) : XR := Sum.inr (Sum.inr (Sum.inr (Sum.inr (Sum.inl (g, v)))))
abbrev rX (g : Prop) (a : Nat) : XR := Sum.inr (Sum.inr (Sum.inr (Sum.inr (Sum.inr (Sum.inl (g, a))))))
abbrev rS : XR := Sum.inr (Sum.inr (Sum.inr (Sum.inr (Sum.inr (Sum.inr ())))))
abbrev XI : Type := XL → List XV → XM → XR
/-! locals -/
def xl_g : XL → Nat → Option XV
  | [], _ => none
  | (k, v) :: L, i => if k = i then some v else xl_g L i
def xl_2 : XV → Bool
  | .inr (.inl _) => true
  | _ => false
/-- a long that would be cut in two goes -/
def xl_k : XL → Nat → XL
  | [], _ => []
  | (k, v) :: L, i => if (xl_2 v && Nat.beq (k + 1) i) = true then xl_k L i else (k, v) :: xl_k L i
def xl_d : XL → Nat → XL
  | [], _ => []
  | (k, v) :: L, i => if k = i then xl_d L i else (k, v) :: xl_d L i
def xl_p : XL → Nat → XV → XL
  | [], i, v => [(i, v)]
  | (k, w) :: L, i, v => if k = i then (i, v) :: xl_d L i else (k, w) :: xl_p L i v
def xl_s (L : XL) (i : Nat) (v : XV) : XL := xl_p (xl_k L i) i v
def xl_t (L : XL) (i : Nat) (v : XV) : XL := xl_p (xl_d (xl_k L i) (i + 1)) i v
/-- only these places stay -/
def xl_f : List Nat → XL → XL
  | [], _ => []
  | k :: ks, L => match xl_g L k with
    | some v => (k, v) :: xl_f ks L
    | none => xl_f ks L
def xl_e : Nat → List XV → XL
  | _, [] => []
  | k, .inr (.inl x) :: vs => (k, vL x) :: xl_e (k + 2) vs
  | k, .inl x :: vs => (k, vI x) :: xl_e (k + 1) vs
  | k, .inr (.inr a) :: vs => (k, vR a) :: xl_e (k + 1) vs
def xs_c : List XV → Nat
  | [] => 0
  | .inr (.inl _) :: st => 2 + xs_c st
  | .inl _ :: st => 1 + xs_c st
  | .inr (.inr _) :: st => 1 + xs_c st
def xs_p : Nat → List XV → List XV → Option (List XV × List XV)
  | 0, acc, st => some (acc, st)
  | n + 1, acc, v :: st => xs_p n (v :: acc) st
  | _ + 1, _, [] => none
/-! instructions; n: the next place -/
def ia_keep (ks : List Nat) (i : XI) : XI := fun L st M => i (xl_f ks L) st M
def ia_k (n : Nat) (x : Int) : XI := fun L st M => rN True (n, L, vI x :: st) M
def ia_kl (n : Nat) (x : Int) : XI := fun L st M => rN True (n, L, vL x :: st) M
def ia_kr (n : Nat) (a : Nat) : XI := fun L st M => rN True (n, L, vR a :: st) M
def ia_il (n i : Nat) : XI := fun L st M => match xl_g L i with
  | some (.inl x) => rN True (n, L, vI x :: st) M
  | _ => rS
def ia_ll (n i : Nat) : XI := fun L st M => match xl_g L i with
  | some (.inr (.inl x)) => rN True (n, L, vL x :: st) M
  | _ => rS
def ia_al (n i : Nat) : XI := fun L st M => match xl_g L i with
  | some (.inr (.inr x)) => rN True (n, L, vR x :: st) M
  | _ => rS
def ia_is (n i : Nat) : XI := fun L st M => match st with
  | .inl x :: st => rN True (n, xl_s L i (vI x), st) M
  | _ => rS
def ia_ls (n i : Nat) : XI := fun L st M => match st with
  | .inr (.inl x) :: st => rN True (n, xl_t L i (vL x), st) M
  | _ => rS
def ia_as (n i : Nat) : XI := fun L st M => match st with
  | .inr (.inr x) :: st => rN True (n, xl_s L i (vR x), st) M
  | _ => rS
def ia_inc (n i : Nat) (k : Int) : XI := fun L st M => match xl_g L i with
  | some (.inl x) => rN (-2147483648 ≤ x + k ∧ x + k < 2147483648) (n, xl_s L i (vI (x + k)), st) M
  | _ => rS
def ia_add (n : Nat) : XI := fun L st M => match st with
  | .inl y :: .inl x :: st => rN (-2147483648 ≤ x + y ∧ x + y < 2147483648) (n, L, vI (x + y) :: st) M
  | _ => rS
def ia_sub (n : Nat) : XI := fun L st M => match st with
  | .inl y :: .inl x :: st => rN (-2147483648 ≤ x - y ∧ x - y < 2147483648) (n, L, vI (x - y) :: st) M
  | _ => rS
def ia_mul (n : Nat) : XI := fun L st M => match st with
  | .inl y :: .inl x :: st => rN (-2147483648 ≤ x * y ∧ x * y < 2147483648) (n, L, vI (x * y) :: st) M
  | _ => rS
def ia_div (n : Nat) : XI := fun L st M => match st with
  | .inl y :: .inl x :: st => rN (0 ≤ x ∧ 0 < y) (n, L, vI (x / y) :: st) M
  | _ => rS
def ia_rem (n : Nat) : XI := fun L st M => match st with
  | .inl y :: .inl x :: st => rN (0 ≤ x ∧ 0 < y) (n, L, vI (x % y) :: st) M
  | _ => rS
def ia_neg (n : Nat) : XI := fun L st M => match st with
  | .inl x :: st => rN (x ≠ -2147483648) (n, L, vI (-x) :: st) M
  | _ => rS
def bAnd (x y : Int) : Int := (Int32.ofInt x &&& Int32.ofInt y).toInt
def bOr (x y : Int) : Int := (Int32.ofInt x ||| Int32.ofInt y).toInt
def bXor (x y : Int) : Int := (Int32.ofInt x ^^^ Int32.ofInt y).toInt
def bShl (x y : Int) : Int := (Int32.ofInt x <<< (Int32.ofInt y &&& 31)).toInt
def bShr (x y : Int) : Int := (Int32.ofInt x >>> (Int32.ofInt y &&& 31)).toInt
def bUsh (x y : Int) : Int := ((Int32.ofInt x).toUInt32 >>> ((Int32.ofInt y).toUInt32 &&& Int32.toUInt32 31)).toInt32.toInt
def bByte (x : Int) : Int := (Int32.ofInt x).toInt8.toInt32.toInt
def bCut (x : Int) : Int := (Int64.ofInt x).toInt32.toInt
def ia_bit (h : Int → Int → Int) (n : Nat) : XI := fun L st M => match st with
  | .inl y :: .inl x :: st => rN True (n, L, vI (h x y) :: st) M
  | _ => rS
def ia_i2b (n : Nat) : XI := fun L st M => match st with
  | .inl x :: st => rN True (n, L, vI (bByte x) :: st) M
  | _ => rS
def ia_ladd (n : Nat) : XI := fun L st M => match st with
  | .inr (.inl y) :: .inr (.inl x) :: st => rN (-9223372036854775808 ≤ x + y ∧ x + y < 9223372036854775808) (n, L, vL (x + y) :: st) M
  | _ => rS
def ia_lsub (n : Nat) : XI := fun L st M => match st with
  | .inr (.inl y) :: .inr (.inl x) :: st => rN (-9223372036854775808 ≤ x - y ∧ x - y < 9223372036854775808) (n, L, vL (x - y) :: st) M
  | _ => rS
def ia_lmul (n : Nat) : XI := fun L st M => match st with
  | .inr (.inl y) :: .inr (.inl x) :: st => rN (-9223372036854775808 ≤ x * y ∧ x * y < 9223372036854775808) (n, L, vL (x * y) :: st) M
  | _ => rS
def ia_ldiv (n : Nat) : XI := fun L st M => match st with
  | .inr (.inl y) :: .inr (.inl x) :: st => rN (0 ≤ x ∧ 0 < y) (n, L, vL (x / y) :: st) M
  | _ => rS
def ia_lrem (n : Nat) : XI := fun L st M => match st with
  | .inr (.inl y) :: .inr (.inl x) :: st => rN (0 ≤ x ∧ 0 < y) (n, L, vL (x % y) :: st) M
  | _ => rS
def ia_i2l (n : Nat) : XI := fun L st M => match st with
  | .inl x :: st => rN True (n, L, vL x :: st) M
  | _ => rS
def ia_l2i (n : Nat) : XI := fun L st M => match st with
  | .inr (.inl x) :: st => rN True (n, L, vI (bCut x) :: st) M
  | _ => rS
def cmpL (x y : Int) : Int := if x < y then -1 else if x = y then 0 else 1
def ia_lcmp (n : Nat) : XI := fun L st M => match st with
  | .inr (.inl y) :: .inr (.inl x) :: st => rN True (n, L, vI (cmpL x y) :: st) M
  | _ => rS
def ia_dup (n : Nat) : XI := fun L st M => match st with
  | .inl x :: st => rN True (n, L, vI x :: vI x :: st) M
  | .inr (.inr a) :: st => rN True (n, L, vR a :: vR a :: st) M
  | _ => rS
def ia_pop (n : Nat) : XI := fun L st M => match st with
  | .inl _ :: st => rN True (n, L, st) M
  | .inr (.inr _) :: st => rN True (n, L, st) M
  | _ => rS
def ia_dup2 (n : Nat) : XI := fun L st M => match st with
  | .inl x :: .inr (.inr a) :: st => rN True (n, L, vI x :: vR a :: vI x :: vR a :: st) M
  | _ => rS
def ia_dx1 (n : Nat) : XI := fun L st M => match st with
  | .inl x :: .inr (.inr a) :: st => rN True (n, L, vI x :: vR a :: vI x :: st) M
  | .inr (.inr b) :: .inr (.inr a) :: st => rN True (n, L, vR b :: vR a :: vR b :: st) M
  | _ => rS
def ia_if (c : Int → Prop) (n t : Nat) : XI := fun L st _ => match st with
  | .inl x :: st => rB (c x) (t, L, st) (n, L, st)
  | _ => rS
def ia_ic (c : Int → Int → Prop) (n t : Nat) : XI := fun L st _ => match st with
  | .inl y :: .inl x :: st => rB (c x y) (t, L, st) (n, L, st)
  | _ => rS
abbrev k0e (x : Int) : Prop := x = 0
abbrev k0n (x : Int) : Prop := x ≠ 0
abbrev k0l (x : Int) : Prop := x < 0
abbrev k0g (x : Int) : Prop := 0 ≤ x
abbrev k0G (x : Int) : Prop := 0 < x
abbrev k0L (x : Int) : Prop := x ≤ 0
abbrev k2e (x y : Int) : Prop := x = y
abbrev k2n (x y : Int) : Prop := x ≠ y
abbrev k2l (x y : Int) : Prop := x < y
abbrev k2g (x y : Int) : Prop := y ≤ x
abbrev k2G (x y : Int) : Prop := y < x
abbrev k2L (x y : Int) : Prop := x ≤ y
def ia_nul (n t : Nat) : XI := fun L st _ => match st with
  | .inr (.inr a) :: st => rB (a = 0) (t, L, st) (n, L, st)
  | _ => rS
def ia_nnl (n t : Nat) : XI := fun L st _ => match st with
  | .inr (.inr a) :: st => rB (a ≠ 0) (t, L, st) (n, L, st)
  | _ => rS
def ia_go (t : Nat) : XI := fun L st M => rN True (t, L, st) M
def xs_w (x lo : Int) : Nat → List Nat → XL → List XV → Nat → List (Prop × XF)
  | k, [], L, st, d => [(x < lo ∨ lo + (k : Int) ≤ x, (d, L, st))]
  | k, t :: ts, L, st, d => (x = lo + (k : Int), (t, L, st)) :: xs_w x lo (k + 1) ts L st d
def ia_sw (lo : Int) (ts : List Nat) (d : Nat) : XI := fun L st _ => match st with
  | .inl x :: st => rM (xs_w x lo 0 ts L st d)
  | _ => rS
def xs_lw (x : Int) : List (Int × Nat) → XL → List XV → Nat → Prop → List (Prop × XF)
  | [], L, st, d, c => [(c, (d, L, st))]
  | (k, t) :: ps, L, st, d, c => (x = k, (t, L, st)) :: xs_lw x ps L st d (c ∧ x ≠ k)
def ia_lsw (ps : List (Int × Nat)) (d : Nat) : XI := fun L st _ => match st with
  | .inl x :: st => rM (xs_lw x ps L st d True)
  | _ => rS
def ia_gfI (n kd : Nat) (k : Int) : XI := fun L st M => match st with
  | .inr (.inr a) :: st => rN ((mS M a).1 = kd) (n, L, vI (mI M a k) :: st) M
  | _ => rS
def ia_gfJ (n kd : Nat) (k : Int) : XI := fun L st M => match st with
  | .inr (.inr a) :: st => rN ((mS M a).1 = kd) (n, L, vL (mJ M a k) :: st) M
  | _ => rS
def ia_gfR (n kd : Nat) (k : Int) : XI := fun L st M => match st with
  | .inr (.inr a) :: st => rN ((mS M a).1 = kd) (n, L, vR (mR M a k) :: st) M
  | _ => rS
def ia_pfI (n kd : Nat) (k : Int) : XI := fun L st M => match st with
  | .inl x :: .inr (.inr a) :: st => rN ((mS M a).1 = kd) (n, L, st) (wI M a (ui (mI M a) k x))
  | _ => rS
def ia_pfZ (n kd : Nat) (k : Int) : XI := fun L st M => match st with
  | .inl x :: .inr (.inr a) :: st => rN ((mS M a).1 = kd ∧ (x = 0 ∨ x = 1)) (n, L, st) (wI M a (ui (mI M a) k x))
  | _ => rS
def ia_pfJ (n kd : Nat) (k : Int) : XI := fun L st M => match st with
  | .inr (.inl x) :: .inr (.inr a) :: st => rN ((mS M a).1 = kd) (n, L, st) (wJ M a (ui (mJ M a) k x))
  | _ => rS
def ia_pfR (n kd : Nat) (k : Int) : XI := fun L st M => match st with
  | .inr (.inr x) :: .inr (.inr a) :: st => rN ((mS M a).1 = kd) (n, L, st) (wR M a (ui (mR M a) k x))
  | _ => rS
def ia_ldI (n kd : Nat) : XI := fun L st M => match st with
  | .inl i :: .inr (.inr a) :: st => rN ((mS M a).1 = kd ∧ 0 ≤ i ∧ i < ((mS M a).2 : Int)) (n, L, vI (mI M a i) :: st) M
  | _ => rS
def ia_ldJ (n kd : Nat) : XI := fun L st M => match st with
  | .inl i :: .inr (.inr a) :: st => rN ((mS M a).1 = kd ∧ 0 ≤ i ∧ i < ((mS M a).2 : Int)) (n, L, vL (mJ M a i) :: st) M
  | _ => rS
def ia_ldR (n kd : Nat) : XI := fun L st M => match st with
  | .inl i :: .inr (.inr a) :: st => rN ((mS M a).1 = kd ∧ 0 ≤ i ∧ i < ((mS M a).2 : Int)) (n, L, vR (mR M a i) :: st) M
  | _ => rS
def ia_stI (n : Nat) : XI := fun L st M => match st with
  | .inl x :: .inl i :: .inr (.inr a) :: st => rN ((mS M a).1 = 100 ∧ 0 ≤ i ∧ i < ((mS M a).2 : Int)) (n, L, st) (wI M a (ui (mI M a) i x))
  | _ => rS
def ia_stZ (n : Nat) : XI := fun L st M => match st with
  | .inl x :: .inl i :: .inr (.inr a) :: st => rN (((mS M a).1 = 101 ∧ 0 ≤ i ∧ i < ((mS M a).2 : Int)) ∧ (x = 0 ∨ x = 1)) (n, L, st) (wI M a (ui (mI M a) i x))
  | _ => rS
def ia_stB (n : Nat) : XI := fun L st M => match st with
  | .inl x :: .inl i :: .inr (.inr a) :: st => rN (((mS M a).1 = 102 ∧ 0 ≤ i ∧ i < ((mS M a).2 : Int)) ∧ (-128 ≤ x ∧ x < 128)) (n, L, st) (wI M a (ui (mI M a) i x))
  | _ => rS
def ia_stJ (n : Nat) : XI := fun L st M => match st with
  | .inr (.inl x) :: .inl i :: .inr (.inr a) :: st => rN ((mS M a).1 = 103 ∧ 0 ≤ i ∧ i < ((mS M a).2 : Int)) (n, L, st) (wJ M a (ui (mJ M a) i x))
  | _ => rS
def ia_stR (n kd : Nat) (es : List Nat) : XI := fun L st M => match st with
  | .inr (.inr x) :: .inl i :: .inr (.inr a) :: st => rN (((mS M a).1 = kd ∧ 0 ≤ i ∧ i < ((mS M a).2 : Int)) ∧ (x = 0 ∨ (mS M x).1 ∈ es)) (n, L, st) (wR M a (ui (mR M a) i x))
  | _ => rS
def ia_len (n : Nat) (ks : List Nat) : XI := fun L st M => match st with
  | .inr (.inr a) :: st => rN ((mS M a).1 ∈ ks) (n, L, vI ((mS M a).2 : Int) :: st) M
  | _ => rS
def ia_newa (n kd : Nat) : XI := fun L st M => match st with
  | .inl k :: st => rN (0 ≤ k ∧ k ≤ 1000) (n, L, vR (mN M) :: st) (nO M kd k.toNat k.toNat)
  | _ => rS
def ia_new (n kd nf : Nat) : XI := fun L st M => rN True (n, L, vR (mN M) :: st) (nO M kd 0 nf)
def ia_cast (n : Nat) (ks : List Nat) : XI := fun L st M => match st with
  | .inr (.inr a) :: st => rN (a = 0 ∨ (mS M a).1 ∈ ks) (n, L, vR a :: st) M
  | _ => rS
/-- a call: of k words with the receiver; its kind kd (0: static) -/
def ia_call (n k kd cid w : Nat) : XI := fun L st M => match xs_p k [] st with
  | some (.inr (.inr a) :: vs, st) => if (Nat.ble (xs_c st) 8 && Nat.ble (1 + xs_c vs) w) = true then rC ((mS M a).1 = kd) cid (vR a :: vs) (n, L, st) else rS
  | _ => rS
def ia_stat (n k cid w : Nat) : XI := fun L st _ => match xs_p k [] st with
  | some (vs, st) => if (Nat.ble (xs_c st) 8 && Nat.ble (xs_c vs) w) = true then rC True cid vs (n, L, st) else rS
  | _ => rS
/-- Clause.tells: found by the receiver's kind -/
def ia_virt (n k w : Nat) (ps : List (Nat × Nat)) : XI := fun L st M => match xs_p k [] st with
  | some (.inr (.inr a) :: vs, st) => match ps.find? (fun q => Nat.beq q.1 (mS M a).1) with
    | some q => if (Nat.ble (xs_c st) 8 && Nat.ble (1 + xs_c vs) w) = true then rC ((mS M a).1 = q.1) q.2 (vR a :: vs) (n, L, st) else rS
    | none => rS
  | _ => rS
def ia_pop1 (n : Nat) : XI := fun L st M => match st with
  | .inr (.inr a) :: st => if Nat.ble (xs_c st) 8 = true then rN (a ≠ 0) (n, L, st) M else rS
  | _ => rS
/-- statics: a switch of String's, references; a text's two fields; a class object; one and the same reference -/
def ia_gs1 (n : Nat) : XI := fun L st M => rN True (n, L, vI 1 :: st) M
def ia_gsR (n k : Nat) : XI := fun L st M => rN True (n, L, vR (mR M 38 k) :: st) M
def ia_gfC (n : Nat) : XI := fun L st M => match st with
  | .inr (.inr a) :: st => rN ((mS M a).1 = 51) (n, L, vI 0 :: st) M
  | _ => rS
def ia_gfV (n : Nat) : XI := fun L st M => match st with
  | .inr (.inr a) :: st => rN ((mS M a).1 = 51) (n, L, vR (a + 16) :: st) M
  | _ => rS
def ia_i2c (n : Nat) : XI := fun L st M => match st with
  | .inl x :: st => rN (0 ≤ x ∧ x < 128) (n, L, vI x :: st) M
  | _ => rS
def ia_gcl (n : Nat) : XI := fun L st M => match st with
  | .inr (.inr a) :: st => if Nat.ble (xs_c st) 8 = true then rN ((mS M a).1 = 104) (n, L, vR 37 :: st) M else rS
  | _ => rS
def ia_ace (n : Nat) : XI := fun L st M => match st with
  | .inr (.inr a) :: .inr (.inr b) :: st => rN (a = b) (n, L, st) M
  | _ => rS
def ia_retC : XI := fun _ st _ => match st with
  | [.inl x] => rT (0 ≤ x ∧ x < 128) (some (vI x))
  | _ => rS
def ia_ret0 : XI := fun _ st _ => match st with
  | [] => rT True none
  | _ => rS
def ia_retI : XI := fun _ st _ => match st with
  | [.inl x] => rT True (some (vI x))
  | _ => rS
def ia_retZ : XI := fun _ st _ => match st with
  | [.inl x] => rT (x = 0 ∨ x = 1) (some (vI x))
  | _ => rS
def ia_retL : XI := fun _ st _ => match st with
  | [.inr (.inl x)] => rT True (some (vL x))
  | _ => rS
def ia_retR : XI := fun _ st _ => match st with
  | [.inr (.inr x)] => rT True (some (vR x))
  | _ => rS
def ia_thr (kd : Nat) : XI := fun _ st M => match st with
  | .inr (.inr a) :: _ => rX ((mS M a).1 = kd) a
  | _ => rS
/-- System.arraycopy of whole numbers, of references -/
def ia_cpI (n kd : Nat) : XI := fun L st M => match st with
  | .inl c :: .inl dp :: .inr (.inr b) :: .inl sp :: .inr (.inr a) :: st => if Nat.ble (xs_c st) 8 = true then rN (((mS M a).1 = kd ∧ (mS M b).1 = kd) ∧ 0 ≤ sp ∧ 0 ≤ dp ∧ 0 ≤ c ∧ sp + c ≤ ((mS M a).2 : Int) ∧ dp + c ≤ ((mS M b).2 : Int)) (n, L, st) (wI M b (cpy (mI M a) (mI M b) sp dp c)) else rS
  | _ => rS
def ia_cpR (n kd : Nat) : XI := fun L st M => match st with
  | .inl c :: .inl dp :: .inr (.inr b) :: .inl sp :: .inr (.inr a) :: st => if Nat.ble (xs_c st) 8 = true then rN (((mS M a).1 = kd ∧ (mS M b).1 = kd) ∧ 0 ≤ sp ∧ 0 ≤ dp ∧ 0 ≤ c ∧ sp + c ≤ ((mS M a).2 : Int) ∧ dp + c ≤ ((mS M b).2 : Int)) (n, L, st) (wR M b (cpy (mR M a) (mR M b) sp dp c)) else rS
  | _ => rS
