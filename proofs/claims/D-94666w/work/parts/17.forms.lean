/-! SOUNDNESS, 9: forms of instructions (printed by tools/sound.py) -/
theorem on_k {n : Nat} {x : Int} : onlyN (ia_k n x) := by
  intro L st M
  unfold ia_k
  first
    | exact Or.inl ⟨_, _, _, rfl, Nat.le_refl _, Nat.le_refl _⟩
    | (split <;> first | exact Or.inl ⟨_, _, _, rfl, Nat.le_refl _, Nat.le_refl _⟩ | exact Or.inr rfl | (split <;> first | exact Or.inl ⟨_, _, _, rfl, Nat.le_refl _, Nat.le_refl _⟩ | exact Or.inr rfl))
theorem on_kl {n : Nat} {x : Int} : onlyN (ia_kl n x) := by
  intro L st M
  unfold ia_kl
  first
    | exact Or.inl ⟨_, _, _, rfl, Nat.le_refl _, Nat.le_refl _⟩
    | (split <;> first | exact Or.inl ⟨_, _, _, rfl, Nat.le_refl _, Nat.le_refl _⟩ | exact Or.inr rfl | (split <;> first | exact Or.inl ⟨_, _, _, rfl, Nat.le_refl _, Nat.le_refl _⟩ | exact Or.inr rfl))
theorem on_kr {n x : Nat} : onlyN (ia_kr n x) := by
  intro L st M
  unfold ia_kr
  first
    | exact Or.inl ⟨_, _, _, rfl, Nat.le_refl _, Nat.le_refl _⟩
    | (split <;> first | exact Or.inl ⟨_, _, _, rfl, Nat.le_refl _, Nat.le_refl _⟩ | exact Or.inr rfl | (split <;> first | exact Or.inl ⟨_, _, _, rfl, Nat.le_refl _, Nat.le_refl _⟩ | exact Or.inr rfl))
theorem on_il {n x : Nat} : onlyN (ia_il n x) := by
  intro L st M
  unfold ia_il
  first
    | exact Or.inl ⟨_, _, _, rfl, Nat.le_refl _, Nat.le_refl _⟩
    | (split <;> first | exact Or.inl ⟨_, _, _, rfl, Nat.le_refl _, Nat.le_refl _⟩ | exact Or.inr rfl | (split <;> first | exact Or.inl ⟨_, _, _, rfl, Nat.le_refl _, Nat.le_refl _⟩ | exact Or.inr rfl))
theorem on_ll {n x : Nat} : onlyN (ia_ll n x) := by
  intro L st M
  unfold ia_ll
  first
    | exact Or.inl ⟨_, _, _, rfl, Nat.le_refl _, Nat.le_refl _⟩
    | (split <;> first | exact Or.inl ⟨_, _, _, rfl, Nat.le_refl _, Nat.le_refl _⟩ | exact Or.inr rfl | (split <;> first | exact Or.inl ⟨_, _, _, rfl, Nat.le_refl _, Nat.le_refl _⟩ | exact Or.inr rfl))
theorem on_al {n x : Nat} : onlyN (ia_al n x) := by
  intro L st M
  unfold ia_al
  first
    | exact Or.inl ⟨_, _, _, rfl, Nat.le_refl _, Nat.le_refl _⟩
    | (split <;> first | exact Or.inl ⟨_, _, _, rfl, Nat.le_refl _, Nat.le_refl _⟩ | exact Or.inr rfl | (split <;> first | exact Or.inl ⟨_, _, _, rfl, Nat.le_refl _, Nat.le_refl _⟩ | exact Or.inr rfl))
theorem on_is {n x : Nat} : onlyN (ia_is n x) := by
  intro L st M
  unfold ia_is
  first
    | exact Or.inl ⟨_, _, _, rfl, Nat.le_refl _, Nat.le_refl _⟩
    | (split <;> first | exact Or.inl ⟨_, _, _, rfl, Nat.le_refl _, Nat.le_refl _⟩ | exact Or.inr rfl | (split <;> first | exact Or.inl ⟨_, _, _, rfl, Nat.le_refl _, Nat.le_refl _⟩ | exact Or.inr rfl))
theorem on_ls {n x : Nat} : onlyN (ia_ls n x) := by
  intro L st M
  unfold ia_ls
  first
    | exact Or.inl ⟨_, _, _, rfl, Nat.le_refl _, Nat.le_refl _⟩
    | (split <;> first | exact Or.inl ⟨_, _, _, rfl, Nat.le_refl _, Nat.le_refl _⟩ | exact Or.inr rfl | (split <;> first | exact Or.inl ⟨_, _, _, rfl, Nat.le_refl _, Nat.le_refl _⟩ | exact Or.inr rfl))
theorem on_as {n x : Nat} : onlyN (ia_as n x) := by
  intro L st M
  unfold ia_as
  first
    | exact Or.inl ⟨_, _, _, rfl, Nat.le_refl _, Nat.le_refl _⟩
    | (split <;> first | exact Or.inl ⟨_, _, _, rfl, Nat.le_refl _, Nat.le_refl _⟩ | exact Or.inr rfl | (split <;> first | exact Or.inl ⟨_, _, _, rfl, Nat.le_refl _, Nat.le_refl _⟩ | exact Or.inr rfl))
theorem on_inc {n i : Nat} {x : Int} : onlyN (ia_inc n i x) := by
  intro L st M
  unfold ia_inc
  first
    | exact Or.inl ⟨_, _, _, rfl, Nat.le_refl _, Nat.le_refl _⟩
    | (split <;> first | exact Or.inl ⟨_, _, _, rfl, Nat.le_refl _, Nat.le_refl _⟩ | exact Or.inr rfl | (split <;> first | exact Or.inl ⟨_, _, _, rfl, Nat.le_refl _, Nat.le_refl _⟩ | exact Or.inr rfl))
theorem on_add {n : Nat} : onlyN (ia_add n) := by
  intro L st M
  unfold ia_add
  first
    | exact Or.inl ⟨_, _, _, rfl, Nat.le_refl _, Nat.le_refl _⟩
    | (split <;> first | exact Or.inl ⟨_, _, _, rfl, Nat.le_refl _, Nat.le_refl _⟩ | exact Or.inr rfl | (split <;> first | exact Or.inl ⟨_, _, _, rfl, Nat.le_refl _, Nat.le_refl _⟩ | exact Or.inr rfl))
theorem on_sub {n : Nat} : onlyN (ia_sub n) := by
  intro L st M
  unfold ia_sub
  first
    | exact Or.inl ⟨_, _, _, rfl, Nat.le_refl _, Nat.le_refl _⟩
    | (split <;> first | exact Or.inl ⟨_, _, _, rfl, Nat.le_refl _, Nat.le_refl _⟩ | exact Or.inr rfl | (split <;> first | exact Or.inl ⟨_, _, _, rfl, Nat.le_refl _, Nat.le_refl _⟩ | exact Or.inr rfl))
theorem on_mul {n : Nat} : onlyN (ia_mul n) := by
  intro L st M
  unfold ia_mul
  first
    | exact Or.inl ⟨_, _, _, rfl, Nat.le_refl _, Nat.le_refl _⟩
    | (split <;> first | exact Or.inl ⟨_, _, _, rfl, Nat.le_refl _, Nat.le_refl _⟩ | exact Or.inr rfl | (split <;> first | exact Or.inl ⟨_, _, _, rfl, Nat.le_refl _, Nat.le_refl _⟩ | exact Or.inr rfl))
theorem on_div {n : Nat} : onlyN (ia_div n) := by
  intro L st M
  unfold ia_div
  first
    | exact Or.inl ⟨_, _, _, rfl, Nat.le_refl _, Nat.le_refl _⟩
    | (split <;> first | exact Or.inl ⟨_, _, _, rfl, Nat.le_refl _, Nat.le_refl _⟩ | exact Or.inr rfl | (split <;> first | exact Or.inl ⟨_, _, _, rfl, Nat.le_refl _, Nat.le_refl _⟩ | exact Or.inr rfl))
theorem on_rem {n : Nat} : onlyN (ia_rem n) := by
  intro L st M
  unfold ia_rem
  first
    | exact Or.inl ⟨_, _, _, rfl, Nat.le_refl _, Nat.le_refl _⟩
    | (split <;> first | exact Or.inl ⟨_, _, _, rfl, Nat.le_refl _, Nat.le_refl _⟩ | exact Or.inr rfl | (split <;> first | exact Or.inl ⟨_, _, _, rfl, Nat.le_refl _, Nat.le_refl _⟩ | exact Or.inr rfl))
theorem on_neg {n : Nat} : onlyN (ia_neg n) := by
  intro L st M
  unfold ia_neg
  first
    | exact Or.inl ⟨_, _, _, rfl, Nat.le_refl _, Nat.le_refl _⟩
    | (split <;> first | exact Or.inl ⟨_, _, _, rfl, Nat.le_refl _, Nat.le_refl _⟩ | exact Or.inr rfl | (split <;> first | exact Or.inl ⟨_, _, _, rfl, Nat.le_refl _, Nat.le_refl _⟩ | exact Or.inr rfl))
theorem on_bit {h : Int → Int → Int} {n : Nat} : onlyN (ia_bit h n) := by
  intro L st M
  unfold ia_bit
  first
    | exact Or.inl ⟨_, _, _, rfl, Nat.le_refl _, Nat.le_refl _⟩
    | (split <;> first | exact Or.inl ⟨_, _, _, rfl, Nat.le_refl _, Nat.le_refl _⟩ | exact Or.inr rfl | (split <;> first | exact Or.inl ⟨_, _, _, rfl, Nat.le_refl _, Nat.le_refl _⟩ | exact Or.inr rfl))
theorem on_i2b {n : Nat} : onlyN (ia_i2b n) := by
  intro L st M
  unfold ia_i2b
  first
    | exact Or.inl ⟨_, _, _, rfl, Nat.le_refl _, Nat.le_refl _⟩
    | (split <;> first | exact Or.inl ⟨_, _, _, rfl, Nat.le_refl _, Nat.le_refl _⟩ | exact Or.inr rfl | (split <;> first | exact Or.inl ⟨_, _, _, rfl, Nat.le_refl _, Nat.le_refl _⟩ | exact Or.inr rfl))
theorem on_ladd {n : Nat} : onlyN (ia_ladd n) := by
  intro L st M
  unfold ia_ladd
  first
    | exact Or.inl ⟨_, _, _, rfl, Nat.le_refl _, Nat.le_refl _⟩
    | (split <;> first | exact Or.inl ⟨_, _, _, rfl, Nat.le_refl _, Nat.le_refl _⟩ | exact Or.inr rfl | (split <;> first | exact Or.inl ⟨_, _, _, rfl, Nat.le_refl _, Nat.le_refl _⟩ | exact Or.inr rfl))
theorem on_lsub {n : Nat} : onlyN (ia_lsub n) := by
  intro L st M
  unfold ia_lsub
  first
    | exact Or.inl ⟨_, _, _, rfl, Nat.le_refl _, Nat.le_refl _⟩
    | (split <;> first | exact Or.inl ⟨_, _, _, rfl, Nat.le_refl _, Nat.le_refl _⟩ | exact Or.inr rfl | (split <;> first | exact Or.inl ⟨_, _, _, rfl, Nat.le_refl _, Nat.le_refl _⟩ | exact Or.inr rfl))
theorem on_lmul {n : Nat} : onlyN (ia_lmul n) := by
  intro L st M
  unfold ia_lmul
  first
    | exact Or.inl ⟨_, _, _, rfl, Nat.le_refl _, Nat.le_refl _⟩
    | (split <;> first | exact Or.inl ⟨_, _, _, rfl, Nat.le_refl _, Nat.le_refl _⟩ | exact Or.inr rfl | (split <;> first | exact Or.inl ⟨_, _, _, rfl, Nat.le_refl _, Nat.le_refl _⟩ | exact Or.inr rfl))
theorem on_ldiv {n : Nat} : onlyN (ia_ldiv n) := by
  intro L st M
  unfold ia_ldiv
  first
    | exact Or.inl ⟨_, _, _, rfl, Nat.le_refl _, Nat.le_refl _⟩
    | (split <;> first | exact Or.inl ⟨_, _, _, rfl, Nat.le_refl _, Nat.le_refl _⟩ | exact Or.inr rfl | (split <;> first | exact Or.inl ⟨_, _, _, rfl, Nat.le_refl _, Nat.le_refl _⟩ | exact Or.inr rfl))
theorem on_lrem {n : Nat} : onlyN (ia_lrem n) := by
  intro L st M
  unfold ia_lrem
  first
    | exact Or.inl ⟨_, _, _, rfl, Nat.le_refl _, Nat.le_refl _⟩
    | (split <;> first | exact Or.inl ⟨_, _, _, rfl, Nat.le_refl _, Nat.le_refl _⟩ | exact Or.inr rfl | (split <;> first | exact Or.inl ⟨_, _, _, rfl, Nat.le_refl _, Nat.le_refl _⟩ | exact Or.inr rfl))
theorem on_i2l {n : Nat} : onlyN (ia_i2l n) := by
  intro L st M
  unfold ia_i2l
  first
    | exact Or.inl ⟨_, _, _, rfl, Nat.le_refl _, Nat.le_refl _⟩
    | (split <;> first | exact Or.inl ⟨_, _, _, rfl, Nat.le_refl _, Nat.le_refl _⟩ | exact Or.inr rfl | (split <;> first | exact Or.inl ⟨_, _, _, rfl, Nat.le_refl _, Nat.le_refl _⟩ | exact Or.inr rfl))
theorem on_l2i {n : Nat} : onlyN (ia_l2i n) := by
  intro L st M
  unfold ia_l2i
  first
    | exact Or.inl ⟨_, _, _, rfl, Nat.le_refl _, Nat.le_refl _⟩
    | (split <;> first | exact Or.inl ⟨_, _, _, rfl, Nat.le_refl _, Nat.le_refl _⟩ | exact Or.inr rfl | (split <;> first | exact Or.inl ⟨_, _, _, rfl, Nat.le_refl _, Nat.le_refl _⟩ | exact Or.inr rfl))
theorem on_lcmp {n : Nat} : onlyN (ia_lcmp n) := by
  intro L st M
  unfold ia_lcmp
  first
    | exact Or.inl ⟨_, _, _, rfl, Nat.le_refl _, Nat.le_refl _⟩
    | (split <;> first | exact Or.inl ⟨_, _, _, rfl, Nat.le_refl _, Nat.le_refl _⟩ | exact Or.inr rfl | (split <;> first | exact Or.inl ⟨_, _, _, rfl, Nat.le_refl _, Nat.le_refl _⟩ | exact Or.inr rfl))
theorem on_dup {n : Nat} : onlyN (ia_dup n) := by
  intro L st M
  unfold ia_dup
  first
    | exact Or.inl ⟨_, _, _, rfl, Nat.le_refl _, Nat.le_refl _⟩
    | (split <;> first | exact Or.inl ⟨_, _, _, rfl, Nat.le_refl _, Nat.le_refl _⟩ | exact Or.inr rfl | (split <;> first | exact Or.inl ⟨_, _, _, rfl, Nat.le_refl _, Nat.le_refl _⟩ | exact Or.inr rfl))
theorem on_pop {n : Nat} : onlyN (ia_pop n) := by
  intro L st M
  unfold ia_pop
  first
    | exact Or.inl ⟨_, _, _, rfl, Nat.le_refl _, Nat.le_refl _⟩
    | (split <;> first | exact Or.inl ⟨_, _, _, rfl, Nat.le_refl _, Nat.le_refl _⟩ | exact Or.inr rfl | (split <;> first | exact Or.inl ⟨_, _, _, rfl, Nat.le_refl _, Nat.le_refl _⟩ | exact Or.inr rfl))
theorem on_dup2 {n : Nat} : onlyN (ia_dup2 n) := by
  intro L st M
  unfold ia_dup2
  first
    | exact Or.inl ⟨_, _, _, rfl, Nat.le_refl _, Nat.le_refl _⟩
    | (split <;> first | exact Or.inl ⟨_, _, _, rfl, Nat.le_refl _, Nat.le_refl _⟩ | exact Or.inr rfl | (split <;> first | exact Or.inl ⟨_, _, _, rfl, Nat.le_refl _, Nat.le_refl _⟩ | exact Or.inr rfl))
theorem on_dx1 {n : Nat} : onlyN (ia_dx1 n) := by
  intro L st M
  unfold ia_dx1
  first
    | exact Or.inl ⟨_, _, _, rfl, Nat.le_refl _, Nat.le_refl _⟩
    | (split <;> first | exact Or.inl ⟨_, _, _, rfl, Nat.le_refl _, Nat.le_refl _⟩ | exact Or.inr rfl | (split <;> first | exact Or.inl ⟨_, _, _, rfl, Nat.le_refl _, Nat.le_refl _⟩ | exact Or.inr rfl))
theorem on_go {n : Nat} : onlyN (ia_go n) := by
  intro L st M
  unfold ia_go
  first
    | exact Or.inl ⟨_, _, _, rfl, Nat.le_refl _, Nat.le_refl _⟩
    | (split <;> first | exact Or.inl ⟨_, _, _, rfl, Nat.le_refl _, Nat.le_refl _⟩ | exact Or.inr rfl | (split <;> first | exact Or.inl ⟨_, _, _, rfl, Nat.le_refl _, Nat.le_refl _⟩ | exact Or.inr rfl))
theorem on_gfI {n kd : Nat} {x : Int} : onlyN (ia_gfI n kd x) := by
  intro L st M
  unfold ia_gfI
  first
    | exact Or.inl ⟨_, _, _, rfl, Nat.le_refl _, Nat.le_refl _⟩
    | (split <;> first | exact Or.inl ⟨_, _, _, rfl, Nat.le_refl _, Nat.le_refl _⟩ | exact Or.inr rfl | (split <;> first | exact Or.inl ⟨_, _, _, rfl, Nat.le_refl _, Nat.le_refl _⟩ | exact Or.inr rfl))
theorem on_gfJ {n kd : Nat} {x : Int} : onlyN (ia_gfJ n kd x) := by
  intro L st M
  unfold ia_gfJ
  first
    | exact Or.inl ⟨_, _, _, rfl, Nat.le_refl _, Nat.le_refl _⟩
    | (split <;> first | exact Or.inl ⟨_, _, _, rfl, Nat.le_refl _, Nat.le_refl _⟩ | exact Or.inr rfl | (split <;> first | exact Or.inl ⟨_, _, _, rfl, Nat.le_refl _, Nat.le_refl _⟩ | exact Or.inr rfl))
theorem on_gfR {n kd : Nat} {x : Int} : onlyN (ia_gfR n kd x) := by
  intro L st M
  unfold ia_gfR
  first
    | exact Or.inl ⟨_, _, _, rfl, Nat.le_refl _, Nat.le_refl _⟩
    | (split <;> first | exact Or.inl ⟨_, _, _, rfl, Nat.le_refl _, Nat.le_refl _⟩ | exact Or.inr rfl | (split <;> first | exact Or.inl ⟨_, _, _, rfl, Nat.le_refl _, Nat.le_refl _⟩ | exact Or.inr rfl))
theorem on_pfI {n kd : Nat} {x : Int} : onlyN (ia_pfI n kd x) := by
  intro L st M
  unfold ia_pfI
  first
    | exact Or.inl ⟨_, _, _, rfl, Nat.le_refl _, Nat.le_refl _⟩
    | (split <;> first | exact Or.inl ⟨_, _, _, rfl, Nat.le_refl _, Nat.le_refl _⟩ | exact Or.inr rfl | (split <;> first | exact Or.inl ⟨_, _, _, rfl, Nat.le_refl _, Nat.le_refl _⟩ | exact Or.inr rfl))
theorem on_pfZ {n kd : Nat} {x : Int} : onlyN (ia_pfZ n kd x) := by
  intro L st M
  unfold ia_pfZ
  first
    | exact Or.inl ⟨_, _, _, rfl, Nat.le_refl _, Nat.le_refl _⟩
    | (split <;> first | exact Or.inl ⟨_, _, _, rfl, Nat.le_refl _, Nat.le_refl _⟩ | exact Or.inr rfl | (split <;> first | exact Or.inl ⟨_, _, _, rfl, Nat.le_refl _, Nat.le_refl _⟩ | exact Or.inr rfl))
theorem on_pfJ {n kd : Nat} {x : Int} : onlyN (ia_pfJ n kd x) := by
  intro L st M
  unfold ia_pfJ
  first
    | exact Or.inl ⟨_, _, _, rfl, Nat.le_refl _, Nat.le_refl _⟩
    | (split <;> first | exact Or.inl ⟨_, _, _, rfl, Nat.le_refl _, Nat.le_refl _⟩ | exact Or.inr rfl | (split <;> first | exact Or.inl ⟨_, _, _, rfl, Nat.le_refl _, Nat.le_refl _⟩ | exact Or.inr rfl))
theorem on_pfR {n kd : Nat} {x : Int} : onlyN (ia_pfR n kd x) := by
  intro L st M
  unfold ia_pfR
  first
    | exact Or.inl ⟨_, _, _, rfl, Nat.le_refl _, Nat.le_refl _⟩
    | (split <;> first | exact Or.inl ⟨_, _, _, rfl, Nat.le_refl _, Nat.le_refl _⟩ | exact Or.inr rfl | (split <;> first | exact Or.inl ⟨_, _, _, rfl, Nat.le_refl _, Nat.le_refl _⟩ | exact Or.inr rfl))
theorem on_ldI {n x : Nat} : onlyN (ia_ldI n x) := by
  intro L st M
  unfold ia_ldI
  first
    | exact Or.inl ⟨_, _, _, rfl, Nat.le_refl _, Nat.le_refl _⟩
    | (split <;> first | exact Or.inl ⟨_, _, _, rfl, Nat.le_refl _, Nat.le_refl _⟩ | exact Or.inr rfl | (split <;> first | exact Or.inl ⟨_, _, _, rfl, Nat.le_refl _, Nat.le_refl _⟩ | exact Or.inr rfl))
theorem on_ldJ {n x : Nat} : onlyN (ia_ldJ n x) := by
  intro L st M
  unfold ia_ldJ
  first
    | exact Or.inl ⟨_, _, _, rfl, Nat.le_refl _, Nat.le_refl _⟩
    | (split <;> first | exact Or.inl ⟨_, _, _, rfl, Nat.le_refl _, Nat.le_refl _⟩ | exact Or.inr rfl | (split <;> first | exact Or.inl ⟨_, _, _, rfl, Nat.le_refl _, Nat.le_refl _⟩ | exact Or.inr rfl))
theorem on_ldR {n x : Nat} : onlyN (ia_ldR n x) := by
  intro L st M
  unfold ia_ldR
  first
    | exact Or.inl ⟨_, _, _, rfl, Nat.le_refl _, Nat.le_refl _⟩
    | (split <;> first | exact Or.inl ⟨_, _, _, rfl, Nat.le_refl _, Nat.le_refl _⟩ | exact Or.inr rfl | (split <;> first | exact Or.inl ⟨_, _, _, rfl, Nat.le_refl _, Nat.le_refl _⟩ | exact Or.inr rfl))
theorem on_stI {n : Nat} : onlyN (ia_stI n) := by
  intro L st M
  unfold ia_stI
  first
    | exact Or.inl ⟨_, _, _, rfl, Nat.le_refl _, Nat.le_refl _⟩
    | (split <;> first | exact Or.inl ⟨_, _, _, rfl, Nat.le_refl _, Nat.le_refl _⟩ | exact Or.inr rfl | (split <;> first | exact Or.inl ⟨_, _, _, rfl, Nat.le_refl _, Nat.le_refl _⟩ | exact Or.inr rfl))
theorem on_stZ {n : Nat} : onlyN (ia_stZ n) := by
  intro L st M
  unfold ia_stZ
  first
    | exact Or.inl ⟨_, _, _, rfl, Nat.le_refl _, Nat.le_refl _⟩
    | (split <;> first | exact Or.inl ⟨_, _, _, rfl, Nat.le_refl _, Nat.le_refl _⟩ | exact Or.inr rfl | (split <;> first | exact Or.inl ⟨_, _, _, rfl, Nat.le_refl _, Nat.le_refl _⟩ | exact Or.inr rfl))
theorem on_stB {n : Nat} : onlyN (ia_stB n) := by
  intro L st M
  unfold ia_stB
  first
    | exact Or.inl ⟨_, _, _, rfl, Nat.le_refl _, Nat.le_refl _⟩
    | (split <;> first | exact Or.inl ⟨_, _, _, rfl, Nat.le_refl _, Nat.le_refl _⟩ | exact Or.inr rfl | (split <;> first | exact Or.inl ⟨_, _, _, rfl, Nat.le_refl _, Nat.le_refl _⟩ | exact Or.inr rfl))
theorem on_stJ {n : Nat} : onlyN (ia_stJ n) := by
  intro L st M
  unfold ia_stJ
  first
    | exact Or.inl ⟨_, _, _, rfl, Nat.le_refl _, Nat.le_refl _⟩
    | (split <;> first | exact Or.inl ⟨_, _, _, rfl, Nat.le_refl _, Nat.le_refl _⟩ | exact Or.inr rfl | (split <;> first | exact Or.inl ⟨_, _, _, rfl, Nat.le_refl _, Nat.le_refl _⟩ | exact Or.inr rfl))
theorem on_stR {n x : Nat} {es : List Nat} : onlyN (ia_stR n x es) := by
  intro L st M
  unfold ia_stR
  first
    | exact Or.inl ⟨_, _, _, rfl, Nat.le_refl _, Nat.le_refl _⟩
    | (split <;> first | exact Or.inl ⟨_, _, _, rfl, Nat.le_refl _, Nat.le_refl _⟩ | exact Or.inr rfl | (split <;> first | exact Or.inl ⟨_, _, _, rfl, Nat.le_refl _, Nat.le_refl _⟩ | exact Or.inr rfl))
theorem on_len {n : Nat} {es : List Nat} : onlyN (ia_len n es) := by
  intro L st M
  unfold ia_len
  first
    | exact Or.inl ⟨_, _, _, rfl, Nat.le_refl _, Nat.le_refl _⟩
    | (split <;> first | exact Or.inl ⟨_, _, _, rfl, Nat.le_refl _, Nat.le_refl _⟩ | exact Or.inr rfl | (split <;> first | exact Or.inl ⟨_, _, _, rfl, Nat.le_refl _, Nat.le_refl _⟩ | exact Or.inr rfl))
theorem on_newa {n x : Nat} : onlyN (ia_newa n x) := by
  intro L st M
  unfold ia_newa
  first
    | exact Or.inl ⟨_, _, _, rfl, Nat.le_succ _, Nat.le_add_right _ _⟩
    | (split <;> first | exact Or.inl ⟨_, _, _, rfl, Nat.le_succ _, Nat.le_add_right _ _⟩ | exact Or.inr rfl | (split <;> first | exact Or.inl ⟨_, _, _, rfl, Nat.le_succ _, Nat.le_add_right _ _⟩ | exact Or.inr rfl))
theorem on_new {n kd x : Nat} : onlyN (ia_new n kd x) := by
  intro L st M
  unfold ia_new
  first
    | exact Or.inl ⟨_, _, _, rfl, Nat.le_succ _, Nat.le_add_right _ _⟩
    | (split <;> first | exact Or.inl ⟨_, _, _, rfl, Nat.le_succ _, Nat.le_add_right _ _⟩ | exact Or.inr rfl | (split <;> first | exact Or.inl ⟨_, _, _, rfl, Nat.le_succ _, Nat.le_add_right _ _⟩ | exact Or.inr rfl))
theorem on_cast {n : Nat} {es : List Nat} : onlyN (ia_cast n es) := by
  intro L st M
  unfold ia_cast
  first
    | exact Or.inl ⟨_, _, _, rfl, Nat.le_refl _, Nat.le_refl _⟩
    | (split <;> first | exact Or.inl ⟨_, _, _, rfl, Nat.le_refl _, Nat.le_refl _⟩ | exact Or.inr rfl | (split <;> first | exact Or.inl ⟨_, _, _, rfl, Nat.le_refl _, Nat.le_refl _⟩ | exact Or.inr rfl))
theorem on_pop1 {n : Nat} : onlyN (ia_pop1 n) := by
  intro L st M
  unfold ia_pop1
  first
    | exact Or.inl ⟨_, _, _, rfl, Nat.le_refl _, Nat.le_refl _⟩
    | (split <;> first | exact Or.inl ⟨_, _, _, rfl, Nat.le_refl _, Nat.le_refl _⟩ | exact Or.inr rfl | (split <;> first | exact Or.inl ⟨_, _, _, rfl, Nat.le_refl _, Nat.le_refl _⟩ | exact Or.inr rfl))
theorem on_cpI {n x : Nat} : onlyN (ia_cpI n x) := by
  intro L st M
  unfold ia_cpI
  first
    | exact Or.inl ⟨_, _, _, rfl, Nat.le_refl _, Nat.le_refl _⟩
    | (split <;> first | exact Or.inl ⟨_, _, _, rfl, Nat.le_refl _, Nat.le_refl _⟩ | exact Or.inr rfl | (split <;> first | exact Or.inl ⟨_, _, _, rfl, Nat.le_refl _, Nat.le_refl _⟩ | exact Or.inr rfl))
theorem on_cpR {n x : Nat} : onlyN (ia_cpR n x) := by
  intro L st M
  unfold ia_cpR
  first
    | exact Or.inl ⟨_, _, _, rfl, Nat.le_refl _, Nat.le_refl _⟩
    | (split <;> first | exact Or.inl ⟨_, _, _, rfl, Nat.le_refl _, Nat.le_refl _⟩ | exact Or.inr rfl | (split <;> first | exact Or.inl ⟨_, _, _, rfl, Nat.le_refl _, Nat.le_refl _⟩ | exact Or.inr rfl))
theorem on_gs1 {n : Nat} : onlyN (ia_gs1 n) := by
  intro L st M
  unfold ia_gs1
  first
    | exact Or.inl ⟨_, _, _, rfl, Nat.le_refl _, Nat.le_refl _⟩
    | (split <;> first | exact Or.inl ⟨_, _, _, rfl, Nat.le_refl _, Nat.le_refl _⟩ | exact Or.inr rfl | (split <;> first | exact Or.inl ⟨_, _, _, rfl, Nat.le_refl _, Nat.le_refl _⟩ | exact Or.inr rfl))
theorem on_gsR {n x : Nat} : onlyN (ia_gsR n x) := by
  intro L st M
  unfold ia_gsR
  first
    | exact Or.inl ⟨_, _, _, rfl, Nat.le_refl _, Nat.le_refl _⟩
    | (split <;> first | exact Or.inl ⟨_, _, _, rfl, Nat.le_refl _, Nat.le_refl _⟩ | exact Or.inr rfl | (split <;> first | exact Or.inl ⟨_, _, _, rfl, Nat.le_refl _, Nat.le_refl _⟩ | exact Or.inr rfl))
theorem on_gfC {n : Nat} : onlyN (ia_gfC n) := by
  intro L st M
  unfold ia_gfC
  first
    | exact Or.inl ⟨_, _, _, rfl, Nat.le_refl _, Nat.le_refl _⟩
    | (split <;> first | exact Or.inl ⟨_, _, _, rfl, Nat.le_refl _, Nat.le_refl _⟩ | exact Or.inr rfl | (split <;> first | exact Or.inl ⟨_, _, _, rfl, Nat.le_refl _, Nat.le_refl _⟩ | exact Or.inr rfl))
theorem on_gfV {n : Nat} : onlyN (ia_gfV n) := by
  intro L st M
  unfold ia_gfV
  first
    | exact Or.inl ⟨_, _, _, rfl, Nat.le_refl _, Nat.le_refl _⟩
    | (split <;> first | exact Or.inl ⟨_, _, _, rfl, Nat.le_refl _, Nat.le_refl _⟩ | exact Or.inr rfl | (split <;> first | exact Or.inl ⟨_, _, _, rfl, Nat.le_refl _, Nat.le_refl _⟩ | exact Or.inr rfl))
theorem on_i2c {n : Nat} : onlyN (ia_i2c n) := by
  intro L st M
  unfold ia_i2c
  first
    | exact Or.inl ⟨_, _, _, rfl, Nat.le_refl _, Nat.le_refl _⟩
    | (split <;> first | exact Or.inl ⟨_, _, _, rfl, Nat.le_refl _, Nat.le_refl _⟩ | exact Or.inr rfl | (split <;> first | exact Or.inl ⟨_, _, _, rfl, Nat.le_refl _, Nat.le_refl _⟩ | exact Or.inr rfl))
theorem on_gcl {n : Nat} : onlyN (ia_gcl n) := by
  intro L st M
  unfold ia_gcl
  first
    | exact Or.inl ⟨_, _, _, rfl, Nat.le_refl _, Nat.le_refl _⟩
    | (split <;> first | exact Or.inl ⟨_, _, _, rfl, Nat.le_refl _, Nat.le_refl _⟩ | exact Or.inr rfl | (split <;> first | exact Or.inl ⟨_, _, _, rfl, Nat.le_refl _, Nat.le_refl _⟩ | exact Or.inr rfl))
theorem on_ace {n : Nat} : onlyN (ia_ace n) := by
  intro L st M
  unfold ia_ace
  first
    | exact Or.inl ⟨_, _, _, rfl, Nat.le_refl _, Nat.le_refl _⟩
    | (split <;> first | exact Or.inl ⟨_, _, _, rfl, Nat.le_refl _, Nat.le_refl _⟩ | exact Or.inr rfl | (split <;> first | exact Or.inl ⟨_, _, _, rfl, Nat.le_refl _, Nat.le_refl _⟩ | exact Or.inr rfl))
theorem on_if {c : Int → Prop} {n t : Nat} : onlyB (ia_if c n t) := by
  intro L st M
  unfold ia_if
  split <;> first | exact Or.inl ⟨_, _, _, rfl⟩ | exact Or.inr (Or.inr rfl)
theorem on_ic {c : Int → Int → Prop} {n t : Nat} : onlyB (ia_ic c n t) := by
  intro L st M
  unfold ia_ic
  split <;> first | exact Or.inl ⟨_, _, _, rfl⟩ | exact Or.inr (Or.inr rfl)
theorem on_nul {n t : Nat} : onlyB (ia_nul n t) := by
  intro L st M
  unfold ia_nul
  split <;> first | exact Or.inl ⟨_, _, _, rfl⟩ | exact Or.inr (Or.inr rfl)
theorem on_nnl {n t : Nat} : onlyB (ia_nnl n t) := by
  intro L st M
  unfold ia_nnl
  split <;> first | exact Or.inl ⟨_, _, _, rfl⟩ | exact Or.inr (Or.inr rfl)
theorem on_sw {lo : Int} {ts : List Nat} {d : Nat} : onlyB (ia_sw lo ts d) := by
  intro L st M
  unfold ia_sw
  split <;> first | exact Or.inr (Or.inl ⟨_, rfl⟩) | exact Or.inr (Or.inr rfl)
theorem on_lsw {ps : List (Int × Nat)} {d : Nat} : onlyB (ia_lsw ps d) := by
  intro L st M
  unfold ia_lsw
  split <;> first | exact Or.inr (Or.inl ⟨_, rfl⟩) | exact Or.inr (Or.inr rfl)
theorem on_call {n k kd cid w : Nat} : onlyC (ia_call n k kd cid w) := by
  intro L st M
  unfold ia_call
  split <;> first | exact Or.inr rfl | (split <;> first | exact Or.inl ⟨_, _, _, _, rfl, rfl⟩ | exact Or.inr rfl)
theorem on_stat {n k cid w : Nat} : onlyC (ia_stat n k cid w) := by
  intro L st M
  unfold ia_stat
  split <;> first | exact Or.inr rfl | (split <;> first | exact Or.inl ⟨_, _, _, _, rfl, rfl⟩ | exact Or.inr rfl)
theorem on_virt {n k w : Nat} {ps : List (Nat × Nat)} : onlyC (ia_virt n k w ps) := by
  intro L st M
  unfold ia_virt
  split <;> first | exact Or.inr rfl | (split <;> first | exact Or.inr rfl | (split <;> first | exact Or.inl ⟨_, _, _, _, rfl, rfl⟩ | exact Or.inr rfl))
theorem on_ret0 : onlyT ia_ret0 := by
  intro L st M
  unfold ia_ret0
  split <;> first | exact Or.inl ⟨_, _, rfl⟩ | exact Or.inr rfl
theorem on_retI : onlyT ia_retI := by
  intro L st M
  unfold ia_retI
  split <;> first | exact Or.inl ⟨_, _, rfl⟩ | exact Or.inr rfl
theorem on_retZ : onlyT ia_retZ := by
  intro L st M
  unfold ia_retZ
  split <;> first | exact Or.inl ⟨_, _, rfl⟩ | exact Or.inr rfl
theorem on_retL : onlyT ia_retL := by
  intro L st M
  unfold ia_retL
  split <;> first | exact Or.inl ⟨_, _, rfl⟩ | exact Or.inr rfl
theorem on_retR : onlyT ia_retR := by
  intro L st M
  unfold ia_retR
  split <;> first | exact Or.inl ⟨_, _, rfl⟩ | exact Or.inr rfl
theorem on_retC : onlyT ia_retC := by
  intro L st M
  unfold ia_retC
  split <;> first | exact Or.inl ⟨_, _, rfl⟩ | exact Or.inr rfl
theorem on_thr {kd : Nat} : onlyX (ia_thr kd) := by
  intro L st M
  unfold ia_thr
  split <;> first | exact Or.inl ⟨_, _, rfl⟩ | exact Or.inr rfl
section
variable {own : String} {cc : ByteArray} {nL : Nat} {nm : String} {ret : Option FieldType} {pc n : Nat}
theorem sa_n {xi : XI} (h : Snd own cc nL nm ret pc xi) (ho : onlyN xi) : SA own cc nL nm ret pc xi := Or.inl ⟨h, ho⟩
theorem sa_b {xi : XI} (h : SndB own cc nL nm ret pc xi) (ho : onlyB xi) : SA own cc nL nm ret pc xi := Or.inr (Or.inl ⟨h, ho⟩)
theorem sa_k {xi : XI} (h : SndC own cc nL nm ret pc xi) (ho : onlyC xi) : SA own cc nL nm ret pc xi := Or.inr (Or.inr (Or.inl ⟨h, ho⟩))
theorem sa_t {xi : XI} (h : SndT cc ret pc xi) (ho : onlyT xi) : SA own cc nL nm ret pc xi := Or.inr (Or.inr (Or.inr (Or.inl ⟨h, ho⟩)))
theorem sa_x {xi : XI} (h : SndX cc pc xi) (ho : onlyX xi) : SA own cc nL nm ret pc xi := Or.inr (Or.inr (Or.inr (Or.inr (Or.inl ⟨h, ho⟩))))
theorem sa_no : SA own cc nL nm ret pc ia_no := Or.inr (Or.inr (Or.inr (Or.inr (Or.inr (fun _ _ _ => rfl)))))
theorem sa_nk {ks : List Nat} {xi : XI} (h : Snd own cc nL nm ret pc xi) (ho : onlyN xi) : SA own cc nL nm ret pc (ia_keep ks xi) := Or.inl ⟨snd_keep h, fun L st M => ho (xl_f ks L) st M⟩
theorem sa_c {b : Bool} {x y : XI} (h1 : SA own cc nL nm ret pc x) (h2 : SA own cc nL nm ret pc y) : SA own cc nL nm ret pc (cond b x y) := by cases b <;> assumption
theorem sa_l {k : Nat} {x : XI} (h : SA own cc nL nm ret k x) : SA own cc nL nm ret pc (cond (Nat.beq pc k) x ia_no) := by
  cases e : Nat.beq pc k with
  | true => rw [Nat.eq_of_beq_eq_true e]; exact h
  | false => exact sa_no
theorem okI_c {x : Int} (h : decide (-2147483648 ≤ x ∧ x < 2147483648) = true) : okI x := show -2147483648 ≤ x ∧ x < 2147483648 from of_decide_eq_true h
theorem okL_c {x : Int} (h : decide (-9223372036854775808 ≤ x ∧ x < 9223372036854775808) = true) : okL x := show -9223372036854775808 ≤ x ∧ x < 9223372036854775808 from of_decide_eq_true h
theorem lt_c {a b : Nat} (h : Nat.ble (a + 1) b = true) : a < b := Nat.le_of_ble_eq_true h
theorem snd_newI (hq : Cond.arrayClass (newarray.typeOf .int) ∈ lw_all) (hd : decode cc pc = .ok (.newarray .int, 2)) (hn : pc + 2 = n) : Snd own cc nL nm ret pc (ia_newa n 100) := snd_newarr (t0 := 0) (by decide) rfl (fun _ => rfl) (fun _ _ h => h) (fun _ _ => rfl) (by decide) hq hd hn
theorem snd_newZ (hq : Cond.arrayClass (newarray.typeOf .boolean) ∈ lw_all) (hd : decode cc pc = .ok (.newarray .boolean, 2)) (hn : pc + 2 = n) : Snd own cc nL nm ret pc (ia_newa n 101) := snd_newarr (t0 := 1) (by decide) rfl (fun _ => rfl) (fun _ _ h => h) (fun _ _ => rfl) (by decide) hq hd hn
theorem snd_newB (hq : Cond.arrayClass (newarray.typeOf .byte) ∈ lw_all) (hd : decode cc pc = .ok (.newarray .byte, 2)) (hn : pc + 2 = n) : Snd own cc nL nm ret pc (ia_newa n 102) := snd_newarr (t0 := 2) (by decide) rfl (fun _ => rfl) (fun _ _ h => h) (fun _ _ => rfl) (by decide) hq hd hn
theorem snd_newJ (hq : Cond.arrayClass (newarray.typeOf .long) ∈ lw_all) (hd : decode cc pc = .ok (.newarray .long, 2)) (hn : pc + 2 = n) : Snd own cc nL nm ret pc (ia_newa n 103) := snd_newarr (t0 := 3) (by decide) rfl (fun _ => rfl) (fun _ _ h => h) (fun _ _ => rfl) (by decide) hq hd hn
theorem st_ret0 (hd : decode cc pc = .ok (.return_, 1)) (hr : ret = none) : SndT cc ret pc ia_ret0 := by
  intro L st M g v h hg
  unfold ia_ret0 at h
  split at h
  · cases h; subst hr; exact ⟨hd, rfl, trivial⟩
  · cases h
theorem st_retI (hd : decode cc pc = .ok (.ireturn, 1)) (hr : ret = some .int) : SndT cc ret pc ia_retI := by
  intro L st M g v h hg
  unfold ia_retI at h
  split at h
  · cases h; subst hr; exact ⟨hd, rfl, trivial⟩
  · cases h
theorem st_retZ (hd : decode cc pc = .ok (.ireturn, 1)) (hr : ret = some .boolean) : SndT cc ret pc ia_retZ := by
  intro L st M g v h hg
  unfold ia_retZ at h
  split at h
  · cases h; subst hr; exact ⟨hd, rfl, hg⟩
  · cases h
theorem st_retB (hd : decode cc pc = .ok (.ireturn, 1)) (hr : ret = some .byte) : SndT cc ret pc ia_retZ := by
  intro L st M g v h hg
  unfold ia_retZ at h
  split at h
  · cases h; subst hr; exact ⟨hd, rfl, hg⟩
  · cases h
theorem st_retC (hd : decode cc pc = .ok (.ireturn, 1)) (hr : ret = some .char) : SndT cc ret pc ia_retC := by
  intro L st M g v h hg
  unfold ia_retC at h
  split at h
  · cases h; subst hr; exact ⟨hd, rfl, hg⟩
  · cases h
theorem st_retL (hd : decode cc pc = .ok (.lreturn, 1)) (hr : ret = some .long) : SndT cc ret pc ia_retL := by
  intro L st M g v h hg
  unfold ia_retL at h
  split at h
  · cases h; subst hr; exact ⟨hd, rfl, trivial⟩
  · cases h
theorem st_retR (hd : decode cc pc = .ok (.areturn, 1)) (hr : (∃ z, ret = some (.object z)) ∨ ∃ z, ret = some (.array z)) : SndT cc ret pc ia_retR := by
  intro L st M g v h hg
  unfold ia_retR at h
  split at h
  · cases h
    refine ⟨hd, rfl, ?_⟩
    rcases hr with ⟨z, e⟩ | ⟨z, e⟩ <;> subst e <;> trivial
  · cases h
theorem st_thr (hd : decode cc pc = .ok (.athrow, 1)) : SndX cc pc (ia_thr 10) := by
  intro L st M g a h hg
  unfold ia_thr at h
  split at h
  · cases h; exact ⟨hd, hg, _, rfl⟩
  · cases h
/-- what a call asks of the callee, once for each callee -/
def MeV (cid k kd w : Nat) (y : MethodName) : Prop := ∃ (b : ByteArray) (nl : Nat) (r : Option FieldType) (q : vw_C), (sYn cid = y ∧ sWs cid = ws_ y b nl r ∧ sLn cid = nl ∧ nl ≤ 45 ∧ w = nl ∧ (1 ≤ kd ∧ kd ≤ 16) ∧ sCl[kd - 1]? = some q) ∧ (Cond.instanceMethod y ∈ lw_all ∧ Cond.selects q.1 y y ∈ lw_all ∧ Cond.code y b nl r ∈ lw_all ∧ Cond.initialized y.cls ∈ lw_all) ∧ (y.cls ≠ "java/lang/invoke/MethodHandle" ∧ y.cls ≠ "java/lang/invoke/VarHandle") ∧ (parseMethodDescriptor y.desc).map (fun d => d.parameters.length) = some k
def MeT (cid k w : Nat) (y : MethodName) : Prop := ∃ (b : ByteArray) (nl : Nat) (r : Option FieldType), (sYn cid = y ∧ sWs cid = ws_ y b nl r ∧ sLn cid = nl ∧ nl ≤ 45 ∧ w = nl) ∧ (Cond.instanceMethod y ∈ lw_all ∧ Cond.selects "java/lang/String" y y ∈ lw_all ∧ Cond.code y b nl r ∈ lw_all ∧ Cond.initialized y.cls ∈ lw_all) ∧ (y.cls ≠ "java/lang/invoke/MethodHandle" ∧ y.cls ≠ "java/lang/invoke/VarHandle") ∧ (parseMethodDescriptor y.desc).map (fun d => d.parameters.length) = some k
def MeS (cid k w : Nat) (y : MethodName) : Prop := ∃ (b : ByteArray) (nl : Nat) (r : Option FieldType), (sYn cid = y ∧ sWs cid = ws_ y b nl r ∧ sLn cid = nl ∧ nl ≤ 45 ∧ w = nl) ∧ (Cond.static y ∈ lw_all ∧ Cond.code y b nl r ∈ lw_all ∧ Cond.initialized y.cls ∈ lw_all) ∧ (y.cls ≠ "java/lang/invoke/MethodHandle" ∧ y.cls ≠ "java/lang/invoke/VarHandle") ∧ (parseMethodDescriptor y.desc).map (fun d => d.parameters.length) = some k
def MeI (cid k w : Nat) (y : MethodName) : Prop := ∃ (b : ByteArray) (nl : Nat), (sYn cid = y ∧ sWs cid = ws_ y b nl none ∧ sLn cid = nl ∧ nl ≤ 45 ∧ w = nl) ∧ y.name = "<init>" ∧ (Cond.instanceMethod y ∈ lw_all ∧ Cond.code y b nl none ∈ lw_all ∧ Cond.initialized y.cls ∈ lw_all) ∧ (y.cls ≠ "java/lang/invoke/MethodHandle" ∧ y.cls ≠ "java/lang/invoke/VarHandle") ∧ (parseMethodDescriptor y.desc).map (fun d => d.parameters.length) = some k
theorem sk_V {cid k kd idx w : Nat} {y : MethodName} (h : MeV cid k kd w y) (h1q : Cond.methodLink own idx y ∈ lw_all) (hd : decode cc pc = .ok (.invokevirtual idx, 3)) (hn : pc + 3 = n) : SA own cc nL nm ret pc (ia_call n (k + 1) kd cid w) := by
  obtain ⟨b, nl, r, q, ⟨a1, a2, a3, a4, a5, a6, a7⟩, ⟨b1, b2, b3, b4⟩, c1, c2⟩ := h
  exact sa_k (sc_V a1 a2 a3 a4 a5 a6 a7 h1q b1 b2 b3 b4 c1 c2 hd hn) on_call
theorem sk_VN {cid k kd idx w : Nat} {y : MethodName} {host : String} (h : MeV cid k kd w y) (h1q : Cond.methodLinkNest own idx y host ∈ lw_tbl) (hd : decode cc pc = .ok (.invokevirtual idx, 3)) (hn : pc + 3 = n) : SA own cc nL nm ret pc (ia_call n (k + 1) kd cid w) := by
  obtain ⟨b, nl, r, q, ⟨a1, a2, a3, a4, a5, a6, a7⟩, ⟨b1, b2, b3, b4⟩, c1, c2⟩ := h
  exact sa_k (sc_VN a1 a2 a3 a4 a5 a6 a7 h1q b1 b2 b3 b4 c1 c2 hd hn) on_call
theorem sk_T {cid k idx w : Nat} {y : MethodName} (h : MeT cid k w y) (h1q : Cond.methodLink own idx y ∈ lw_all) (hd : decode cc pc = .ok (.invokevirtual idx, 3)) (hn : pc + 3 = n) : SA own cc nL nm ret pc (ia_call n (k + 1) 51 cid w) := by
  obtain ⟨b, nl, r, ⟨a1, a2, a3, a4, a5⟩, ⟨b1, b2, b3, b4⟩, c1, c2⟩ := h
  exact sa_k (sc_T a1 a2 a3 a4 a5 h1q b1 b2 b3 b4 c1 c2 hd hn) on_call
theorem sk_S {cid k idx w : Nat} {y : MethodName} (h : MeS cid k w y) (h1q : Cond.methodLink own idx y ∈ lw_all) (hd : decode cc pc = .ok (.invokestatic idx, 3)) (hn : pc + 3 = n) : SA own cc nL nm ret pc (ia_stat n k cid w) := by
  obtain ⟨b, nl, r, ⟨a1, a2, a3, a4, a5⟩, ⟨b1, b3, b4⟩, c1, c2⟩ := h
  exact sa_k (sc_S a1 a2 a3 a4 a5 h1q b1 b3 b4 c1 c2 hd hn) on_stat
theorem sk_I {cid k kd idx w : Nat} {y : MethodName} (h : MeI cid k w y) (hkd : 1 ≤ kd ∧ kd ≤ 16) {q : vw_C} (hc : sCl[kd - 1]? = some q) (h1q : Cond.methodLink own idx y ∈ lw_all) (hd : decode cc pc = .ok (.invokespecial idx, 3)) (hn : pc + 3 = n) : SA own cc nL nm ret pc (ia_call n (k + 1) kd cid w) := by
  obtain ⟨b, nl, ⟨a1, a2, a3, a4, a5⟩, a8, ⟨b1, b3, b4⟩, c1, c2⟩ := h
  exact sa_k (sc_I a1 a2 a3 a4 a5 hkd hc a8 h1q b1 b3 b4 c1 c2 hd hn) on_call
theorem sk_IN {cid k kd idx w : Nat} {y : MethodName} {host : String} (h : MeI cid k w y) (hkd : 1 ≤ kd ∧ kd ≤ 16) {q : vw_C} (hc : sCl[kd - 1]? = some q) (h1q : Cond.methodLinkNest own idx y host ∈ lw_tbl) (hd : decode cc pc = .ok (.invokespecial idx, 3)) (hn : pc + 3 = n) : SA own cc nL nm ret pc (ia_call n (k + 1) kd cid w) := by
  obtain ⟨b, nl, ⟨a1, a2, a3, a4, a5⟩, a8, ⟨b1, b3, b4⟩, c1, c2⟩ := h
  exact sa_k (sc_IN a1 a2 a3 a4 a5 hkd hc a8 h1q b1 b3 b4 c1 c2 hd hn) on_call
end
theorem me_1 : MeV 1 1 1 2 (yX0_image) := ⟨_, _, _, _, ⟨rfl, rfl, rfl, by decide, rfl, by decide, rfl⟩, ⟨q135, q136, q137, q104⟩, ⟨by decide, by decide⟩, by decide +kernel⟩
theorem me_2 : MeS 2 3 3 (yX0_in) := ⟨_, _, _, ⟨rfl, rfl, rfl, by decide, rfl⟩, ⟨q139, q140, q104⟩, ⟨by decide, by decide⟩, by decide +kernel⟩
theorem me_3 : MeV 3 1 1 2 (yX0_refuse) := ⟨_, _, _, _, ⟨rfl, rfl, rfl, by decide, rfl, by decide, rfl⟩, ⟨q143, qs0, q145, q104⟩, ⟨by decide, by decide⟩, by decide +kernel⟩
theorem me_4 : MeV 4 1 1 2 (yX0_done) := ⟨_, _, _, _, ⟨rfl, rfl, rfl, by decide, rfl, by decide, rfl⟩, ⟨q303, qs2, q304, q104⟩, ⟨by decide, by decide⟩, by decide +kernel⟩
theorem me_5 : MeV 5 1 1 2 (yX0_back) := ⟨_, _, _, _, ⟨rfl, rfl, rfl, by decide, rfl, by decide, rfl⟩, ⟨q306, q307, q308, q104⟩, ⟨by decide, by decide⟩, by decide +kernel⟩
theorem me_6 : MeV 6 1 1 2 (yX0_told0) := ⟨_, _, _, _, ⟨rfl, rfl, rfl, by decide, rfl, by decide, rfl⟩, ⟨q311, qs3, q312, q104⟩, ⟨by decide, by decide⟩, by decide +kernel⟩
theorem me_7 : MeV 7 2 1 3 (yX0_week) := ⟨_, _, _, _, ⟨rfl, rfl, rfl, by decide, rfl, by decide, rfl⟩, ⟨q314, q315, q316, q104⟩, ⟨by decide, by decide⟩, by decide +kernel⟩
theorem me_8 : MeS 8 1 1 (yX0_isWeek) := ⟨_, _, _, ⟨rfl, rfl, rfl, by decide, rfl⟩, ⟨q318, q319, q104⟩, ⟨by decide, by decide⟩, by decide +kernel⟩
theorem me_9 : MeS 9 1 1 (yX0_isKeeper) := ⟨_, _, _, ⟨rfl, rfl, rfl, by decide, rfl⟩, ⟨q321, q322, q104⟩, ⟨by decide, by decide⟩, by decide +kernel⟩
theorem me_10 : MeV 10 3 1 5 (yX0_replaces) := ⟨_, _, _, _, ⟨rfl, rfl, rfl, by decide, rfl, by decide, rfl⟩, ⟨q325, qs4, q326, q104⟩, ⟨by decide, by decide⟩, by decide +kernel⟩
theorem me_11 : MeV 11 2 1 3 (yX0_cut) := ⟨_, _, _, _, ⟨rfl, rfl, rfl, by decide, rfl, by decide, rfl⟩, ⟨q328, q329, q330, q104⟩, ⟨by decide, by decide⟩, by decide +kernel⟩
theorem me_12 : MeS 12 1 1 (yX0_isThing) := ⟨_, _, _, ⟨rfl, rfl, rfl, by decide, rfl⟩, ⟨q332, q333, q104⟩, ⟨by decide, by decide⟩, by decide +kernel⟩
theorem me_13 : MeV 13 2 1 3 (yX0_shorter) := ⟨_, _, _, _, ⟨rfl, rfl, rfl, by decide, rfl, by decide, rfl⟩, ⟨q335, q336, q337, q104⟩, ⟨by decide, by decide⟩, by decide +kernel⟩
theorem me_14 : MeV 14 4 1 5 (yX0_entry) := ⟨_, _, _, _, ⟨rfl, rfl, rfl, by decide, rfl, by decide, rfl⟩, ⟨q347, q348, q349, q104⟩, ⟨by decide, by decide⟩, by decide +kernel⟩
theorem me_15 : MeS 15 4 4 (yX0_canBe) := ⟨_, _, _, ⟨rfl, rfl, rfl, by decide, rfl⟩, ⟨q351, q352, q104⟩, ⟨by decide, by decide⟩, by decide +kernel⟩
theorem me_16 : MeV 16 2 1 4 (yX0_counts) := ⟨_, _, _, _, ⟨rfl, rfl, rfl, by decide, rfl, by decide, rfl⟩, ⟨q404, q405, q406, q104⟩, ⟨by decide, by decide⟩, by decide +kernel⟩
theorem me_17 : MeV 17 1 1 2 (yX0_isEntry) := ⟨_, _, _, _, ⟨rfl, rfl, rfl, by decide, rfl, by decide, rfl⟩, ⟨q409, qs7, q410, q104⟩, ⟨by decide, by decide⟩, by decide +kernel⟩
theorem me_18 : MeV 18 2 1 4 (yX0_of) := ⟨_, _, _, _, ⟨rfl, rfl, rfl, by decide, rfl, by decide, rfl⟩, ⟨q412, q413, q414, q104⟩, ⟨by decide, by decide⟩, by decide +kernel⟩
theorem me_19 : MeV 19 5 1 6 (yX0_feed) := ⟨_, _, _, _, ⟨rfl, rfl, rfl, by decide, rfl, by decide, rfl⟩, ⟨q434, q435, q436, q104⟩, ⟨by decide, by decide⟩, by decide +kernel⟩
theorem me_20 : MeV 20 1 1 3 (yX0_four) := ⟨_, _, _, _, ⟨rfl, rfl, rfl, by decide, rfl, by decide, rfl⟩, ⟨q439, qs8, q440, q104⟩, ⟨by decide, by decide⟩, by decide +kernel⟩
theorem me_21 : MeV 21 1 1 2 (yX0_end) := ⟨_, _, _, _, ⟨rfl, rfl, rfl, by decide, rfl, by decide, rfl⟩, ⟨q442, q443, q444, q104⟩, ⟨by decide, by decide⟩, by decide +kernel⟩
theorem me_22 : MeV 22 0 1 5 (yX0_row) := ⟨_, _, _, _, ⟨rfl, rfl, rfl, by decide, rfl, by decide, rfl⟩, ⟨q446, q447, q448, q104⟩, ⟨by decide, by decide⟩, by decide +kernel⟩
theorem me_23 : MeV 23 0 1 1 (yX0_blurred) := ⟨_, _, _, _, ⟨rfl, rfl, rfl, by decide, rfl, by decide, rfl⟩, ⟨q450, q451, q452, q104⟩, ⟨by decide, by decide⟩, by decide +kernel⟩
theorem me_25 : MeV 25 0 1 1 (yX0_fault) := ⟨_, _, _, _, ⟨rfl, rfl, rfl, by decide, rfl, by decide, rfl⟩, ⟨q751, q752, q753, q104⟩, ⟨by decide, by decide⟩, by decide +kernel⟩
theorem me_26 : MeI 26 0 2 (yX0_init) := ⟨_, _, ⟨rfl, rfl, rfl, by decide, rfl⟩, rfl, ⟨q756, q757, q104⟩, ⟨by decide, by decide⟩, by decide +kernel⟩
theorem me_27 : MeV 27 0 1 1 (yX0_fits) := ⟨_, _, _, _, ⟨rfl, rfl, rfl, by decide, rfl, by decide, rfl⟩, ⟨q968, q969, q970, q104⟩, ⟨by decide, by decide⟩, by decide +kernel⟩
theorem me_28 : MeV 28 0 1 3 (yX0_counted) := ⟨_, _, _, _, ⟨rfl, rfl, rfl, by decide, rfl, by decide, rfl⟩, ⟨q977, qs21, q978, q104⟩, ⟨by decide, by decide⟩, by decide +kernel⟩
theorem me_29 : MeV 29 3 1 5 (yX0_between) := ⟨_, _, _, _, ⟨rfl, rfl, rfl, by decide, rfl, by decide, rfl⟩, ⟨q1042, q1043, q1044, q104⟩, ⟨by decide, by decide⟩, by decide +kernel⟩
theorem me_30 : MeV 30 1 1 2 (yX0_isLength) := ⟨_, _, _, _, ⟨rfl, rfl, rfl, by decide, rfl, by decide, rfl⟩, ⟨q1047, qs28, q1048, q104⟩, ⟨by decide, by decide⟩, by decide +kernel⟩
theorem me_31 : MeV 31 4 1 8 (yX0_quotient) := ⟨_, _, _, _, ⟨rfl, rfl, rfl, by decide, rfl, by decide, rfl⟩, ⟨q1053, qs29, q1054, q104⟩, ⟨by decide, by decide⟩, by decide +kernel⟩
theorem me_32 : MeV 32 2 1 5 (yX0_sure) := ⟨_, _, _, _, ⟨rfl, rfl, rfl, by decide, rfl, by decide, rfl⟩, ⟨q1063, q1064, q1065, q104⟩, ⟨by decide, by decide⟩, by decide +kernel⟩
theorem me_33 : MeV 33 3 1 7 (yX0_feet) := ⟨_, _, _, _, ⟨rfl, rfl, rfl, by decide, rfl, by decide, rfl⟩, ⟨q1071, q1072, q1073, q104⟩, ⟨by decide, by decide⟩, by decide +kernel⟩
theorem me_34 : MeV 34 3 1 11 (yX0_part) := ⟨_, _, _, _, ⟨rfl, rfl, rfl, by decide, rfl, by decide, rfl⟩, ⟨q1076, q1077, q1078, q104⟩, ⟨by decide, by decide⟩, by decide +kernel⟩
theorem me_35 : MeV 35 2 1 5 (yX0_isSame) := ⟨_, _, _, _, ⟨rfl, rfl, rfl, by decide, rfl, by decide, rfl⟩, ⟨q1082, qs30, q1083, q104⟩, ⟨by decide, by decide⟩, by decide +kernel⟩
theorem me_36 : MeS 36 1 1 (yX0_whole) := ⟨_, _, _, ⟨rfl, rfl, rfl, by decide, rfl⟩, ⟨q1086, q1087, q104⟩, ⟨by decide, by decide⟩, by decide +kernel⟩
theorem me_37 : MeS 37 2 4 (yX0_common) := ⟨_, _, _, ⟨rfl, rfl, rfl, by decide, rfl⟩, ⟨q1090, q1091, q104⟩, ⟨by decide, by decide⟩, by decide +kernel⟩
theorem me_38 : MeV 38 5 1 8 (yX0_lay) := ⟨_, _, _, _, ⟨rfl, rfl, rfl, by decide, rfl, by decide, rfl⟩, ⟨q1093, q1094, q1095, q104⟩, ⟨by decide, by decide⟩, by decide +kernel⟩
theorem me_39 : MeV 39 2 1 3 (yX0_isFoot) := ⟨_, _, _, _, ⟨rfl, rfl, rfl, by decide, rfl, by decide, rfl⟩, ⟨q1098, qs31, q1099, q104⟩, ⟨by decide, by decide⟩, by decide +kernel⟩
theorem me_40 : MeV 40 3 1 6 (yX0_end_2) := ⟨_, _, _, _, ⟨rfl, rfl, rfl, by decide, rfl, by decide, rfl⟩, ⟨q1103, qs32, q1104, q104⟩, ⟨by decide, by decide⟩, by decide +kernel⟩
theorem me_41 : MeS 41 2 5 (yX0_plus) := ⟨_, _, _, ⟨rfl, rfl, rfl, by decide, rfl⟩, ⟨q1106, q1107, q104⟩, ⟨by decide, by decide⟩, by decide +kernel⟩
theorem me_42 : MeV 42 2 1 4 (yX0_cuts) := ⟨_, _, _, _, ⟨rfl, rfl, rfl, by decide, rfl, by decide, rfl⟩, ⟨q1111, qs33, q1112, q104⟩, ⟨by decide, by decide⟩, by decide +kernel⟩
theorem me_43 : MeV 43 4 1 5 (yX0_area) := ⟨_, _, _, _, ⟨rfl, rfl, rfl, by decide, rfl, by decide, rfl⟩, ⟨q1114, q1115, q1116, q104⟩, ⟨by decide, by decide⟩, by decide +kernel⟩
theorem me_44 : MeV 44 4 1 6 (yX0_would) := ⟨_, _, _, _, ⟨rfl, rfl, rfl, by decide, rfl, by decide, rfl⟩, ⟨q1119, q1120, q1121, q104⟩, ⟨by decide, by decide⟩, by decide +kernel⟩
theorem me_45 : MeS 45 2 2 (yX0_isNumber) := ⟨_, _, _, ⟨rfl, rfl, rfl, by decide, rfl⟩, ⟨q1123, q1124, q104⟩, ⟨by decide, by decide⟩, by decide +kernel⟩
theorem me_46 : MeV 46 3 1 7 (yX0_could) := ⟨_, _, _, _, ⟨rfl, rfl, rfl, by decide, rfl, by decide, rfl⟩, ⟨q1127, qs34, q1128, q104⟩, ⟨by decide, by decide⟩, by decide +kernel⟩
theorem me_47 : MeV 47 4 1 5 (yX0_against) := ⟨_, _, _, _, ⟨rfl, rfl, rfl, by decide, rfl, by decide, rfl⟩, ⟨q1132, qs35, q1133, q104⟩, ⟨by decide, by decide⟩, by decide +kernel⟩
theorem me_48 : MeV 48 3 1 5 (yX0_must) := ⟨_, _, _, _, ⟨rfl, rfl, rfl, by decide, rfl, by decide, rfl⟩, ⟨q1137, qs36, q1138, q104⟩, ⟨by decide, by decide⟩, by decide +kernel⟩
theorem me_49 : MeV 49 4 1 6 (yX0_numbers) := ⟨_, _, _, _, ⟨rfl, rfl, rfl, by decide, rfl, by decide, rfl⟩, ⟨q1140, q1141, q1142, q104⟩, ⟨by decide, by decide⟩, by decide +kernel⟩
theorem me_50 : MeV 50 3 1 6 (yX0_numbersOf) := ⟨_, _, _, _, ⟨rfl, rfl, rfl, by decide, rfl, by decide, rfl⟩, ⟨q1145, qs37, q1146, q104⟩, ⟨by decide, by decide⟩, by decide +kernel⟩
theorem me_51 : MeV 51 1 1 7 (yX0_ask) := ⟨_, _, _, _, ⟨rfl, rfl, rfl, by decide, rfl, by decide, rfl⟩, ⟨q1148, q1149, q1150, q104⟩, ⟨by decide, by decide⟩, by decide +kernel⟩
theorem me_52 : MeV 52 4 1 10 (yX0_dates) := ⟨_, _, _, _, ⟨rfl, rfl, rfl, by decide, rfl, by decide, rfl⟩, ⟨q1152, q1153, q1154, q104⟩, ⟨by decide, by decide⟩, by decide +kernel⟩
theorem me_53 : MeV 53 2 1 3 (yX0_joined) := ⟨_, _, _, _, ⟨rfl, rfl, rfl, by decide, rfl, by decide, rfl⟩, ⟨q1156, q1157, q1158, q104⟩, ⟨by decide, by decide⟩, by decide +kernel⟩
theorem me_54 : MeV 54 0 1 3 (yX0_joins) := ⟨_, _, _, _, ⟨rfl, rfl, rfl, by decide, rfl, by decide, rfl⟩, ⟨q1161, qs38, q1162, q104⟩, ⟨by decide, by decide⟩, by decide +kernel⟩
theorem me_55 : MeV 55 2 1 6 (yX0_joins_2) := ⟨_, _, _, _, ⟨rfl, rfl, rfl, by decide, rfl, by decide, rfl⟩, ⟨q1165, qs39, q1166, q104⟩, ⟨by decide, by decide⟩, by decide +kernel⟩
theorem me_56 : MeV 56 1 1 7 (yX0_groups) := ⟨_, _, _, _, ⟨rfl, rfl, rfl, by decide, rfl, by decide, rfl⟩, ⟨q1169, q1170, q1171, q104⟩, ⟨by decide, by decide⟩, by decide +kernel⟩
theorem me_57 : MeV 57 0 1 3 (yX0_core) := ⟨_, _, _, _, ⟨rfl, rfl, rfl, by decide, rfl, by decide, rfl⟩, ⟨q1173, q1174, q1175, q104⟩, ⟨by decide, by decide⟩, by decide +kernel⟩
theorem me_58 : MeV 58 1 1 2 (yX0_fitsWith) := ⟨_, _, _, _, ⟨rfl, rfl, rfl, by decide, rfl, by decide, rfl⟩, ⟨q1178, qs40, q1179, q104⟩, ⟨by decide, by decide⟩, by decide +kernel⟩
theorem me_59 : MeV 59 1 1 2 (yX0_wrong) := ⟨_, _, _, _, ⟨rfl, rfl, rfl, by decide, rfl, by decide, rfl⟩, ⟨q1183, q1184, q1185, q104⟩, ⟨by decide, by decide⟩, by decide +kernel⟩
theorem me_60 : MeV 60 0 1 4 (yX0_wrongs) := ⟨_, _, _, _, ⟨rfl, rfl, rfl, by decide, rfl, by decide, rfl⟩, ⟨q1188, qs41, q1189, q104⟩, ⟨by decide, by decide⟩, by decide +kernel⟩
theorem me_61 : MeV 61 2 1 3 (yX0_tries) := ⟨_, _, _, _, ⟨rfl, rfl, rfl, by decide, rfl, by decide, rfl⟩, ⟨q1192, qs42, q1193, q104⟩, ⟨by decide, by decide⟩, by decide +kernel⟩
theorem me_62 : MeV 62 1 1 4 (yX0_whose) := ⟨_, _, _, _, ⟨rfl, rfl, rfl, by decide, rfl, by decide, rfl⟩, ⟨q1195, q1196, q1197, q104⟩, ⟨by decide, by decide⟩, by decide +kernel⟩
theorem me_63 : MeV 63 2 1 4 (yX0_could_2) := ⟨_, _, _, _, ⟨rfl, rfl, rfl, by decide, rfl, by decide, rfl⟩, ⟨q1220, q1221, q1222, q104⟩, ⟨by decide, by decide⟩, by decide +kernel⟩
theorem me_64 : MeV 64 2 1 7 (yX0_when) := ⟨_, _, _, _, ⟨rfl, rfl, rfl, by decide, rfl, by decide, rfl⟩, ⟨q1224, q1225, q1226, q104⟩, ⟨by decide, by decide⟩, by decide +kernel⟩
theorem me_65 : MeV 65 2 1 3 (yX0_tell) := ⟨_, _, _, _, ⟨rfl, rfl, rfl, by decide, rfl, by decide, rfl⟩, ⟨q1228, q1229, q1230, q104⟩, ⟨by decide, by decide⟩, by decide +kernel⟩
theorem me_66 : MeV 66 3 1 4 (yX0_says) := ⟨_, _, _, _, ⟨rfl, rfl, rfl, by decide, rfl, by decide, rfl⟩, ⟨q1232, q1233, q1234, q104⟩, ⟨by decide, by decide⟩, by decide +kernel⟩
theorem me_67 : MeS 67 3 3 (yX0_saysOf) := ⟨_, _, _, ⟨rfl, rfl, rfl, by decide, rfl⟩, ⟨q1236, q1237, q104⟩, ⟨by decide, by decide⟩, by decide +kernel⟩
theorem me_68 : MeV 68 1 1 6 (yX0_judge) := ⟨_, _, _, _, ⟨rfl, rfl, rfl, by decide, rfl, by decide, rfl⟩, ⟨q1239, q1240, q1241, q104⟩, ⟨by decide, by decide⟩, by decide +kernel⟩
theorem me_69 : MeV 69 1 1 3 (yX0_isSo) := ⟨_, _, _, _, ⟨rfl, rfl, rfl, by decide, rfl, by decide, rfl⟩, ⟨q1244, qs45, q1245, q104⟩, ⟨by decide, by decide⟩, by decide +kernel⟩
theorem me_70 : MeV 70 3 1 4 (yX0_year) := ⟨_, _, _, _, ⟨rfl, rfl, rfl, by decide, rfl, by decide, rfl⟩, ⟨q1253, q1254, q1255, q104⟩, ⟨by decide, by decide⟩, by decide +kernel⟩
theorem me_71 : MeV 71 1 1 2 (yX0_trade) := ⟨_, _, _, _, ⟨rfl, rfl, rfl, by decide, rfl, by decide, rfl⟩, ⟨q1272, q1273, q1274, q104⟩, ⟨by decide, by decide⟩, by decide +kernel⟩
theorem me_72 : MeV 72 1 1 4 (yX0_told) := ⟨_, _, _, _, ⟨rfl, rfl, rfl, by decide, rfl, by decide, rfl⟩, ⟨q1276, q1277, q1278, q104⟩, ⟨by decide, by decide⟩, by decide +kernel⟩
theorem me_73 : MeV 73 1 1 5 (yX0_count) := ⟨_, _, _, _, ⟨rfl, rfl, rfl, by decide, rfl, by decide, rfl⟩, ⟨q1281, q1282, q1283, q104⟩, ⟨by decide, by decide⟩, by decide +kernel⟩
theorem me_74 : MeV 74 0 1 1 (yX0_status) := ⟨_, _, _, _, ⟨rfl, rfl, rfl, by decide, rfl, by decide, rfl⟩, ⟨q1291, q1292, q1293, q104⟩, ⟨by decide, by decide⟩, by decide +kernel⟩
theorem me_75 : MeI 75 0 1 (yX1_init) := ⟨_, _, ⟨rfl, rfl, rfl, by decide, rfl⟩, rfl, ⟨q762, q763, q105⟩, ⟨by decide, by decide⟩, by decide +kernel⟩
theorem me_76 : MeV 76 1 2 3 (yX1_be) := ⟨_, _, _, _, ⟨rfl, rfl, rfl, by decide, rfl, by decide, rfl⟩, ⟨q988, q989, q990, q105⟩, ⟨by decide, by decide⟩, by decide +kernel⟩
theorem me_77 : MeV 77 2 2 7 (yX1_product) := ⟨_, _, _, _, ⟨rfl, rfl, rfl, by decide, rfl, by decide, rfl⟩, ⟨q996, q997, q998, q105⟩, ⟨by decide, by decide⟩, by decide +kernel⟩
theorem me_78 : MeV 78 1 2 3 (yX1_against) := ⟨_, _, _, _, ⟨rfl, rfl, rfl, by decide, rfl, by decide, rfl⟩, ⟨q1002, q1003, q1004, q105⟩, ⟨by decide, by decide⟩, by decide +kernel⟩
theorem me_79 : MeV 79 1 2 2 (yX1_like) := ⟨_, _, _, _, ⟨rfl, rfl, rfl, by decide, rfl, by decide, rfl⟩, ⟨q1009, q1010, q1011, q105⟩, ⟨by decide, by decide⟩, by decide +kernel⟩
theorem me_80 : MeV 80 1 2 5 (yX1_times) := ⟨_, _, _, _, ⟨rfl, rfl, rfl, by decide, rfl, by decide, rfl⟩, ⟨q1057, q1058, q1059, q105⟩, ⟨by decide, by decide⟩, by decide +kernel⟩
theorem me_81 : MeI 81 0 2 (yX2_init) := ⟨_, _, ⟨rfl, rfl, rfl, by decide, rfl⟩, rfl, ⟨q149, q150, q106⟩, ⟨by decide, by decide⟩, by decide +kernel⟩
theorem me_82 : MeV 82 1 3 2 (yX2_takes) := ⟨_, _, _, _, ⟨rfl, rfl, rfl, by decide, rfl, by decide, rfl⟩, ⟨q228, q229, q230, q106⟩, ⟨by decide, by decide⟩, by decide +kernel⟩
theorem me_83 : MeV 83 2 3 5 (yX2_isShorter) := ⟨_, _, _, _, ⟨rfl, rfl, rfl, by decide, rfl, by decide, rfl⟩, ⟨q339, q340, q341, q106⟩, ⟨by decide, by decide⟩, by decide +kernel⟩
theorem me_84 : MeV 84 2 3 3 (yX2_shorter) := ⟨_, _, _, _, ⟨rfl, rfl, rfl, by decide, rfl, by decide, rfl⟩, ⟨q343, q344, q345, q106⟩, ⟨by decide, by decide⟩, by decide +kernel⟩
theorem me_85 : MeV 85 1 3 2 (yX2_adds) := ⟨_, _, _, _, ⟨rfl, rfl, rfl, by decide, rfl, by decide, rfl⟩, ⟨q387, q388, q389, q106⟩, ⟨by decide, by decide⟩, by decide +kernel⟩
theorem me_86 : MeV 86 1 3 2 (yX2_lengthOf) := ⟨_, _, _, _, ⟨rfl, rfl, rfl, by decide, rfl, by decide, rfl⟩, ⟨q430, q431, q432, q106⟩, ⟨by decide, by decide⟩, by decide +kernel⟩
theorem me_87 : MeI 87 1 3 (yX3_init) := ⟨_, _, ⟨rfl, rfl, rfl, by decide, rfl⟩, rfl, ⟨q774, q775, q110⟩, ⟨by decide, by decide⟩, by decide +kernel⟩
theorem me_88 : MeV 88 0 4 1 (yX3_looks) := ⟨_, _, _, _, ⟨rfl, rfl, rfl, by decide, rfl, by decide, rfl⟩, ⟨q972, q973, q974, q110⟩, ⟨by decide, by decide⟩, by decide +kernel⟩
theorem me_89 : MeV 89 4 4 6 (yX3_fits) := ⟨_, _, _, _, ⟨rfl, rfl, rfl, by decide, rfl, by decide, rfl⟩, ⟨q980, q981, q982, q110⟩, ⟨by decide, by decide⟩, by decide +kernel⟩
theorem me_90 : MeV 90 5 4 6 (yX3_ties) := ⟨_, _, _, _, ⟨rfl, rfl, rfl, by decide, rfl, by decide, rfl⟩, ⟨q985, qs22, q986, q110⟩, ⟨by decide, by decide⟩, by decide +kernel⟩
theorem me_91 : MeV 91 2 4 4 (yX3_comes) := ⟨_, _, _, _, ⟨rfl, rfl, rfl, by decide, rfl, by decide, rfl⟩, ⟨q993, qs23, q994, q110⟩, ⟨by decide, by decide⟩, by decide +kernel⟩
theorem me_92 : MeV 92 4 4 7 (yX3_ties_2) := ⟨_, _, _, _, ⟨rfl, rfl, rfl, by decide, rfl, by decide, rfl⟩, ⟨q1018, qs24, q1019, q110⟩, ⟨by decide, by decide⟩, by decide +kernel⟩
theorem me_93 : MeV 93 0 4 4 (yX3_closes) := ⟨_, _, _, _, ⟨rfl, rfl, rfl, by decide, rfl, by decide, rfl⟩, ⟨q1031, qs25, q1032, q110⟩, ⟨by decide, by decide⟩, by decide +kernel⟩
theorem me_94 : MeV 94 1 4 4 (yX3_isBad) := ⟨_, _, _, _, ⟨rfl, rfl, rfl, by decide, rfl, by decide, rfl⟩, ⟨q1035, qs26, q1036, q110⟩, ⟨by decide, by decide⟩, by decide +kernel⟩
theorem me_95 : MeV 95 3 4 6 (yX3_goes) := ⟨_, _, _, _, ⟨rfl, rfl, rfl, by decide, rfl, by decide, rfl⟩, ⟨q1039, qs27, q1040, q110⟩, ⟨by decide, by decide⟩, by decide +kernel⟩
theorem me_96 : MeV 96 2 4 5 (yX3_above) := ⟨_, _, _, _, ⟨rfl, rfl, rfl, by decide, rfl, by decide, rfl⟩, ⟨q1067, q1068, q1069, q110⟩, ⟨by decide, by decide⟩, by decide +kernel⟩
theorem me_97 : MeI 97 1 2 (yX4_init) := ⟨_, _, ⟨rfl, rfl, rfl, by decide, rfl⟩, rfl, ⟨q816, q817, q111⟩, ⟨by decide, by decide⟩, by decide +kernel⟩
theorem me_98 : MeV 98 0 5 2 (yX4_looks) := ⟨_, _, _, _, ⟨rfl, rfl, rfl, by decide, rfl, by decide, rfl⟩, ⟨q1199, q1200, q1201, q111⟩, ⟨by decide, by decide⟩, by decide +kernel⟩
theorem me_99 : MeV 99 1 5 4 (yX4_isUsed) := ⟨_, _, _, _, ⟨rfl, rfl, rfl, by decide, rfl, by decide, rfl⟩, ⟨q1204, qs43, q1205, q111⟩, ⟨by decide, by decide⟩, by decide +kernel⟩
theorem me_100 : MeV 100 1 5 3 (yX4_gives) := ⟨_, _, _, _, ⟨rfl, rfl, rfl, by decide, rfl, by decide, rfl⟩, ⟨q1211, qs44, q1212, q111⟩, ⟨by decide, by decide⟩, by decide +kernel⟩
theorem me_101 : MeV 101 1 5 3 (yX4_placeOf) := ⟨_, _, _, _, ⟨rfl, rfl, rfl, by decide, rfl, by decide, rfl⟩, ⟨q1216, q1217, q1218, q111⟩, ⟨by decide, by decide⟩, by decide +kernel⟩
theorem me_102 : MeI 102 1 2 (yX5_init) := ⟨_, _, ⟨rfl, rfl, rfl, by decide, rfl⟩, rfl, ⟨q847, q848, q112⟩, ⟨by decide, by decide⟩, by decide +kernel⟩
theorem me_103 : MeV 103 1 6 4 (yX5_draws) := ⟨_, _, _, _, ⟨rfl, rfl, rfl, by decide, rfl, by decide, rfl⟩, ⟨q1257, q1258, q1259, q112⟩, ⟨by decide, by decide⟩, by decide +kernel⟩
theorem me_104 : MeV 104 1 6 5 (yX5_trades) := ⟨_, _, _, _, ⟨rfl, rfl, rfl, by decide, rfl, by decide, rfl⟩, ⟨q1264, q1265, q1266, q112⟩, ⟨by decide, by decide⟩, by decide +kernel⟩
theorem me_105 : MeV 105 2 6 3 (yX5_feet) := ⟨_, _, _, _, ⟨rfl, rfl, rfl, by decide, rfl, by decide, rfl⟩, ⟨q1268, q1269, q1270, q112⟩, ⟨by decide, by decide⟩, by decide +kernel⟩
theorem me_106 : MeI 106 4 5 (yX6_init) := ⟨_, _, ⟨rfl, rfl, rfl, by decide, rfl⟩, rfl, ⟨q360, q361, q113⟩, ⟨by decide, by decide⟩, by decide +kernel⟩
theorem me_107 : MeV 107 0 7 1 (yX6_low) := ⟨_, _, _, _, ⟨rfl, rfl, rfl, by decide, rfl, by decide, rfl⟩, ⟨q1022, q1023, q1024, q113⟩, ⟨by decide, by decide⟩, by decide +kernel⟩
theorem me_108 : MeV 108 0 7 1 (yX6_high) := ⟨_, _, _, _, ⟨rfl, rfl, rfl, by decide, rfl, by decide, rfl⟩, ⟨q1026, q1027, q1028, q113⟩, ⟨by decide, by decide⟩, by decide +kernel⟩
theorem me_109 : MeV 109 2 7 4 (yX6_isSo) := ⟨_, _, _, _, ⟨rfl, rfl, rfl, by decide, rfl, by decide, rfl⟩, ⟨q1247, q1248, q1249, q113⟩, ⟨by decide, by decide⟩, by decide +kernel⟩
theorem me_110 : MeI 110 0 2 (yX7_init) := ⟨_, _, ⟨rfl, rfl, rfl, by decide, rfl⟩, rfl, ⟨q1297, q1298, q114⟩, ⟨by decide, by decide⟩, by decide +kernel⟩
theorem me_111 : MeV 111 1 8 3 (yX7_image) := ⟨_, _, _, _, ⟨rfl, rfl, rfl, by decide, rfl, by decide, rfl⟩, ⟨q1492, q1493, q1494, q114⟩, ⟨by decide, by decide⟩, by decide +kernel⟩
theorem me_112 : MeS 112 3 6 (yX7_in) := ⟨_, _, _, ⟨rfl, rfl, rfl, by decide, rfl⟩, ⟨q1496, q1497, q114⟩, ⟨by decide, by decide⟩, by decide +kernel⟩
theorem me_113 : MeV 113 1 8 2 (yX7_answer) := ⟨_, _, _, _, ⟨rfl, rfl, rfl, by decide, rfl, by decide, rfl⟩, ⟨q1500, qs46, q1501, q114⟩, ⟨by decide, by decide⟩, by decide +kernel⟩
theorem me_114 : MeV 114 1 8 3 (yX7_back) := ⟨_, _, _, _, ⟨rfl, rfl, rfl, by decide, rfl, by decide, rfl⟩, ⟨q1503, q1504, q1505, q114⟩, ⟨by decide, by decide⟩, by decide +kernel⟩
theorem me_115 : MeV 115 2 8 3 (yX7_week) := ⟨_, _, _, _, ⟨rfl, rfl, rfl, by decide, rfl, by decide, rfl⟩, ⟨q1507, q1508, q1509, q114⟩, ⟨by decide, by decide⟩, by decide +kernel⟩
theorem me_116 : MeS 116 1 1 (yX7_isWeek) := ⟨_, _, _, ⟨rfl, rfl, rfl, by decide, rfl⟩, ⟨q1511, q1512, q114⟩, ⟨by decide, by decide⟩, by decide +kernel⟩
theorem me_117 : MeV 117 2 8 4 (yX7_change) := ⟨_, _, _, _, ⟨rfl, rfl, rfl, by decide, rfl, by decide, rfl⟩, ⟨q1518, qs47, q1519, q114⟩, ⟨by decide, by decide⟩, by decide +kernel⟩
theorem me_118 : MeV 118 1 8 2 (yX7_was) := ⟨_, _, _, _, ⟨rfl, rfl, rfl, by decide, rfl, by decide, rfl⟩, ⟨q1522, qs48, q1523, q114⟩, ⟨by decide, by decide⟩, by decide +kernel⟩
theorem me_119 : MeV 119 2 8 3 (yX7_cut) := ⟨_, _, _, _, ⟨rfl, rfl, rfl, by decide, rfl, by decide, rfl⟩, ⟨q1525, q1526, q1527, q114⟩, ⟨by decide, by decide⟩, by decide +kernel⟩
theorem me_120 : MeS 120 1 1 (yX7_isThing) := ⟨_, _, _, ⟨rfl, rfl, rfl, by decide, rfl⟩, ⟨q1529, q1530, q114⟩, ⟨by decide, by decide⟩, by decide +kernel⟩
theorem me_121 : MeV 121 2 8 3 (yX7_shorter) := ⟨_, _, _, _, ⟨rfl, rfl, rfl, by decide, rfl, by decide, rfl⟩, ⟨q1533, q1534, q1535, q114⟩, ⟨by decide, by decide⟩, by decide +kernel⟩
theorem me_122 : MeS 122 1 1 (yX7_isKeeper) := ⟨_, _, _, ⟨rfl, rfl, rfl, by decide, rfl⟩, ⟨q1537, q1538, q114⟩, ⟨by decide, by decide⟩, by decide +kernel⟩
theorem me_123 : MeV 123 2 8 4 (yX7_isShorter) := ⟨_, _, _, _, ⟨rfl, rfl, rfl, by decide, rfl, by decide, rfl⟩, ⟨q1541, qs49, q1542, q114⟩, ⟨by decide, by decide⟩, by decide +kernel⟩
theorem me_124 : MeV 124 2 8 3 (yX7_addShorter) := ⟨_, _, _, _, ⟨rfl, rfl, rfl, by decide, rfl, by decide, rfl⟩, ⟨q1545, qs50, q1546, q114⟩, ⟨by decide, by decide⟩, by decide +kernel⟩
theorem me_125 : MeV 125 4 8 5 (yX7_entry) := ⟨_, _, _, _, ⟨rfl, rfl, rfl, by decide, rfl, by decide, rfl⟩, ⟨q1548, q1549, q1550, q114⟩, ⟨by decide, by decide⟩, by decide +kernel⟩
theorem me_126 : MeS 126 4 4 (yX7_canEnter) := ⟨_, _, _, ⟨rfl, rfl, rfl, by decide, rfl⟩, ⟨q1552, q1553, q114⟩, ⟨by decide, by decide⟩, by decide +kernel⟩
theorem me_127 : MeV 127 4 8 6 (yX7_addEntry) := ⟨_, _, _, _, ⟨rfl, rfl, rfl, by decide, rfl, by decide, rfl⟩, ⟨q1558, qs51, q1559, q114⟩, ⟨by decide, by decide⟩, by decide +kernel⟩
theorem me_128 : MeV 128 2 8 3 (yX7_counts) := ⟨_, _, _, _, ⟨rfl, rfl, rfl, by decide, rfl, by decide, rfl⟩, ⟨q1561, q1562, q1563, q114⟩, ⟨by decide, by decide⟩, by decide +kernel⟩
theorem me_129 : MeV 129 1 8 2 (yX7_isEntry) := ⟨_, _, _, _, ⟨rfl, rfl, rfl, by decide, rfl, by decide, rfl⟩, ⟨q1566, qs52, q1567, q114⟩, ⟨by decide, by decide⟩, by decide +kernel⟩
theorem me_130 : MeV 130 2 8 3 (yX7_of) := ⟨_, _, _, _, ⟨rfl, rfl, rfl, by decide, rfl, by decide, rfl⟩, ⟨q1569, q1570, q1571, q114⟩, ⟨by decide, by decide⟩, by decide +kernel⟩
theorem me_131 : MeV 131 1 8 3 (yX7_lengthOf) := ⟨_, _, _, _, ⟨rfl, rfl, rfl, by decide, rfl, by decide, rfl⟩, ⟨q1574, qs53, q1575, q114⟩, ⟨by decide, by decide⟩, by decide +kernel⟩
theorem me_132 : MeV 132 2 8 3 (yX7_ofEntry) := ⟨_, _, _, _, ⟨rfl, rfl, rfl, by decide, rfl, by decide, rfl⟩, ⟨q1578, qs54, q1579, q114⟩, ⟨by decide, by decide⟩, by decide +kernel⟩
theorem me_133 : MeV 133 0 8 5 (yX7_row) := ⟨_, _, _, _, ⟨rfl, rfl, rfl, by decide, rfl, by decide, rfl⟩, ⟨q1581, q1582, q1583, q114⟩, ⟨by decide, by decide⟩, by decide +kernel⟩
theorem me_134 : MeV 134 0 8 1 (yX7_blurred) := ⟨_, _, _, _, ⟨rfl, rfl, rfl, by decide, rfl, by decide, rfl⟩, ⟨q1585, q1586, q1587, q114⟩, ⟨by decide, by decide⟩, by decide +kernel⟩
theorem me_135 : MeV 135 5 8 6 (yX7_feed) := ⟨_, _, _, _, ⟨rfl, rfl, rfl, by decide, rfl, by decide, rfl⟩, ⟨q1589, q1590, q1591, q114⟩, ⟨by decide, by decide⟩, by decide +kernel⟩
theorem me_136 : MeV 136 1 8 3 (yX7_four) := ⟨_, _, _, _, ⟨rfl, rfl, rfl, by decide, rfl, by decide, rfl⟩, ⟨q1594, qs55, q1595, q114⟩, ⟨by decide, by decide⟩, by decide +kernel⟩
theorem me_137 : MeV 137 1 8 2 (yX7_end) := ⟨_, _, _, _, ⟨rfl, rfl, rfl, by decide, rfl, by decide, rfl⟩, ⟨q1597, q1598, q1599, q114⟩, ⟨by decide, by decide⟩, by decide +kernel⟩
theorem me_138 : MeV 138 0 8 1 (yX7_fault) := ⟨_, _, _, _, ⟨rfl, rfl, rfl, by decide, rfl, by decide, rfl⟩, ⟨q1601, q1602, q1603, q114⟩, ⟨by decide, by decide⟩, by decide +kernel⟩
theorem me_139 : MeV 139 0 8 3 (yX7_book) := ⟨_, _, _, _, ⟨rfl, rfl, rfl, by decide, rfl, by decide, rfl⟩, ⟨q1605, q1606, q1607, q114⟩, ⟨by decide, by decide⟩, by decide +kernel⟩
theorem me_140 : MeV 140 0 8 1 (yX7_begin) := ⟨_, _, _, _, ⟨rfl, rfl, rfl, by decide, rfl, by decide, rfl⟩, ⟨q1610, qs56, q1611, q114⟩, ⟨by decide, by decide⟩, by decide +kernel⟩
theorem me_141 : MeV 141 0 8 1 (yX7_next) := ⟨_, _, _, _, ⟨rfl, rfl, rfl, by decide, rfl, by decide, rfl⟩, ⟨q1614, qs57, q1615, q114⟩, ⟨by decide, by decide⟩, by decide +kernel⟩
theorem me_142 : MeS 142 1 1 (yX7_isSmall) := ⟨_, _, _, ⟨rfl, rfl, rfl, by decide, rfl⟩, ⟨q1617, q1618, q114⟩, ⟨by decide, by decide⟩, by decide +kernel⟩
theorem me_143 : MeS 143 1 1 (yX7_isDigit) := ⟨_, _, _, ⟨rfl, rfl, rfl, by decide, rfl⟩, ⟨q1620, q1621, q114⟩, ⟨by decide, by decide⟩, by decide +kernel⟩
theorem me_144 : MeV 144 0 8 1 (yX7_readClause) := ⟨_, _, _, _, ⟨rfl, rfl, rfl, by decide, rfl, by decide, rfl⟩, ⟨q1629, qs58, q1630, q114⟩, ⟨by decide, by decide⟩, by decide +kernel⟩
theorem me_145 : MeV 145 1 8 3 (yX7_isWord) := ⟨_, _, _, _, ⟨rfl, rfl, rfl, by decide, rfl, by decide, rfl⟩, ⟨q1634, qs59, q1635, q114⟩, ⟨by decide, by decide⟩, by decide +kernel⟩
theorem me_146 : MeV 146 0 8 3 (yX7_readWeeks) := ⟨_, _, _, _, ⟨rfl, rfl, rfl, by decide, rfl, by decide, rfl⟩, ⟨q1638, qs60, q1639, q114⟩, ⟨by decide, by decide⟩, by decide +kernel⟩
theorem me_147 : MeV 147 2 8 6 (yX7_number) := ⟨_, _, _, _, ⟨rfl, rfl, rfl, by decide, rfl, by decide, rfl⟩, ⟨q1642, qs61, q1643, q114⟩, ⟨by decide, by decide⟩, by decide +kernel⟩
theorem me_148 : MeV 148 1 8 2 (yX7_must) := ⟨_, _, _, _, ⟨rfl, rfl, rfl, by decide, rfl, by decide, rfl⟩, ⟨q1646, qs62, q1647, q114⟩, ⟨by decide, by decide⟩, by decide +kernel⟩
theorem me_149 : MeV 149 5 8 7 (yX7_act) := ⟨_, _, _, _, ⟨rfl, rfl, rfl, by decide, rfl, by decide, rfl⟩, ⟨q1653, qs63, q1654, q114⟩, ⟨by decide, by decide⟩, by decide +kernel⟩
theorem me_150 : MeV 150 0 8 4 (yX7_readShorter) := ⟨_, _, _, _, ⟨rfl, rfl, rfl, by decide, rfl, by decide, rfl⟩, ⟨q1658, qs64, q1659, q114⟩, ⟨by decide, by decide⟩, by decide +kernel⟩
theorem me_151 : MeV 151 2 8 5 (yX7_isDrafted) := ⟨_, _, _, _, ⟨rfl, rfl, rfl, by decide, rfl, by decide, rfl⟩, ⟨q1663, qs65, q1664, q114⟩, ⟨by decide, by decide⟩, by decide +kernel⟩
theorem me_152 : MeV 152 0 8 2 (yX7_readThing) := ⟨_, _, _, _, ⟨rfl, rfl, rfl, by decide, rfl, by decide, rfl⟩, ⟨q1668, qs66, q1669, q114⟩, ⟨by decide, by decide⟩, by decide +kernel⟩
theorem me_153 : MeV 153 1 8 5 (yX7_readMeasure) := ⟨_, _, _, _, ⟨rfl, rfl, rfl, by decide, rfl, by decide, rfl⟩, ⟨q1675, qs67, q1676, q114⟩, ⟨by decide, by decide⟩, by decide +kernel⟩
theorem me_154 : MeV 154 1 8 2 (yX7_isSign) := ⟨_, _, _, _, ⟨rfl, rfl, rfl, by decide, rfl, by decide, rfl⟩, ⟨q1683, qs68, q1684, q114⟩, ⟨by decide, by decide⟩, by decide +kernel⟩
theorem me_155 : MeV 155 1 8 3 (yX7_doAct) := ⟨_, _, _, _, ⟨rfl, rfl, rfl, by decide, rfl, by decide, rfl⟩, ⟨q1687, qs69, q1688, q114⟩, ⟨by decide, by decide⟩, by decide +kernel⟩
theorem me_156 : MeV 156 0 8 1 (yX7_fits) := ⟨_, _, _, _, ⟨rfl, rfl, rfl, by decide, rfl, by decide, rfl⟩, ⟨q1690, q1691, q1692, q114⟩, ⟨by decide, by decide⟩, by decide +kernel⟩
theorem me_157 : MeV 157 0 8 1 (yX7_canBeNow) := ⟨_, _, _, _, ⟨rfl, rfl, rfl, by decide, rfl, by decide, rfl⟩, ⟨q1695, qs70, q1696, q114⟩, ⟨by decide, by decide⟩, by decide +kernel⟩
theorem me_158 : MeV 158 0 8 2 (yX7_asIs) := ⟨_, _, _, _, ⟨rfl, rfl, rfl, by decide, rfl, by decide, rfl⟩, ⟨q1699, qs71, q1700, q114⟩, ⟨by decide, by decide⟩, by decide +kernel⟩
theorem me_159 : MeV 159 0 8 3 (yX7_counting) := ⟨_, _, _, _, ⟨rfl, rfl, rfl, by decide, rfl, by decide, rfl⟩, ⟨q1703, qs72, q1704, q114⟩, ⟨by decide, by decide⟩, by decide +kernel⟩
theorem me_160 : MeV 160 1 8 6 (yX7_canBe) := ⟨_, _, _, _, ⟨rfl, rfl, rfl, by decide, rfl, by decide, rfl⟩, ⟨q1707, qs73, q1708, q114⟩, ⟨by decide, by decide⟩, by decide +kernel⟩
theorem me_161 : MeV 161 1 8 11 (yX7_build) := ⟨_, _, _, _, ⟨rfl, rfl, rfl, by decide, rfl, by decide, rfl⟩, ⟨q1711, qs74, q1712, q114⟩, ⟨by decide, by decide⟩, by decide +kernel⟩
theorem me_162 : MeS 162 2 2 (yX7_is) := ⟨_, _, _, ⟨rfl, rfl, rfl, by decide, rfl⟩, ⟨q1714, q1715, q114⟩, ⟨by decide, by decide⟩, by decide +kernel⟩
theorem me_163 : MeV 163 5 8 6 (yX7_edge) := ⟨_, _, _, _, ⟨rfl, rfl, rfl, by decide, rfl, by decide, rfl⟩, ⟨q1718, qs75, q1719, q114⟩, ⟨by decide, by decide⟩, by decide +kernel⟩
theorem me_164 : MeV 164 1 8 4 (yX7_startAt) := ⟨_, _, _, _, ⟨rfl, rfl, rfl, by decide, rfl, by decide, rfl⟩, ⟨q1722, qs76, q1723, q114⟩, ⟨by decide, by decide⟩, by decide +kernel⟩
theorem me_165 : MeV 165 1 8 9 (yX7_round) := ⟨_, _, _, _, ⟨rfl, rfl, rfl, by decide, rfl, by decide, rfl⟩, ⟨q1726, qs77, q1727, q114⟩, ⟨by decide, by decide⟩, by decide +kernel⟩
theorem me_166 : MeV 166 1 8 3 (yX7_keep) := ⟨_, _, _, _, ⟨rfl, rfl, rfl, by decide, rfl, by decide, rfl⟩, ⟨q1730, qs78, q1731, q114⟩, ⟨by decide, by decide⟩, by decide +kernel⟩
theorem me_167 : MeS 167 5 10 (yX7_times) := ⟨_, _, _, ⟨rfl, rfl, rfl, by decide, rfl⟩, ⟨q1733, q1734, q114⟩, ⟨by decide, by decide⟩, by decide +kernel⟩
theorem me_168 : MeV 168 6 8 8 (yX7_compare) := ⟨_, _, _, _, ⟨rfl, rfl, rfl, by decide, rfl, by decide, rfl⟩, ⟨q1738, qs79, q1739, q114⟩, ⟨by decide, by decide⟩, by decide +kernel⟩
theorem me_169 : MeS 169 5 11 (yX7_product) := ⟨_, _, _, ⟨rfl, rfl, rfl, by decide, rfl⟩, ⟨q1741, q1742, q114⟩, ⟨by decide, by decide⟩, by decide +kernel⟩
theorem me_170 : MeV 170 1 8 2 (yX7_isTight) := ⟨_, _, _, _, ⟨rfl, rfl, rfl, by decide, rfl, by decide, rfl⟩, ⟨q1745, qs80, q1746, q114⟩, ⟨by decide, by decide⟩, by decide +kernel⟩
theorem me_171 : MeV 171 3 8 6 (yX7_between) := ⟨_, _, _, _, ⟨rfl, rfl, rfl, by decide, rfl, by decide, rfl⟩, ⟨q1748, q1749, q1750, q114⟩, ⟨by decide, by decide⟩, by decide +kernel⟩
theorem me_172 : MeV 172 2 8 3 (yX7_isAnswered) := ⟨_, _, _, _, ⟨rfl, rfl, rfl, by decide, rfl, by decide, rfl⟩, ⟨q1753, qs81, q1754, q114⟩, ⟨by decide, by decide⟩, by decide +kernel⟩
theorem me_173 : MeV 173 1 8 2 (yX7_isLength) := ⟨_, _, _, _, ⟨rfl, rfl, rfl, by decide, rfl, by decide, rfl⟩, ⟨q1757, qs82, q1758, q114⟩, ⟨by decide, by decide⟩, by decide +kernel⟩
theorem me_174 : MeV 174 1 8 3 (yX7_goFrom) := ⟨_, _, _, _, ⟨rfl, rfl, rfl, by decide, rfl, by decide, rfl⟩, ⟨q1764, qs83, q1765, q114⟩, ⟨by decide, by decide⟩, by decide +kernel⟩
theorem me_175 : MeV 175 6 8 13 (yX7_share) := ⟨_, _, _, _, ⟨rfl, rfl, rfl, by decide, rfl, by decide, rfl⟩, ⟨q1770, qs84, q1771, q114⟩, ⟨by decide, by decide⟩, by decide +kernel⟩
theorem me_176 : MeS 176 4 10 (yX7_wide) := ⟨_, _, _, ⟨rfl, rfl, rfl, by decide, rfl⟩, ⟨q1773, q1774, q114⟩, ⟨by decide, by decide⟩, by decide +kernel⟩
theorem me_177 : MeV 177 2 8 5 (yX7_sure) := ⟨_, _, _, _, ⟨rfl, rfl, rfl, by decide, rfl, by decide, rfl⟩, ⟨q1776, q1777, q1778, q114⟩, ⟨by decide, by decide⟩, by decide +kernel⟩
theorem me_178 : MeV 178 2 8 4 (yX7_besideOne) := ⟨_, _, _, _, ⟨rfl, rfl, rfl, by decide, rfl, by decide, rfl⟩, ⟨q1781, qs85, q1782, q114⟩, ⟨by decide, by decide⟩, by decide +kernel⟩
theorem me_179 : MeV 179 3 8 8 (yX7_feet) := ⟨_, _, _, _, ⟨rfl, rfl, rfl, by decide, rfl, by decide, rfl⟩, ⟨q1784, q1785, q1786, q114⟩, ⟨by decide, by decide⟩, by decide +kernel⟩
theorem me_180 : MeV 180 4 8 5 (yX7_would) := ⟨_, _, _, _, ⟨rfl, rfl, rfl, by decide, rfl, by decide, rfl⟩, ⟨q1788, q1789, q1790, q114⟩, ⟨by decide, by decide⟩, by decide +kernel⟩
theorem me_181 : MeV 181 2 8 3 (yX7_isAsked) := ⟨_, _, _, _, ⟨rfl, rfl, rfl, by decide, rfl, by decide, rfl⟩, ⟨q1793, qs86, q1794, q114⟩, ⟨by decide, by decide⟩, by decide +kernel⟩
theorem me_182 : MeV 182 2 8 5 (yX7_findEnds) := ⟨_, _, _, _, ⟨rfl, rfl, rfl, by decide, rfl, by decide, rfl⟩, ⟨q1797, qs87, q1798, q114⟩, ⟨by decide, by decide⟩, by decide +kernel⟩
theorem me_183 : MeV 183 2 8 13 (yX7_tells) := ⟨_, _, _, _, ⟨rfl, rfl, rfl, by decide, rfl, by decide, rfl⟩, ⟨q1801, qs88, q1802, q114⟩, ⟨by decide, by decide⟩, by decide +kernel⟩
theorem me_184 : MeV 184 3 8 5 (yX7_beside) := ⟨_, _, _, _, ⟨rfl, rfl, rfl, by decide, rfl, by decide, rfl⟩, ⟨q1805, qs89, q1806, q114⟩, ⟨by decide, by decide⟩, by decide +kernel⟩
theorem me_185 : MeV 185 4 8 8 (yX7_numbers) := ⟨_, _, _, _, ⟨rfl, rfl, rfl, by decide, rfl, by decide, rfl⟩, ⟨q1808, q1809, q1810, q114⟩, ⟨by decide, by decide⟩, by decide +kernel⟩
theorem me_186 : MeV 186 1 8 4 (yX7_numbersOf) := ⟨_, _, _, _, ⟨rfl, rfl, rfl, by decide, rfl, by decide, rfl⟩, ⟨q1813, qs90, q1814, q114⟩, ⟨by decide, by decide⟩, by decide +kernel⟩
theorem me_187 : MeV 187 1 8 7 (yX7_ask) := ⟨_, _, _, _, ⟨rfl, rfl, rfl, by decide, rfl, by decide, rfl⟩, ⟨q1816, q1817, q1818, q114⟩, ⟨by decide, by decide⟩, by decide +kernel⟩
theorem me_188 : MeV 188 4 8 10 (yX7_dates) := ⟨_, _, _, _, ⟨rfl, rfl, rfl, by decide, rfl, by decide, rfl⟩, ⟨q1820, q1821, q1822, q114⟩, ⟨by decide, by decide⟩, by decide +kernel⟩
theorem me_189 : MeV 189 3 8 16 (yX7_part) := ⟨_, _, _, _, ⟨rfl, rfl, rfl, by decide, rfl, by decide, rfl⟩, ⟨q1824, q1825, q1826, q114⟩, ⟨by decide, by decide⟩, by decide +kernel⟩
theorem me_190 : MeS 190 2 2 (yX7_whole) := ⟨_, _, _, ⟨rfl, rfl, rfl, by decide, rfl⟩, ⟨q1829, q1830, q114⟩, ⟨by decide, by decide⟩, by decide +kernel⟩
theorem me_191 : MeS 191 2 10 (yX7_common) := ⟨_, _, _, ⟨rfl, rfl, rfl, by decide, rfl⟩, ⟨q1832, q1833, q114⟩, ⟨by decide, by decide⟩, by decide +kernel⟩
theorem me_192 : MeV 192 5 8 7 (yX7_lay) := ⟨_, _, _, _, ⟨rfl, rfl, rfl, by decide, rfl, by decide, rfl⟩, ⟨q1835, q1836, q1837, q114⟩, ⟨by decide, by decide⟩, by decide +kernel⟩
theorem me_193 : MeS 193 1 1 (yX7_isGround) := ⟨_, _, _, ⟨rfl, rfl, rfl, by decide, rfl⟩, ⟨q1839, q1840, q114⟩, ⟨by decide, by decide⟩, by decide +kernel⟩
theorem me_194 : MeV 194 4 8 12 (yX7_takeEnd) := ⟨_, _, _, _, ⟨rfl, rfl, rfl, by decide, rfl, by decide, rfl⟩, ⟨q1843, qs91, q1844, q114⟩, ⟨by decide, by decide⟩, by decide +kernel⟩
theorem me_195 : MeV 195 4 8 9 (yX7_triple) := ⟨_, _, _, _, ⟨rfl, rfl, rfl, by decide, rfl, by decide, rfl⟩, ⟨q1847, qs92, q1848, q114⟩, ⟨by decide, by decide⟩, by decide +kernel⟩
theorem me_196 : MeV 196 2 8 14 (yX7_multiply) := ⟨_, _, _, _, ⟨rfl, rfl, rfl, by decide, rfl, by decide, rfl⟩, ⟨q1851, qs93, q1852, q114⟩, ⟨by decide, by decide⟩, by decide +kernel⟩
theorem me_197 : MeV 197 0 8 6 (yX7_addFactor) := ⟨_, _, _, _, ⟨rfl, rfl, rfl, by decide, rfl, by decide, rfl⟩, ⟨q1855, qs94, q1856, q114⟩, ⟨by decide, by decide⟩, by decide +kernel⟩
theorem me_198 : MeV 198 2 8 6 (yX7_often) := ⟨_, _, _, _, ⟨rfl, rfl, rfl, by decide, rfl, by decide, rfl⟩, ⟨q1859, qs95, q1860, q114⟩, ⟨by decide, by decide⟩, by decide +kernel⟩
theorem me_199 : MeV 199 1 8 3 (yX7_copyTen) := ⟨_, _, _, _, ⟨rfl, rfl, rfl, by decide, rfl, by decide, rfl⟩, ⟨q1863, qs96, q1864, q114⟩, ⟨by decide, by decide⟩, by decide +kernel⟩
theorem me_200 : MeS 200 2 3 (yX7_besideTen) := ⟨_, _, _, ⟨rfl, rfl, rfl, by decide, rfl⟩, ⟨q1866, q1867, q114⟩, ⟨by decide, by decide⟩, by decide +kernel⟩
theorem me_201 : MeV 201 4 8 6 (yX7_area) := ⟨_, _, _, _, ⟨rfl, rfl, rfl, by decide, rfl, by decide, rfl⟩, ⟨q1869, q1870, q1871, q114⟩, ⟨by decide, by decide⟩, by decide +kernel⟩
theorem me_202 : MeV 202 2 8 3 (yX7_joined) := ⟨_, _, _, _, ⟨rfl, rfl, rfl, by decide, rfl, by decide, rfl⟩, ⟨q1874, q1875, q1876, q114⟩, ⟨by decide, by decide⟩, by decide +kernel⟩
theorem me_203 : MeV 203 0 8 6 (yX7_findGroups) := ⟨_, _, _, _, ⟨rfl, rfl, rfl, by decide, rfl, by decide, rfl⟩, ⟨q1879, qs97, q1880, q114⟩, ⟨by decide, by decide⟩, by decide +kernel⟩
theorem me_204 : MeV 204 1 8 7 (yX7_groups) := ⟨_, _, _, _, ⟨rfl, rfl, rfl, by decide, rfl, by decide, rfl⟩, ⟨q1882, q1883, q1884, q114⟩, ⟨by decide, by decide⟩, by decide +kernel⟩
theorem me_205 : MeV 205 0 8 3 (yX7_core) := ⟨_, _, _, _, ⟨rfl, rfl, rfl, by decide, rfl, by decide, rfl⟩, ⟨q1886, q1887, q1888, q114⟩, ⟨by decide, by decide⟩, by decide +kernel⟩
theorem me_206 : MeV 206 1 8 11 (yX7_wrong) := ⟨_, _, _, _, ⟨rfl, rfl, rfl, by decide, rfl, by decide, rfl⟩, ⟨q1890, q1891, q1892, q114⟩, ⟨by decide, by decide⟩, by decide +kernel⟩
theorem me_207 : MeV 207 1 8 5 (yX7_whose) := ⟨_, _, _, _, ⟨rfl, rfl, rfl, by decide, rfl, by decide, rfl⟩, ⟨q1894, q1895, q1896, q114⟩, ⟨by decide, by decide⟩, by decide +kernel⟩
theorem me_208 : MeV 208 0 8 4 (yX7_findAsked) := ⟨_, _, _, _, ⟨rfl, rfl, rfl, by decide, rfl, by decide, rfl⟩, ⟨q1899, qs98, q1900, q114⟩, ⟨by decide, by decide⟩, by decide +kernel⟩
theorem me_209 : MeV 209 2 8 6 (yX7_waysWith) := ⟨_, _, _, _, ⟨rfl, rfl, rfl, by decide, rfl, by decide, rfl⟩, ⟨q1903, qs99, q1904, q114⟩, ⟨by decide, by decide⟩, by decide +kernel⟩
theorem me_210 : MeV 210 1 8 4 (yX7_whichOf) := ⟨_, _, _, _, ⟨rfl, rfl, rfl, by decide, rfl, by decide, rfl⟩, ⟨q1907, qs100, q1908, q114⟩, ⟨by decide, by decide⟩, by decide +kernel⟩
theorem me_211 : MeV 211 2 8 4 (yX7_could) := ⟨_, _, _, _, ⟨rfl, rfl, rfl, by decide, rfl, by decide, rfl⟩, ⟨q1910, q1911, q1912, q114⟩, ⟨by decide, by decide⟩, by decide +kernel⟩
theorem me_212 : MeV 212 2 8 7 (yX7_when) := ⟨_, _, _, _, ⟨rfl, rfl, rfl, by decide, rfl, by decide, rfl⟩, ⟨q1914, q1915, q1916, q114⟩, ⟨by decide, by decide⟩, by decide +kernel⟩
theorem me_213 : MeV 213 2 8 3 (yX7_tell) := ⟨_, _, _, _, ⟨rfl, rfl, rfl, by decide, rfl, by decide, rfl⟩, ⟨q1918, q1919, q1920, q114⟩, ⟨by decide, by decide⟩, by decide +kernel⟩
theorem me_214 : MeV 214 3 8 6 (yX7_says) := ⟨_, _, _, _, ⟨rfl, rfl, rfl, by decide, rfl, by decide, rfl⟩, ⟨q1923, q1924, q1925, q114⟩, ⟨by decide, by decide⟩, by decide +kernel⟩
theorem me_215 : MeV 215 1 8 6 (yX7_judge) := ⟨_, _, _, _, ⟨rfl, rfl, rfl, by decide, rfl, by decide, rfl⟩, ⟨q1927, q1928, q1929, q114⟩, ⟨by decide, by decide⟩, by decide +kernel⟩
theorem me_216 : MeV 216 1 8 5 (yX7_isSo) := ⟨_, _, _, _, ⟨rfl, rfl, rfl, by decide, rfl, by decide, rfl⟩, ⟨q1932, qs101, q1933, q114⟩, ⟨by decide, by decide⟩, by decide +kernel⟩
theorem me_217 : MeV 217 3 8 10 (yX7_year) := ⟨_, _, _, _, ⟨rfl, rfl, rfl, by decide, rfl, by decide, rfl⟩, ⟨q1935, q1936, q1937, q114⟩, ⟨by decide, by decide⟩, by decide +kernel⟩
theorem me_218 : MeV 218 2 8 3 (yX7_feetOf) := ⟨_, _, _, _, ⟨rfl, rfl, rfl, by decide, rfl, by decide, rfl⟩, ⟨q1944, qs102, q1945, q114⟩, ⟨by decide, by decide⟩, by decide +kernel⟩
theorem me_219 : MeV 219 1 8 2 (yX7_trade) := ⟨_, _, _, _, ⟨rfl, rfl, rfl, by decide, rfl, by decide, rfl⟩, ⟨q1947, q1948, q1949, q114⟩, ⟨by decide, by decide⟩, by decide +kernel⟩
theorem me_220 : MeV 220 1 8 5 (yX7_told) := ⟨_, _, _, _, ⟨rfl, rfl, rfl, by decide, rfl, by decide, rfl⟩, ⟨q1952, q1953, q1954, q114⟩, ⟨by decide, by decide⟩, by decide +kernel⟩
theorem me_221 : MeV 221 1 8 5 (yX7_count) := ⟨_, _, _, _, ⟨rfl, rfl, rfl, by decide, rfl, by decide, rfl⟩, ⟨q1956, q1957, q1958, q114⟩, ⟨by decide, by decide⟩, by decide +kernel⟩
theorem me_222 : MeS 222 1 3 (yX7_bits) := ⟨_, _, _, ⟨rfl, rfl, rfl, by decide, rfl⟩, ⟨q1960, q1961, q114⟩, ⟨by decide, by decide⟩, by decide +kernel⟩
theorem me_223 : MeV 223 0 8 1 (yX7_status) := ⟨_, _, _, _, ⟨rfl, rfl, rfl, by decide, rfl, by decide, rfl⟩, ⟨q1963, q1964, q1965, q114⟩, ⟨by decide, by decide⟩, by decide +kernel⟩
theorem me_224 : MeI 224 3 5 (yX8_init) := ⟨_, _, ⟨rfl, rfl, rfl, by decide, rfl⟩, rfl, ⟨q461, q462, q121⟩, ⟨by decide, by decide⟩, by decide +kernel⟩
theorem me_225 : MeV 225 0 9 1 (yX8_read) := ⟨_, _, _, _, ⟨rfl, rfl, rfl, by decide, rfl, by decide, rfl⟩, ⟨q494, q495, q496, q121⟩, ⟨by decide, by decide⟩, by decide +kernel⟩
theorem me_226 : MeV 226 0 9 1 (yX8_next) := ⟨_, _, _, _, ⟨rfl, rfl, rfl, by decide, rfl, by decide, rfl⟩, ⟨q499, qs9, q500, q121⟩, ⟨by decide, by decide⟩, by decide +kernel⟩
theorem me_227 : MeV 227 3 9 4 (yX8_isIn) := ⟨_, _, _, _, ⟨rfl, rfl, rfl, by decide, rfl, by decide, rfl⟩, ⟨q503, qs10, q504, q121⟩, ⟨by decide, by decide⟩, by decide +kernel⟩
theorem me_228 : MeV 228 0 9 1 (yX8_clause) := ⟨_, _, _, _, ⟨rfl, rfl, rfl, by decide, rfl, by decide, rfl⟩, ⟨q507, qs11, q508, q121⟩, ⟨by decide, by decide⟩, by decide +kernel⟩
theorem me_229 : MeV 229 1 9 3 (yX8_is) := ⟨_, _, _, _, ⟨rfl, rfl, rfl, by decide, rfl, by decide, rfl⟩, ⟨q512, qs12, q513, q121⟩, ⟨by decide, by decide⟩, by decide +kernel⟩
theorem me_230 : MeV 230 0 9 4 (yX8_weeks) := ⟨_, _, _, _, ⟨rfl, rfl, rfl, by decide, rfl, by decide, rfl⟩, ⟨q562, qs13, q563, q121⟩, ⟨by decide, by decide⟩, by decide +kernel⟩
theorem me_231 : MeV 231 2 9 5 (yX8_number) := ⟨_, _, _, _, ⟨rfl, rfl, rfl, by decide, rfl, by decide, rfl⟩, ⟨q566, qs14, q567, q121⟩, ⟨by decide, by decide⟩, by decide +kernel⟩
theorem me_232 : MeV 232 1 9 3 (yX8_takes) := ⟨_, _, _, _, ⟨rfl, rfl, rfl, by decide, rfl, by decide, rfl⟩, ⟨q635, qs16, q636, q121⟩, ⟨by decide, by decide⟩, by decide +kernel⟩
theorem me_233 : MeV 233 1 9 2 (yX8_need) := ⟨_, _, _, _, ⟨rfl, rfl, rfl, by decide, rfl, by decide, rfl⟩, ⟨q640, qs17, q641, q121⟩, ⟨by decide, by decide⟩, by decide +kernel⟩
theorem me_234 : MeV 234 0 9 6 (yX8_below) := ⟨_, _, _, _, ⟨rfl, rfl, rfl, by decide, rfl, by decide, rfl⟩, ⟨q666, qs18, q667, q121⟩, ⟨by decide, by decide⟩, by decide +kernel⟩
theorem me_235 : MeV 235 0 9 3 (yX8_thing) := ⟨_, _, _, _, ⟨rfl, rfl, rfl, by decide, rfl, by decide, rfl⟩, ⟨q685, qs19, q686, q121⟩, ⟨by decide, by decide⟩, by decide +kernel⟩
theorem me_236 : MeV 236 1 9 5 (yX8_measure) := ⟨_, _, _, _, ⟨rfl, rfl, rfl, by decide, rfl, by decide, rfl⟩, ⟨q718, qs20, q719, q121⟩, ⟨by decide, by decide⟩, by decide +kernel⟩
theorem me_237 : MeI 237 1 2 (yX9_init) := ⟨_, _, ⟨rfl, rfl, rfl, by decide, rfl⟩, rfl, ⟨q606, q607, q127⟩, ⟨by decide, by decide⟩, by decide +kernel⟩
theorem me_238 : MeI 238 0 1 (yX10_init) := ⟨_, _, ⟨rfl, rfl, rfl, by decide, rfl⟩, rfl, ⟨q649, q650, q128⟩, ⟨by decide, by decide⟩, by decide +kernel⟩
theorem me_239 : MeI 239 3 4 (yX11_init) := ⟨_, _, ⟨rfl, rfl, rfl, by decide, rfl⟩, rfl, ⟨q646, q647, q129⟩, ⟨by decide, by decide⟩, by decide +kernel⟩
theorem me_241 : MeI 241 2 3 (yX12_init) := ⟨_, _, ⟨rfl, rfl, rfl, by decide, rfl⟩, rfl, ⟨q672, q673, q130⟩, ⟨by decide, by decide⟩, by decide +kernel⟩
theorem me_243 : MeI 243 2 3 (yX13_init) := ⟨_, _, ⟨rfl, rfl, rfl, by decide, rfl⟩, rfl, ⟨q692, q693, q131⟩, ⟨by decide, by decide⟩, by decide +kernel⟩
theorem me_245 : MeI 245 0 1 (yX14_init) := ⟨_, _, ⟨rfl, rfl, rfl, by decide, rfl⟩, rfl, ⟨q706, q707, q132⟩, ⟨by decide, by decide⟩, by decide +kernel⟩
theorem me_247 : MeI 247 0 1 (yJ0_init) := ⟨_, _, ⟨rfl, rfl, rfl, by decide, rfl⟩, rfl, ⟨q163, q164, q107⟩, ⟨by decide, by decide⟩, by decide +kernel⟩
theorem me_248 : MeI 248 0 1 (yJ1_init) := ⟨_, _, ⟨rfl, rfl, rfl, by decide, rfl⟩, rfl, ⟨q160, q161, q108⟩, ⟨by decide, by decide⟩, by decide +kernel⟩
theorem me_249 : MeI 249 1 2 (yJ2_init) := ⟨_, _, ⟨rfl, rfl, rfl, by decide, rfl⟩, rfl, ⟨q157, q158, q109⟩, ⟨by decide, by decide⟩, by decide +kernel⟩
theorem me_250 : MeV 250 0 16 4 (yJ2_clear) := ⟨_, _, _, _, ⟨rfl, rfl, rfl, by decide, rfl, by decide, rfl⟩, ⟨q235, q236, q237, q109⟩, ⟨by decide, by decide⟩, by decide +kernel⟩
theorem me_251 : MeV 251 1 16 6 (yJ2_addAll) := ⟨_, _, _, _, ⟨rfl, rfl, rfl, by decide, rfl, by decide, rfl⟩, ⟨q239, q240, q241, q109⟩, ⟨by decide, by decide⟩, by decide +kernel⟩
theorem me_253 : MeV 253 1 16 4 (yJ2_grow) := ⟨_, _, _, _, ⟨rfl, rfl, rfl, by decide, rfl, by decide, rfl⟩, ⟨q285, qs1, q286, q109⟩, ⟨by decide, by decide⟩, by decide +kernel⟩
theorem me_254 : MeV 254 0 16 1 (yJ2_size) := ⟨_, _, _, _, ⟨rfl, rfl, rfl, by decide, rfl, by decide, rfl⟩, ⟨q354, q355, q356, q109⟩, ⟨by decide, by decide⟩, by decide +kernel⟩
theorem me_255 : MeV 255 1 16 2 (yJ2_add) := ⟨_, _, _, _, ⟨rfl, rfl, rfl, by decide, rfl, by decide, rfl⟩, ⟨q392, q393, q394, q109⟩, ⟨by decide, by decide⟩, by decide +kernel⟩
theorem me_256 : MeV 256 3 16 4 (yJ2_add_2) := ⟨_, _, _, _, ⟨rfl, rfl, rfl, by decide, rfl, by decide, rfl⟩, ⟨q397, qs5, q398, q109⟩, ⟨by decide, by decide⟩, by decide +kernel⟩
theorem me_257 : MeV 257 0 16 1 (yJ2_grow_2) := ⟨_, _, _, _, ⟨rfl, rfl, rfl, by decide, rfl, by decide, rfl⟩, ⟨q401, qs6, q402, q109⟩, ⟨by decide, by decide⟩, by decide +kernel⟩
theorem me_258 : MeV 258 1 16 2 (yJ2_get) := ⟨_, _, _, _, ⟨rfl, rfl, rfl, by decide, rfl, by decide, rfl⟩, ⟨q416, q417, q418, q109⟩, ⟨by decide, by decide⟩, by decide +kernel⟩
theorem me_259 : MeV 259 1 16 2 (yJ2_elementData) := ⟨_, _, _, _, ⟨rfl, rfl, rfl, by decide, rfl, by decide, rfl⟩, ⟨q426, q427, q428, q109⟩, ⟨by decide, by decide⟩, by decide +kernel⟩
theorem me_260 : MeS 260 3 4 (yJ3_newLength) := ⟨_, _, _, ⟨rfl, rfl, rfl, by decide, rfl⟩, ⟨q290, q291, q115⟩, ⟨by decide, by decide⟩, by decide +kernel⟩
theorem me_261 : MeS 261 2 2 (yJ4_max) := ⟨_, _, _, ⟨rfl, rfl, rfl, by decide, rfl⟩, ⟨q293, q294, q116⟩, ⟨by decide, by decide⟩, by decide +kernel⟩
theorem me_262 : MeS 262 2 2 (yJ4_min) := ⟨_, _, _, ⟨rfl, rfl, rfl, by decide, rfl⟩, ⟨q280, q281, q116⟩, ⟨by decide, by decide⟩, by decide +kernel⟩
theorem me_263 : MeS 263 2 2 (yJ6_checkIndex) := ⟨_, _, _, ⟨rfl, rfl, rfl, by decide, rfl⟩, ⟨q420, q421, q119⟩, ⟨by decide, by decide⟩, by decide +kernel⟩
theorem me_264 : MeS 264 3 3 (yJ7_checkIndex) := ⟨_, _, _, ⟨rfl, rfl, rfl, by decide, rfl⟩, ⟨q423, q424, q120⟩, ⟨by decide, by decide⟩, by decide +kernel⟩
theorem me_265 : MeS 265 1 1 (yJ13_bitCount) := ⟨_, _, _, ⟨rfl, rfl, rfl, by decide, rfl⟩, ⟨q1285, q1286, q133⟩, ⟨by decide, by decide⟩, by decide +kernel⟩
theorem me_266 : MeS 266 1 1 (yJ13_signum) := ⟨_, _, _, ⟨rfl, rfl, rfl, by decide, rfl⟩, ⟨q1006, q1007, q133⟩, ⟨by decide, by decide⟩, by decide +kernel⟩
theorem me_267 : MeT 267 0 1 (yJ8_length) := ⟨_, _, _, ⟨rfl, rfl, rfl, by decide, rfl⟩, ⟨q515, q516, q517, q122⟩, ⟨by decide, by decide⟩, by decide +kernel⟩
theorem me_268 : MeT 268 0 1 (yJ8_coder) := ⟨_, _, _, ⟨rfl, rfl, rfl, by decide, rfl⟩, ⟨q519, q520, q521, q122⟩, ⟨by decide, by decide⟩, by decide +kernel⟩
theorem me_269 : MeT 269 1 2 (yJ8_charAt) := ⟨_, _, _, ⟨rfl, rfl, rfl, by decide, rfl⟩, ⟨q525, q526, q527, q122⟩, ⟨by decide, by decide⟩, by decide +kernel⟩
theorem me_270 : MeT 270 0 1 (yJ8_isLatin1) := ⟨_, _, _, ⟨rfl, rfl, rfl, by decide, rfl⟩, ⟨q529, q530, q531, q122⟩, ⟨by decide, by decide⟩, by decide +kernel⟩
theorem me_271 : MeS 271 2 2 (yJ8_checkIndex) := ⟨_, _, _, ⟨rfl, rfl, rfl, by decide, rfl⟩, ⟨q536, q537, q122⟩, ⟨by decide, by decide⟩, by decide +kernel⟩
theorem me_272 : MeS 272 2 2 (yJ9_charAt) := ⟨_, _, _, ⟨rfl, rfl, rfl, by decide, rfl⟩, ⟨q533, q534, q123⟩, ⟨by decide, by decide⟩, by decide +kernel⟩
theorem me_273 : MeS 273 2 2 (yJ5_copyOf) := ⟨_, _, _, ⟨rfl, rfl, rfl, by decide, rfl⟩, ⟨q253, q254, q117⟩, ⟨by decide, by decide⟩, by decide +kernel⟩
theorem me_274 : MeS 274 3 4 (yJ5_copyOf_2) := ⟨_, _, _, ⟨rfl, rfl, rfl, by decide, rfl⟩, ⟨q275, q276, q117⟩, ⟨by decide, by decide⟩, by decide +kernel⟩
theorem me_275 : MeI 275 4 5 (yJ11_init_2) := ⟨_, _, ⟨rfl, rfl, rfl, by decide, rfl⟩, rfl, ⟨q612, q613, q125⟩, ⟨by decide, by decide⟩, by decide +kernel⟩
theorem me_276 : MeI 276 4 5 (yJ12_init) := ⟨_, _, ⟨rfl, rfl, rfl, by decide, rfl⟩, rfl, ⟨q609, q610, q126⟩, ⟨by decide, by decide⟩, by decide +kernel⟩
