/-! SOUNDNESS, 2: the local instructions (printed by tools/ins.py) -/
theorem ofI_t {x : Int} (h : okI x) : (Int32.ofInt x).toInt = x := Int32.toInt_ofInt_of_le (by have := h.1; omega) (by have := h.2; omega)
theorem ofL_t {x : Int} (h : okL x) : (Int64.ofInt x).toInt = x := Int64.toInt_ofInt_of_le (by have := h.1; omega) (by have := h.2; omega)
theorem ofI_lt {x y : Int} (hx : okI x) (hy : okI y) : Int32.ofInt x < Int32.ofInt y ↔ x < y := by rw [Int32.lt_iff_toInt_lt, ofI_t hx, ofI_t hy]
theorem ofI_le {x y : Int} (hx : okI x) (hy : okI y) : Int32.ofInt x ≤ Int32.ofInt y ↔ x ≤ y := by rw [Int32.le_iff_toInt_le, ofI_t hx, ofI_t hy]
theorem ofI_eq {x y : Int} (hx : okI x) (hy : okI y) : Int32.ofInt x = Int32.ofInt y ↔ x = y := by rw [← Int32.toInt_inj, ofI_t hx, ofI_t hy]
theorem ofL_lt {x y : Int} (hx : okL x) (hy : okL y) : Int64.ofInt x < Int64.ofInt y ↔ x < y := by rw [Int64.lt_iff_toInt_lt, ofL_t hx, ofL_t hy]
theorem ofL_eq {x y : Int} (hx : okL x) (hy : okL y) : Int64.ofInt x = Int64.ofInt y ↔ x = y := by rw [← Int64.toInt_inj, ofL_t hx, ofL_t hy]
theorem ok0 : okI 0 := by unfold okI; omega
theorem ofI_0 : Int32.ofInt 0 = 0 := rfl
theorem okI_t (x : Int32) : okI x.toInt := by have h1 := Int32.le_toInt x; have h2 := Int32.toInt_lt x; unfold okI; omega
theorem okL_t (x : Int64) : okL x.toInt := by have h1 := Int64.le_toInt x; have h2 := Int64.toInt_lt x; unfold okL; omega
theorem ofI_div {x y : Int} (hx : okI x) (hy : okI y) (h0 : 0 ≤ x) (h1 : 0 < y) : Int32.ofInt x / Int32.ofInt y = Int32.ofInt (x / y) := by
  rw [← Int.tdiv_eq_ediv_of_nonneg h0]
  obtain ⟨a1, a2⟩ := hx
  obtain ⟨b1, b2⟩ := hy
  exact (Int32.ofInt_tdiv (by show -2147483648 ≤ x; exact a1) (by show x ≤ 2147483647; omega) (by show -2147483648 ≤ y; exact b1) (by show y ≤ 2147483647; omega)).symm
theorem ofL_div {x y : Int} (hx : okL x) (hy : okL y) (h0 : 0 ≤ x) (h1 : 0 < y) : Int64.ofInt x / Int64.ofInt y = Int64.ofInt (x / y) := by
  rw [← Int.tdiv_eq_ediv_of_nonneg h0]
  obtain ⟨a1, a2⟩ := hx
  obtain ⟨b1, b2⟩ := hy
  exact (Int64.ofInt_tdiv (by show -9223372036854775808 ≤ x; exact a1) (by show x ≤ 9223372036854775807; omega) (by show -9223372036854775808 ≤ y; exact b1) (by show y ≤ 9223372036854775807; omega)).symm
theorem ofI_rem {x y : Int} (hx : okI x) (hy : okI y) (h0 : 0 ≤ x) (h1 : 0 < y) : Int32.ofInt x - Int32.ofInt x / Int32.ofInt y * Int32.ofInt y = Int32.ofInt (x % y) := by
  rw [ofI_div hx hy h0 h1, ← Int32.ofInt_mul, ← Int32.ofInt_sub, Int.emod_def, Int.mul_comm]
theorem ofL_rem {x y : Int} (hx : okL x) (hy : okL y) (h0 : 0 ≤ x) (h1 : 0 < y) : Int64.ofInt x - Int64.ofInt x / Int64.ofInt y * Int64.ofInt y = Int64.ofInt (x % y) := by
  rw [ofL_div hx hy h0 h1, ← Int64.ofInt_mul, ← Int64.ofInt_sub, Int.emod_def, Int.mul_comm]
theorem ok_div {x y : Int} (hx : okI x) (h0 : 0 ≤ x) (h1 : 0 < y) : okI (x / y) := by
  have a := Int.ediv_nonneg h0 (Int.le_of_lt h1)
  have b := Int.ediv_le_self y h0
  obtain ⟨c, d⟩ := hx
  exact ⟨by omega, by omega⟩
theorem okL_div {x y : Int} (hx : okL x) (h0 : 0 ≤ x) (h1 : 0 < y) : okL (x / y) := by
  have a := Int.ediv_nonneg h0 (Int.le_of_lt h1)
  have b := Int.ediv_le_self y h0
  obtain ⟨c, d⟩ := hx
  exact ⟨by omega, by omega⟩
theorem ok_rem {x y : Int} (hy : okI y) (h1 : 0 < y) : okI (x % y) := by
  have a := Int.emod_nonneg x (Int.ne_of_gt h1)
  have b := Int.emod_lt_of_pos x h1
  obtain ⟨c, d⟩ := hy
  exact ⟨by omega, by omega⟩
theorem okL_rem {x y : Int} (hy : okL y) (h1 : 0 < y) : okL (x % y) := by
  have a := Int.emod_nonneg x (Int.ne_of_gt h1)
  have b := Int.emod_lt_of_pos x h1
  obtain ⟨c, d⟩ := hy
  exact ⟨by omega, by omega⟩
/-! locals -/
theorem xl_g_in {L : XL} {i : Nat} {v : XV} (h : xl_g L i = some v) : (i, v) ∈ L := by
  induction L with
  | nil => cases h
  | cons q L ih =>
    obtain ⟨k, w⟩ := q
    unfold xl_g at h
    split at h
    · next e => cases h; subst e; exact List.mem_cons_self
    · exact List.mem_cons_of_mem _ (ih h)
theorem xl_f_in {ks : List Nat} {L : XL} {q : Nat × XV} (h : q ∈ xl_f ks L) : q ∈ L := by
  induction ks with
  | nil => cases h
  | cons k ks ih =>
    unfold xl_f at h
    split at h
    · next v e =>
      rcases List.mem_cons.mp h with e2 | e2
      · rw [e2]; exact xl_g_in e
      · exact ih e2
    · exact ih h
theorem xl_d_in {L : XL} {i : Nat} {q : Nat × XV} (h : q ∈ xl_d L i) : q ∈ L ∧ q.1 ≠ i := by
  induction L with
  | nil => cases h
  | cons r L ih =>
    obtain ⟨k, w⟩ := r
    unfold xl_d at h
    split at h
    · exact ⟨List.mem_cons_of_mem _ (ih h).1, (ih h).2⟩
    · next e =>
      rcases List.mem_cons.mp h with e2 | e2
      · rw [e2]; exact ⟨List.mem_cons_self, e⟩
      · exact ⟨List.mem_cons_of_mem _ (ih e2).1, (ih e2).2⟩
theorem xl_k_in {L : XL} {i : Nat} {q : Nat × XV} (h : q ∈ xl_k L i) : q ∈ L ∧ ¬ (xl_2 q.2 = true ∧ q.1 + 1 = i) := by
  induction L with
  | nil => cases h
  | cons r L ih =>
    obtain ⟨k, w⟩ := r
    unfold xl_k at h
    split at h
    · exact ⟨List.mem_cons_of_mem _ (ih h).1, (ih h).2⟩
    · next e =>
      rcases List.mem_cons.mp h with e2 | e2
      · rw [e2]
        refine ⟨List.mem_cons_self, fun z => e ?_⟩
        rw [z.1, Bool.true_and]
        exact Nat.beq_eq.mpr z.2
      · exact ⟨List.mem_cons_of_mem _ (ih e2).1, (ih e2).2⟩
theorem xl_p_in {L : XL} {i : Nat} {v : XV} {q : Nat × XV} (h : q ∈ xl_p L i v) : q = (i, v) ∨ (q ∈ L ∧ q.1 ≠ i) := by
  induction L with
  | nil => exact Or.inl (List.mem_singleton.mp h)
  | cons r L ih =>
    obtain ⟨k, w⟩ := r
    unfold xl_p at h
    split at h
    · rcases List.mem_cons.mp h with e2 | e2
      · exact Or.inl e2
      · exact Or.inr ⟨List.mem_cons_of_mem _ (xl_d_in e2).1, (xl_d_in e2).2⟩
    · next e =>
      rcases List.mem_cons.mp h with e2 | e2
      · rw [e2]; exact Or.inr ⟨List.mem_cons_self, e⟩
      · rcases ih e2 with z | z
        · exact Or.inl z
        · exact Or.inr ⟨List.mem_cons_of_mem _ z.1, z.2⟩
theorem sV_cat (G : SG) (v : XV) : (sV G v).category = if xl_2 v = true then 2 else 1 := by
  rcases v with x | x | a
  · rfl
  · rfl
  · show (va_rf (sRf G a)).category = _
    cases sRf G a <;> rfl
theorem sV_cat1 {G : SG} {v : XV} (h : xl_2 v = false) : (sV G v).category = 1 := by rw [sV_cat, h]; rfl
theorem lv_mem {ls : Array Slot} {nL : Nat} {l l' : List (Nat × Value)} (h : lv_has ls nL l) (hs : ∀ q ∈ l', q ∈ l) : lv_has ls nL l' := ⟨h.1, h.2.1, fun q hq => h.2.2 q (hs q hq)⟩
theorem lv_get {G : SG} {ls : Array Slot} {nL : Nat} {L : XL} {i : Nat} {v : XV} (h : lv_has ls nL (sL G L)) (hv : xl_g L i = some v) : ls[i]? = some (.val (sV G v)) :=
  h.2.2 (i, sV G v) (List.mem_map.mpr ⟨(i, v), xl_g_in hv, rfl⟩)
/-- a store of one word -/
theorem lv_put1 {G : SG} {ls' : Array Slot} {nL : Nat} {L : XL} {i : Nat} {v : XV} (h : lv_has ls' nL ((i, sV G v) :: (sL G L).filter (fun q => !(q.1 == i) && !(q.1 + 1 == i && q.2.category == 2)))) : lv_has ls' nL (sL G (xl_s L i v)) := by
  refine lv_mem h (fun q hq => ?_)
  obtain ⟨r, hr, rfl⟩ := List.mem_map.mp hq
  rcases xl_p_in hr with e | ⟨e1, e2⟩
  · subst e; exact List.mem_cons_self
  · obtain ⟨e3, e4⟩ := xl_k_in e1
    refine List.mem_cons_of_mem _ (List.mem_filter.mpr ⟨List.mem_map.mpr ⟨r, e3, rfl⟩, ?_⟩)
    have h1 : (r.1 == i) = false := by simpa using e2
    have h2 : (r.1 + 1 == i && (sV G r.2).category == 2) = false := by
      rw [sV_cat]
      by_cases z : xl_2 r.2 = true
      · have : ¬ r.1 + 1 = i := fun w => e4 ⟨z, w⟩
        simp [this]
      · simp [z]
    show (!(r.1 == i) && !(r.1 + 1 == i && (sV G r.2).category == 2)) = true
    rw [h1, h2]; rfl
theorem lv_put2 {G : SG} {ls' : Array Slot} {nL : Nat} {L : XL} {i : Nat} {v : XV} (h : lv_has ls' nL ((i, sV G v) :: (sL G L).filter (fun q => !(q.1 == i) && (!(q.1 == i + 1) && !(q.1 + 1 == i && q.2.category == 2))))) : lv_has ls' nL (sL G (xl_t L i v)) := by
  refine lv_mem h (fun q hq => ?_)
  obtain ⟨r, hr, rfl⟩ := List.mem_map.mp hq
  rcases xl_p_in hr with e | ⟨e1, e2⟩
  · subst e; exact List.mem_cons_self
  · obtain ⟨e5, e6⟩ := xl_d_in e1
    obtain ⟨e3, e4⟩ := xl_k_in e5
    refine List.mem_cons_of_mem _ (List.mem_filter.mpr ⟨List.mem_map.mpr ⟨r, e3, rfl⟩, ?_⟩)
    have h1 : (r.1 == i) = false := by simpa using e2
    have h3 : (r.1 == i + 1) = false := by simpa using e6
    have h2 : (r.1 + 1 == i && (sV G r.2).category == 2) = false := by
      rw [sV_cat]
      by_cases z : xl_2 r.2 = true
      · have : ¬ r.1 + 1 = i := fun w => e4 ⟨z, w⟩
        simp [this]
      · simp [z]
    show (!(r.1 == i) && (!(r.1 == i + 1) && !(r.1 + 1 == i && (sV G r.2).category == 2))) = true
    rw [h1, h2, h3]; rfl
theorem okF_s {L : XL} {i : Nat} {v : XV} (h : ∀ q ∈ L, okV q.2) (hv : okV v) : ∀ q ∈ xl_s L i v, okV q.2 := by
  intro q hq
  rcases xl_p_in hq with e | ⟨e, -⟩
  · subst e; exact hv
  · exact h q (xl_k_in e).1
theorem okF_u {L : XL} {i : Nat} {v : XV} (h : ∀ q ∈ L, okV q.2) (hv : okV v) : ∀ q ∈ xl_t L i v, okV q.2 := by
  intro q hq
  rcases xl_p_in hq with e | ⟨e, -⟩
  · subst e; exact hv
  · exact h q (xl_k_in (xl_d_in e).1).1
theorem okF_g {L : XL} {i : Nat} {v : XV} (h : ∀ q ∈ L, okV q.2) (hv : xl_g L i = some v) : okV v := h (i, v) (xl_g_in hv)
theorem okF_c {v : XV} {st : List XV} (hv : okV v) (h : ∀ w ∈ st, okV w) : ∀ w ∈ v :: st, okV w := fun w hw => (List.mem_cons.mp hw).elim (fun e => e ▸ hv) (h w)
theorem okF_h {v : XV} {st : List XV} (h : ∀ w ∈ v :: st, okV w) : okV v := h v List.mem_cons_self
theorem okF_t {v : XV} {st : List XV} (h : ∀ w ∈ v :: st, okV w) : ∀ w ∈ st, okV w := fun w hw => h w (List.mem_cons_of_mem _ hw)
section
variable {own : String} {cc : ByteArray} {nL : Nat} {nm : String} {ret : Option FieldType} {pc n : Nat}
/-- a step that leaves the memory as it is -/
theorem aw1 {G : SG} {p : Program} {l : Launch} {e : Env} {R : Room} {s : State} {m : MethodId} {args : Array Value} {below : List Frame} {meth : Method} {c : Code} {Q : State → Prop} {n0 u0 pc1 : Nat} {L L1 : XL} {st st1 : List XV} {M : XM}
    (hok : okF L st → okF L1 st1) (step : okF L st → ∀ (H : Heap) (locs : List Loc) (cells slots : Nat) (ls : Array Slot), lv_has ls nL (sL G L) → (∀ ls' : Array Slot, lv_has ls' nL (sL G L1) → W p l e R s m args below meth c H locs cells slots Q (F0 m pc1 ls' (st1.map (sV G)))) → W p l e R s m args below meth c H locs cells slots Q (F0 m pc ls (st.map (sV G)))) :
    AW G nL p l e R s m args below meth c Q n0 u0 pc1 L1 st1 M → AW G nL p l e R s m args below meth c Q n0 u0 pc L st M :=
  fun k a b o H locs ls hR hO hS hl => step o H locs _ _ ls hl (fun ls' hl' => k a b (hok o) H locs ls' hR hO hS hl')
theorem snd_keep {ks : List Nat} {xi : XI} (h : Snd own cc nL nm ret pc xi) : Snd own cc nL nm ret pc (ia_keep ks xi) := by
  intro G p l e R s m args below meth c Q n0 u0 hC L st M f1 M1 g hx hg h1 h2
  obtain ⟨q1, q2⟩ := h G p l e R s m args below meth c Q n0 u0 hC (xl_f ks L) st M f1 M1 g hx hg h1 h2
  refine ⟨q1, fun k => ?_⟩
  intro a b o H locs ls hR hO hS hl
  exact q2 k a b ⟨fun q hq => o.1 q (xl_f_in hq), o.2⟩ H locs ls hR hO hS (lv_mem hl (fun q hq => by
    obtain ⟨r, hr, rfl⟩ := List.mem_map.mp hq
    exact List.mem_map.mpr ⟨r, xl_f_in hr, rfl⟩))
theorem sndB_keep {ks : List Nat} {xi : XI} (h : SndB own cc nL nm ret pc xi) : SndB own cc nL nm ret pc (ia_keep ks xi) := by
  intro G p l e R s m args below meth c Q n0 u0 hC L st M
  obtain ⟨q1, q2⟩ := h G p l e R s m args below meth c Q n0 u0 hC (xl_f ks L) st M
  have hf : ∀ (P : AW G nL p l e R s m args below meth c Q n0 u0 pc (xl_f ks L) st M), AW G nL p l e R s m args below meth c Q n0 u0 pc L st M := by
    intro P a b o H locs ls hR hO hS hl
    exact P a b ⟨fun q hq => o.1 q (xl_f_in hq), o.2⟩ H locs ls hR hO hS (lv_mem hl (fun q hq => by
      obtain ⟨r, hr, rfl⟩ := List.mem_map.mp hq
      exact List.mem_map.mpr ⟨r, xl_f_in hr, rfl⟩))
  exact ⟨fun k f1 f2 hx a b => hf (q1 k f1 f2 hx a b), fun cs f1 hx hp a => hf (q2 cs f1 hx hp a)⟩

theorem snd_iconst {a : Int} {x : Int} (hd : decode cc pc = .ok (.iconst a, 1)) (hv : Int32.ofInt a = Int32.ofInt x) (hk : okI x) (hn : pc + 1 = n) : Snd own cc nL nm ret pc (ia_k n x) := by
  intro G p l e R s m args below meth c Q n0 u0 hC L st M f1 M1 g hx hg h1 h2
  cases hx
  refine ⟨⟨Nat.le_refl _, Nat.le_refl _⟩, aw1 (fun o => ⟨o.1, okF_c hk o.2⟩) (fun o H locs cells slots ls hl k => ?_)⟩
  subst hn
  exact lv_iconst hC.1 hC.2.1 hd hv (k ls hl)

theorem snd_bipush {a : Int} {x : Int} (hd : decode cc pc = .ok (.bipush a, 2)) (hv : (Int8.ofInt a).toInt32 = Int32.ofInt x) (hk : okI x) (hn : pc + 2 = n) : Snd own cc nL nm ret pc (ia_k n x) := by
  intro G p l e R s m args below meth c Q n0 u0 hC L st M f1 M1 g hx hg h1 h2
  cases hx
  refine ⟨⟨Nat.le_refl _, Nat.le_refl _⟩, aw1 (fun o => ⟨o.1, okF_c hk o.2⟩) (fun o H locs cells slots ls hl k => ?_)⟩
  subst hn
  exact lv_bipush hC.1 hC.2.1 hd hv (k ls hl)

theorem snd_sipush {a : Int} {x : Int} (hd : decode cc pc = .ok (.sipush a, 3)) (hv : (Int16.ofInt a).toInt32 = Int32.ofInt x) (hk : okI x) (hn : pc + 3 = n) : Snd own cc nL nm ret pc (ia_k n x) := by
  intro G p l e R s m args below meth c Q n0 u0 hC L st M f1 M1 g hx hg h1 h2
  cases hx
  refine ⟨⟨Nat.le_refl _, Nat.le_refl _⟩, aw1 (fun o => ⟨o.1, okF_c hk o.2⟩) (fun o H locs cells slots ls hl k => ?_)⟩
  subst hn
  exact lv_sipush hC.1 hC.2.1 hd hv (k ls hl)

theorem snd_lconst {a : Fin 2} {x : Int} (hd : decode cc pc = .ok (.lconst a, 1)) (hv : Int64.ofNat (a : Nat) = Int64.ofInt x) (hk : okL x) (hn : pc + 1 = n) : Snd own cc nL nm ret pc (ia_kl n x) := by
  intro G p l e R s m args below meth c Q n0 u0 hC L st M f1 M1 g hx hg h1 h2
  cases hx
  refine ⟨⟨Nat.le_refl _, Nat.le_refl _⟩, aw1 (fun o => ⟨o.1, okF_c hk o.2⟩) (fun o H locs cells slots ls hl k => ?_)⟩
  subst hn
  exact lv_lconst hC.1 hC.2.1 hd hv (k ls hl)

theorem snd_null (hd : decode cc pc = .ok (.aconst_null, 1)) (hn : pc + 1 = n) : Snd own cc nL nm ret pc (ia_kr n 0) := by
  intro G p l e R s m args below meth c Q n0 u0 hC L st M f1 M1 g hx hg h1 h2
  cases hx
  refine ⟨⟨Nat.le_refl _, Nat.le_refl _⟩, aw1 (fun o => ⟨o.1, okF_c trivial o.2⟩) (fun o H locs cells slots ls hl k => ?_)⟩
  subst hn
  exact lv_null hC.1 hC.2.1 hd (k ls hl)

theorem snd_ldc {i : Nat} {x : Int} {v : Int32} (hd : decode cc pc = .ok (.ldc i, 2)) (hq : Cond.constant own i v ∈ lw_all) (hv : v = Int32.ofInt x) (hk : okI x) (hn : pc + 2 = n) : Snd own cc nL nm ret pc (ia_k n x) := by
  intro G p l e R s m args below meth c Q n0 u0 hC L st M f1 M1 g hx hg h1 h2
  cases hx
  refine ⟨⟨Nat.le_refl _, Nat.le_refl _⟩, aw1 (fun o => ⟨o.1, okF_c hk o.2⟩) (fun o H locs cells slots ls hl k => ?_)⟩
  subst hn
  subst hv
  exact lv_ldc hC.1 hC.2.1 hC.2.2.2.1 (hC.2.2.2.2.1 _ hq) hd (k ls hl)

theorem snd_ldcw {i : Nat} {x : Int} {v : Int32} (hd : decode cc pc = .ok (.ldc_w i, 3)) (hq : Cond.constant own i v ∈ lw_all) (hv : v = Int32.ofInt x) (hk : okI x) (hn : pc + 3 = n) : Snd own cc nL nm ret pc (ia_k n x) := by
  intro G p l e R s m args below meth c Q n0 u0 hC L st M f1 M1 g hx hg h1 h2
  cases hx
  refine ⟨⟨Nat.le_refl _, Nat.le_refl _⟩, aw1 (fun o => ⟨o.1, okF_c hk o.2⟩) (fun o H locs cells slots ls hl k => ?_)⟩
  subst hn
  subst hv
  exact lv_ldcw hC.1 hC.2.1 hC.2.2.2.1 (hC.2.2.2.2.1 _ hq) hd (k ls hl)

theorem snd_ldc2 {i : Nat} {x : Int} {v : Int64} (hd : decode cc pc = .ok (.ldc2_w i, 3)) (hq : Cond.constantLong own i v ∈ lw_all) (hv : v = Int64.ofInt x) (hk : okL x) (hn : pc + 3 = n) : Snd own cc nL nm ret pc (ia_kl n x) := by
  intro G p l e R s m args below meth c Q n0 u0 hC L st M f1 M1 g hx hg h1 h2
  cases hx
  refine ⟨⟨Nat.le_refl _, Nat.le_refl _⟩, aw1 (fun o => ⟨o.1, okF_c hk o.2⟩) (fun o H locs cells slots ls hl k => ?_)⟩
  subst hn
  subst hv
  exact lv_ldc2 hC.1 hC.2.1 hC.2.2.2.1 (hC.2.2.2.2.1 _ hq) hd (k ls hl)

theorem snd_iload_n {i : Nat} {j : Fin 4} (hd : decode cc pc = .ok (.iload_n j, 1)) (hi : (j : Nat) = i) (hn : pc + 1 = n) : Snd own cc nL nm ret pc (ia_il n i) := by
  intro G p l e R s m args below meth c Q n0 u0 hC L st M f1 M1 g hx hg h1 h2
  unfold ia_il at hx
  split at hx
  · next x e =>
    cases hx
    refine ⟨⟨Nat.le_refl _, Nat.le_refl _⟩, aw1 (fun o => ⟨o.1, okF_c (okF_g o.1 e) o.2⟩) (fun o H locs cells slots ls hl k => ?_)⟩
    subst hn
    exact lv_iload_n hC.1 hC.2.1 hd hi (lv_get hl e) (k ls hl)
  · cases hx

theorem snd_iload {i : Nat} (hd : decode cc pc = .ok (.iload i, 2)) (hn : pc + 2 = n) : Snd own cc nL nm ret pc (ia_il n i) := by
  intro G p l e R s m args below meth c Q n0 u0 hC L st M f1 M1 g hx hg h1 h2
  unfold ia_il at hx
  split at hx
  · next x e =>
    cases hx
    refine ⟨⟨Nat.le_refl _, Nat.le_refl _⟩, aw1 (fun o => ⟨o.1, okF_c (okF_g o.1 e) o.2⟩) (fun o H locs cells slots ls hl k => ?_)⟩
    subst hn
    exact lv_iload hC.1 hC.2.1 hd (lv_get hl e) (k ls hl)
  · cases hx

theorem snd_lload_n {i : Nat} {j : Fin 4} (hd : decode cc pc = .ok (.lload_n j, 1)) (hi : (j : Nat) = i) (hn : pc + 1 = n) : Snd own cc nL nm ret pc (ia_ll n i) := by
  intro G p l e R s m args below meth c Q n0 u0 hC L st M f1 M1 g hx hg h1 h2
  unfold ia_ll at hx
  split at hx
  · next x e =>
    cases hx
    refine ⟨⟨Nat.le_refl _, Nat.le_refl _⟩, aw1 (fun o => ⟨o.1, okF_c (okF_g o.1 e) o.2⟩) (fun o H locs cells slots ls hl k => ?_)⟩
    subst hn
    exact lv_lload_n hC.1 hC.2.1 hd hi (lv_get hl e) (k ls hl)
  · cases hx

theorem snd_lload {i : Nat} (hd : decode cc pc = .ok (.lload i, 2)) (hn : pc + 2 = n) : Snd own cc nL nm ret pc (ia_ll n i) := by
  intro G p l e R s m args below meth c Q n0 u0 hC L st M f1 M1 g hx hg h1 h2
  unfold ia_ll at hx
  split at hx
  · next x e =>
    cases hx
    refine ⟨⟨Nat.le_refl _, Nat.le_refl _⟩, aw1 (fun o => ⟨o.1, okF_c (okF_g o.1 e) o.2⟩) (fun o H locs cells slots ls hl k => ?_)⟩
    subst hn
    exact lv_lload hC.1 hC.2.1 hd (lv_get hl e) (k ls hl)
  · cases hx

theorem snd_aload_n {i : Nat} {j : Fin 4} (hd : decode cc pc = .ok (.aload_n j, 1)) (hi : (j : Nat) = i) (hn : pc + 1 = n) : Snd own cc nL nm ret pc (ia_al n i) := by
  intro G p l e R s m args below meth c Q n0 u0 hC L st M f1 M1 g hx hg h1 h2
  unfold ia_al at hx
  split at hx
  · next x e =>
    cases hx
    refine ⟨⟨Nat.le_refl _, Nat.le_refl _⟩, aw1 (fun o => ⟨o.1, okF_c trivial o.2⟩) (fun o H locs cells slots ls hl k => ?_)⟩
    subst hn
    have e1 := lv_get hl e
    have k1 := k ls hl
    have e2 : sV G (vR x) = va_rf (sRf G x) := rfl
    rw [List.map_cons] at k1
    rw [e2] at e1 k1
    generalize sRf G x = z at e1 k1
    cases z with
    | none => exact lv_aload_nN hC.1 hC.2.1 hd hi e1 k1
    | some z => exact lv_aload_n hC.1 hC.2.1 hd hi e1 k1
  · cases hx

theorem snd_aload {i : Nat} (hd : decode cc pc = .ok (.aload i, 2)) (hn : pc + 2 = n) : Snd own cc nL nm ret pc (ia_al n i) := by
  intro G p l e R s m args below meth c Q n0 u0 hC L st M f1 M1 g hx hg h1 h2
  unfold ia_al at hx
  split at hx
  · next x e =>
    cases hx
    refine ⟨⟨Nat.le_refl _, Nat.le_refl _⟩, aw1 (fun o => ⟨o.1, okF_c trivial o.2⟩) (fun o H locs cells slots ls hl k => ?_)⟩
    subst hn
    have e1 := lv_get hl e
    have k1 := k ls hl
    have e2 : sV G (vR x) = va_rf (sRf G x) := rfl
    rw [List.map_cons] at k1
    rw [e2] at e1 k1
    generalize sRf G x = z at e1 k1
    cases z with
    | none => exact lv_aloadN hC.1 hC.2.1 hd e1 k1
    | some z => exact lv_aload hC.1 hC.2.1 hd e1 k1
  · cases hx

theorem snd_istore_n {i : Nat} {j : Fin 4} (hd : decode cc pc = .ok (.istore_n j, 1)) (hi : (j : Nat) = i) (hlt : i < nL) (hn : pc + 1 = n) : Snd own cc nL nm ret pc (ia_is n i) := by
  intro G p l e R s m args below meth c Q n0 u0 hC L st M f1 M1 g hx hg h1 h2
  unfold ia_is at hx
  split at hx
  · next x st =>
    cases hx
    refine ⟨⟨Nat.le_refl _, Nat.le_refl _⟩, aw1 (fun o => ⟨okF_s o.1 (okF_h o.2), okF_t o.2⟩) (fun o H locs cells slots ls hl k => ?_)⟩
    subst hn
    exact lv_istore_n hC.1 hC.2.1 hd hi hl hlt rfl (fun ls' h' => k ls' (lv_put1 h'))
  · cases hx

theorem snd_istore {i : Nat} (hd : decode cc pc = .ok (.istore i, 2)) (hlt : i < nL) (hn : pc + 2 = n) : Snd own cc nL nm ret pc (ia_is n i) := by
  intro G p l e R s m args below meth c Q n0 u0 hC L st M f1 M1 g hx hg h1 h2
  unfold ia_is at hx
  split at hx
  · next x st =>
    cases hx
    refine ⟨⟨Nat.le_refl _, Nat.le_refl _⟩, aw1 (fun o => ⟨okF_s o.1 (okF_h o.2), okF_t o.2⟩) (fun o H locs cells slots ls hl k => ?_)⟩
    subst hn
    exact lv_istore hC.1 hC.2.1 hd hl hlt rfl (fun ls' h' => k ls' (lv_put1 h'))
  · cases hx

theorem snd_lstore_n {i : Nat} {j : Fin 4} (hd : decode cc pc = .ok (.lstore_n j, 1)) (hi : (j : Nat) = i) (hlt : i + 1 < nL) (hn : pc + 1 = n) : Snd own cc nL nm ret pc (ia_ls n i) := by
  intro G p l e R s m args below meth c Q n0 u0 hC L st M f1 M1 g hx hg h1 h2
  unfold ia_ls at hx
  split at hx
  · next x st =>
    cases hx
    refine ⟨⟨Nat.le_refl _, Nat.le_refl _⟩, aw1 (fun o => ⟨okF_u o.1 (okF_h o.2), okF_t o.2⟩) (fun o H locs cells slots ls hl k => ?_)⟩
    subst hn
    exact lv_lstore_n hC.1 hC.2.1 hd hi hl hlt rfl (fun ls' h' => k ls' (lv_put2 h'))
  · cases hx

theorem snd_lstore {i : Nat} (hd : decode cc pc = .ok (.lstore i, 2)) (hlt : i + 1 < nL) (hn : pc + 2 = n) : Snd own cc nL nm ret pc (ia_ls n i) := by
  intro G p l e R s m args below meth c Q n0 u0 hC L st M f1 M1 g hx hg h1 h2
  unfold ia_ls at hx
  split at hx
  · next x st =>
    cases hx
    refine ⟨⟨Nat.le_refl _, Nat.le_refl _⟩, aw1 (fun o => ⟨okF_u o.1 (okF_h o.2), okF_t o.2⟩) (fun o H locs cells slots ls hl k => ?_)⟩
    subst hn
    exact lv_lstore hC.1 hC.2.1 hd hl hlt rfl (fun ls' h' => k ls' (lv_put2 h'))
  · cases hx

theorem snd_astore_n {i : Nat} {j : Fin 4} (hd : decode cc pc = .ok (.astore_n j, 1)) (hi : (j : Nat) = i) (hlt : i < nL) (hn : pc + 1 = n) : Snd own cc nL nm ret pc (ia_as n i) := by
  intro G p l e R s m args below meth c Q n0 u0 hC L st M f1 M1 g hx hg h1 h2
  unfold ia_as at hx
  split at hx
  · next x st =>
    cases hx
    refine ⟨⟨Nat.le_refl _, Nat.le_refl _⟩, aw1 (fun o => ⟨okF_s o.1 (okF_h o.2), okF_t o.2⟩) (fun o H locs cells slots ls hl k => ?_)⟩
    subst hn
    have k1 : ∀ ls' : Array Slot, lv_has ls' nL ((i, sV G (vR x)) :: (sL G L).filter (fun q => !(q.1 == i) && !(q.1 + 1 == i && q.2.category == 2))) → _ := fun ls' h' => k ls' (lv_put1 h')
    have e2 : sV G (vR x) = va_rf (sRf G x) := rfl
    rw [List.map_cons]
    rw [e2] at k1 ⊢
    generalize sRf G x = z at k1 ⊢
    cases z with
    | none => exact lv_astore_nN hC.1 hC.2.1 hd hi hl hlt rfl k1
    | some z => exact lv_astore_n hC.1 hC.2.1 hd hi hl hlt rfl k1
  · cases hx

theorem snd_astore {i : Nat} (hd : decode cc pc = .ok (.astore i, 2)) (hlt : i < nL) (hn : pc + 2 = n) : Snd own cc nL nm ret pc (ia_as n i) := by
  intro G p l e R s m args below meth c Q n0 u0 hC L st M f1 M1 g hx hg h1 h2
  unfold ia_as at hx
  split at hx
  · next x st =>
    cases hx
    refine ⟨⟨Nat.le_refl _, Nat.le_refl _⟩, aw1 (fun o => ⟨okF_s o.1 (okF_h o.2), okF_t o.2⟩) (fun o H locs cells slots ls hl k => ?_)⟩
    subst hn
    have k1 : ∀ ls' : Array Slot, lv_has ls' nL ((i, sV G (vR x)) :: (sL G L).filter (fun q => !(q.1 == i) && !(q.1 + 1 == i && q.2.category == 2))) → _ := fun ls' h' => k ls' (lv_put1 h')
    have e2 : sV G (vR x) = va_rf (sRf G x) := rfl
    rw [List.map_cons]
    rw [e2] at k1 ⊢
    generalize sRf G x = z at k1 ⊢
    cases z with
    | none => exact lv_astoreN hC.1 hC.2.1 hd hl hlt rfl k1
    | some z => exact lv_astore hC.1 hC.2.1 hd hl hlt rfl k1
  · cases hx

theorem snd_iinc {i : Nat} {a k0 : Int} (hd : decode cc pc = .ok (.iinc i a, 3)) (hv : a = k0) (hlt : i < nL) (hn : pc + 3 = n) : Snd own cc nL nm ret pc (ia_inc n i k0) := by
  intro G p l e R s m args below meth c Q n0 u0 hC L st M f1 M1 g hx hg h1 h2
  unfold ia_inc at hx
  split at hx
  · next x e =>
    cases hx
    refine ⟨⟨Nat.le_refl _, Nat.le_refl _⟩, aw1 (fun o => ⟨okF_s o.1 hg, o.2⟩) (fun o H locs cells slots ls hl k => ?_)⟩
    subst hn
    subst hv
    obtain ⟨j, hj⟩ := List.getElem?_of_mem (xl_g_in e)
    have hj' : (sL G L)[j]? = some (i, .int (Int32.ofInt x)) := by
      show (L.map _)[j]? = _
      rw [List.getElem?_map, hj]; rfl
    exact lv_iinc hC.1 hC.2.1 hd hl hj' (v := Int32.ofInt (x + a)) (Int32.ofInt_add x a).symm hlt rfl (fun ls' h' => k ls' (lv_put1 h'))
  · cases hx

theorem snd_iadd (hd : decode cc pc = .ok (.iadd, 1)) (hn : pc + 1 = n) : Snd own cc nL nm ret pc (ia_add n) := by
  intro G p l e R s m args below meth c Q n0 u0 hC L st M f1 M1 g hx hg h1 h2
  unfold ia_add at hx
  split at hx
  · next y x st =>
    cases hx
    refine ⟨⟨Nat.le_refl _, Nat.le_refl _⟩, aw1 (fun o => ⟨o.1, okF_c (hg) (okF_t (okF_t o.2))⟩) (fun o H locs cells slots ls hl k => ?_)⟩
    subst hn
    have hy := okF_h o.2
    have hx := okF_h (okF_t o.2)
    have k1 := k ls hl
    simp only [List.map_cons, sV] at k1 ⊢
    refine lv_iadd hC.1 hC.2.1 hd ?_
    rw [← Int32.ofInt_add]
    exact k1
  · cases hx

theorem snd_isub (hd : decode cc pc = .ok (.isub, 1)) (hn : pc + 1 = n) : Snd own cc nL nm ret pc (ia_sub n) := by
  intro G p l e R s m args below meth c Q n0 u0 hC L st M f1 M1 g hx hg h1 h2
  unfold ia_sub at hx
  split at hx
  · next y x st =>
    cases hx
    refine ⟨⟨Nat.le_refl _, Nat.le_refl _⟩, aw1 (fun o => ⟨o.1, okF_c (hg) (okF_t (okF_t o.2))⟩) (fun o H locs cells slots ls hl k => ?_)⟩
    subst hn
    have hy := okF_h o.2
    have hx := okF_h (okF_t o.2)
    have k1 := k ls hl
    simp only [List.map_cons, sV] at k1 ⊢
    refine lv_isub hC.1 hC.2.1 hd ?_
    rw [← Int32.ofInt_sub]
    exact k1
  · cases hx

theorem snd_imul (hd : decode cc pc = .ok (.imul, 1)) (hn : pc + 1 = n) : Snd own cc nL nm ret pc (ia_mul n) := by
  intro G p l e R s m args below meth c Q n0 u0 hC L st M f1 M1 g hx hg h1 h2
  unfold ia_mul at hx
  split at hx
  · next y x st =>
    cases hx
    refine ⟨⟨Nat.le_refl _, Nat.le_refl _⟩, aw1 (fun o => ⟨o.1, okF_c (hg) (okF_t (okF_t o.2))⟩) (fun o H locs cells slots ls hl k => ?_)⟩
    subst hn
    have hy := okF_h o.2
    have hx := okF_h (okF_t o.2)
    have k1 := k ls hl
    simp only [List.map_cons, sV] at k1 ⊢
    refine lv_imul hC.1 hC.2.1 hd ?_
    rw [← Int32.ofInt_mul]
    exact k1
  · cases hx

theorem snd_idiv (hd : decode cc pc = .ok (.idiv, 1)) (hn : pc + 1 = n) : Snd own cc nL nm ret pc (ia_div n) := by
  intro G p l e R s m args below meth c Q n0 u0 hC L st M f1 M1 g hx hg h1 h2
  unfold ia_div at hx
  split at hx
  · next y x st =>
    cases hx
    refine ⟨⟨Nat.le_refl _, Nat.le_refl _⟩, aw1 (fun o => ⟨o.1, okF_c (ok_div (okF_h (okF_t o.2)) hg.1 hg.2) (okF_t (okF_t o.2))⟩) (fun o H locs cells slots ls hl k => ?_)⟩
    subst hn
    have hy := okF_h o.2
    have hx := okF_h (okF_t o.2)
    have k1 := k ls hl
    simp only [List.map_cons, sV] at k1 ⊢
    refine lv_idiv hC.1 hC.2.1 hd (fun z => absurd ((ofI_eq hy ok0).mp z) (by have := hg.2; omega)) ?_
    rw [ofI_div hx hy hg.1 hg.2]
    exact k1
  · cases hx

theorem snd_irem (hd : decode cc pc = .ok (.irem, 1)) (hn : pc + 1 = n) : Snd own cc nL nm ret pc (ia_rem n) := by
  intro G p l e R s m args below meth c Q n0 u0 hC L st M f1 M1 g hx hg h1 h2
  unfold ia_rem at hx
  split at hx
  · next y x st =>
    cases hx
    refine ⟨⟨Nat.le_refl _, Nat.le_refl _⟩, aw1 (fun o => ⟨o.1, okF_c (ok_rem (okF_h o.2) hg.2) (okF_t (okF_t o.2))⟩) (fun o H locs cells slots ls hl k => ?_)⟩
    subst hn
    have hy := okF_h o.2
    have hx := okF_h (okF_t o.2)
    have k1 := k ls hl
    simp only [List.map_cons, sV] at k1 ⊢
    refine lv_irem hC.1 hC.2.1 hd (fun z => absurd ((ofI_eq hy ok0).mp z) (by have := hg.2; omega)) ?_
    rw [ofI_rem hx hy hg.1 hg.2]
    exact k1
  · cases hx

theorem snd_ladd (hd : decode cc pc = .ok (.ladd, 1)) (hn : pc + 1 = n) : Snd own cc nL nm ret pc (ia_ladd n) := by
  intro G p l e R s m args below meth c Q n0 u0 hC L st M f1 M1 g hx hg h1 h2
  unfold ia_ladd at hx
  split at hx
  · next y x st =>
    cases hx
    refine ⟨⟨Nat.le_refl _, Nat.le_refl _⟩, aw1 (fun o => ⟨o.1, okF_c (hg) (okF_t (okF_t o.2))⟩) (fun o H locs cells slots ls hl k => ?_)⟩
    subst hn
    have hy := okF_h o.2
    have hx := okF_h (okF_t o.2)
    have k1 := k ls hl
    simp only [List.map_cons, sV] at k1 ⊢
    refine lv_ladd hC.1 hC.2.1 hd ?_
    rw [← Int64.ofInt_add]
    exact k1
  · cases hx

theorem snd_lsub (hd : decode cc pc = .ok (.lsub, 1)) (hn : pc + 1 = n) : Snd own cc nL nm ret pc (ia_lsub n) := by
  intro G p l e R s m args below meth c Q n0 u0 hC L st M f1 M1 g hx hg h1 h2
  unfold ia_lsub at hx
  split at hx
  · next y x st =>
    cases hx
    refine ⟨⟨Nat.le_refl _, Nat.le_refl _⟩, aw1 (fun o => ⟨o.1, okF_c (hg) (okF_t (okF_t o.2))⟩) (fun o H locs cells slots ls hl k => ?_)⟩
    subst hn
    have hy := okF_h o.2
    have hx := okF_h (okF_t o.2)
    have k1 := k ls hl
    simp only [List.map_cons, sV] at k1 ⊢
    refine lv_lsub hC.1 hC.2.1 hd ?_
    rw [← Int64.ofInt_sub]
    exact k1
  · cases hx

theorem snd_lmul (hd : decode cc pc = .ok (.lmul, 1)) (hn : pc + 1 = n) : Snd own cc nL nm ret pc (ia_lmul n) := by
  intro G p l e R s m args below meth c Q n0 u0 hC L st M f1 M1 g hx hg h1 h2
  unfold ia_lmul at hx
  split at hx
  · next y x st =>
    cases hx
    refine ⟨⟨Nat.le_refl _, Nat.le_refl _⟩, aw1 (fun o => ⟨o.1, okF_c (hg) (okF_t (okF_t o.2))⟩) (fun o H locs cells slots ls hl k => ?_)⟩
    subst hn
    have hy := okF_h o.2
    have hx := okF_h (okF_t o.2)
    have k1 := k ls hl
    simp only [List.map_cons, sV] at k1 ⊢
    refine lv_lmul hC.1 hC.2.1 hd ?_
    rw [← Int64.ofInt_mul]
    exact k1
  · cases hx

theorem snd_ldiv (hd : decode cc pc = .ok (.ldiv, 1)) (hn : pc + 1 = n) : Snd own cc nL nm ret pc (ia_ldiv n) := by
  intro G p l e R s m args below meth c Q n0 u0 hC L st M f1 M1 g hx hg h1 h2
  unfold ia_ldiv at hx
  split at hx
  · next y x st =>
    cases hx
    refine ⟨⟨Nat.le_refl _, Nat.le_refl _⟩, aw1 (fun o => ⟨o.1, okF_c (okL_div (okF_h (okF_t o.2)) hg.1 hg.2) (okF_t (okF_t o.2))⟩) (fun o H locs cells slots ls hl k => ?_)⟩
    subst hn
    have hy := okF_h o.2
    have hx := okF_h (okF_t o.2)
    have k1 := k ls hl
    simp only [List.map_cons, sV] at k1 ⊢
    refine lv_ldiv hC.1 hC.2.1 hd (fun z => absurd ((ofL_eq hy (show okL 0 by unfold okL; omega)).mp z) (by have := hg.2; omega)) ?_
    rw [ofL_div hx hy hg.1 hg.2]
    exact k1
  · cases hx

theorem snd_lrem (hd : decode cc pc = .ok (.lrem, 1)) (hn : pc + 1 = n) : Snd own cc nL nm ret pc (ia_lrem n) := by
  intro G p l e R s m args below meth c Q n0 u0 hC L st M f1 M1 g hx hg h1 h2
  unfold ia_lrem at hx
  split at hx
  · next y x st =>
    cases hx
    refine ⟨⟨Nat.le_refl _, Nat.le_refl _⟩, aw1 (fun o => ⟨o.1, okF_c (okL_rem (okF_h o.2) hg.2) (okF_t (okF_t o.2))⟩) (fun o H locs cells slots ls hl k => ?_)⟩
    subst hn
    have hy := okF_h o.2
    have hx := okF_h (okF_t o.2)
    have k1 := k ls hl
    simp only [List.map_cons, sV] at k1 ⊢
    refine lv_lrem hC.1 hC.2.1 hd (fun z => absurd ((ofL_eq hy (show okL 0 by unfold okL; omega)).mp z) (by have := hg.2; omega)) ?_
    rw [ofL_rem hx hy hg.1 hg.2]
    exact k1
  · cases hx

theorem snd_bAnd (hd : decode cc pc = .ok (.iand, 1)) (hn : pc + 1 = n) : Snd own cc nL nm ret pc (ia_bit bAnd n) := by
  intro G p l e R s m args below meth c Q n0 u0 hC L st M f1 M1 g hx hg h1 h2
  unfold ia_bit at hx
  split at hx
  · next y x st =>
    cases hx
    refine ⟨⟨Nat.le_refl _, Nat.le_refl _⟩, aw1 (fun o => ⟨o.1, okF_c (okI_t _) (okF_t (okF_t o.2))⟩) (fun o H locs cells slots ls hl k => ?_)⟩
    subst hn
    have k1 := k ls hl
    simp only [List.map_cons, sV, bAnd, Int32.ofInt_toInt] at k1 ⊢
    exact lv_iand hC.1 hC.2.1 hd k1
  · cases hx

theorem snd_bOr (hd : decode cc pc = .ok (.ior, 1)) (hn : pc + 1 = n) : Snd own cc nL nm ret pc (ia_bit bOr n) := by
  intro G p l e R s m args below meth c Q n0 u0 hC L st M f1 M1 g hx hg h1 h2
  unfold ia_bit at hx
  split at hx
  · next y x st =>
    cases hx
    refine ⟨⟨Nat.le_refl _, Nat.le_refl _⟩, aw1 (fun o => ⟨o.1, okF_c (okI_t _) (okF_t (okF_t o.2))⟩) (fun o H locs cells slots ls hl k => ?_)⟩
    subst hn
    have k1 := k ls hl
    simp only [List.map_cons, sV, bOr, Int32.ofInt_toInt] at k1 ⊢
    exact lv_ior hC.1 hC.2.1 hd k1
  · cases hx

theorem snd_bXor (hd : decode cc pc = .ok (.ixor, 1)) (hn : pc + 1 = n) : Snd own cc nL nm ret pc (ia_bit bXor n) := by
  intro G p l e R s m args below meth c Q n0 u0 hC L st M f1 M1 g hx hg h1 h2
  unfold ia_bit at hx
  split at hx
  · next y x st =>
    cases hx
    refine ⟨⟨Nat.le_refl _, Nat.le_refl _⟩, aw1 (fun o => ⟨o.1, okF_c (okI_t _) (okF_t (okF_t o.2))⟩) (fun o H locs cells slots ls hl k => ?_)⟩
    subst hn
    have k1 := k ls hl
    simp only [List.map_cons, sV, bXor, Int32.ofInt_toInt] at k1 ⊢
    exact lv_ixor hC.1 hC.2.1 hd k1
  · cases hx

theorem snd_bShl (hd : decode cc pc = .ok (.ishl, 1)) (hn : pc + 1 = n) : Snd own cc nL nm ret pc (ia_bit bShl n) := by
  intro G p l e R s m args below meth c Q n0 u0 hC L st M f1 M1 g hx hg h1 h2
  unfold ia_bit at hx
  split at hx
  · next y x st =>
    cases hx
    refine ⟨⟨Nat.le_refl _, Nat.le_refl _⟩, aw1 (fun o => ⟨o.1, okF_c (okI_t _) (okF_t (okF_t o.2))⟩) (fun o H locs cells slots ls hl k => ?_)⟩
    subst hn
    have k1 := k ls hl
    simp only [List.map_cons, sV, bShl, Int32.ofInt_toInt] at k1 ⊢
    exact lv_ishl hC.1 hC.2.1 hd k1
  · cases hx

theorem snd_bShr (hd : decode cc pc = .ok (.ishr, 1)) (hn : pc + 1 = n) : Snd own cc nL nm ret pc (ia_bit bShr n) := by
  intro G p l e R s m args below meth c Q n0 u0 hC L st M f1 M1 g hx hg h1 h2
  unfold ia_bit at hx
  split at hx
  · next y x st =>
    cases hx
    refine ⟨⟨Nat.le_refl _, Nat.le_refl _⟩, aw1 (fun o => ⟨o.1, okF_c (okI_t _) (okF_t (okF_t o.2))⟩) (fun o H locs cells slots ls hl k => ?_)⟩
    subst hn
    have k1 := k ls hl
    simp only [List.map_cons, sV, bShr, Int32.ofInt_toInt] at k1 ⊢
    exact lv_ishr hC.1 hC.2.1 hd k1
  · cases hx

theorem snd_bUsh (hd : decode cc pc = .ok (.iushr, 1)) (hn : pc + 1 = n) : Snd own cc nL nm ret pc (ia_bit bUsh n) := by
  intro G p l e R s m args below meth c Q n0 u0 hC L st M f1 M1 g hx hg h1 h2
  unfold ia_bit at hx
  split at hx
  · next y x st =>
    cases hx
    refine ⟨⟨Nat.le_refl _, Nat.le_refl _⟩, aw1 (fun o => ⟨o.1, okF_c (okI_t _) (okF_t (okF_t o.2))⟩) (fun o H locs cells slots ls hl k => ?_)⟩
    subst hn
    have k1 := k ls hl
    simp only [List.map_cons, sV, bUsh, Int32.ofInt_toInt] at k1 ⊢
    exact lv_iushr hC.1 hC.2.1 hd rfl k1
  · cases hx

theorem snd_ineg (hd : decode cc pc = .ok (.ineg, 1)) (hn : pc + 1 = n) : Snd own cc nL nm ret pc (ia_neg n) := by
  intro G p l e R s m args below meth c Q n0 u0 hC L st M f1 M1 g hx hg h1 h2
  unfold ia_neg at hx
  split at hx
  · next x st =>
    cases hx
    refine ⟨⟨Nat.le_refl _, Nat.le_refl _⟩, aw1 (fun o => ⟨o.1, okF_c (by have h := okF_h o.2; obtain ⟨a, b⟩ : okI x := h; show okI (-x); exact ⟨by omega, by omega⟩) (okF_t o.2)⟩) (fun o H locs cells slots ls hl k => ?_)⟩
    subst hn
    have hx := okF_h o.2
    have k1 := k ls hl
    simp only [List.map_cons, sV] at k1 ⊢
    rw [Int32.ofInt_neg] at k1
    exact lv_ineg hC.1 hC.2.1 hd k1
  · cases hx

theorem snd_i2b (hd : decode cc pc = .ok (.i2b, 1)) (hn : pc + 1 = n) : Snd own cc nL nm ret pc (ia_i2b n) := by
  intro G p l e R s m args below meth c Q n0 u0 hC L st M f1 M1 g hx hg h1 h2
  unfold ia_i2b at hx
  split at hx
  · next x st =>
    cases hx
    refine ⟨⟨Nat.le_refl _, Nat.le_refl _⟩, aw1 (fun o => ⟨o.1, okF_c (okI_t _) (okF_t o.2)⟩) (fun o H locs cells slots ls hl k => ?_)⟩
    subst hn
    have hx := okF_h o.2
    have k1 := k ls hl
    simp only [List.map_cons, sV] at k1 ⊢
    simp only [bByte, Int32.ofInt_toInt] at k1
    exact lv_i2b hC.1 hC.2.1 hd rfl k1
  · cases hx

theorem snd_i2l (hd : decode cc pc = .ok (.i2l, 1)) (hn : pc + 1 = n) : Snd own cc nL nm ret pc (ia_i2l n) := by
  intro G p l e R s m args below meth c Q n0 u0 hC L st M f1 M1 g hx hg h1 h2
  unfold ia_i2l at hx
  split at hx
  · next x st =>
    cases hx
    refine ⟨⟨Nat.le_refl _, Nat.le_refl _⟩, aw1 (fun o => ⟨o.1, okF_c (by have h := okF_h o.2; obtain ⟨a, b⟩ : okI x := h; show okL x; exact ⟨by omega, by omega⟩) (okF_t o.2)⟩) (fun o H locs cells slots ls hl k => ?_)⟩
    subst hn
    have hx := okF_h o.2
    have k1 := k ls hl
    simp only [List.map_cons, sV] at k1 ⊢
    have e : (Int32.ofInt x).toInt64 = Int64.ofInt x := by
      apply Int64.toInt_inj.mp
      rw [Int32.toInt_toInt64, ofI_t hx, ofL_t (by obtain ⟨a, b⟩ : okI x := hx; exact ⟨by omega, by omega⟩)]
    exact lv_i2l hC.1 hC.2.1 hd e k1
  · cases hx

theorem snd_l2i (hd : decode cc pc = .ok (.l2i, 1)) (hn : pc + 1 = n) : Snd own cc nL nm ret pc (ia_l2i n) := by
  intro G p l e R s m args below meth c Q n0 u0 hC L st M f1 M1 g hx hg h1 h2
  unfold ia_l2i at hx
  split at hx
  · next x st =>
    cases hx
    refine ⟨⟨Nat.le_refl _, Nat.le_refl _⟩, aw1 (fun o => ⟨o.1, okF_c (okI_t _) (okF_t o.2)⟩) (fun o H locs cells slots ls hl k => ?_)⟩
    subst hn
    have hx := okF_h o.2
    have k1 := k ls hl
    simp only [List.map_cons, sV] at k1 ⊢
    simp only [bCut, Int32.ofInt_toInt] at k1
    exact lv_l2i hC.1 hC.2.1 hd rfl k1
  · cases hx

theorem lcmp_eq {x y : Int} (hx : okL x) (hy : okL y) : lg_cmp (Int64.ofInt x) (Int64.ofInt y) = Int32.ofInt (cmpL x y) := by
  have h1 := ofL_lt hx hy
  have h2 := ofL_lt hy hx
  have h3 := ofL_eq hx hy
  unfold cmpL lg_cmp
  by_cases a : x < y
  · have b : ¬ y < x := by omega
    have c : ¬ x = y := by omega
    simp [a, b, c, h2, h3]
  · by_cases b : x = y
    · subst b
      simp
    · have c : y < x := by omega
      simp [a, b, c, h1, h2, h3]

theorem snd_lcmp (hd : decode cc pc = .ok (.lcmp, 1)) (hn : pc + 1 = n) : Snd own cc nL nm ret pc (ia_lcmp n) := by
  intro G p l e R s m args below meth c Q n0 u0 hC L st M f1 M1 g hx hg h1 h2
  unfold ia_lcmp at hx
  split at hx
  · next y x st =>
    cases hx
    refine ⟨⟨Nat.le_refl _, Nat.le_refl _⟩, aw1 (fun o => ⟨o.1, okF_c (show okI (cmpL x y) by unfold cmpL okI; split; omega; split <;> omega) (okF_t (okF_t o.2))⟩) (fun o H locs cells slots ls hl k => ?_)⟩
    subst hn
    have hy := okF_h o.2
    have hx := okF_h (okF_t o.2)
    have k1 := k ls hl
    simp only [List.map_cons, sV] at k1 ⊢
    refine W.lcmp hC.1 hC.2.1 hd ?_
    rw [lcmp_eq hx hy]
    exact k1
  · cases hx

theorem snd_dup (hd : decode cc pc = .ok (.dup, 1)) (hn : pc + 1 = n) : Snd own cc nL nm ret pc (ia_dup n) := by
  intro G p l e R s m args below meth c Q n0 u0 hC L st M f1 M1 g hx hg h1 h2
  unfold ia_dup at hx
  split at hx
  · cases hx
    refine ⟨⟨Nat.le_refl _, Nat.le_refl _⟩, aw1 (fun o => ⟨o.1, okF_c (okF_h o.2) o.2⟩) (fun o H locs cells slots ls hl k => ?_)⟩
    subst hn
    exact lv_dup hC.1 hC.2.1 hd (sV_cat1 rfl) (k ls hl)
  · cases hx
    refine ⟨⟨Nat.le_refl _, Nat.le_refl _⟩, aw1 (fun o => ⟨o.1, okF_c (okF_h o.2) o.2⟩) (fun o H locs cells slots ls hl k => ?_)⟩
    subst hn
    exact lv_dup hC.1 hC.2.1 hd (sV_cat1 rfl) (k ls hl)
  · cases hx

theorem snd_pop (hd : decode cc pc = .ok (.pop, 1)) (hn : pc + 1 = n) : Snd own cc nL nm ret pc (ia_pop n) := by
  intro G p l e R s m args below meth c Q n0 u0 hC L st M f1 M1 g hx hg h1 h2
  unfold ia_pop at hx
  split at hx
  · cases hx
    refine ⟨⟨Nat.le_refl _, Nat.le_refl _⟩, aw1 (fun o => ⟨o.1, okF_t o.2⟩) (fun o H locs cells slots ls hl k => ?_)⟩
    subst hn
    exact lv_pop hC.1 hC.2.1 hd (sV_cat1 rfl) (k ls hl)
  · cases hx
    refine ⟨⟨Nat.le_refl _, Nat.le_refl _⟩, aw1 (fun o => ⟨o.1, okF_t o.2⟩) (fun o H locs cells slots ls hl k => ?_)⟩
    subst hn
    exact lv_pop hC.1 hC.2.1 hd (sV_cat1 rfl) (k ls hl)
  · cases hx

theorem snd_dup2 (hd : decode cc pc = .ok (.dup2, 1)) (hn : pc + 1 = n) : Snd own cc nL nm ret pc (ia_dup2 n) := by
  intro G p l e R s m args below meth c Q n0 u0 hC L st M f1 M1 g hx hg h1 h2
  unfold ia_dup2 at hx
  split at hx
  · cases hx
    refine ⟨⟨Nat.le_refl _, Nat.le_refl _⟩, aw1 (fun o => ⟨o.1, okF_c (okF_h o.2) (okF_c trivial o.2)⟩) (fun o H locs cells slots ls hl k => ?_)⟩
    subst hn
    exact lv_dup2_11 hC.1 hC.2.1 hd (sV_cat1 rfl) (sV_cat1 rfl) (k ls hl)
  · cases hx

theorem snd_dx1 (hd : decode cc pc = .ok (.dup_x1, 1)) (hn : pc + 1 = n) : Snd own cc nL nm ret pc (ia_dx1 n) := by
  intro G p l e R s m args below meth c Q n0 u0 hC L st M f1 M1 g hx hg h1 h2
  unfold ia_dx1 at hx
  split at hx
  · cases hx
    refine ⟨⟨Nat.le_refl _, Nat.le_refl _⟩, aw1 (fun o => ⟨o.1, okF_c (okF_h o.2) (okF_c trivial (okF_c (okF_h o.2) (okF_t (okF_t o.2))))⟩) (fun o H locs cells slots ls hl k => ?_)⟩
    subst hn
    exact lv_dup_x1 hC.1 hC.2.1 hd (sV_cat1 rfl) (sV_cat1 rfl) (k ls hl)
  · cases hx
    refine ⟨⟨Nat.le_refl _, Nat.le_refl _⟩, aw1 (fun o => ⟨o.1, okF_c trivial (okF_c trivial (okF_c trivial (okF_t (okF_t o.2))))⟩) (fun o H locs cells slots ls hl k => ?_)⟩
    subst hn
    exact lv_dup_x1 hC.1 hC.2.1 hd (sV_cat1 rfl) (sV_cat1 rfl) (k ls hl)
  · cases hx

theorem snd_goto {off : Int} {t : Nat} (hd : decode cc pc = .ok (.goto off, 3)) (ht : (pc : Int) + off = (t : Int)) : Snd own cc nL nm ret pc (ia_go t) := by
  intro G p l e R s m args below meth c Q n0 u0 hC L st M f1 M1 g hx hg h1 h2
  cases hx
  refine ⟨⟨Nat.le_refl _, Nat.le_refl _⟩, aw1 (fun o => o) (fun o H locs cells slots ls hl k => ?_)⟩
  exact lv_goto hC.1 hC.2.1 hd ht (k ls hl)

theorem sndB_ic_eq {off : Int} {t : Nat} (hd : decode cc pc = .ok (.if_icmp .eq off, 3)) (ht : (pc : Int) + off = (t : Int)) (hn : pc + 3 = n) : SndB own cc nL nm ret pc (ia_ic k2e n t) := by
  intro G p l e R s m args below meth c Q n0 u0 hC L st M
  refine ⟨fun k f1 f2 hx k1 k2 => ?_, fun cs f1 hx => ?_⟩
  · unfold ia_ic at hx
    split at hx
    · next y x st =>
      cases hx
      intro a b o H locs ls hR hO hS hl
      have hy := okF_h o.2
      have hx := okF_h (okF_t o.2)
      have o1 : okF L st := ⟨o.1, okF_t (okF_t o.2)⟩
      subst hn
      exact lv_icmp_eq hC.1 hC.2.1 hd ht (fun z => k1 ((ofI_eq hx hy).mp z) a b o1 H locs ls hR hO hS hl) (fun z => k2 (fun w => z ((ofI_eq hx hy).mpr w)) a b o1 H locs ls hR hO hS hl)
    · cases hx
  · unfold ia_ic at hx
    split at hx <;> cases hx

theorem sndB_if_eq {off : Int} {t : Nat} (hd : decode cc pc = .ok (.ifCond .eq off, 3)) (ht : (pc : Int) + off = (t : Int)) (hn : pc + 3 = n) : SndB own cc nL nm ret pc (ia_if k0e n t) := by
  intro G p l e R s m args below meth c Q n0 u0 hC L st M
  refine ⟨fun k f1 f2 hx k1 k2 => ?_, fun cs f1 hx => ?_⟩
  · unfold ia_if at hx
    split at hx
    · next x st =>
      cases hx
      intro a b o H locs ls hR hO hS hl
      have hx := okF_h o.2
      have o1 : okF L st := ⟨o.1, okF_t o.2⟩
      subst hn
      exact lv_if_eq hC.1 hC.2.1 hd ht (fun z => k1 ((ofI_eq hx ok0).mp z) a b o1 H locs ls hR hO hS hl) (fun z => k2 (fun w => z ((ofI_eq hx ok0).mpr w)) a b o1 H locs ls hR hO hS hl)
    · cases hx
  · unfold ia_if at hx
    split at hx <;> cases hx

theorem sndB_ic_ne {off : Int} {t : Nat} (hd : decode cc pc = .ok (.if_icmp .ne off, 3)) (ht : (pc : Int) + off = (t : Int)) (hn : pc + 3 = n) : SndB own cc nL nm ret pc (ia_ic k2n n t) := by
  intro G p l e R s m args below meth c Q n0 u0 hC L st M
  refine ⟨fun k f1 f2 hx k1 k2 => ?_, fun cs f1 hx => ?_⟩
  · unfold ia_ic at hx
    split at hx
    · next y x st =>
      cases hx
      intro a b o H locs ls hR hO hS hl
      have hy := okF_h o.2
      have hx := okF_h (okF_t o.2)
      have o1 : okF L st := ⟨o.1, okF_t (okF_t o.2)⟩
      subst hn
      exact lv_icmp_ne hC.1 hC.2.1 hd ht (fun z => k1 ((not_congr (ofI_eq hx hy)).mp z) a b o1 H locs ls hR hO hS hl) (fun z => k2 (fun w => w ((ofI_eq hx hy).mp z)) a b o1 H locs ls hR hO hS hl)
    · cases hx
  · unfold ia_ic at hx
    split at hx <;> cases hx

theorem sndB_if_ne {off : Int} {t : Nat} (hd : decode cc pc = .ok (.ifCond .ne off, 3)) (ht : (pc : Int) + off = (t : Int)) (hn : pc + 3 = n) : SndB own cc nL nm ret pc (ia_if k0n n t) := by
  intro G p l e R s m args below meth c Q n0 u0 hC L st M
  refine ⟨fun k f1 f2 hx k1 k2 => ?_, fun cs f1 hx => ?_⟩
  · unfold ia_if at hx
    split at hx
    · next x st =>
      cases hx
      intro a b o H locs ls hR hO hS hl
      have hx := okF_h o.2
      have o1 : okF L st := ⟨o.1, okF_t o.2⟩
      subst hn
      exact lv_if_ne hC.1 hC.2.1 hd ht (fun z => k1 ((not_congr (ofI_eq hx ok0)).mp z) a b o1 H locs ls hR hO hS hl) (fun z => k2 (fun w => w ((ofI_eq hx ok0).mp z)) a b o1 H locs ls hR hO hS hl)
    · cases hx
  · unfold ia_if at hx
    split at hx <;> cases hx

theorem sndB_ic_lt {off : Int} {t : Nat} (hd : decode cc pc = .ok (.if_icmp .lt off, 3)) (ht : (pc : Int) + off = (t : Int)) (hn : pc + 3 = n) : SndB own cc nL nm ret pc (ia_ic k2l n t) := by
  intro G p l e R s m args below meth c Q n0 u0 hC L st M
  refine ⟨fun k f1 f2 hx k1 k2 => ?_, fun cs f1 hx => ?_⟩
  · unfold ia_ic at hx
    split at hx
    · next y x st =>
      cases hx
      intro a b o H locs ls hR hO hS hl
      have hy := okF_h o.2
      have hx := okF_h (okF_t o.2)
      have o1 : okF L st := ⟨o.1, okF_t (okF_t o.2)⟩
      subst hn
      exact lv_icmp_lt hC.1 hC.2.1 hd ht (fun z => k1 ((ofI_lt hx hy).mp z) a b o1 H locs ls hR hO hS hl) (fun z => k2 (fun w => z ((ofI_lt hx hy).mpr w)) a b o1 H locs ls hR hO hS hl)
    · cases hx
  · unfold ia_ic at hx
    split at hx <;> cases hx

theorem sndB_if_lt {off : Int} {t : Nat} (hd : decode cc pc = .ok (.ifCond .lt off, 3)) (ht : (pc : Int) + off = (t : Int)) (hn : pc + 3 = n) : SndB own cc nL nm ret pc (ia_if k0l n t) := by
  intro G p l e R s m args below meth c Q n0 u0 hC L st M
  refine ⟨fun k f1 f2 hx k1 k2 => ?_, fun cs f1 hx => ?_⟩
  · unfold ia_if at hx
    split at hx
    · next x st =>
      cases hx
      intro a b o H locs ls hR hO hS hl
      have hx := okF_h o.2
      have o1 : okF L st := ⟨o.1, okF_t o.2⟩
      subst hn
      exact lv_if_lt hC.1 hC.2.1 hd ht (fun z => k1 ((ofI_lt hx ok0).mp z) a b o1 H locs ls hR hO hS hl) (fun z => k2 (fun w => z ((ofI_lt hx ok0).mpr w)) a b o1 H locs ls hR hO hS hl)
    · cases hx
  · unfold ia_if at hx
    split at hx <;> cases hx

theorem sndB_ic_ge {off : Int} {t : Nat} (hd : decode cc pc = .ok (.if_icmp .ge off, 3)) (ht : (pc : Int) + off = (t : Int)) (hn : pc + 3 = n) : SndB own cc nL nm ret pc (ia_ic k2g n t) := by
  intro G p l e R s m args below meth c Q n0 u0 hC L st M
  refine ⟨fun k f1 f2 hx k1 k2 => ?_, fun cs f1 hx => ?_⟩
  · unfold ia_ic at hx
    split at hx
    · next y x st =>
      cases hx
      intro a b o H locs ls hR hO hS hl
      have hy := okF_h o.2
      have hx := okF_h (okF_t o.2)
      have o1 : okF L st := ⟨o.1, okF_t (okF_t o.2)⟩
      subst hn
      exact lv_icmp_ge hC.1 hC.2.1 hd ht (fun z => k1 ((ofI_le hy hx).mp z) a b o1 H locs ls hR hO hS hl) (fun z => k2 (fun w => z ((ofI_le hy hx).mpr w)) a b o1 H locs ls hR hO hS hl)
    · cases hx
  · unfold ia_ic at hx
    split at hx <;> cases hx

theorem sndB_if_ge {off : Int} {t : Nat} (hd : decode cc pc = .ok (.ifCond .ge off, 3)) (ht : (pc : Int) + off = (t : Int)) (hn : pc + 3 = n) : SndB own cc nL nm ret pc (ia_if k0g n t) := by
  intro G p l e R s m args below meth c Q n0 u0 hC L st M
  refine ⟨fun k f1 f2 hx k1 k2 => ?_, fun cs f1 hx => ?_⟩
  · unfold ia_if at hx
    split at hx
    · next x st =>
      cases hx
      intro a b o H locs ls hR hO hS hl
      have hx := okF_h o.2
      have o1 : okF L st := ⟨o.1, okF_t o.2⟩
      subst hn
      exact lv_if_ge hC.1 hC.2.1 hd ht (fun z => k1 ((ofI_le ok0 hx).mp z) a b o1 H locs ls hR hO hS hl) (fun z => k2 (fun w => z ((ofI_le ok0 hx).mpr w)) a b o1 H locs ls hR hO hS hl)
    · cases hx
  · unfold ia_if at hx
    split at hx <;> cases hx

theorem sndB_ic_gt {off : Int} {t : Nat} (hd : decode cc pc = .ok (.if_icmp .gt off, 3)) (ht : (pc : Int) + off = (t : Int)) (hn : pc + 3 = n) : SndB own cc nL nm ret pc (ia_ic k2G n t) := by
  intro G p l e R s m args below meth c Q n0 u0 hC L st M
  refine ⟨fun k f1 f2 hx k1 k2 => ?_, fun cs f1 hx => ?_⟩
  · unfold ia_ic at hx
    split at hx
    · next y x st =>
      cases hx
      intro a b o H locs ls hR hO hS hl
      have hy := okF_h o.2
      have hx := okF_h (okF_t o.2)
      have o1 : okF L st := ⟨o.1, okF_t (okF_t o.2)⟩
      subst hn
      exact lv_icmp_gt hC.1 hC.2.1 hd ht (fun z => k1 ((ofI_lt hy hx).mp z) a b o1 H locs ls hR hO hS hl) (fun z => k2 (fun w => z ((ofI_lt hy hx).mpr w)) a b o1 H locs ls hR hO hS hl)
    · cases hx
  · unfold ia_ic at hx
    split at hx <;> cases hx

theorem sndB_if_gt {off : Int} {t : Nat} (hd : decode cc pc = .ok (.ifCond .gt off, 3)) (ht : (pc : Int) + off = (t : Int)) (hn : pc + 3 = n) : SndB own cc nL nm ret pc (ia_if k0G n t) := by
  intro G p l e R s m args below meth c Q n0 u0 hC L st M
  refine ⟨fun k f1 f2 hx k1 k2 => ?_, fun cs f1 hx => ?_⟩
  · unfold ia_if at hx
    split at hx
    · next x st =>
      cases hx
      intro a b o H locs ls hR hO hS hl
      have hx := okF_h o.2
      have o1 : okF L st := ⟨o.1, okF_t o.2⟩
      subst hn
      exact lv_if_gt hC.1 hC.2.1 hd ht (fun z => k1 ((ofI_lt ok0 hx).mp z) a b o1 H locs ls hR hO hS hl) (fun z => k2 (fun w => z ((ofI_lt ok0 hx).mpr w)) a b o1 H locs ls hR hO hS hl)
    · cases hx
  · unfold ia_if at hx
    split at hx <;> cases hx

theorem sndB_ic_le {off : Int} {t : Nat} (hd : decode cc pc = .ok (.if_icmp .le off, 3)) (ht : (pc : Int) + off = (t : Int)) (hn : pc + 3 = n) : SndB own cc nL nm ret pc (ia_ic k2L n t) := by
  intro G p l e R s m args below meth c Q n0 u0 hC L st M
  refine ⟨fun k f1 f2 hx k1 k2 => ?_, fun cs f1 hx => ?_⟩
  · unfold ia_ic at hx
    split at hx
    · next y x st =>
      cases hx
      intro a b o H locs ls hR hO hS hl
      have hy := okF_h o.2
      have hx := okF_h (okF_t o.2)
      have o1 : okF L st := ⟨o.1, okF_t (okF_t o.2)⟩
      subst hn
      exact lv_icmp_le hC.1 hC.2.1 hd ht (fun z => k1 ((ofI_le hx hy).mp z) a b o1 H locs ls hR hO hS hl) (fun z => k2 (fun w => z ((ofI_le hx hy).mpr w)) a b o1 H locs ls hR hO hS hl)
    · cases hx
  · unfold ia_ic at hx
    split at hx <;> cases hx

theorem sndB_if_le {off : Int} {t : Nat} (hd : decode cc pc = .ok (.ifCond .le off, 3)) (ht : (pc : Int) + off = (t : Int)) (hn : pc + 3 = n) : SndB own cc nL nm ret pc (ia_if k0L n t) := by
  intro G p l e R s m args below meth c Q n0 u0 hC L st M
  refine ⟨fun k f1 f2 hx k1 k2 => ?_, fun cs f1 hx => ?_⟩
  · unfold ia_if at hx
    split at hx
    · next x st =>
      cases hx
      intro a b o H locs ls hR hO hS hl
      have hx := okF_h o.2
      have o1 : okF L st := ⟨o.1, okF_t o.2⟩
      subst hn
      exact lv_if_le hC.1 hC.2.1 hd ht (fun z => k1 ((ofI_le hx ok0).mp z) a b o1 H locs ls hR hO hS hl) (fun z => k2 (fun w => z ((ofI_le hx ok0).mpr w)) a b o1 H locs ls hR hO hS hl)
    · cases hx
  · unfold ia_if at hx
    split at hx <;> cases hx

theorem sndB_nul {off : Int} {t : Nat} (hd : decode cc pc = .ok (.ifnull off, 3)) (ht : (pc : Int) + off = (t : Int)) (hn : pc + 3 = n) : SndB own cc nL nm ret pc (ia_nul n t) := by
  intro G p l e R s m args below meth c Q n0 u0 hC L st M
  refine ⟨fun k f1 f2 hx k1 k2 => ?_, fun cs f1 hx => ?_⟩
  · unfold ia_nul at hx
    split at hx
    · next x st =>
      cases hx
      intro a b o H locs ls hR hO hS hl
      have o1 : okF L st := ⟨o.1, okF_t o.2⟩
      subst hn
      by_cases z : x = 0
      · subst z
        exact lv_ifnullN hC.1 hC.2.1 hd ht (k1 rfl a b o1 H locs ls hR hO hS hl)
      · have e : (vR x :: st).map (sV G) = .ref (sMu G x) :: st.map (sV G) := by
          show va_rf (sRf G x) :: _ = _
          rw [show sRf G x = some (sMu G x) from if_neg z]; rfl
        rw [e]
        exact lv_ifnull hC.1 hC.2.1 hd (k2 z a b o1 H locs ls hR hO hS hl)
    · cases hx
  · unfold ia_nul at hx
    split at hx <;> cases hx

theorem sndB_nnl {off : Int} {t : Nat} (hd : decode cc pc = .ok (.ifnonnull off, 3)) (ht : (pc : Int) + off = (t : Int)) (hn : pc + 3 = n) : SndB own cc nL nm ret pc (ia_nnl n t) := by
  intro G p l e R s m args below meth c Q n0 u0 hC L st M
  refine ⟨fun k f1 f2 hx k1 k2 => ?_, fun cs f1 hx => ?_⟩
  · unfold ia_nnl at hx
    split at hx
    · next x st =>
      cases hx
      intro a b o H locs ls hR hO hS hl
      have o1 : okF L st := ⟨o.1, okF_t o.2⟩
      subst hn
      by_cases z : x = 0
      · subst z
        exact lv_ifnonnullN hC.1 hC.2.1 hd (k2 (fun w => w rfl) a b o1 H locs ls hR hO hS hl)
      · have e : (vR x :: st).map (sV G) = .ref (sMu G x) :: st.map (sV G) := by
          show va_rf (sRf G x) :: _ = _
          rw [show sRf G x = some (sMu G x) from if_neg z]; rfl
        rw [e]
        exact lv_ifnonnull hC.1 hC.2.1 hd ht (k1 z a b o1 H locs ls hR hO hS hl)
    · cases hx
  · unfold ia_nnl at hx
    split at hx <;> cases hx

theorem pick_w {x lo : Int} {L : XL} {st : List XV} {d : Nat} : ∀ (ts : List Nat) (k : Nat) (f1 : XF), xc_pick (xs_w x lo k ts L st d) = some f1 → (∃ j t, ts[j]? = some t ∧ x = lo + ((k + j : Nat) : Int) ∧ f1 = (t, L, st)) ∨ ((x < lo ∨ lo + ((k + ts.length : Nat) : Int) ≤ x) ∧ f1 = (d, L, st)) := by
  intro ts
  induction ts with
  | nil =>
    intro k f1 h
    have h : xc_w (x < lo ∨ lo + (k : Int) ≤ x) (some (d, L, st)) none = some f1 := h
    by_cases c : x < lo ∨ lo + (k : Int) ≤ x
    · rw [xc_t c] at h; cases h; exact Or.inr ⟨c, rfl⟩
    · rw [xc_f c] at h; cases h
  | cons t ts ih =>
    intro k f1 h
    have h : xc_w (x = lo + (k : Int)) (some (t, L, st)) (xc_pick (xs_w x lo (k + 1) ts L st d)) = some f1 := h
    by_cases c : x = lo + (k : Int)
    · rw [xc_t c] at h; cases h; exact Or.inl ⟨0, t, rfl, c, rfl⟩
    · rw [xc_f c] at h
      rcases ih (k + 1) f1 h with ⟨j, t1, e1, e2, e3⟩ | ⟨e1, e2⟩
      · exact Or.inl ⟨j + 1, t1, e1, by rw [e2]; congr 1; omega, e3⟩
      · refine Or.inr ⟨?_, e2⟩
        rw [List.length_cons]
        rcases e1 with z | z
        · exact Or.inl z
        · right
          have : ((k + 1 + ts.length : Nat) : Int) = ((k + (ts.length + 1) : Nat) : Int) := by congr 1; omega
          omega
theorem sndB_sw {dflt lo hi : Int} {offs : Array Int} {len : Nat} {ts : List Nat} {d : Nat} (hd : decode cc pc = .ok (.tableswitch dflt lo hi offs, len)) (hdf : (pc : Int) + dflt = (d : Int)) (hl : (ts.length : Int) = hi - lo + 1) (hts : ts.map (fun (t : Nat) => ((t : Int) - (pc : Int))) = offs.toList) (hlo : okI lo) (hhi : okI hi) : SndB own cc nL nm ret pc (ia_sw lo ts d) := by
  intro G p l e R s m args below meth c Q n0 u0 hC L st M
  refine ⟨fun k f1 f2 hx => ?_, fun cs f1 hx hp k1 => ?_⟩
  · unfold ia_sw at hx
    split at hx <;> cases hx
  · unfold ia_sw at hx
    split at hx
    · next x st =>
      cases hx
      intro a b o H locs ls hR hO hS hl1
      have hx := okF_h o.2
      have o1 : okF L st := ⟨o.1, okF_t o.2⟩
      rcases pick_w ts 0 f1 hp with ⟨j, t, e1, e2, rfl⟩ | ⟨e1, rfl⟩
      · have hj : j < ts.length := (List.getElem?_eq_some_iff.mp e1).1
        have e3 : (Int32.ofInt x).toInt = x := ofI_t hx
        have e4 : x = lo + (j : Int) := by rw [e2]; congr 1; omega
        refine lv_tableIn hC.1 hC.2.1 hd (by rw [e3]; omega) (by rw [e3]; omega) (off := (t : Int) - (pc : Int)) ?_ (by omega) (k1 a b o1 H locs ls hR hO hS hl1)
        rw [e3, show (x - lo).toNat = j by omega, ← Array.getElem?_toList, ← hts, List.getElem?_map, e1]
        rfl
      · have e3 : (Int32.ofInt x).toInt = x := ofI_t hx
        exact lv_tableOut hC.1 hC.2.1 hd (by rw [e3]; rcases e1 with z | z <;> omega) hdf (k1 a b o1 H locs ls hR hO hS hl1)
    · cases hx
theorem sndB_lsw1 {dflt : Int} {ps : Array (Int × Int)} {len : Nat} {k0 k1 : Int} {t0 t1 d : Nat} (hd : decode cc pc = .ok (.lookupswitch dflt ps, len)) (hps : ps.toList = [(k0, (t0 : Int) - (pc : Int)), (k1, (t1 : Int) - (pc : Int))]) (hlt : k0 < k1) (hdf : (pc : Int) + dflt = (d : Int)) : SndB own cc nL nm ret pc (ia_lsw [(k0, t0), (k1, t1)] d) := by
  intro G p l e R s m args below meth c Q n0 u0 hC L st M
  refine ⟨fun k f1 f2 hx => ?_, fun cs f1 hx hp k9 => ?_⟩
  · unfold ia_lsw at hx
    split at hx <;> cases hx
  · unfold ia_lsw at hx
    split at hx
    · next x st =>
      cases hx
      intro a b o H locs ls hR hO hS hl1
      have hx := okF_h o.2
      have o1 : okF L st := ⟨o.1, okF_t o.2⟩
      have e3 : (Int32.ofInt x).toInt = x := ofI_t hx
      have hsr : (ps.toList.zip (ps.toList.drop 1)).all (fun (a, next) => a.1 < next.1) = true := by rw [hps]; simp [hlt]
      have hp : xc_w (x = k0) (some (t0, L, st)) (xc_w (x = k1) (some (t1, L, st)) (xc_w ((True ∧ x ≠ k0) ∧ x ≠ k1) (some (d, L, st)) none)) = some f1 := hp
      by_cases c0 : x = k0
      · rw [xc_t c0] at hp
        cases hp
        refine lv_lookup hC.1 hC.2.1 hd hsr (off := (t0 : Int) - (pc : Int)) ?_ (by omega) (k9 a b o1 H locs ls hR hO hS hl1)
        rw [hps, e3, c0]
        simp [Op.lookupswitch.offset]
      · rw [xc_f c0] at hp
        by_cases c1 : x = k1
        · rw [xc_t c1] at hp
          cases hp
          refine lv_lookup hC.1 hC.2.1 hd hsr (off := (t1 : Int) - (pc : Int)) ?_ (by omega) (k9 a b o1 H locs ls hR hO hS hl1)
          rw [hps, e3]
          simp [Op.lookupswitch.offset, c1, Ne.symm c0]
          omega
        · rw [xc_f c1] at hp
          by_cases c2 : (True ∧ x ≠ k0) ∧ x ≠ k1
          · rw [xc_t c2] at hp
            cases hp
            refine lv_lookup hC.1 hC.2.1 hd hsr (off := dflt) ?_ hdf (k9 a b o1 H locs ls hR hO hS hl1)
            rw [hps, e3]
            simp [Op.lookupswitch.offset, Ne.symm c0, Ne.symm c1]
          · exact absurd ⟨⟨trivial, c0⟩, c1⟩ c2
    · cases hx
end

