/-! SOUNDNESS, 10: the few special instructions -/
theorem es_104 : ∀ kx ∈ [7, 12, 13, 14, 15], sAs kx (sEk 104) := by
  intro kx h
  simp only [List.mem_cons, List.not_mem_nil, or_false] at h
  rcases h with e | e | e | e | e <;> subst e
  · exact ⟨by decide, _, rfl, Or.inr q1974⟩
  · exact ⟨by decide, _, rfl, Or.inr q1983⟩
  · exact ⟨by decide, _, rfl, Or.inr q1984⟩
  · exact ⟨by decide, _, rfl, Or.inr q1985⟩
  · exact ⟨by decide, _, rfl, Or.inr q1986⟩
theorem es_105 : ∀ kx ∈ [3], sAs kx (sEk 105) := by
  intro kx h
  rw [List.mem_singleton.mp h]
  exact ⟨by decide, _, rfl, Or.inl rfl⟩
theorem es_106 : ∀ kx ∈ [2], sAs kx (sEk 106) := by
  intro kx h
  rw [List.mem_singleton.mp h]
  exact ⟨by decide, _, rfl, Or.inl rfl⟩
theorem es_107 : ∀ kx ∈ [7], sAs kx (sEk 107) := by
  intro kx h
  rw [List.mem_singleton.mp h]
  exact ⟨by decide, _, rfl, Or.inl rfl⟩
theorem cs_Entry : ∀ kx ∈ [7], sAs kx RX6 := es_107
theorem cs_Clause : ∀ kx ∈ [12, 13, 14, 15], sAs kx "WeekFoot$Clause" := by
  intro kx h
  simp only [List.mem_cons, List.not_mem_nil, or_false] at h
  rcases h with e | e | e | e <;> subst e
  · exact ⟨by decide, _, rfl, Or.inr q1970⟩
  · exact ⟨by decide, _, rfl, Or.inr q1968⟩
  · exact ⟨by decide, _, rfl, Or.inr q1969⟩
  · exact ⟨by decide, _, rfl, Or.inr q1971⟩
theorem okt_1 : ∀ k, k < 28 → okT (tyX0 k) = true := by decide
theorem okt_2 : ∀ k, k < 1 → okT (tyX1 k) = true := by decide
theorem okt_3 : ∀ k, k < 7 → okT (tyX2 k) = true := by decide
theorem okt_4 : ∀ k, k < 9 → okT (tyX3 k) = true := by decide
theorem okt_5 : ∀ k, k < 7 → okT (tyX4 k) = true := by decide
theorem okt_6 : ∀ k, k < 6 → okT (tyX5 k) = true := by decide
theorem okt_7 : ∀ k, k < 4 → okT (tyX6 k) = true := by decide
theorem okt_8 : ∀ k, k < 63 → okT (tyX7 k) = true := by decide
theorem okt_9 : ∀ k, k < 8 → okT (tyX8 k) = true := by decide
theorem okt_10 : ∀ k, k < 7 → okT (tyX9 k) = true := by decide
theorem okt_12 : ∀ k, k < 3 → okT (tyX11 k) = true := by decide
theorem okt_13 : ∀ k, k < 2 → okT (tyX12 k) = true := by decide
theorem okt_14 : ∀ k, k < 2 → okT (tyX13 k) = true := by decide
theorem okt_15 : ∀ k, k < 1 → okT (tyX14 k) = true := by decide
theorem okt_16 : ∀ k, k < 3 → okT (tyJ2 k) = true := by decide
theorem sV_old {G : SG} {a : Nat} (h0 : a ≠ 0) (h : a < 40) : sV G (vR a) = .ref (gO G a) := by
  show va_rf (sRf G a) = _
  rw [show sRf G a = some (sMu G a) from if_neg h0, sMu_old h]; rfl
theorem sV_oldc {G : SG} {a : Nat} {st : List XV} (h0 : a ≠ 0) (h : a < 40) : (vR a :: st).map (sV G) = .ref (gO G a) :: st.map (sV G) := by
  rw [List.map_cons, sV_old h0 h]
/-- the bytes of a text -/
theorem byt_ix {G : SG} {M : XM} (hS : okS M) (hO : okO G M) {a : Nat} (e : (mS M a).1 = 52) : ∃ i : Nat, i < 16 ∧ a = 18 + i := by
  have h1 := hS a (by rw [e]; decide)
  have h2 : 2 ≤ a ∧ a < 34 := by
    rcases h1 with ⟨-, q⟩ | ⟨q, -⟩ | ⟨-, q⟩
    · rw [e] at q; omega
    · exact q
    · rw [e] at q; rcases q with q | q <;> omega
  rcases Nat.lt_or_ge a 18 with h | h
  · exact absurd e (hO.2.2.1.1 a h2.1 h)
  · exact ⟨a - 18, by omega, by omega⟩
theorem scr_ix {G : SG} {M : XM} (hS : okS M) {a : Nat} (e : (mS M a).1 = 50) : a = 1 := by
  have h1 := hS a (by rw [e]; decide)
  rcases h1 with ⟨q, -⟩ | ⟨-, q⟩ | ⟨-, q⟩
  · exact q
  · rw [e] at q; omega
  · rw [e] at q; rcases q with q | q <;> omega
theorem sTl_le : ∀ i : Nat, i < 16 → sTl.getD i 0 ≤ 6 := by decide
theorem cpy_okN {P : Nat → Prop} {f g : Int → Nat} {sp dp n : Int} (hf : ∀ i, P (f i)) (hg : ∀ i, P (g i)) : ∀ i, P (cpy f g sp dp n i) := by
  intro i
  unfold cpy
  split
  · exact hf _
  · exact hg _
section
variable {own : String} {cc : ByteArray} {nL : Nat} {nm : String} {ret : Option FieldType} {pc n : Nat}
theorem snd_ldcS {idx : Nat} {tx : String} (i : Nat) (hd : decode cc pc = .ok (.ldc idx, 2)) (hq : Cond.stringRef RX8 idx tx ∈ lw_tbl) (hi : sTs[i]? = some (idx, tx)) (hn : pc + 2 = n) : Snd RX8 cc nL nm ret pc (ia_kr n (i + 2)) := by
  intro G p l e R s m args below meth c Q n0 u0 hC L st M f1 M1 g hx hg h1 h2
  unfold ia_kr at hx
  cases hx
  subst hn
  refine ⟨⟨Nat.le_refl _, Nat.le_refl _⟩, fun kk => ?_⟩
  intro q1 q2 o H locs ls hR hO hS hl
  have hi16 : i < 16 := by
    rcases Nat.lt_or_ge i 16 with h | h
    · exact h
    · rw [List.getElem?_eq_none (show sTs.length ≤ i from h)] at hi; cases hi
  have e9 : sTs.getD i (0, "") = (idx, tx) := by rw [List.getD_eq_getElem?_getD, hi]; rfl
  have e8 := hO.2.2.1 i hi16
  rw [e9] at e8
  have k := kk q1 q2 ⟨o.1, okF_c trivial o.2⟩ H locs ls hR hO hS hl
  have e7 := sV_oldc (G := G) (a := i + 2) (st := st) (by omega) (by omega)
  dsimp only at k
  rw [e7, Nat.add_comm i 2] at k
  exact va_ldcS hC.1 hC.2.1 (own := RX8) (tx := tx) (index := idx) (q := gO G (2 + i)) hC.2.2.2.1 e8 hd k
theorem snd_ldcM {idx : Nat} (hq : Cond.classLink own idx "[Ljava/lang/Object;" ∈ lw_all) (hd : decode cc pc = .ok (.ldc idx, 2)) (hn : pc + 2 = n) : Snd own cc nL nm ret pc (ia_kr n 37) := by
  intro G p l e R s m args below meth c Q n0 u0 hC L st M f1 M1 g hx hg h1 h2
  unfold ia_kr at hx
  cases hx
  subst hn
  refine ⟨⟨Nat.le_refl _, Nat.le_refl _⟩, fun kk => ?_⟩
  intro q1 q2 o H locs ls hR hO hS hl
  have k := kk q1 q2 ⟨o.1, okF_c trivial o.2⟩ H locs ls hR hO hS hl
  have e7 := sV_oldc (G := G) (a := 37) (st := st) (by omega) (by omega)
  dsimp only at k
  rw [e7] at k
  exact va_ldcM hC.1 hC.2.1 hC.2.2.2.1 (hC.2.2.2.2.1 _ hq) hO.2.2.2.1 hd k
theorem snd_gs1 {idx : Nat} (hq : Cond.fieldLink own idx "java/lang/String" "COMPACT_STRINGS" "Z" ∈ lw_all) (hd : decode cc pc = .ok (.getstatic idx, 3)) (hn : pc + 3 = n) : Snd own cc nL nm ret pc (ia_gs1 n) := by
  intro G p l e R s m args below meth c Q n0 u0 hC L st M f1 M1 g hx hg h1 h2
  unfold ia_gs1 at hx
  cases hx
  subst hn
  refine ⟨⟨Nat.le_refl _, Nat.le_refl _⟩, fun kk => ?_⟩
  intro q1 q2 o H locs ls hR hO hS hl
  have k := kk q1 q2 ⟨o.1, okF_c (show okI 1 by unfold okI; omega) o.2⟩ H locs ls hR hO hS hl
  obtain ⟨cf, kf, fi, f, a, cell, w1, w2, w3, w4, w5, w6, w7, w8⟩ := hO.2.1.2.1
  exact W.gets hC.1 hC.2.1 hC.2.2.2.1 (hC.2.2.2.2.1 _ hq) w1 w2 w3 w4 w5 (fun e => by rw [e] at w6; cases w6) w7 rfl hd k
theorem snd_gsR {idx k : Nat} (hk : k < 3) (hq : Cond.fieldLink own idx (sSt k).1 (sSt k).2.1 (sSt k).2.2 ∈ lw_all) (hd : decode cc pc = .ok (.getstatic idx, 3)) (hn : pc + 3 = n) : Snd own cc nL nm ret pc (ia_gsR n k) := by
  intro G p l e R s m args below meth c Q n0 u0 hC L st M f1 M1 g hx hg h1 h2
  unfold ia_gsR at hx
  cases hx
  subst hn
  refine ⟨⟨Nat.le_refl _, Nat.le_refl _⟩, fun kk => ?_⟩
  intro q1 q2 o H locs ls hR hO hS hl
  have k1 := kk q1 q2 ⟨o.1, okF_c trivial o.2⟩ H locs ls hR hO hS hl
  obtain ⟨cf, kf, fi, f, a, cell, w1, w2, w3, w4, w5, w6, w7, w8⟩ := hO.2.1.2.2 k hk
  have e9 : mR M 38 (k : Int) = gV G k := hR.2.2.2.2.1.2.2.2 k hk
  dsimp only at k1
  rw [e9] at k1
  exact W.gets hC.1 hC.2.1 hC.2.2.2.1 (hC.2.2.2.2.1 _ hq) w1 w2 w3 w4 w5 (fun e => by rw [e] at w6; cases w6) w7 rfl hd k1
theorem snd_gfC {idx : Nat} (hq : Cond.fieldLink own idx "java/lang/String" "coder" "B" ∈ lw_all) (hd : decode cc pc = .ok (.getfield idx, 3)) (hn : pc + 3 = n) : Snd own cc nL nm ret pc (ia_gfC n) := by
  intro G p l e R s m args below meth c Q n0 u0 hC L st M f1 M1 g hx hg h1 h2
  unfold ia_gfC at hx
  split at hx
  · next a st =>
    cases hx
    subst hn
    refine ⟨⟨Nat.le_refl _, Nat.le_refl _⟩, fun kk => ?_⟩
    intro q1 q2 o H locs ls hR hO hS hl
    have k1 := kk q1 q2 ⟨o.1, okF_c (show okI 0 by unfold okI; omega) (okF_t o.2)⟩ H locs ls hR hO hS hl
    obtain ⟨i, hi, rfl⟩ := str_ix hR.2.2.2.1 hR.2.2.2.2.1 hg
    obtain ⟨cf, k, fi, f, cell, w1, w2, w3, w4, w5, w6⟩ := (hO.2.1.1.1 i hi).2.1
    rw [sV_oldc (by omega) (by omega)]
    exact W.getf hC.1 hC.2.1 hC.2.2.2.1 (hC.2.2.2.2.1 _ hq) w1 w2 w3 w4 (v := .int 0) w5 rfl rfl hd k1
  · cases hx
theorem snd_gfV {idx : Nat} (hq : Cond.fieldLink own idx "java/lang/String" "value" "[B" ∈ lw_all) (hd : decode cc pc = .ok (.getfield idx, 3)) (hn : pc + 3 = n) : Snd own cc nL nm ret pc (ia_gfV n) := by
  intro G p l e R s m args below meth c Q n0 u0 hC L st M f1 M1 g hx hg h1 h2
  unfold ia_gfV at hx
  split at hx
  · next a st =>
    cases hx
    subst hn
    refine ⟨⟨Nat.le_refl _, Nat.le_refl _⟩, fun kk => ?_⟩
    intro q1 q2 o H locs ls hR hO hS hl
    have k1 := kk q1 q2 ⟨o.1, okF_c trivial (okF_t o.2)⟩ H locs ls hR hO hS hl
    obtain ⟨i, hi, rfl⟩ := str_ix hR.2.2.2.1 hR.2.2.2.2.1 hg
    obtain ⟨cf, k, fi, f, cell, w1, w2, w3, w4, w5, w6⟩ := (hO.2.1.1.1 i hi).2.2.1
    rw [sV_oldc (by omega) (by omega)]
    dsimp only at k1
    rw [sV_oldc (by omega) (by omega), show 2 + i + 16 = 18 + i by omega] at k1
    exact W.getf hC.1 hC.2.1 hC.2.2.2.1 (hC.2.2.2.2.1 _ hq) w1 w2 w3 w4 (v := .ref (gO G (18 + i))) w5 rfl rfl hd k1
  · cases hx
theorem snd_blen (hd : decode cc pc = .ok (.arraylength, 1)) (hn : pc + 1 = n) : Snd own cc nL nm ret pc (ia_len n [52]) := by
  intro G p l e R s m args below meth c Q n0 u0 hC L st M f1 M1 g hx hg h1 h2
  unfold ia_len at hx
  split at hx
  · next a st =>
    cases hx
    subst hn
    refine ⟨⟨Nat.le_refl _, Nat.le_refl _⟩, fun kk => ?_⟩
    intro q1 q2 o H locs ls hR hO hS hl
    have e0 : (mS M a).1 = 52 := List.mem_singleton.mp hg
    obtain ⟨i, hi, rfl⟩ := byt_ix hR.2.2.2.1 hR.2.2.2.2.1 e0
    obtain ⟨cell, w1, w2, w3, w4, w5, w6, w7⟩ := (hO.2.1.1.1 i hi).2.2.2
    have e1 : (mS M (18 + i)).2 = sTl.getD i 0 := by rw [(hR.2.2.2.2.1.2.1 i hi).1.2]
    have hle := sTl_le i hi
    rw [sV_oldc (by omega) (by omega)]
    refine W.alen (n := Int32.ofInt ((mS M (18 + i)).2 : Int)) hC.1 hC.2.1 w1 w2 ?_ rfl rfl hd ?_
    · rw [e1, w5]; exact Int32.ofInt_eq_ofNat.symm
    · refine kk q1 q2 ⟨o.1, okF_c ?_ (okF_t o.2)⟩ H locs ls hR hO hS hl
      show okI _
      unfold okI
      omega
  · cases hx
theorem snd_bload (hd : decode cc pc = .ok (.baload, 1)) (hn : pc + 1 = n) : Snd own cc nL nm ret pc (ia_ldI n 52) := by
  intro G p l e R s m args below meth c Q n0 u0 hC L st M f1 M1 g hx hg h1 h2
  unfold ia_ldI at hx
  split at hx
  · next i a st =>
    cases hx
    subst hn
    refine ⟨⟨Nat.le_refl _, Nat.le_refl _⟩, fun kk => ?_⟩
    intro q1 q2 o H locs ls hR hO hS hl
    obtain ⟨k, hk, rfl⟩ := byt_ix hR.2.2.2.1 hR.2.2.2.2.1 hg.1
    obtain ⟨cell, w1, w2, w3, w4, w5, w6, w7⟩ := (hO.2.1.1.1 k hk).2.2.2
    have e1 : (mS M (18 + k)).2 = sTl.getD k 0 := by rw [(hR.2.2.2.2.1.2.1 k hk).1.2]
    obtain ⟨hin, hix⟩ := vp_ofI hg.2.1 hg.2.2 (okF_h o.2)
    have h0 := hg.2.1
    have h3 := hg.2.2
    rw [e1] at h3
    have hlt : (Int32.ofInt i).toNatClampNeg < sTl.getD k 0 := by rw [hix]; omega
    show W p l e R s m args below meth c H locs _ _ Q (F0 m pc ls (.int (Int32.ofInt i) :: (vR (18 + k) :: st).map (sV G)))
    rw [sV_oldc (by omega) (by omega)]
    refine W.bald (v := .int (Int32.ofInt (mI M (18 + k) i))) hC.1 hC.2.1 w1 w2 w3 ?_ ?_ rfl rfl hd ?_
    · rw [e1] at hin
      rintro (q | q)
      · exact hin (Or.inl q)
      · omega
    · rw [w6 _ hlt]
      have e2 := (hR.2.2.2.2.1.2.1 k hk).2 i.toNat (by omega)
      rw [toN h0] at e2
      rw [e2, Int32.ofInt_toInt, hix]
    · exact kk q1 q2 ⟨o.1, okF_c (hR.2.2.1.1 _ _) (okF_t (okF_t o.2))⟩ H locs ls hR hO hS hl
  · cases hx
theorem snd_i2c (hd : decode cc pc = .ok (.i2c, 1)) (hn : pc + 1 = n) : Snd own cc nL nm ret pc (ia_i2c n) := by
  intro G p l e R s m args below meth c Q n0 u0 hC L st M f1 M1 g hx hg h1 h2
  unfold ia_i2c at hx
  split at hx
  · next x st =>
    cases hx
    refine ⟨⟨Nat.le_refl _, Nat.le_refl _⟩, aw1 (fun o => o) (fun o H locs cells slots ls hl k => ?_)⟩
    subst hn
    have k1 := k ls hl
    simp only [List.map_cons, sV] at k1 ⊢
    exact lv_i2c hC.1 hC.2.1 hd (i2c_ch hg.1 hg.2) k1
  · cases hx
theorem snd_sload (hd : decode cc pc = .ok (.iaload, 1)) (hn : pc + 1 = n) : Snd own cc nL nm ret pc (ia_ldI n 50) := by
  intro G p l e R s m args below meth c Q n0 u0 hC L st M f1 M1 g hx hg h1 h2
  unfold ia_ldI at hx
  split at hx
  · next i a st =>
    cases hx
    subst hn
    refine ⟨⟨Nat.le_refl _, Nat.le_refl _⟩, fun kk => ?_⟩
    intro q1 q2 o H locs ls hR hO hS hl
    obtain rfl := scr_ix (G := G) hR.2.2.2.1 hg.1
    obtain ⟨cell, w1, w2, w3, w4, w5⟩ := hO.1.1
    have e1 : (mS M 1).2 = gL G := by rw [hR.2.2.2.2.1.1.1]
    obtain ⟨hin, hix⟩ := vp_ofI hg.2.1 hg.2.2 (okF_h o.2)
    have h0 := hg.2.1
    have h3 := hg.2.2
    rw [e1] at h3
    have hlt : (Int32.ofInt i).toNatClampNeg < gL G := by rw [hix]; omega
    show W p l e R s m args below meth c H locs _ _ Q (F0 m pc ls (.int (Int32.ofInt i) :: (vR 1 :: st).map (sV G)))
    rw [sV_oldc (by omega) (by omega)]
    refine W.iald (v := .int (Int32.ofInt (mI M 1 i))) hC.1 hC.2.1 w1 w2 w3 ?_ ?_ rfl rfl hd ?_
    · rw [e1, ← w4] at hin
      exact hin
    · rw [w5 _ hlt]
      have e2 := hR.2.2.2.2.1.1.2 i.toNat (by omega)
      rw [toN h0] at e2
      rw [e2, Int32.ofInt_toInt, hix]
    · exact kk q1 q2 ⟨o.1, okF_c (hR.2.2.1.1 _ _) (okF_t (okF_t o.2))⟩ H locs ls hR hO hS hl
  · cases hx
theorem snd_ace (hd : decode cc pc = .ok (.if_acmp .ne 10, 3)) (hn : pc + 3 = n) : Snd own cc nL nm ret pc (ia_ace n) := by
  intro G p l e R s m args below meth c Q n0 u0 hC L st M f1 M1 g hx hg h1 h2
  unfold ia_ace at hx
  split at hx
  · next a b st =>
    cases hx
    refine ⟨⟨Nat.le_refl _, Nat.le_refl _⟩, aw1 (fun o => ⟨o.1, okF_t (okF_t o.2)⟩) (fun o H locs cells slots ls hl k => ?_)⟩
    subst hn
    have k1 := k ls hl
    simp only [List.map_cons, sV] at k1 ⊢
    exact lv_acmp_ne hC.1 hC.2.1 (tgt := pc + 10) hd rfl (fun z => absurd (by rw [hg]) z) (fun _ => k1)
  · cases hx
theorem snd_salen (hd : decode cc pc = .ok (.arraylength, 1)) (hn : pc + 1 = n) : Snd own cc nL nm ret pc (ia_len n [50]) := by
  intro G p l e R s m args below meth c Q n0 u0 hC L st M f1 M1 g hx hg h1 h2
  unfold ia_len at hx
  split at hx
  · next a st =>
    cases hx
    subst hn
    refine ⟨⟨Nat.le_refl _, Nat.le_refl _⟩, fun kk => ?_⟩
    intro q1 q2 o H locs ls hR hO hS hl
    obtain rfl := scr_ix (G := G) hR.2.2.2.1 (List.mem_singleton.mp hg)
    obtain ⟨cell, w1, w2, w3, w4, w5⟩ := hO.1.1
    have e1 : (mS M 1).2 = gL G := by rw [hR.2.2.2.2.1.1.1]
    have hle := hO.2.2.2.2.1
    rw [sV_oldc (by omega) (by omega)]
    refine W.alen (n := Int32.ofInt ((mS M 1).2 : Int)) hC.1 hC.2.1 w1 w2 ?_ rfl rfl hd ?_
    · rw [e1, w4]; exact Int32.ofInt_eq_ofNat.symm
    · refine kk q1 q2 ⟨o.1, okF_c ?_ (okF_t o.2)⟩ H locs ls hR hO hS hl
      show okI _
      unfold okI
      omega
  · cases hx
theorem snd_gcl {idx : Nat} (hq : Cond.methodLink own idx ⟨"java/lang/Object", "getClass", "()Ljava/lang/Class;"⟩ ∈ lw_all) (hd : decode cc pc = .ok (.invokevirtual idx, 3)) (hn : pc + 3 = n) : Snd own cc nL nm ret pc (ia_gcl n) := by
  intro G p l e R s m args below meth c Q n0 u0 hC L st M f1 M1 g hx hg h1 h2
  unfold ia_gcl at hx
  split at hx
  · next a st =>
    split at hx
    · next hle =>
      cases hx
      subst hn
      refine ⟨⟨Nat.le_refl _, Nat.le_refl _⟩, fun kk => ?_⟩
      intro q1 q2 o H locs ls hR hO hS hl
      have hcl := Nat.le_of_ble_eq_true hle
      have k := kk q1 q2 ⟨o.1, okF_c trivial (okF_t o.2)⟩ H locs ls hR hO hS hl
      obtain ⟨ha, hb, hcell⟩ := ar_at (by omega) hR hg
      dsimp only at k
      rw [sV_oldc (by omega) (by omega)] at k
      rw [sV_cons ha]
      have h9 := hC.2.2.2.2.2.2.2.2.2.2.2
      refine va_getC hC.1 hC.2.1 (hC.2.2.1.trans hl.1.symm) (C := "[Ljava/lang/Object;") hC.2.2.2.1 (hC.2.2.2.2.1 _ hq) (va_Nw.use rfl (hC.2.2.2.2.2.1.2.1 _ q1991 rfl)) (hC.2.2.2.2.1 _ q1990) (hC.2.2.2.2.1 _ q256) (hC.2.2.2.2.1 _ q273) hO.2.2.2.1
        ⟨_, hcell, rfl, va_nmO (ar_of hC.2.2.2.2.2.1 4 rfl).2 rfl⟩ (by have := hC.2.2.2.2.2.2.2.2.2.2.1; omega) (by rw [xs_cat]; omega) hd k
    · cases hx
  · cases hx
theorem snd_cpR {idx : Nat} (h1q : Cond.methodLink own idx arraycopyName ∈ lw_all) (h2q : Cond.native arraycopyName ∈ lw_all) (h3q : Cond.static arraycopyName ∈ lw_all) (h4q : Cond.initialized "java/lang/System" ∈ lw_all) (hd : decode cc pc = .ok (.invokestatic idx, 3)) (hn : pc + 3 = n) : Snd own cc nL nm ret pc (ia_cpR n 104) := by
  intro G p l e R s m args below meth c Q n0 u0 hC L st M f1 M1 g hx hg h1 h2
  unfold ia_cpR at hx
  split at hx
  · next len dp b sp a st =>
    split at hx
    · next hle =>
      cases hx
      subst hn
      refine ⟨⟨Nat.le_refl _, Nat.le_refl _⟩, fun kk => ?_⟩
      intro q1 q2 o H locs ls hR hO hS hl
      have hcl := Nat.le_of_ble_eq_true hle
      obtain ⟨⟨ga, gb⟩, g1, g2, g3, g4, g5⟩ := hg
      obtain ⟨ha, ha2, hca⟩ := ar_at (by omega) hR ga
      obtain ⟨hb, hb2, hcb⟩ := ar_at (by omega) hR gb
      have hca : H[sMu G a]? = some (arrV (gA G 104) (mS M a).2 (fun j => va_rf (sRf G (mR M a (j : Int))))) := by
        rw [hca]; congr 2
      have hcb : H[sMu G b]? = some (arrV (gA G 104) (mS M b).2 (fun j => va_rf (sRf G (mR M b (j : Int))))) := by
        rw [hcb]; congr 2
      have o0 := o.2
      obtain ⟨e1, e2, e3⟩ := nn_i (okF_h o0) g3
      have o0 := okF_t o0
      obtain ⟨d1, d2, d3⟩ := nn_i (okF_h o0) g2
      have o0 := okF_t (okF_t o0)
      obtain ⟨s1, s2, s3⟩ := nn_i (okF_h o0) g1
      have o0 := okF_t (okF_t o0)
      have hA := rf_of (kd := 104) hC.2.2.2.2.2.1 (by omega)
      show W p l e R s m args below meth c H locs _ _ Q (F0 m pc ls (.int (Int32.ofInt len) :: .int (Int32.ofInt dp) :: sV G (vR b) :: .int (Int32.ofInt sp) :: sV G (vR a) :: st.map (sV G)))
      rw [sV_ref ha, sV_ref hb]
      intro T hT X
      obtain ⟨-, k0, hk0, cm0, hkk0⟩ := hA.1 (mS M a).2 (fun j => va_rf (sRf G (mR M a (j : Int))))
      obtain ⟨-, k1, hk1, cm1, hkk1⟩ := hA.1 (mS M b).2 (fun j => va_rf (sRf G (mR M b (j : Int))))
      obtain ⟨vm', X', step⟩ := X.arraycopy hC.1 hC.2.2.2.1 (hC.2.2.2.2.1 _ h1q) (hC.2.2.2.2.1 _ h2q) (hC.2.2.2.2.1 _ h3q) (hC.2.2.2.2.1 _ h4q) (src := sMu G a) (dst := sMu G b) (srcPos := Int32.ofInt sp) (destPos := Int32.ofInt dp) (n := Int32.ofInt len) (by rw [hT]; exact hca) (by rw [hT]; exact hcb)
        (fun _ h => by cases h) (fun _ h => by cases h) (fun h => by cases h) (fun h => by cases h) hk0 hk1 hkk0 hkk1 rfl s3 d3 e3
        (by rw [s1, e1, arrV_size]; omega) (by rw [d1, e1, arrV_size]; omega)
        (fun vm₁ hal i hi => by
          rw [s2]
          rw [e2] at hi
          have e9 : (arrV (gA G 104) (mS M a).2 (fun j => va_rf (sRf G (mR M a (j : Int))))).slots.getD (sp.toNat + i) .null = va_rf (sRf G (mR M a ((sp.toNat + i : Nat) : Int))) := by
            rw [Array.getD_eq_getD_getElem?, arrV_read _ _ (by omega)]
            rfl
          rw [e9]
          rcases hR.2.2.1.2.2.2.2 a ((sp.toNat + i : Nat) : Int) ga with z | z
          · rw [z]
            exact ⟨rfl, trivial⟩
          · obtain ⟨hx32, cv, w1, w2, w3, q, w4, w5, kC, w6⟩ := ob_at hC.2.2.2.2.2.1 hR (es_104 _ z) rfl
            obtain ⟨-, kA, comp, r1, r2, r3, -⟩ := hA
            cases hk1.symm.trans r1
            cases hkk1.symm.trans r2
            obtain ⟨kE, hkE, -⟩ := Vm.findClass_spec r3
            obtain ⟨kC', hkC', -⟩ := hal.2.2 _ _ w6
            obtain ⟨kE', hkE', -⟩ := hal.2.2 _ _ hkE
            rw [sRf_new hx32]
            refine ⟨rfl, cv, (show T.heap[_]? = some cv by rw [hT]; exact w1), (fun q h => by rw [h] at w3; cases w3), ⟨kC', hkC'⟩, ?_, ?_⟩
            · exact ⟨kE', hkE'⟩
            · show vm₁.assignable _ _ = true
              rw [hal.assignable, w2]
              exact (es_104 _ z).asg hC.2.2.2.2.2.1 r3)
        (g := F0 m pc ls (.int (Int32.ofInt len) :: .int (Int32.ofInt dp) :: .ref (sMu G b) :: .int (Int32.ofInt sp) :: .ref (sMu G a) :: st.map (sV G))) rfl (by show ls.size = _; rw [hl.1, hC.2.2.1]) (rest := st.map (sV G)) rfl (by rw [hC.2.1]; exact hd) (by have := hC.2.2.2.2.2.2.2.2.2.2.1; omega)
        (by
          have h9 := hC.2.2.2.2.2.2.2.2.2.2.2
          rw [xs_cat]
          have : nativeFrameWords "java/lang/System" "arraycopy" 5 ≤ 64 := by decide
          show 2 * 0 + _ + _ ≤ _
          omega)
      have e8 : copied (arrV (gA G 104) (mS M a).2 (fun j => va_rf (sRf G (mR M a (j : Int))))) (arrV (gA G 104) (mS M b).2 (fun j => va_rf (sRf G (mR M b (j : Int))))) (Int32.ofInt sp) (Int32.ofInt dp) (Int32.ofInt len) = arrV (gA G 104) (mS M b).2 (fun j => va_rf (sRf G (cpy (mR M a) (mR M b) sp dp len (j : Int)))) := by
        have h9 := va_copied (fun z : Nat => va_rf (sRf G z)) (gA G 104) (gA G 104) (n0 := (mS M a).2) (n1 := (mS M b).2) (sp := sp.toNat) (dp := dp.toNat) (n := len.toNat) (fun j : Nat => mR M a (j : Int)) (fun j : Nat => mR M b (j : Int)) (by omega)
        rw [cpy_up (fun z : Nat => va_rf (sRf G z)) _ _ _ _ _ g1 g2 g3] at h9
        unfold copied
        rw [s2, d2, e2]
        exact h9
      rw [e8] at X' step
      have hlt : sMu G b < H.size := (Array.getElem?_eq_some_iff.mp hcb).1
      have oq : ∀ q : Nat, q ≠ sMu G b → (H.setIfInBounds (sMu G b) (arrV (gA G 104) (mS M b).2 (fun j => va_rf (sRf G (cpy (mR M a) (mR M b) sp dp len (j : Int))))))[q]? = H[q]? := fun q hq => by simp [Array.getElem?_setIfInBounds, Ne.symm hq]
      have hheap : ((T.setVm vm').setCell (sMu G b) (arrV (gA G 104) (mS M b).2 (fun j => va_rf (sRf G (cpy (mR M a) (mR M b) sp dp len (j : Int)))))).heap = H.setIfInBounds (sMu G b) (arrV (gA G 104) (mS M b).2 (fun j => va_rf (sRf G (cpy (mR M a) (mR M b) sp dp len (j : Int))))) := by rw [← hT]; rfl
      have hself : (H.setIfInBounds (sMu G b) (arrV (gA G 104) (mS M b).2 (fun j => va_rf (sRf G (cpy (mR M a) (mR M b) sp dp len (j : Int))))))[sMu G b]? = some (arrV (gA G 104) (mS M b).2 (fun j => va_rf (sRf G (cpy (mR M a) (mR M b) sp dp len (j : Int))))) := by simp [Array.getElem?_setIfInBounds, hlt]
      have hz : (H.setIfInBounds (sMu G b) (arrV (gA G 104) (mS M b).2 (fun j => va_rf (sRf G (cpy (mR M a) (mR M b) sp dp len (j : Int)))))).size = H.size := by simp
      have k1 := fun (L1 : List Loc) (hL1 : ∀ q ∈ L1, q.base = sMu G b) => kk q1 q2 ⟨o.1, o0⟩ _ (locs ++ L1) ls (hR.stR (by omega) hb gb (okM_wR hR.2.2.1 (fun z => cpy_okN (P := fun y : Nat => y = 0 ∨ (mS M y).1 ∈ okE) (fun i => hR.2.2.1.2.2.2.2 a i ga) (fun i => hR.2.2.1.2.2.2.2 b i gb))) hself hz oq) (hO.kept (by omega) (fun q hq => oq q (ne_mu hb hq))) ⟨by rw [hz]; exact hS.1, fun q w1 w2 => by
        rw [oq q (fun z => w2 (by show gB G ≤ q; rw [z]; exact mu_ge hb))]
        exact hS.2.1 q w1 w2, fun q hq => by
        rcases List.mem_append.mp hq with h | h
        · exact hS.2.2 q h
        · show gB G ≤ q.base
          rw [hL1 q h]
          exact mu_ge hb⟩ hl
      obtain ⟨t, a1, b1⟩ := k1 _ (fun q hq => by obtain ⟨z, -, hz⟩ := List.mem_map.mp hq; rw [← hz]) _ hheap X'
      exact ⟨t, step t a1, b1⟩
    · cases hx
  · cases hx
/-- a method found by what the receiver is -/
theorem sc_Uc {l : Launch} {cid kd idx w : Nat} {q : vw_C} {x y : MethodName} {owner : String} {b : ByteArray} {nl : Nat} {r : Option FieldType} (hy : sYn cid = y) (hws : sWs cid = ws_ y b nl r) (hnl : sLn cid = nl) (hle : nl ≤ 45) (hw : w ≤ nl) (hkd : 1 ≤ kd ∧ kd ≤ 16) (hc : sCl[kd - 1]? = some q) (h1q : Cond.methodLink own idx x ∈ lw_all) (h6q : Cond.sameMethod x.cls owner x.name x.desc ∈ lw_all) (h7q : Cond.declares ⟨owner, x.name, x.desc⟩ ∈ lw_tbl) (how : owner ≠ "java/lang/invoke/MethodHandle" ∧ owner ≠ "java/lang/invoke/VarHandle")
    (h2q : Cond.instanceMethod y ∈ lw_all) (h3q : Cond.selects q.1 x y ∈ lw_all) (h4q : Cond.code y b nl r ∈ lw_all) (h5q : Cond.initialized y.cls ∈ lw_all) {k : Nat} (hp : (parseMethodDescriptor x.desc).map (fun d => d.parameters.length) = some k) (hd : decode cc pc = .ok (.invokevirtual idx, 3)) (hn : pc + 3 = n)
    {G : SG} {p : Program} {e : Env} {R : Room} {s : State} {m : MethodId} {args : Array Value} {below : List Frame} {meth : Method} {c : Code} {Q : State → Prop} {n0 u0 : Nat} (hC : Cx G own cc nL nm ret p R s m args meth c) {L : XL} {st : List XV} {M : XM} {a : Nat} {vs st' : List XV} (hst : xs_p (k + 1) [] st = some (vR a :: vs, st')) (hb : (Nat.ble (xs_c st') 8 && Nat.ble (1 + xs_c vs) w) = true) (hg : (mS M a).1 = kd)
    {d : Nat} {o : XO} {M1 : XM} (hM : (∀ v ∈ vR a :: vs, okV v) → xs_c (vR a :: vs) ≤ sLn cid → sMet l G cid d (vR a :: vs) M o M1) (hf : d + 9 ≤ R.frames) (hlo : 64 * (d + 1) + 512 ≤ R.locals) (h1 : mN M ≤ mN M1) (h2 : mU M ≤ mU M1) (h3 : mN M1 ≤ n0 + R.cells) (h4 : mU M1 ≤ u0 + R.slots)
    (hN : ∀ v, o = .inl v → AW G nL p l e R s m args below meth c Q n0 u0 n L (v.toList ++ st') M1) (hX : ∀ z, o = .inr z → AX G nL p l e R s m args below meth c Q n0 u0 pc L st' z M1) : AW G nL p l e R s m args below meth c Q n0 u0 pc L st M := by
  subst hn
  rw [Bool.and_eq_true] at hb
  obtain ⟨t1, t2, t3⟩ := stk_V (G := G) hst
  have hb1 := Nat.le_of_ble_eq_true hb.1
  have hb2 := Nat.le_of_ble_eq_true hb.2
  intro q1 q2 ok
  refine aw_after (av := (Value.ref (sMu G a) :: vs.map (sV G)).toArray) h1 h2 (fun o9 => (t3 o9.2).2) (fun o9 H locs ls hR hO hl T hT X => ?_) hN hX q1 q2 ok
  have hMet := hM (t3 o9.2).1 (by rw [hnl]; show 1 + xs_c vs ≤ _; omega)
  obtain ⟨c0, cell, c1, c2, c3⟩ := recv_at hC.2.2.2.2.2.1 hR hkd hc hg
  have ha : a ≠ 0 := by omega
  have hK := back_n (R := R) (p := p) (e := e) (below := below) (s := s) (args := args) (len := 3) hMet hy hws hle h4q h5q hC.2.2.2.2.1 hf hlo
  rw [t2 ha]
  exact vx_callVU X hC.1 (C := q.1) (owner := owner) (x := x) (bytes := b) (maxL := nl) (ret := r) hC.2.2.2.1 (hC.2.2.2.2.1 _ h1q) (hC.2.2.2.2.1 _ h6q) (va_Decl.abs (hC.2.2.2.2.2.1.2.1 _ h7q rfl)) how (hC.2.2.2.2.1 _ h3q) (hC.2.2.2.2.1 _ h2q) (hC.2.2.2.2.1 _ h4q) hK (by rw [hT]; exact c1) c2 c3 rfl (hl.1.trans hC.2.2.1.symm) (argsL := vs.map (sV G)) (rest := st'.map (sV G)) (par_len (y := x) hp (by rw [List.length_map, t1])) rfl (by rw [monroom, xs_cat]; omega) (by rw [hC.2.1]; exact hd)
    (pre_at hT hR hC.2.2.2.2.2.1 hO h1 h2 q1 q2 h3 h4 (by rw [List.map_cons]; show _ = (va_rf (sRf G a) :: _).toArray; rw [show sRf G a = some (sMu G a) from if_neg ha]; rfl))
theorem sc_F {cid k kd idx cnt w : Nat} {q : vw_C} {b : ByteArray} {nl : Nat} {r : Option FieldType} (hy : sYn cid = yFa) (hws : sWs cid = ws_ yFa b nl r) (hnl : sLn cid = nl) (hle : nl ≤ 45) (hw : w = nl) (hkd : 1 ≤ kd ∧ kd ≤ 16) (hc : sCl[kd - 1]? = some q) (hq1 : q.1 = "java/util/ArrayList") (h1q : Cond.methodLink own idx yFc ∈ lw_all) (h2q : Cond.instanceMethod yFa ∈ lw_all) (h3q : Cond.selects q.1 yFc yFa ∈ lw_all) (h4q : Cond.code yFa b nl r ∈ lw_all) (h5q : Cond.initialized yFa.cls ∈ lw_all) (hp : (parseMethodDescriptor yFc.desc).map (fun d => d.parameters.length) = some k) (hd : decode cc pc = .ok (.invokeinterface idx cnt, 5)) (hn : pc + 5 = n) : SndC own cc nL nm ret pc (ia_call n (k + 1) kd cid w) := by
  intro G p l e R s m args below meth c Q n0 u0 hC L st M g cid1 vs1 f1 hx hg d o M1 hM hf hlo h1 h2 h3 h4 hN hX
  unfold ia_call at hx
  split at hx
  · next a vs st' hst =>
    split at hx
    · next hb =>
      cases hx
      subst hn
      subst hw
      rw [Bool.and_eq_true] at hb
      obtain ⟨t1, t2, t3⟩ := stk_V (G := G) hst
      have hb1 := Nat.le_of_ble_eq_true hb.1
      have hb2 := Nat.le_of_ble_eq_true hb.2
      intro q1 q2 ok
      refine aw_after (av := (Value.ref (sMu G a) :: vs.map (sV G)).toArray) h1 h2 (fun o9 => (t3 o9.2).2) (fun o9 H locs ls hR hO hl T hT X => ?_) hN hX q1 q2 ok
      have hMet := hM (t3 o9.2).1 (by rw [hnl]; show 1 + xs_c vs ≤ _; exact hb2)
      obtain ⟨c0, cell, c1, c2, c3⟩ := recv_at hC.2.2.2.2.2.1 hR hkd hc hg
      have ha : a ≠ 0 := by omega
      have hK := back_n (R := R) (p := p) (e := e) (below := below) (s := s) (args := args) (len := 5) hMet hy hws hle h4q h5q hC.2.2.2.2.1 hf hlo
      obtain ⟨kB, hkB, -⟩ := Vm.findClass_spec c3
      rw [t2 ha]
      have hF := hO.2.2.2.2.2
      rw [← hq1] at hF
      obtain ⟨f1, f2, f3, f4, f5⟩ := hF
      exact vx_callIF X hC.1 (C := q.1) (x := yFc) (y := yFa) (bytes := b) (maxL := w) (ret := r) hC.2.2.2.1 (hC.2.2.2.2.1 _ h1q) (va_any rfl f1) (va_any rfl f2) (hC.2.2.2.2.1 _ h3q) (hC.2.2.2.2.1 _ h2q) (va_any rfl f3) (va_any rfl f4) (va_any rfl f5) (hC.2.2.2.2.1 _ h4q) yFc_n hK (by rw [hT]; exact c1) c2 c3 hkB rfl (hl.1.trans hC.2.2.1.symm) (argsL := vs.map (sV G)) (rest := st'.map (sV G)) (par_len (y := yFc) hp (by rw [List.length_map, t1])) rfl (by rw [monroom, xs_cat]; omega) (by rw [hC.2.1]; exact hd)
        (pre_at hT hR hC.2.2.2.2.2.1 hO h1 h2 q1 q2 h3 h4 (by rw [List.map_cons]; show _ = (va_rf (sRf G a) :: _).toArray; rw [show sRf G a = some (sMu G a) from if_neg ha]; rfl))
    · cases hx
  · cases hx
end
def yCt : MethodName := ⟨"WeekFoot$Clause", "tells", "(LWeekFoot$State;)V"⟩
theorem yCt_k : (parseMethodDescriptor yCt.desc).map (fun d => d.parameters.length) = some 1 := by decide +kernel
theorem sa_virt {cc : ByteArray} {nL : Nat} {nm : String} {ret : Option FieldType} {pc n : Nat} (hd : decode cc pc = .ok (.invokevirtual 184, 3)) (hn : pc + 3 = n) : SA "WeekFoot" cc nL nm ret pc (ia_virt n 2 2 [(12, 240), (13, 242), (14, 244), (15, 246)]) := by
  refine sa_k ?_ on_virt
  intro G p l e R s m args below meth c Q n0 u0 hC L st M g cid1 vs1 f1 hx hg d o M1 hM hf hlo h1 h2 h3 h4 hN hX
  unfold ia_virt at hx
  split at hx
  · next a vs st' hst =>
    split at hx
    · next q hq =>
      split at hx
      · next hb =>
        cases hx
        have hm := List.mem_of_find?_eq_some hq
        simp only [List.mem_cons, List.not_mem_nil, or_false] at hm
        rcases hm with z | z | z | z <;> subst z
        · exact sc_Uc (cid := 240) (y := yX11_tells) (x := yCt) (owner := "WeekFoot$Clause") (r := none) (nl := 3) rfl rfl rfl (by decide) (by decide) (by decide) rfl q729 q731 q730 ⟨by decide, by decide⟩ q741 q740 q742 q129 yCt_k hd hn hC hst hb hg hM hf hlo h1 h2 h3 h4 hN hX
        · exact sc_Uc (cid := 242) (y := yX12_tells) (x := yCt) (owner := "WeekFoot$Clause") (r := none) (nl := 2) rfl rfl rfl (by decide) (by decide) (by decide) rfl q729 q731 q730 ⟨by decide, by decide⟩ q733 q732 q734 q130 yCt_k hd hn hC hst hb hg hM hf hlo h1 h2 h3 h4 hN hX
        · exact sc_Uc (cid := 244) (y := yX13_tells) (x := yCt) (owner := "WeekFoot$Clause") (r := none) (nl := 2) rfl rfl rfl (by decide) (by decide) (by decide) rfl q729 q731 q730 ⟨by decide, by decide⟩ q738 q737 q739 q131 yCt_k hd hn hC hst hb hg hM hf hlo h1 h2 h3 h4 hN hX
        · exact sc_Uc (cid := 246) (y := yX14_tells) (x := yCt) (owner := "WeekFoot$Clause") (r := none) (nl := 3) rfl rfl rfl (by decide) (by decide) (by decide) rfl q729 q731 q730 ⟨by decide, by decide⟩ q744 q743 q745 q132 yCt_k hd hn hC hst hb hg hM hf hlo h1 h2 h3 h4 hN hX
      · cases hx
    · cases hx
  · cases hx
theorem sa_iface {cc : ByteArray} {nL : Nat} {nm : String} {ret : Option FieldType} {pc n : Nat} (hd : decode cc pc = .ok (.invokeinterface 42 1, 5)) (hn : pc + 5 = n) : SA "java/util/ArrayList" cc nL nm ret pc (ia_call n 1 16 252 1) :=
  sa_k (sc_F (k := 0) rfl rfl rfl (by decide) rfl (by decide) rfl rfl q243 q249 q247 q251 q109 (by decide +kernel) hd hn) on_call
theorem sa_book {own : String} {idx : Nat} {cc : ByteArray} {nL : Nat} {nm : String} {ret : Option FieldType} {pc n : Nat} (h1q : Cond.methodLink own idx ⟨"WeekFoot", "book", "()I"⟩ ∈ lw_all) (hd : decode cc pc = .ok (.invokevirtual idx, 3)) (hn : pc + 3 = n) : SA own cc nL nm ret pc (ia_call n 1 1 24 4) :=
  sa_k (sc_VW (k := 0) (y := yX0_book) rfl (hh := sHh) rfl rfl (by decide) rfl (by decide) rfl h1q q454 q455 q456 q104 ⟨by decide, by decide⟩ (by decide +kernel) hd hn) on_call
