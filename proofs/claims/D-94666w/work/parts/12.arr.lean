/-! SOUNDNESS, 4: arrays, new cells, casts -/
section
variable {own : String} {cc : ByteArray} {nL : Nat} {nm : String} {ret : Option FieldType} {pc n : Nat}
theorem sEl_I {G : SG} {fi fj : Int → Int} {fr : Int → Nat} {kd j : Nat} (h : kd ≤ 102) : sEl G fi fj fr kd j = .int (Int32.ofInt (fi j)) := if_pos h
theorem sEl_J {G : SG} {fi fj : Int → Int} {fr : Int → Nat} {j : Nat} : sEl G fi fj fr 103 j = .long (Int64.ofInt (fj j)) := rfl
theorem sEl_R {G : SG} {fi fj : Int → Int} {fr : Int → Nat} {kd j : Nat} (h : 104 ≤ kd) : sEl G fi fj fr kd j = va_rf (sRf G (fr j)) := by
  unfold sEl
  rw [if_neg (by omega), if_neg (by omega)]
theorem toN {i : Int} (h : 0 ≤ i) : ((i.toNat : Nat) : Int) = i := Int.toNat_of_nonneg h
/-- what is known of an array's class -/
theorem ar_of {G : SG} {U : State} (h : sKn G U) (t0 : Nat) {cA : ClassId} {ty : FieldType} (ht : (sTys G)[t0]? = some (cA, ty)) : ArrOfT U cA ty ∧ va_RA U cA ty := h.1.2 t0 _ ht
theorem snd_iaload (hd : decode cc pc = .ok (.iaload, 1)) (hn : pc + 1 = n) : Snd own cc nL nm ret pc (ia_ldI n 100) := by
  intro G p l e R s m args below meth c Q n0 u0 hC L st M f1 M1 g hx hg h1 h2
  unfold ia_ldI at hx
  split at hx
  · next i a st =>
    cases hx
    subst hn
    refine ⟨⟨Nat.le_refl _, Nat.le_refl _⟩, fun kk => ?_⟩
    intro q1 q2 o H locs ls hR hO hS hl
    obtain ⟨ha, hb, hcell⟩ := ar_at (by omega) hR hg.1
    obtain ⟨hin, hix⟩ := vp_ofI hg.2.1 hg.2.2 (okF_h o.2)
    show W p l e R s m args below meth c H locs _ _ Q (F0 m pc ls (.int (Int32.ofInt i) :: (vR a :: st).map (sV G)))
    rw [sV_cons ha]
    refine W.iald (v := .int (Int32.ofInt (mI M a i))) hC.1 hC.2.1 hcell ((ar_of hC.2.2.2.2.2.1 0 rfl).1 _ _) (fun q => by cases q) (by rw [arrV_size]; exact hin) ?_ rfl rfl hd ?_
    · have := hg.2.1
      have := hg.2.2
      rw [arrV_read _ _ (by rw [hix]; omega), hix, sEl_I (by omega), toN hg.2.1]
    · exact kk q1 q2 ⟨o.1, okF_c (hR.2.2.1.1 _ _) (okF_t (okF_t o.2))⟩ H locs ls hR hO hS hl
  · cases hx
theorem snd_zaload (hd : decode cc pc = .ok (.baload, 1)) (hn : pc + 1 = n) : Snd own cc nL nm ret pc (ia_ldI n 101) := by
  intro G p l e R s m args below meth c Q n0 u0 hC L st M f1 M1 g hx hg h1 h2
  unfold ia_ldI at hx
  split at hx
  · next i a st =>
    cases hx
    subst hn
    refine ⟨⟨Nat.le_refl _, Nat.le_refl _⟩, fun kk => ?_⟩
    intro q1 q2 o H locs ls hR hO hS hl
    obtain ⟨ha, hb, hcell⟩ := ar_at (by omega) hR hg.1
    obtain ⟨hin, hix⟩ := vp_ofI hg.2.1 hg.2.2 (okF_h o.2)
    show W p l e R s m args below meth c H locs _ _ Q (F0 m pc ls (.int (Int32.ofInt i) :: (vR a :: st).map (sV G)))
    rw [sV_cons ha]
    refine W.zald (v := .int (Int32.ofInt (mI M a i))) hC.1 hC.2.1 hcell ((ar_of hC.2.2.2.2.2.1 1 rfl).1 _ _) (fun q => by cases q) (by rw [arrV_size]; exact hin) ?_ rfl rfl hd ?_
    · have := hg.2.1
      have := hg.2.2
      rw [arrV_read _ _ (by rw [hix]; omega), hix, sEl_I (by omega), toN hg.2.1]
    · exact kk q1 q2 ⟨o.1, okF_c (hR.2.2.1.1 _ _) (okF_t (okF_t o.2))⟩ H locs ls hR hO hS hl
  · cases hx
theorem snd_baload (hd : decode cc pc = .ok (.baload, 1)) (hn : pc + 1 = n) : Snd own cc nL nm ret pc (ia_ldI n 102) := by
  intro G p l e R s m args below meth c Q n0 u0 hC L st M f1 M1 g hx hg h1 h2
  unfold ia_ldI at hx
  split at hx
  · next i a st =>
    cases hx
    subst hn
    refine ⟨⟨Nat.le_refl _, Nat.le_refl _⟩, fun kk => ?_⟩
    intro q1 q2 o H locs ls hR hO hS hl
    obtain ⟨ha, hb, hcell⟩ := ar_at (by omega) hR hg.1
    obtain ⟨hin, hix⟩ := vp_ofI hg.2.1 hg.2.2 (okF_h o.2)
    show W p l e R s m args below meth c H locs _ _ Q (F0 m pc ls (.int (Int32.ofInt i) :: (vR a :: st).map (sV G)))
    rw [sV_cons ha]
    refine W.bald (v := .int (Int32.ofInt (mI M a i))) hC.1 hC.2.1 hcell ((ar_of hC.2.2.2.2.2.1 2 rfl).1 _ _) (fun q => by cases q) (by rw [arrV_size]; exact hin) ?_ rfl rfl hd ?_
    · have := hg.2.1
      have := hg.2.2
      rw [arrV_read _ _ (by rw [hix]; omega), hix, sEl_I (by omega), toN hg.2.1]
    · exact kk q1 q2 ⟨o.1, okF_c (hR.2.2.1.1 _ _) (okF_t (okF_t o.2))⟩ H locs ls hR hO hS hl
  · cases hx
theorem snd_laload (hd : decode cc pc = .ok (.laload, 1)) (hn : pc + 1 = n) : Snd own cc nL nm ret pc (ia_ldJ n 103) := by
  intro G p l e R s m args below meth c Q n0 u0 hC L st M f1 M1 g hx hg h1 h2
  unfold ia_ldJ at hx
  split at hx
  · next i a st =>
    cases hx
    subst hn
    refine ⟨⟨Nat.le_refl _, Nat.le_refl _⟩, fun kk => ?_⟩
    intro q1 q2 o H locs ls hR hO hS hl
    obtain ⟨ha, hb, hcell⟩ := ar_at (by omega) hR hg.1
    obtain ⟨hin, hix⟩ := vp_ofI hg.2.1 hg.2.2 (okF_h o.2)
    show W p l e R s m args below meth c H locs _ _ Q (F0 m pc ls (.int (Int32.ofInt i) :: (vR a :: st).map (sV G)))
    rw [sV_cons ha]
    refine W.lald (v := .long (Int64.ofInt (mJ M a i))) hC.1 hC.2.1 hcell ((ar_of hC.2.2.2.2.2.1 3 rfl).1 _ _) (fun q => by cases q) (by rw [arrV_size]; exact hin) ?_ rfl rfl hd ?_
    · have := hg.2.1
      have := hg.2.2
      rw [arrV_read _ _ (by rw [hix]; omega), hix, sEl_J, toN hg.2.1]
    · exact kk q1 q2 ⟨o.1, okF_c (hR.2.2.1.2.1 _ _) (okF_t (okF_t o.2))⟩ H locs ls hR hO hS hl
  · cases hx
theorem snd_aaload {kd : Nat} (hk : 104 ≤ kd ∧ kd ≤ 107) (hd : decode cc pc = .ok (.aaload, 1)) (hn : pc + 1 = n) : Snd own cc nL nm ret pc (ia_ldR n kd) := by
  intro G p l e R s m args below meth c Q n0 u0 hC L st M f1 M1 g hx hg h1 h2
  unfold ia_ldR at hx
  split at hx
  · next i a st =>
    cases hx
    subst hn
    refine ⟨⟨Nat.le_refl _, Nat.le_refl _⟩, fun kk => ?_⟩
    intro q1 q2 o H locs ls hR hO hS hl
    obtain ⟨ha, hb, hcell⟩ := ar_at (by omega) hR hg.1
    obtain ⟨hin, hix⟩ := vp_ofI hg.2.1 hg.2.2 (okF_h o.2)
    show W p l e R s m args below meth c H locs _ _ Q (F0 m pc ls (.int (Int32.ofInt i) :: (vR a :: st).map (sV G)))
    rw [sV_cons ha]
    have hty : ∃ C, ArrOfT s (gA G kd) (.object C) := by
      rcases (show kd = 104 ∨ kd = 105 ∨ kd = 106 ∨ kd = 107 by omega) with z | z | z | z <;> subst z
      · exact ⟨_, (ar_of hC.2.2.2.2.2.1 4 rfl).1⟩
      · exact ⟨_, (ar_of hC.2.2.2.2.2.1 5 rfl).1⟩
      · exact ⟨_, (ar_of hC.2.2.2.2.2.1 6 rfl).1⟩
      · exact ⟨_, (ar_of hC.2.2.2.2.2.1 7 rfl).1⟩
    obtain ⟨C, hty⟩ := hty
    refine W.aald (v := va_rf (sRf G (mR M a i))) hC.1 hC.2.1 hcell (hty _ _) rfl (fun q => by cases q) (by rw [arrV_size]; exact hin) ?_ rfl rfl hd ?_
    · have := hg.2.1
      have := hg.2.2
      rw [arrV_read _ _ (by rw [hix]; omega), hix, sEl_R hk.1, toN hg.2.1]
    · exact kk q1 q2 ⟨o.1, okF_c trivial (okF_t (okF_t o.2))⟩ H locs ls hR hO hS hl
  · cases hx
theorem snd_alen {kd : Nat} (hk : 100 ≤ kd ∧ kd ≤ 107) (hd : decode cc pc = .ok (.arraylength, 1)) (hn : pc + 1 = n) : Snd own cc nL nm ret pc (ia_len n [kd]) := by
  intro G p l e R s m args below meth c Q n0 u0 hC L st M f1 M1 g hx hg h1 h2
  unfold ia_len at hx
  split at hx
  · next a st =>
    cases hx
    subst hn
    refine ⟨⟨Nat.le_refl _, Nat.le_refl _⟩, fun kk => ?_⟩
    intro q1 q2 o H locs ls hR hO hS hl
    have e0 : (mS M a).1 = kd := List.mem_singleton.mp hg
    obtain ⟨ha, hb, hcell⟩ := ar_at hk hR e0
    rw [sV_cons ha]
    have hty : ∃ ty, ArrOfT s (gA G kd) ty := by
      rcases (show kd = 100 ∨ kd = 101 ∨ kd = 102 ∨ kd = 103 ∨ kd = 104 ∨ kd = 105 ∨ kd = 106 ∨ kd = 107 by omega) with z | z | z | z | z | z | z | z <;> subst z
      · exact ⟨_, (ar_of hC.2.2.2.2.2.1 0 rfl).1⟩
      · exact ⟨_, (ar_of hC.2.2.2.2.2.1 1 rfl).1⟩
      · exact ⟨_, (ar_of hC.2.2.2.2.2.1 2 rfl).1⟩
      · exact ⟨_, (ar_of hC.2.2.2.2.2.1 3 rfl).1⟩
      · exact ⟨_, (ar_of hC.2.2.2.2.2.1 4 rfl).1⟩
      · exact ⟨_, (ar_of hC.2.2.2.2.2.1 5 rfl).1⟩
      · exact ⟨_, (ar_of hC.2.2.2.2.2.1 6 rfl).1⟩
      · exact ⟨_, (ar_of hC.2.2.2.2.2.1 7 rfl).1⟩
    obtain ⟨ty, hty⟩ := hty
    refine W.alen (n := Int32.ofInt ((mS M a).2 : Int)) hC.1 hC.2.1 hcell (hty _ _) ?_ rfl rfl hd ?_
    · rw [arrV_size]; exact Int32.ofInt_eq_ofNat.symm
    · refine kk q1 q2 ⟨o.1, okF_c ?_ (okF_t o.2)⟩ H locs ls hR hO hS hl
      have h3 := (hR.2.2.2.2.2 a ha hb).1.2
      show okI _
      unfold okI
      omega
  · cases hx
end
