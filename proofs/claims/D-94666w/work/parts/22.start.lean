/-! SOUNDNESS, 14: from the law's entry -/
/-- the plain memory at the law's entry: the script, the texts -/
def m0 (L : Nat) (xs : Nat → Int32) (sr : Nat → Nat) : XM :=
  (fun a => if a = 1 then (50, L) else if 2 ≤ a ∧ a < 18 then (51, 0) else if 18 ≤ a ∧ a < 34 then (52, sTl.getD (a - 18) 0) else (0, 0),
   fun a i => if a = 1 then (xs i.toNat).toInt else if 18 ≤ a ∧ a < 34 then ((sTx.getD (a - 18) []).getD i.toNat 0).toInt else 0,
   fun _ _ => 0, fun a k => if a = 38 then sr k.toNat else 0, 40, 0)
/-- WHAT IS LEFT: the law's run of the plain machine ends with 1, in its room -/
def LawRuns : Prop := ∀ (L : Nat) (xs : Nat → Int32) (sr : Nat → Nat), L ≤ 384 → ∃ (n d : Nat) (MF : XM), d ≤ 1500 ∧ xrun n d 277 (0, [(0, vR 1)], []) (m0 L xs sr) = some (oI 1, MF) ∧ mN MF ≤ 40 + 751483 ∧ mU MF ≤ 6841656
section
variable {s : State} {args : Array Value}
theorem st_cl {C : String} {T : u_T} {N n : Nat} (hts : ∀ w ∈ lw_tbl, w.before args s = true) (hin : ∀ w ∈ u_ws C T N, w ∈ lw_all) (hi : Cond.instantiable C n ∈ lw_all) : ∃ r : ClassId × (Nat → Nat), u_Kn s C T N r.1 r.2 := by
  obtain ⟨cC, iS, h⟩ := u_known (ws := lw_tbl) (N := N) hts (fun w h => lw_all_tbl (hin w h)) (hts _ (lw_all_tbl hi))
  exact ⟨(cC, iS), h⟩
theorem st_cls (hts : ∀ w ∈ lw_tbl, w.before args s = true) : ∀ c : Nat, ∃ r : ClassId × (Nat → Nat), ∀ q : vw_C, sCl[c]? = some q → u_Kn s q.1 q.2.1 q.2.2 r.1 r.2 := by
  intro c
  match c with
  | 0 => obtain ⟨r, h⟩ := st_cl (C := RX0) (T := TX0) (N := 28) hts in_X0 q144; exact ⟨r, fun q hq => by cases hq; exact h⟩
  | 1 => obtain ⟨r, h⟩ := st_cl (C := RX1) (T := TX1) (N := 1) hts in_X1 q760; exact ⟨r, fun q hq => by cases hq; exact h⟩
  | 2 => obtain ⟨r, h⟩ := st_cl (C := RX2) (T := TX2) (N := 7) hts in_X2 q147; exact ⟨r, fun q hq => by cases hq; exact h⟩
  | 3 => obtain ⟨r, h⟩ := st_cl (C := RX3) (T := TX3) (N := 9) hts in_X3 q772; exact ⟨r, fun q hq => by cases hq; exact h⟩
  | 4 => obtain ⟨r, h⟩ := st_cl (C := RX4) (T := TX4) (N := 7) hts in_X4 q814; exact ⟨r, fun q hq => by cases hq; exact h⟩
  | 5 => obtain ⟨r, h⟩ := st_cl (C := RX5) (T := TX5) (N := 6) hts in_X5 q845; exact ⟨r, fun q hq => by cases hq; exact h⟩
  | 6 => obtain ⟨r, h⟩ := st_cl (C := RX6) (T := TX6) (N := 4) hts in_X6 q358; exact ⟨r, fun q hq => by cases hq; exact h⟩
  | 7 => obtain ⟨r, h⟩ := st_cl (C := RX7) (T := TX7) (N := 63) hts in_X7 q1295; exact ⟨r, fun q hq => by cases hq; exact h⟩
  | 8 => obtain ⟨r, h⟩ := st_cl (C := RX8) (T := TX8) (N := 8) hts in_X8 q459; exact ⟨r, fun q hq => by cases hq; exact h⟩
  | 9 => obtain ⟨r, h⟩ := st_cl (C := RX9) (T := TX9) (N := 7) hts in_X9 q569; exact ⟨r, fun q hq => by cases hq; exact h⟩
  | 10 => obtain ⟨r, h⟩ := st_cl (C := RX11) (T := TX11) (N := 3) hts in_X11 q643; exact ⟨r, fun q hq => by cases hq; exact h⟩
  | 11 => obtain ⟨r, h⟩ := st_cl (C := RX11) (T := TX11) (N := 3) hts in_X11 q643; exact ⟨r, fun q hq => by cases hq; exact h⟩
  | 12 => obtain ⟨r, h⟩ := st_cl (C := RX12) (T := TX12) (N := 2) hts in_X12 q670; exact ⟨r, fun q hq => by cases hq; exact h⟩
  | 13 => obtain ⟨r, h⟩ := st_cl (C := RX13) (T := TX13) (N := 2) hts in_X13 q690; exact ⟨r, fun q hq => by cases hq; exact h⟩
  | 14 => obtain ⟨r, h⟩ := st_cl (C := RX14) (T := TX14) (N := 1) hts in_X14 q704; exact ⟨r, fun q hq => by cases hq; exact h⟩
  | 15 => obtain ⟨r, h⟩ := st_cl (C := RJ2) (T := TJ2) (N := 3) hts in_J2 q155; exact ⟨r, fun q hq => by cases hq; exact h⟩
  | c + 16 => exact ⟨(0, fun _ => 0), fun q hq => by rw [List.getElem?_eq_none (show sCl.length ≤ c + 16 from Nat.le_add_left 16 c)] at hq; cases hq⟩
theorem st_arI {ty : FieldType} (hts : ∀ w ∈ lw_tbl, w.before args s = true) (h : Cond.arrayClass ty ∈ lw_all) : ∃ cA : ClassId, ArrOfT s cA ty ∧ s.vm.findClass ("[" ++ ty.toString) = some cA := by
  obtain ⟨c, k, comp, h1, h2, h3⟩ := Cond.arrayClass_spec (hts _ (lw_all_tbl h))
  exact ⟨c, fun n z => ⟨fun k h => (by cases h), k, h2, comp, h3⟩, h1⟩
theorem st_arR {C : String} (hts : ∀ w ∈ lw_tbl, w.before args s = true) (h : Cond.arrayOver (.object C) ∈ lw_tbl) : ∃ cA : ClassId, ArrOfT s cA (.object C) ∧ va_RA s cA (.object C) := by
  obtain ⟨comp, c, k, h1, h2, h3, h4, h5⟩ := Cond.arrayOver_spec (hts _ h)
  exact ⟨c, fun n z => ⟨fun k h => (by cases h), k, h3, comp, h4⟩, k, comp, h3, h4, h1, h5⟩
abbrev stN : List Cond := flatC (Cond.and given_1 narrow_1)
abbrev stT (i : Nat) : Term := Term.string RX8 (sTs.getD i (0, "")).1
abbrev stV (i : Nat) : Term := Term.field (stT i) "java/lang/String" "value" "[B"
theorem st_m1 : ∀ i : Nat, i < 16 → Cond.exactly (stT i) "java/lang/String" ∈ stN := by decide +kernel
theorem st_m2 : ∀ i : Nat, i < 16 → Cond.eq (.field (stT i) "java/lang/String" "coder" "B") (.int 0) ∈ stN := by decide +kernel
theorem st_m3 : ∀ i : Nat, i < 16 → Cond.arrayOf (stV i) .byte ∈ stN := by decide +kernel
theorem st_m4 : ∀ i : Nat, i < 16 → Cond.eq (.length (stV i)) (.int (Int32.ofNat (sTl.getD i 0))) ∈ stN := by decide +kernel
theorem st_m5 : ∀ i : Nat, i < 16 → ∀ j : Nat, j < sTl.getD i 0 → Cond.eq (.elem (stV i) (.int (Int32.ofNat j))) (.int ((sTx.getD i []).getD j 0)) ∈ stN := by decide +kernel
def stF : Cond → Bool
  | .not (.eq (.string _ _) _) => true
  | _ => false
def stP : List Cond := (List.range 16).flatMap (fun j => (List.range j).map fun i => Cond.not (Cond.eq (stT i) (stT j)))
theorem st_m6l : stN.filter stF = stP := by decide +kernel
theorem st_m6a {i j : Nat} (hj : j < 16) (hi : i < j) : Cond.not (Cond.eq (stT i) (stT j)) ∈ stN := by
  have h : Cond.not (Cond.eq (stT i) (stT j)) ∈ stN.filter stF := by
    rw [st_m6l]
    exact List.mem_flatMap.mpr ⟨j, List.mem_range.mpr hj, List.mem_map.mpr ⟨i, List.mem_range.mpr hi, rfl⟩⟩
  exact (List.mem_filter.mp h).1
theorem st_m6 (i : Nat) (hi : i < 16) (j : Nat) (hj : j < 16) (hn : i ≠ j) : Cond.not (Cond.eq (stT i) (stT j)) ∈ stN ∨ Cond.not (Cond.eq (stT j) (stT i)) ∈ stN := by
  rcases Nat.lt_or_ge i j with h | h
  · exact Or.inl (st_m6a hj h)
  · exact Or.inr (st_m6a hi (by omega))
theorem st_m7 : ∀ i : Nat, i < 16 → Cond.stringRef RX8 (sTs.getD i (0, "")).1 (sTs.getD i (0, "")).2 ∈ lw_tbl := by decide +kernel
theorem st_m8 : ∀ i : Nat, i < 16 → sTl.getD i 0 < 2 ^ 31 := by decide
theorem st_m9 : ∀ k : Nat, k < 3 → Cond.isRef (.static (sSt k).1 (sSt k).2.1 (sSt k).2.2) ∈ stN := by decide +kernel
theorem st_m10 : ∀ k : Nat, k < 3 → Cond.laysStatic (sSt k).1 (sSt k).2.1 (sSt k).2.2 ∈ lw_tbl ∧ Cond.initialized (sSt k).1 ∈ lw_tbl
  | 0, _ => ⟨q539, lw_all_tbl q120⟩
  | 1, _ => ⟨q593, lw_all_tbl q125⟩
  | 2, _ => ⟨q595, lw_all_tbl q125⟩
  | _ + 3, h => absurd h (by omega)
/-- the machine's side at the law's entry -/
theorem st_G {b L : Nat} {xs : Nat → Int32} (hL : L ≤ 384) (hts : ∀ w ∈ lw_tbl, w.before args s = true) (hX : va_X b L xs s s.heap) (hb : b < s.heap.size) (hgv : (Jvm.Cond.and given_1 narrow_1).before args s = true) :
    ∃ (G : SG), gB G = s.heap.size ∧ gO G 1 = b ∧ gL G = L ∧ gX G = xs ∧ sKn G s ∧ sOld G s s.heap := by
  have hs := flat_of_before _ hgv
  have hA : ∀ a : Nat, a < s.heap.size → ¬ (fun q : Nat => s.heap.size ≤ q) a := fun a h => Nat.not_le.mpr h
  obtain ⟨dd, hdd⟩ := Classical.axiomOfChoice (st_cls hts)
  obtain ⟨a0, u0, w0⟩ := st_arI hts q182
  obtain ⟨a1, u1, w1⟩ := st_arI hts q183
  obtain ⟨a2, u2, w2⟩ := st_arI hts q631
  obtain ⟨a3, u3, w3⟩ := st_arI hts q1490
  obtain ⟨a4, u4, w4⟩ := st_arR hts q167
  obtain ⟨a5, u5, w5⟩ := st_arR hts q770
  obtain ⟨a6, u6, w6⟩ := st_arR hts q778
  obtain ⟨a7, u7, w7⟩ := st_arR hts q812
  obtain ⟨adK, adV, hS, hK⟩ := vk_Sof (args := args) (s := s) (N := 16) (tm := stT) (len := sTl) (byt := sTx) (A := fun q : Nat => s.heap.size ≤ q) st_m8 (fun i hi => hs _ (st_m1 i hi)) (fun i hi => hs _ (st_m2 i hi)) (fun i hi => hs _ (st_m3 i hi)) (fun i hi => hs _ (st_m4 i hi)) (fun i hi j hj => hs _ (st_m5 i hi j hj)) (fun i j hi hj hij => (st_m6 i hi j hj hij).elim (fun z => Or.inl (hs _ z)) (fun z => Or.inr (hs _ z))) hA
  have hZ : ∀ k : Nat, ∃ o : Option Nat, k < 3 → va_Z (sSt k).1 (sSt k).2.1 (sSt k).2.2 (va_rf o) (fun q : Nat => s.heap.size ≤ q) s s.heap := by
    intro k
    by_cases hk : k < 3
    · rcases va_Zqof (hts _ (st_m10 k hk).1) (hts _ (st_m10 k hk).2) (hs _ (st_m9 k hk)) hA with h | ⟨t, h⟩
      · exact ⟨none, fun _ => h⟩
      · exact ⟨some t, fun _ => h⟩
    · exact ⟨none, fun h => absurd h hk⟩
  obtain ⟨zz, hzz⟩ := Classical.axiomOfChoice hZ
  obtain ⟨mi, hmi⟩ := va_Mi.of (hs _ (show Cond.isRef (.mirror "[Ljava/lang/Object;") ∈ stN by decide +kernel))
  have hC := va_Zof (C := "java/lang/String") (n := "COMPACT_STRINGS") (d := "Z") (hts _ q523) (hts _ (lw_all_tbl q122)) (va_eqi (hs _ (show Cond.eq (.static "java/lang/String" "COMPACT_STRINGS" "Z") (.int 1) ∈ stN by decide +kernel))) hA
  refine ⟨((fun c => (dd c).1, fun c => (dd c).2), (fun k => match k with | 100 => a0 | 101 => a1 | 102 => a2 | 103 => a3 | 104 => a4 | 105 => a5 | 106 => a6 | _ => a7), s.heap.size,
    (fun k => if k = 1 then b else if k < 18 then adK (k - 2) else if k < 34 then adV (k - 18) else if k = 37 then mi else (zz (k - 34)).getD 0), xs, L, fun k => match zz k with | some _ => 34 + k | none => 0), rfl, rfl, rfl, rfl, ?_, ?_⟩
  · refine ⟨⟨fun c q hq => hdd c q hq, fun k q hq => ?_⟩, fun w hw hk => va_Nw.of (sNk_tab hk) (hts w hw), ?_⟩
    · match k, hq with
      | 0, hq => cases hq; exact ⟨u0, w0⟩
      | 1, hq => cases hq; exact ⟨u1, w1⟩
      | 2, hq => cases hq; exact ⟨u2, w2⟩
      | 3, hq => cases hq; exact ⟨u3, w3⟩
      | 4, hq => cases hq; exact ⟨u4, w4⟩
      | 5, hq => cases hq; exact ⟨u5, w5⟩
      | 6, hq => cases hq; exact ⟨u6, w6⟩
      | 7, hq => cases hq; exact ⟨u7, w7⟩
      | k + 8, hq => cases hq
    · exact ⟨va_AO.of (hts _ q167), va_AO.of (hts _ q770), va_AO.of (hts _ q778), va_AO.of (hts _ q812)⟩
  · refine ⟨⟨hX, hb, Nat.le_refl _⟩, ⟨⟨fun i hi => ?_, fun i j hi hj e => ?_⟩, hC, fun k hk => ?_⟩, fun i hi => ?_, hmi, hL, va_Fw.of (hts _ q245) (hts _ q244) (hts _ q250) (hts _ q248) (hts _ q246)⟩
    · have h := hS.1 i hi
      have e1 : (if 2 + i = 1 then b else if 2 + i < 18 then adK (2 + i - 2) else if 2 + i < 34 then adV (2 + i - 18) else if 2 + i = 37 then mi else (zz (2 + i - 34)).getD 0) = adK i := by
        rw [if_neg (by omega), if_pos (by omega), Nat.add_sub_cancel_left]
      have e2 : (if 18 + i = 1 then b else if 18 + i < 18 then adK (18 + i - 2) else if 18 + i < 34 then adV (18 + i - 18) else if 18 + i = 37 then mi else (zz (18 + i - 34)).getD 0) = adV i := by
        rw [if_neg (by omega), if_neg (by omega), if_pos (by omega), Nat.add_sub_cancel_left]
      rw [← e1, ← e2] at h
      exact h
    · refine hS.2 i j hi hj ?_
      have e1 : (if 2 + i = 1 then b else if 2 + i < 18 then adK (2 + i - 2) else if 2 + i < 34 then adV (2 + i - 18) else if 2 + i = 37 then mi else (zz (2 + i - 34)).getD 0) = adK i := by
        rw [if_neg (by omega), if_pos (by omega), Nat.add_sub_cancel_left]
      have e2 : (if 2 + j = 1 then b else if 2 + j < 18 then adK (2 + j - 2) else if 2 + j < 34 then adV (2 + j - 18) else if 2 + j = 37 then mi else (zz (2 + j - 34)).getD 0) = adK j := by
        rw [if_neg (by omega), if_pos (by omega), Nat.add_sub_cancel_left]
      rw [← e1, ← e2]
      exact e
    · have h := hzz k hk
      have e3 : sRf ((((fun c => (dd c).1, fun c => (dd c).2), (fun k => match k with | 100 => a0 | 101 => a1 | 102 => a2 | 103 => a3 | 104 => a4 | 105 => a5 | 106 => a6 | _ => a7), s.heap.size,
    (fun k => if k = 1 then b else if k < 18 then adK (k - 2) else if k < 34 then adV (k - 18) else if k = 37 then mi else (zz (k - 34)).getD 0), xs, L, fun k => match zz k with | some _ => 34 + k | none => 0) : SG)) (match zz k with | some _ => 34 + k | none => 0) = zz k := by
        cases hz : zz k with
        | none => rfl
        | some t =>
          show sRf _ (34 + k) = _
          rw [show sRf _ (34 + k) = some (sMu _ (34 + k)) from if_neg (by omega), sMu_old (by omega)]
          show some (if 34 + k = 1 then b else if 34 + k < 18 then adK (34 + k - 2) else if 34 + k < 34 then adV (34 + k - 18) else if 34 + k = 37 then mi else (zz (34 + k - 34)).getD 0) = _
          rw [if_neg (by omega), if_neg (by omega), if_neg (by omega), if_neg (by omega), Nat.add_sub_cancel_left, hz]; rfl
      rw [← e3] at h
      exact h
    · have e1 : (if 2 + i = 1 then b else if 2 + i < 18 then adK (2 + i - 2) else if 2 + i < 34 then adV (2 + i - 18) else if 2 + i = 37 then mi else (zz (2 + i - 34)).getD 0) = adK i := by
        rw [if_neg (by omega), if_pos (by omega), Nat.add_sub_cancel_left]
      have h := vk_R.of (hts _ (st_m7 i hi)) (hK i hi)
      rw [← e1] at h
      exact h
end
