/-! SOUNDNESS, 1: the machine's heap behind the plain memory -/
/-- class numbers and slots, array classes, the first new address, old addresses, the script, its length, what the statics of references hold -/
abbrev SG : Type := va_G × (Nat → ClassId) × Nat × (Nat → Nat) × (Nat → Int32) × Nat × (Nat → Nat)
def gD (G : SG) : va_G := G.1
def gA (G : SG) : Nat → ClassId := G.2.1
def gB (G : SG) : Nat := G.2.2.1
def gO (G : SG) : Nat → Nat := G.2.2.2.1
def gX (G : SG) : Nat → Int32 := G.2.2.2.2.1
def gL (G : SG) : Nat := G.2.2.2.2.2.1
def gV (G : SG) : Nat → Nat := G.2.2.2.2.2.2
def sMu (G : SG) (k : Nat) : Nat := if k < 40 then gO G k else gB G + (k - 40)
def sRf (G : SG) (k : Nat) : Option Nat := if k = 0 then none else some (sMu G k)
def sV (G : SG) : XV → Value
  | .inl x => .int (Int32.ofInt x)
  | .inr (.inl x) => .long (Int64.ofInt x)
  | .inr (.inr a) => va_rf (sRf G a)
abbrev sCl : List vw_C := [(RX0, TX0, 28), (RX1, TX1, 1), (RX2, TX2, 7), (RX3, TX3, 9), (RX4, TX4, 7), (RX5, TX5, 6), (RX6, TX6, 4), (RX7, TX7, 63), (RX8, TX8, 8), (RX9, TX9, 7), (RX11, TX11, 3), (RX11, TX11, 3), (RX12, TX12, 2), (RX13, TX13, 2), (RX14, TX14, 1), (RJ2, TJ2, 3)]
def sNf : Nat → Nat
  | 1 => 28 | 2 => 1 | 3 => 7 | 4 => 9 | 5 => 7 | 6 => 6 | 7 => 4 | 8 => 63 | 9 => 8 | 10 => 7 | 11 => 3 | 12 => 3 | 13 => 2 | 14 => 2 | 15 => 1 | 16 => 3 | _ => 0
def sTyp : Nat → Nat → FieldType
  | 1 => tyX0 | 2 => tyX1 | 3 => tyX2 | 4 => tyX3 | 5 => tyX4 | 6 => tyX5 | 7 => tyX6 | 8 => tyX7 | 9 => tyX8 | 10 => tyX9 | 11 => tyX11 | 12 => tyX11 | 13 => tyX12 | 14 => tyX13 | 15 => tyX14 | 16 => tyJ2 | _ => fun _ => .int
def sTy : Nat → FieldType
  | 100 => .int | 101 => .boolean | 102 => .byte | 103 => .long | 104 => .object "java/lang/Object" | 105 => .object RX2 | 106 => .object RX1 | _ => .object RX6
def sTys (G : SG) : List (ClassId × FieldType) := [(gA G 100, .int), (gA G 101, .boolean), (gA G 102, .byte), (gA G 103, .long), (gA G 104, .object "java/lang/Object"), (gA G 105, .object RX2), (gA G 106, .object RX1), (gA G 107, .object RX6)]
def sFv (G : SG) (fi fj : Int → Int) (fr : Int → Nat) (k : Nat) : FieldType → Value
  | .long => .long (Int64.ofInt (fj k))
  | .object _ => va_rf (sRf G (fr k))
  | .array _ => va_rf (sRf G (fr k))
  | _ => .int (Int32.ofInt (fi k))
def sEl (G : SG) (fi fj : Int → Int) (fr : Int → Nat) (kd j : Nat) : Value := if kd ≤ 102 then .int (Int32.ofInt (fi j)) else if kd = 103 then .long (Int64.ofInt (fj j)) else va_rf (sRf G (fr j))
def sAt (G : SG) (sh : Nat × Nat) (fi fj : Int → Int) (fr : Int → Nat) (a : Nat) (H : Heap) : Prop :=
  if sh.1 < 100 then t_OB (sMu G a) ((gD G).1 (sh.1 - 1)) (sNf sh.1) ((gD G).2 (sh.1 - 1)) H (fun k => sFv G fi fj fr k (sTyp sh.1 k))
  else H[sMu G a]? = some (arrV (gA G sh.1) sh.2 (fun j => sEl G fi fj fr sh.1 j))
def okI (x : Int) : Prop := -2147483648 ≤ x ∧ x < 2147483648
def okL (x : Int) : Prop := -9223372036854775808 ≤ x ∧ x < 9223372036854775808
def okV : XV → Prop
  | .inl x => okI x
  | .inr (.inl x) => okL x
  | .inr (.inr _) => True
/-- kinds that lie in lists -/
def okE : List Nat := [7, 12, 13, 14, 15]
def okM (M : XM) : Prop := (∀ a i, okI (mI M a i)) ∧ (∀ a i, okL (mJ M a i)) ∧ (∀ a i, (mS M a).1 = 101 → mI M a i = 0 ∨ mI M a i = 1) ∧ (∀ a i, (mS M a).1 = 102 → -128 ≤ mI M a i ∧ mI M a i < 128) ∧ (∀ a i, (mS M a).1 = 104 → mR M a i = 0 ∨ (mS M (mR M a i)).1 ∈ okE)
/-- kinds of new cells -/
def okK (k : Nat) : Prop := (1 ≤ k ∧ k ≤ 16) ∨ (100 ≤ k ∧ k ≤ 107)
def okS (M : XM) : Prop := ∀ a, (mS M a).1 ≠ 0 → (a = 1 ∧ (mS M a).1 = 50) ∨ ((2 ≤ a ∧ a < 34) ∧ 51 ≤ (mS M a).1 ∧ (mS M a).1 ≤ 52) ∨ ((40 ≤ a ∧ a < mN M) ∧ okK (mS M a).1)
/-- the texts of the tables, by their places -/
def sTx : List (List Int32) := [[119, 101, 101, 107], [116, 111], [98, 121], [110, 111, 98, 111, 100, 121], [107, 101, 101, 112, 101, 114], [98, 101, 108, 111, 119], [116, 104, 105, 110, 103], [99, 117, 116], [110, 101, 118, 101, 114], [105, 110], [105, 115], [119, 104, 111, 108, 101], [104, 97, 108, 102], [101, 120, 97, 99, 116], [44], [59]]
def sTl : List Nat := [4, 2, 2, 6, 6, 5, 5, 3, 5, 2, 2, 5, 4, 5, 1, 1]
def sTs : List (Nat × String) := [(86, "week"), (104, "to"), (105, "by"), (113, "nobody"), (91, "keeper"), (122, "below"), (96, "thing"), (128, "cut"), (130, "never"), (135, "in"), (147, "is"), (148, "whole"), (150, "half"), (152, "exact"), (145, ","), (84, ";")]
def okO (G : SG) (M : XM) : Prop := (mS M 1 = (50, gL G) ∧ (∀ j : Nat, j < gL G → mI M 1 j = (gX G j).toInt)) ∧ (∀ i : Nat, i < 16 → ((mS M (2 + i)).1 = 51 ∧ mS M (18 + i) = (52, sTl.getD i 0)) ∧ ∀ j : Nat, j < sTl.getD i 0 → mI M (18 + i) j = ((sTx.getD i []).getD j 0).toInt) ∧ ((∀ a, 2 ≤ a → a < 18 → (mS M a).1 ≠ 52) ∧ ∀ a, 18 ≤ a → a < 34 → (mS M a).1 ≠ 51) ∧ ∀ k : Nat, k < 3 → mR M 38 k = gV G k
def sRel (G : SG) (M : XM) (H : Heap) : Prop := 40 ≤ mN M ∧ H.size = gB G + (mN M - 40) ∧ okM M ∧ okS M ∧ okO G M ∧ ∀ a, 40 ≤ a → a < mN M → (okK (mS M a).1 ∧ (mS M a).2 ≤ 1000) ∧ sAt G (mS M a) (mI M a) (mJ M a) (mR M a) a H
theorem okS_new {M : XM} (h : okS M) {a kd : Nat} (hk : okK kd) (e : (mS M a).1 = kd) : 40 ≤ a ∧ a < mN M := by
  have h1 := h a (by rw [e]; rcases hk with q | q <;> omega)
  rcases h1 with ⟨-, q⟩ | ⟨-, q⟩ | ⟨q, -⟩
  · rw [e] at q; rcases hk with z | z <;> omega
  · rw [e] at q; rcases hk with z | z <;> omega
  · exact q
theorem sMu_new {G : SG} {a : Nat} (h : 40 ≤ a) : sMu G a = gB G + (a - 40) := if_neg (by omega)
theorem sMu_inj {G : SG} {a b : Nat} (ha : 40 ≤ a) (hb : 40 ≤ b) (h : sMu G a = sMu G b) : a = b := by
  rw [sMu_new ha, sMu_new hb] at h; omega
theorem sRf_new {G : SG} {a : Nat} (h : 40 ≤ a) : sRf G a = some (sMu G a) := if_neg (by omega)
theorem sV_ref {G : SG} {a : Nat} (h : 40 ≤ a) : sV G (vR a) = .ref (sMu G a) := by
  show va_rf (sRf G a) = _
  rw [sRf_new h]; rfl
theorem sAt.kept {G : SG} {sh : Nat × Nat} {fi fj : Int → Int} {fr : Int → Nat} {a : Nat} {H H1 : Heap} (h : sAt G sh fi fj fr a H) (e : H1[sMu G a]? = H[sMu G a]?) : sAt G sh fi fj fr a H1 := by
  unfold sAt at h ⊢
  split
  · next q => rw [if_pos q] at h; exact h.kept e
  · next q => rw [if_neg q] at h; rw [e]; exact h
theorem sRel.wr {G : SG} {M M1 : XM} {H H1 : Heap} {a : Nat} (h : sRel G M H) (ha : 40 ≤ a) (hs : mS M1 = mS M) (hn : mN M1 = mN M) (ho : ∀ b, b ≠ a → mI M1 b = mI M b ∧ mJ M1 b = mJ M b ∧ mR M1 b = mR M b) (hk : okM M1)
    (hat : sAt G (mS M a) (mI M1 a) (mJ M1 a) (mR M1 a) a H1) (z : H1.size = H.size) (oq : ∀ q : Nat, q ≠ sMu G a → H1[q]? = H[q]?) : sRel G M1 H1 := by
  obtain ⟨h1, h2, h3, h4, h5, h6⟩ := h
  refine ⟨by rw [hn]; exact h1, by rw [z, hn]; exact h2, hk, ?_, ?_, ?_⟩
  · intro b hb
    rw [hs] at hb ⊢
    rw [hn]
    exact h4 b hb
  · refine ⟨⟨by rw [hs]; exact h5.1.1, fun j hj => ?_⟩, fun i hi => ⟨by rw [hs]; exact (h5.2.1 i hi).1, fun j hj => ?_⟩, by rw [hs]; exact h5.2.2.1, fun k hk => ?_⟩
    · rw [(ho 1 (by omega)).1]
      exact h5.1.2 j hj
    · rw [(ho (18 + i) (by omega)).1]
      exact (h5.2.1 i hi).2 j hj
    · rw [(ho 38 (by omega)).2.2]
      exact h5.2.2.2 k hk
  · intro b hb1 hb2
    rw [hn] at hb2
    rw [hs]
    by_cases e : b = a
    · subst e
      exact ⟨(h6 b hb1 hb2).1, hat⟩
    · obtain ⟨q1, q2, q3⟩ := ho b e
      rw [q1, q2, q3]
      exact ⟨(h6 b hb1 hb2).1, (h6 b hb1 hb2).2.kept (oq _ (fun z => e (sMu_inj hb1 ha z)))⟩
theorem sRel.nw {G : SG} {M : XM} {H H1 : Heap} {kd n u : Nat} (h : sRel G M H) (hk : okK kd) (hle : n ≤ 1000)
    (hat : sAt G (kd, n) (fun _ => 0) (fun _ => 0) (fun _ => 0) (mN M) H1) (z : H1.size = H.size + 1) (oq : ∀ q : Nat, q < H.size → H1[q]? = H[q]?) : sRel G (nO M kd n u) H1 := by
  obtain ⟨h1, h2, h3, h4, h5, h6⟩ := h
  refine ⟨by rw [mN_nO]; omega, by rw [z, mN_nO, h2]; omega, ?_, ?_, ?_, ?_⟩
  · obtain ⟨q1, q2, q3, q4, q5⟩ := h3
    refine ⟨fun a i => ?_, fun a i => ?_, fun a i => ?_, fun a i => ?_, fun a i => ?_⟩
    · rw [mI_nO]; unfold up; split
      · show okI 0; unfold okI; omega
      · exact q1 a i
    · rw [mJ_nO]; unfold up; split
      · show okL 0; unfold okL; omega
      · exact q2 a i
    · rw [mI_nO, mS_nO]; unfold up; split
      · intro _; exact Or.inl rfl
      · exact q3 a i
    · rw [mI_nO, mS_nO]; unfold up; split
      · intro _; show -128 ≤ (0 : Int) ∧ (0 : Int) < 128; omega
      · exact q4 a i
    · rw [mR_nO, mS_nO]
      by_cases e : a = mN M
      · subst e
        intro _; left; rw [up_s]
      · rw [up_n _ _ e, up_n _ _ e]
        intro z
        rcases q5 a i z with w | w
        · exact Or.inl w
        · right
          have e2 : mR M a i ≠ mN M := by
            intro e3
            rw [e3] at w
            have h7 : (mS M (mN M)).1 ≠ 0 := by intro e4; rw [e4] at w; revert w; decide
            rcases h4 _ h7 with ⟨x, -⟩ | ⟨x, -⟩ | ⟨x, -⟩ <;> omega
          rw [up_n _ _ e2]
          exact w
  · intro a ha
    rw [mS_nO] at ha ⊢
    rw [mN_nO]
    by_cases e : a = mN M
    · subst e
      rw [up_s]
      exact Or.inr (Or.inr ⟨⟨h1, by omega⟩, hk⟩)
    · rw [up_n _ _ e] at ha ⊢
      rcases h4 a ha with q | q | ⟨q1, q2⟩
      · exact Or.inl q
      · exact Or.inr (Or.inl q)
      · exact Or.inr (Or.inr ⟨⟨q1.1, by omega⟩, q2⟩)
  · refine ⟨⟨by rw [mS_nO, up_n _ _ (by omega)]; exact h5.1.1, fun j hj => ?_⟩, fun i hi => ⟨by rw [mS_nO, up_n _ _ (by omega), up_n _ _ (by omega)]; exact (h5.2.1 i hi).1, fun j hj => ?_⟩, ⟨fun a h7 h8 => ?_, fun a h7 h8 => ?_⟩, fun k hk => ?_⟩
    · rw [mI_nO, up_n _ _ (by omega)]
      exact h5.1.2 j hj
    · rw [mI_nO, up_n _ _ (by omega)]
      exact (h5.2.1 i hi).2 j hj
    · rw [mS_nO, up_n _ _ (by omega)]
      exact h5.2.2.1.1 a h7 h8
    · rw [mS_nO, up_n _ _ (by omega)]
      exact h5.2.2.1.2 a h7 h8
    · rw [mR_nO, up_n _ _ (by omega)]
      exact h5.2.2.2 k hk
  · intro a ha hb
    rw [mN_nO] at hb
    rw [mS_nO, mI_nO, mJ_nO, mR_nO]
    by_cases e : a = mN M
    · subst e
      rw [up_s, up_s, up_s, up_s]
      exact ⟨⟨hk, hle⟩, hat⟩
    · rw [up_n _ _ e, up_n _ _ e, up_n _ _ e, up_n _ _ e]
      have q := h6 a ha (by omega)
      refine ⟨q.1, q.2.kept (oq _ ?_)⟩
      rw [sMu_new ha, h2]
      omega
/-! the tables' words that ride along -/
def sNk : Cond → Bool
  | .fieldLinkNest .. => true
  | .methodLinkNest .. => true
  | .castable .. => true
  | .declares .. => true
  | _ => false
theorem sNk_tab {w : Cond} (h : sNk w = true) : w.onTables = true := by
  cases w <;> first | rfl | cases h
theorem sNk_warm {w : Cond} (h : sNk w = true) {s U : State} (hW : s.WarmedH U.vm) (hZ : va_Nw w s) : va_Nw w U := by
  cases w <;> first
    | exact va_Nw.warmF hW hZ
    | exact va_Nw.warmM hW hZ
    | exact va_Nw.warmC hW hZ
    | exact va_Nw.warmD hW hZ
    | cases h
def sKn (G : SG) (U : State) : Prop := va_K (gD G) sCl (sTys G) U ∧ (∀ w ∈ lw_tbl, sNk w = true → va_Nw w U) ∧ (va_AO "java/lang/Object" U ∧ va_AO RX2 U ∧ va_AO RX1 U ∧ va_AO RX6 U)
theorem sKn.warm {G : SG} {s U : State} (hW : s.WarmedH U.vm) (h : sKn G s) : sKn G U :=
  ⟨va_K.moved hW.alike h.1, fun w hw hk => sNk_warm hk hW (h.2.1 w hw hk), va_AO.moved hW.alike h.2.2.1, va_AO.moved hW.alike h.2.2.2.1, va_AO.moved hW.alike h.2.2.2.2.1, va_AO.moved hW.alike h.2.2.2.2.2⟩
theorem sKn.same {G : SG} {s U : State} (hv : s.vm = U.vm) (h : sKn G s) : sKn G U :=
  have ha : s.vm.Alike U.vm := by rw [hv]; exact Vm.Alike.refl U.vm
  ⟨va_K.moved ha h.1, fun w hw hk => va_Nw.same (sNk_tab hk) hv (h.2.1 w hw hk), va_AO.moved ha h.2.2.1, va_AO.moved ha h.2.2.2.1, va_AO.moved ha h.2.2.2.2.1, va_AO.moved ha h.2.2.2.2.2⟩
/-- what stands in the old part of the heap -/
abbrev sFr (G : SG) : Nat → Prop := fun q => gB G ≤ q
/-- statics of references: whose, name, type -/
def sSt : Nat → String × String × String
  | 0 => ("jdk/internal/util/Preconditions", "SIOOBE_FORMATTER", "Ljava/util/function/BiFunction;")
  | 1 => ("java/lang/Throwable", "UNASSIGNED_STACK", "[Ljava/lang/StackTraceElement;")
  | _ => ("java/lang/Throwable", "SUPPRESSED_SENTINEL", "Ljava/util/List;")
def yFc : MethodName := ⟨"java/util/Collection", "toArray", "()[Ljava/lang/Object;"⟩
def yFa : MethodName := ⟨"java/util/ArrayList", "toArray", "()[Ljava/lang/Object;"⟩
theorem yFc_n : yFc.cls ≠ "java/lang/invoke/MethodHandle" ∧ yFc.cls ≠ "java/lang/invoke/VarHandle" := ⟨by decide, by decide⟩
def sOs (G : SG) (U : State) (H : Heap) : Prop := va_Z "java/lang/String" "COMPACT_STRINGS" "Z" (.int 1) (sFr G) U H ∧ ∀ k : Nat, k < 3 → va_Z (sSt k).1 (sSt k).2.1 (sSt k).2.2 (va_rf (sRf G (gV G k))) (sFr G) U H
def sOld (G : SG) (U : State) (H : Heap) : Prop := (va_X (gO G 1) (gL G) (gX G) U H ∧ gO G 1 < gB G ∧ gB G ≤ H.size) ∧ (vk_S 16 sTl sTx (fun i => gO G (2 + i)) (fun i => gO G (18 + i)) (sFr G) U H ∧ sOs G U H) ∧ (∀ i : Nat, i < 16 → vk_R RX8 (sTs.getD i (0, "")).1 (sTs.getD i (0, "")).2 (gO G (2 + i)) U) ∧ va_Mi "[Ljava/lang/Object;" (gO G 37) U ∧ gL G ≤ 384 ∧ va_Fw "java/util/ArrayList" yFc yFa U
theorem sOs.moved {G : SG} {s U : State} {H : Heap} (ha : s.vm.Alike U.vm) (h : sOs G s H) : sOs G U H := ⟨va_Z.moved ha h.1, fun k hk => va_Z.moved ha (h.2 k hk)⟩
theorem sOld.warm {G : SG} {s U : State} {H : Heap} (hW : s.WarmedH U.vm) (h : sOld G s H) : sOld G U H := ⟨⟨va_X.moved hW.alike h.1.1, h.1.2⟩, ⟨vk_S.moved hW.alike h.2.1.1, h.2.1.2.moved hW.alike⟩, fun i hi => vk_R.warm hW (h.2.2.1 i hi), va_Mi.moved hW.alike h.2.2.2.1, h.2.2.2.2.1, va_Fw.moved yFc_n hW.alike h.2.2.2.2.2⟩
theorem sOld.same {G : SG} {s U : State} {H : Heap} (hv : s.vm = U.vm) (h : sOld G s H) : sOld G U H :=
  have ha : s.vm.Alike U.vm := by rw [hv]; exact Vm.Alike.refl U.vm
  ⟨⟨va_X.moved ha h.1.1, h.1.2⟩, ⟨vk_S.moved ha h.2.1.1, h.2.1.2.moved ha⟩, fun i hi => vk_R.same hv.symm (h.2.2.1 i hi), va_Mi.moved ha h.2.2.2.1, h.2.2.2.2.1, va_Fw.moved yFc_n ha h.2.2.2.2.2⟩
theorem sOld.kept {G : SG} {U : State} {H H1 : Heap} (h : sOld G U H) (hz : H.size ≤ H1.size) (hq : ∀ q : Nat, q < gB G → H1[q]? = H[q]?) : sOld G U H1 :=
  have hk : ∀ q : Nat, q < H.size → ¬ sFr G q → H1[q]? = H[q]? := fun q _ hn => hq q (Nat.lt_of_not_le hn)
  ⟨⟨h.1.1.kept (hq _ h.1.2.1), h.1.2.1, Nat.le_trans h.1.2.2 hz⟩, ⟨h.2.1.1.kept hk, h.2.1.2.1.kept hk, fun k hk1 => (h.2.1.2.2 k hk1).kept hk⟩, h.2.2⟩
/-- where a method's frame stands -/
def Cx (G : SG) (own : String) (cc : ByteArray) (nL : Nat) (nm : String) (ret : Option FieldType) (p : Program) (R : Room) (s : State) (m : MethodId) (args : Array Value) (meth : Method) (c : Code) : Prop :=
  p.tables.exec = Jvm.exec ∧ c.code = cc ∧ c.maxLocals = nL ∧ s.vm.findClass own = some m.cls ∧ (∀ w ∈ lw_all, w.before args s = true) ∧ sKn G s ∧ meth.name = nm ∧ meth.sig.returnType = ret ∧ meth.locks = false ∧ gB G ≤ s.heap.size ∧ 8 ≤ R.frames ∧ 512 ≤ R.locals
def okF (L : XL) (st : List XV) : Prop := (∀ q ∈ L, okV q.2) ∧ ∀ v ∈ st, okV v
def sL (G : SG) (L : XL) : List (Nat × Value) := L.map (fun q => (q.1, sV G q.2))
/-- from the plain frame the machine comes to Q -/
def AW (G : SG) (nL : Nat) (p : Program) (l : Launch) (e : Env) (R : Room) (s : State) (m : MethodId) (args : Array Value) (below : List Frame) (meth : Method) (c : Code) (Q : State → Prop) (n0 u0 pc : Nat) (L : XL) (st : List XV) (M : XM) : Prop :=
  n0 ≤ mN M → u0 ≤ mU M → okF L st → ∀ (H : Heap) (locs : List Loc) (ls : Array Slot), sRel G M H → sOld G s H → va_S (sFr G) s.heap H locs → lv_has ls nL (sL G L) →
    W p l e R s m args below meth c H locs (mN M - n0) (mU M - u0) Q (F0 m pc ls (st.map (sV G)))
/-- one instruction: a step of the plain machine is a step of the machine -/
def Snd (own : String) (cc : ByteArray) (nL : Nat) (nm : String) (ret : Option FieldType) (pc : Nat) (xi : XI) : Prop :=
  ∀ (G : SG) (p : Program) (l : Launch) (e : Env) (R : Room) (s : State) (m : MethodId) (args : Array Value) (below : List Frame) (meth : Method) (c : Code) (Q : State → Prop) (n0 u0 : Nat), Cx G own cc nL nm ret p R s m args meth c → ∀ (L : XL) (st : List XV) (M : XM) (f1 : XF) (M1 : XM) (g : Prop), xi L st M = rN g f1 M1 → g → mN M1 ≤ n0 + R.cells → mU M1 ≤ u0 + R.slots →
    (mN M ≤ mN M1 ∧ mU M ≤ mU M1) ∧ (AW G nL p l e R s m args below meth c Q n0 u0 f1.1 f1.2.1 f1.2.2 M1 → AW G nL p l e R s m args below meth c Q n0 u0 pc L st M)
/-- a branch -/
def SndB (own : String) (cc : ByteArray) (nL : Nat) (nm : String) (ret : Option FieldType) (pc : Nat) (xi : XI) : Prop :=
  ∀ (G : SG) (p : Program) (l : Launch) (e : Env) (R : Room) (s : State) (m : MethodId) (args : Array Value) (below : List Frame) (meth : Method) (c : Code) (Q : State → Prop) (n0 u0 : Nat), Cx G own cc nL nm ret p R s m args meth c → ∀ (L : XL) (st : List XV) (M : XM),
    (∀ (k : Prop) (f1 f2 : XF), xi L st M = rB k f1 f2 → (k → AW G nL p l e R s m args below meth c Q n0 u0 f1.1 f1.2.1 f1.2.2 M) → (¬ k → AW G nL p l e R s m args below meth c Q n0 u0 f2.1 f2.2.1 f2.2.2 M) → AW G nL p l e R s m args below meth c Q n0 u0 pc L st M) ∧
    (∀ (cs : List (Prop × XF)) (f1 : XF), xi L st M = rM cs → xc_pick cs = some f1 → AW G nL p l e R s m args below meth c Q n0 u0 f1.1 f1.2.1 f1.2.2 M → AW G nL p l e R s m args below meth c Q n0 u0 pc L st M)
