/-! SOUNDNESS, 3: fields, arrays, new cells -/
/-- what is known of the kind kd -/
abbrev sCi (kd : Nat) (C : String) (T : u_T) (N : Nat) (ty : Nat → FieldType) : Prop :=
  (1 ≤ kd ∧ kd ≤ 16) ∧ sCl[kd - 1]? = some (C, T, N) ∧ sNf kd = N ∧ sTyp kd = ty ∧ (∀ w ∈ u_ws C T N, w ∈ lw_all) ∧ (∀ k, k < N → parseFieldDescriptor (T k).2.2.1 = some (ty k)) ∧ ∀ a, a < N → ∀ b, b < N → a ≠ b → (T a).2.1 ≠ (T b).2.1
theorem ci_1 : sCi 1 RX0 TX0 28 tyX0 := ⟨by decide, rfl, rfl, rfl, in_X0, tyX0_ok, nmX0⟩
theorem ci_2 : sCi 2 RX1 TX1 1 tyX1 := ⟨by decide, rfl, rfl, rfl, in_X1, tyX1_ok, nmX1⟩
theorem ci_3 : sCi 3 RX2 TX2 7 tyX2 := ⟨by decide, rfl, rfl, rfl, in_X2, tyX2_ok, nmX2⟩
theorem ci_4 : sCi 4 RX3 TX3 9 tyX3 := ⟨by decide, rfl, rfl, rfl, in_X3, tyX3_ok, nmX3⟩
theorem ci_5 : sCi 5 RX4 TX4 7 tyX4 := ⟨by decide, rfl, rfl, rfl, in_X4, tyX4_ok, nmX4⟩
theorem ci_6 : sCi 6 RX5 TX5 6 tyX5 := ⟨by decide, rfl, rfl, rfl, in_X5, tyX5_ok, nmX5⟩
theorem ci_7 : sCi 7 RX6 TX6 4 tyX6 := ⟨by decide, rfl, rfl, rfl, in_X6, tyX6_ok, nmX6⟩
theorem ci_8 : sCi 8 RX7 TX7 63 tyX7 := ⟨by decide, rfl, rfl, rfl, in_X7, tyX7_ok, nmX7⟩
theorem ci_9 : sCi 9 RX8 TX8 8 tyX8 := ⟨by decide, rfl, rfl, rfl, in_X8, tyX8_ok, nmX8⟩
theorem ci_10 : sCi 10 RX9 TX9 7 tyX9 := ⟨by decide, rfl, rfl, rfl, in_X9, tyX9_ok, nmX9⟩
theorem ci_12 : sCi 12 RX11 TX11 3 tyX11 := ⟨by decide, rfl, rfl, rfl, in_X11, tyX11_ok, nmX11⟩
theorem ci_13 : sCi 13 RX12 TX12 2 tyX12 := ⟨by decide, rfl, rfl, rfl, in_X12, tyX12_ok, nmX12⟩
theorem ci_14 : sCi 14 RX13 TX13 2 tyX13 := ⟨by decide, rfl, rfl, rfl, in_X13, tyX13_ok, nmX13⟩
theorem ci_15 : sCi 15 RX14 TX14 1 tyX14 := ⟨by decide, rfl, rfl, rfl, in_X14, tyX14_ok, nmX14⟩
theorem ci_16 : sCi 16 RJ2 TJ2 3 tyJ2 := ⟨by decide, rfl, rfl, rfl, in_J2, tyJ2_ok, nmJ2⟩
theorem sV_cons {G : SG} {a : Nat} {st : List XV} (h : 40 ≤ a) : (vR a :: st).map (sV G) = .ref (sMu G a) :: st.map (sV G) := by rw [List.map_cons, sV_ref h]
theorem ci_at {G : SG} {M : XM} {H : Heap} {a kd N : Nat} {C : String} {T : u_T} {ty : Nat → FieldType} (hci : sCi kd C T N ty) (hR : sRel G M H) (e : (mS M a).1 = kd) :
    40 ≤ a ∧ a < mN M ∧ t_OB (sMu G a) ((gD G).1 (kd - 1)) N ((gD G).2 (kd - 1)) H (fun k => sFv G (mI M a) (mJ M a) (mR M a) k (ty k)) := by
  obtain ⟨h1, h2⟩ := okS_new hR.2.2.2.1 (Or.inl hci.1) e
  have h3 := (hR.2.2.2.2.2 a h1 h2).2
  unfold sAt at h3
  rw [if_pos (by rw [e]; have := hci.1; omega), e, hci.2.2.1, hci.2.2.2.1] at h3
  exact ⟨h1, h2, h3⟩
theorem ar_at {G : SG} {M : XM} {H : Heap} {a kd : Nat} (hk : 100 ≤ kd ∧ kd ≤ 107) (hR : sRel G M H) (e : (mS M a).1 = kd) :
    40 ≤ a ∧ a < mN M ∧ H[sMu G a]? = some (arrV (gA G kd) (mS M a).2 (fun j => sEl G (mI M a) (mJ M a) (mR M a) kd j)) := by
  obtain ⟨h1, h2⟩ := okS_new hR.2.2.2.1 (Or.inr hk) e
  have h3 := (hR.2.2.2.2.2 a h1 h2).2
  unfold sAt at h3
  rw [if_neg (by rw [e]; omega), e] at h3
  exact ⟨h1, h2, h3⟩
theorem vp_ofI {i : Int} {n : Nat} (h0 : 0 ≤ i) (h1 : i < (n : Int)) (hi : okI i) : vp_in (Int32.ofInt i) n ∧ (Int32.ofInt i).toNatClampNeg = i.toNat := by
  have e : (Int32.ofInt i).toInt = i := ofI_t hi
  refine ⟨vp_in_iff.mpr (by rw [e]; exact ⟨h0, h1⟩), ?_⟩
  show ((Int32.ofInt i).toInt).toNat = _
  rw [e]
theorem ui_up {α : Type} (mk : α → Value) (f : Int → α) (i : Int) (h : 0 ≤ i) (x : α) : (fun j : Nat => mk (ui f i x (j : Int))) = updV (fun j : Nat => mk (f (j : Int))) i.toNat (mk x) := by
  funext j
  unfold ui updV
  by_cases e : j = i.toNat
  · subst e
    rw [if_pos (by omega), if_pos rfl]
  · rw [if_neg (by omega), if_neg e]
section
variable {own : String} {cc : ByteArray} {nL : Nat} {nm : String} {ret : Option FieldType} {pc n : Nat}
/-- a field is read -/
theorem aw_get {kd N : Nat} {C : String} {T : u_T} {ty : Nat → FieldType} {idx k : Nat} {ref : String} (hci : sCi kd C T N ty) (hk : k < N) (hd : decode cc pc = .ok (.getfield idx, 3))
    {G : SG} {p : Program} {l : Launch} {e : Env} {R : Room} {s : State} {m : MethodId} {args : Array Value} {below : List Frame} {meth : Method} {c : Code} {Q : State → Prop} (hC : Cx G own cc nL nm ret p R s m args meth c)
    (hq : (Cond.fieldLink own idx ref (T k).2.1 (T k).2.2.1).before args s = true ∨ ∃ host, (Cond.fieldLinkNest own idx ref (T k).2.1 (T k).2.2.1 host).before args s = true) (hsame : ∀ x, s.fieldFound? (T k).1 (T k).2.1 (T k).2.2.1 = some x → s.fieldFound? ref (T k).2.1 (T k).2.2.1 = some x)
    {M : XM} {H : Heap} {locs : List Loc} {cells slots : Nat} {ls : Array Slot} {a : Nat} {rest : List Value} (hR : sRel G M H) (ea : (mS M a).1 = kd)
    (kk : W p l e R s m args below meth c H locs cells slots Q (F0 m (pc + 3) ls (sFv G (mI M a) (mJ M a) (mR M a) k (ty k) :: rest))) : W p l e R s m args below meth c H locs cells slots Q (F0 m pc ls (.ref (sMu G a) :: rest)) := by
  obtain ⟨-, -, cell, q1, q2, q3, q4⟩ := ci_at hci hR ea
  obtain ⟨hS, hfc, kC, hkC, hkind⟩ := hC.2.2.2.2.2.1.1.1 (kd - 1) _ hci.2.1
  obtain ⟨cf, kf, fi, f, hi, hsl⟩ := hS k hk
  have hf := (u_facts hfc hkC (u_lays hC.2.2.2.2.1 hci.2.2.2.2.1 hk) hi).1
  rcases hq with hq | ⟨host, hq⟩
  · refine W.getf hC.1 hC.2.1 hC.2.2.2.1 hq (hsame _ hi) hf q1 (by rw [q3]; exact fun h => by cases h) (v := sFv G (mI M a) (mJ M a) (mR M a) k (ty k)) ?_ rfl rfl hd kk
    rw [hsl, q4 k hk]
  · refine va_Wgetf hC.1 hC.2.1 hC.2.2.2.1 hq (hsame _ hi) hf q1 (by rw [q3]; exact fun h => by cases h) (v := sFv G (mI M a) (mJ M a) (mR M a) k (ty k)) ?_ rfl rfl hd kk
    rw [hsl, q4 k hk]
/-- the word of a field access, plain or of a nest mate -/
def sFl (own : String) (idx : Nat) (ref n d : String) : Prop := Cond.fieldLink own idx ref n d ∈ lw_all ∨ ∃ host, Cond.fieldLinkNest own idx ref n d host ∈ lw_tbl
theorem sFl.at {idx : Nat} {ref n d : String} (h : sFl own idx ref n d) {G : SG} {s : State} {args : Array Value} (h1 : ∀ w ∈ lw_all, w.before args s = true) (h2 : sKn G s) : (Cond.fieldLink own idx ref n d).before args s = true ∨ ∃ host, (Cond.fieldLinkNest own idx ref n d host).before args s = true := by
  rcases h with h | ⟨host, h⟩
  · exact Or.inl (h1 _ h)
  · exact Or.inr ⟨host, va_Nw.use rfl (h2.2.1 _ h rfl)⟩
/-- the class that declares a field, and the one by which it is named -/
def sSm (ref o n d : String) : Prop := ref = o ∨ Cond.sameField ref o n d ∈ lw_all
theorem sSm.at {ref o n d : String} (h : sSm ref o n d) {s : State} {args : Array Value} (h1 : ∀ w ∈ lw_all, w.before args s = true) : ∀ x, s.fieldFound? o n d = some x → s.fieldFound? ref n d = some x := by
  rcases h with h | h
  · subst h; exact fun x hx => hx
  · exact fun x hx => u_same (h1 _ h) x hx
theorem snd_gfI {kd N : Nat} {C : String} {T : u_T} {ty : Nat → FieldType} {idx k : Nat} {ref : String} (hci : sCi kd C T N ty) (hk : k < N) (hd : decode cc pc = .ok (.getfield idx, 3)) (hq : sFl own idx ref (T k).2.1 (T k).2.2.1) (hs : sSm ref (T k).1 (T k).2.1 (T k).2.2.1)
    (hv : ∀ (G : SG) (fi fj : Int → Int) (fr : Int → Nat), sFv G fi fj fr k (ty k) = .int (Int32.ofInt (fi k))) {ki : Int} (hki : ki = (k : Int)) (hn : pc + 3 = n) : Snd own cc nL nm ret pc (ia_gfI n kd ki) := by
  intro G p l e R s m args below meth c Q n0 u0 hC L st M f1 M1 g hx hg h1 h2
  unfold ia_gfI at hx
  split at hx
  · next a st =>
    cases hx
    subst hki
    subst hn
    refine ⟨⟨Nat.le_refl _, Nat.le_refl _⟩, fun kk => ?_⟩
    intro q1 q2 o H locs ls hR hO hS hl
    have ha := (okS_new hR.2.2.2.1 (Or.inl hci.1) hg).1
    rw [sV_cons ha]
    refine aw_get hci hk hd hC (hq.at hC.2.2.2.2.1 hC.2.2.2.2.2.1) (hs.at hC.2.2.2.2.1) hR hg ?_
    rw [hv]
    exact kk q1 q2 ⟨o.1, okF_c (hR.2.2.1.1 _ _) (okF_t o.2)⟩ H locs ls hR hO hS hl
  · cases hx
theorem snd_gfJ {kd N : Nat} {C : String} {T : u_T} {ty : Nat → FieldType} {idx k : Nat} {ref : String} (hci : sCi kd C T N ty) (hk : k < N) (hd : decode cc pc = .ok (.getfield idx, 3)) (hq : sFl own idx ref (T k).2.1 (T k).2.2.1) (hs : sSm ref (T k).1 (T k).2.1 (T k).2.2.1)
    (hv : ∀ (G : SG) (fi fj : Int → Int) (fr : Int → Nat), sFv G fi fj fr k (ty k) = .long (Int64.ofInt (fj k))) {ki : Int} (hki : ki = (k : Int)) (hn : pc + 3 = n) : Snd own cc nL nm ret pc (ia_gfJ n kd ki) := by
  intro G p l e R s m args below meth c Q n0 u0 hC L st M f1 M1 g hx hg h1 h2
  unfold ia_gfJ at hx
  split at hx
  · next a st =>
    cases hx
    subst hki
    subst hn
    refine ⟨⟨Nat.le_refl _, Nat.le_refl _⟩, fun kk => ?_⟩
    intro q1 q2 o H locs ls hR hO hS hl
    have ha := (okS_new hR.2.2.2.1 (Or.inl hci.1) hg).1
    rw [sV_cons ha]
    refine aw_get hci hk hd hC (hq.at hC.2.2.2.2.1 hC.2.2.2.2.2.1) (hs.at hC.2.2.2.2.1) hR hg ?_
    rw [hv]
    exact kk q1 q2 ⟨o.1, okF_c (hR.2.2.1.2.1 _ _) (okF_t o.2)⟩ H locs ls hR hO hS hl
  · cases hx
theorem snd_gfR {kd N : Nat} {C : String} {T : u_T} {ty : Nat → FieldType} {idx k : Nat} {ref : String} (hci : sCi kd C T N ty) (hk : k < N) (hd : decode cc pc = .ok (.getfield idx, 3)) (hq : sFl own idx ref (T k).2.1 (T k).2.2.1) (hs : sSm ref (T k).1 (T k).2.1 (T k).2.2.1)
    (hv : ∀ (G : SG) (fi fj : Int → Int) (fr : Int → Nat), sFv G fi fj fr k (ty k) = va_rf (sRf G (fr k))) {ki : Int} (hki : ki = (k : Int)) (hn : pc + 3 = n) : Snd own cc nL nm ret pc (ia_gfR n kd ki) := by
  intro G p l e R s m args below meth c Q n0 u0 hC L st M f1 M1 g hx hg h1 h2
  unfold ia_gfR at hx
  split at hx
  · next a st =>
    cases hx
    subst hki
    subst hn
    refine ⟨⟨Nat.le_refl _, Nat.le_refl _⟩, fun kk => ?_⟩
    intro q1 q2 o H locs ls hR hO hS hl
    have ha := (okS_new hR.2.2.2.1 (Or.inl hci.1) hg).1
    rw [sV_cons ha]
    refine aw_get hci hk hd hC (hq.at hC.2.2.2.2.1 hC.2.2.2.2.2.1) (hs.at hC.2.2.2.2.1) hR hg ?_
    rw [hv]
    exact kk q1 q2 ⟨o.1, okF_c trivial (okF_t o.2)⟩ H locs ls hR hO hS hl
  · cases hx
/-- a field is written: outside of constructors no final one -/
theorem aw_put {kd N : Nat} {C : String} {T : u_T} {ty : Nat → FieldType} {idx k : Nat} {ref : String} (hci : sCi kd C T N ty) (hk : k < N) (hd : decode cc pc = .ok (.putfield idx, 3))
    {G : SG} {p : Program} {l : Launch} {e : Env} {R : Room} {s : State} {m : MethodId} {args : Array Value} {below : List Frame} {meth : Method} {c : Code} {Q : State → Prop} (hC : Cx G own cc nL nm ret p R s m args meth c)
    (hq : Cond.fieldLink own idx ref (T k).2.1 (T k).2.2.1 ∈ lw_all) (hs : sSm ref (T k).1 (T k).2.1 (T k).2.2.1) (hfin : (T k).2.2.2 = false ∨ (nm = "<init>" ∧ (T k).1 = own))
    {M M1 : XM} {H : Heap} {locs : List Loc} {cells slots : Nat} {ls : Array Slot} {a : Nat} {rest : List Value} {v : Value} (hn : narrow (ty k) v = v) (hfit : fits (ty k) v = true)
    (hR : sRel G M H) (hO : sOld G s H) (hS : va_S (sFr G) s.heap H locs) (ea : (mS M a).1 = kd)
    (hM : mS M1 = mS M ∧ mN M1 = mN M ∧ (∀ b, b ≠ a → mI M1 b = mI M b ∧ mJ M1 b = mJ M b ∧ mR M1 b = mR M b) ∧ okM M1)
    (hV : ∀ j, j < N → sFv G (mI M1 a) (mJ M1 a) (mR M1 a) j (ty j) = if j = k then v else sFv G (mI M a) (mJ M a) (mR M a) j (ty j))
    (kk : ∀ (H1 : Heap) (locs1 : List Loc), sRel G M1 H1 → sOld G s H1 → va_S (sFr G) s.heap H1 locs1 → W p l e R s m args below meth c H1 locs1 cells slots Q (F0 m (pc + 3) ls rest)) : W p l e R s m args below meth c H locs cells slots Q (F0 m pc ls (v :: .ref (sMu G a) :: rest)) := by
  obtain ⟨ha, hb, cell, q1, q2, q3, q4⟩ := ci_at hci hR ea
  have hK := hC.2.2.2.2.2.1.1
  have hap := va_apart (own := own) hC.2.2.2.2.1 hci.2.2.2.2.1 ty hci.2.2.2.2.2.1 hci.2.2.2.2.2.2 hK hci.2.1
  obtain ⟨hSl, hfc, kC, hkC, hkind⟩ := hK.1 (kd - 1) _ hci.2.1
  obtain ⟨cf, kf, fi, f, hi, hsl⟩ := hSl k hk
  have hst := (u_facts hfc hkC (u_lays hC.2.2.2.2.1 hci.2.2.2.2.1 hk) hi).1
  have hlay := hC.2.2.2.2.1 _ (hci.2.2.2.2.1 _ (u_in_lay hk))
  have hfound := hs.at hC.2.2.2.2.1 _ hi
  have fin : ∀ H' : Heap, H'[sMu G a]? = some (cell.setSlot ((gD G).2 (kd - 1) k) v) → H'.size = H.size → (∀ q, q ≠ sMu G a → H'[q]? = H[q]?) → W p l e R s m args below meth c H' (locs ++ [⟨sMu G a, (gD G).2 (kd - 1) k⟩]) cells slots Q (F0 m (pc + 3) ls rest) := by
    intro H' e1 e2 e3
    have hgb : gB G ≤ sMu G a := by rw [sMu_new ha]; omega
    refine kk H' _ (hR.wr ha hM.1 hM.2.1 hM.2.2.1 hM.2.2.2 ?_ e2 e3) (hO.kept (by omega) (fun q hq => e3 q (by omega))) (hS.put e2 e3 hgb)
    unfold sAt
    rw [if_pos (by rw [ea]; have := hci.1; omega), ea, hci.2.2.1, hci.2.2.2.1]
    refine t_OB.to (V := updV (fun j => sFv G (mI M a) (mJ M a) (mR M a) j (ty j)) k v) ⟨_, e1, q2, q3, t_set q4 hap hk v⟩ (fun j hj => ?_)
    rw [hV j hj]
    rfl
  unfold u_lay at hlay
  by_cases hf : (T k).2.2.2 = false
  · rw [if_neg (by rw [hf]; decide)] at hlay
    have h6 := u_store hfc hkC hkind hlay hi (hci.2.2.2.2.2.1 k hk) hn hfit
    refine W.putK hC.1 hC.2.1 (f := f) ⟨hC.2.2.2.1, hC.2.2.2.2.1 _ hq, ⟨_, _, _, hfound⟩, hst⟩ (by rw [q2]; exact h6) q1 q3 (by rw [hsl]; exact k2_hasslot (q4 k hk)) rfl rfl hd fun H' e1 e2 e3 => ?_
    rw [hsl] at e1 ⊢
    exact fin H' e1 e2 e3
  · have hf1 : (T k).2.2.2 = true := by cases h : (T k).2.2.2 with | true => rfl | false => exact absurd h hf
    rw [if_pos hf1] at hlay
    obtain ⟨hin, hdecl⟩ := hfin.resolve_left hf
    have hcf : m.cls = cf := by
      obtain ⟨_, _, c', _, _, _, -, -, hf', -, -, -, hown2, -⟩ := Cond.laysFinal_spec hlay
      have e1 : c' = cf := by have := hi.symm.trans hf'; simp at this; exact this.1.symm
      rw [hdecl] at hown2
      rw [← e1]; exact Option.some.inj (hC.2.2.2.1.symm.trans hown2)
    have h6 := u_fits hfc hkC hkind (Or.inr hlay) hi (hci.2.2.2.2.2.1 k hk) hn hfit
    refine W.putFinK hC.1 hC.2.1 hC.2.2.2.1 (hC.2.2.2.2.1 _ hq) hfound hst hcf (by rw [hC.2.2.2.2.2.2.1]; exact hin) (by rw [q2]; exact h6) q1 q3 (by rw [hsl]; exact k2_hasslot (q4 k hk)) rfl rfl hd fun H' e1 e2 e3 => ?_
    rw [hsl] at e1 ⊢
    exact fin H' e1 e2 e3
theorem okM_wI {M : XM} (h : okM M) {a : Nat} {f : Int → Int} (h1 : ∀ i, okI (f i)) (h2 : (mS M a).1 = 101 → ∀ i, f i = 0 ∨ f i = 1) (h3 : (mS M a).1 = 102 → ∀ i, -128 ≤ f i ∧ f i < 128) : okM (wI M a f) := by
  obtain ⟨q1, q2, q3, q4, q5⟩ := h
  refine ⟨fun b i => ?_, q2, fun b i => ?_, fun b i => ?_, q5⟩
  · rw [mI_wI]; unfold up; split
    · exact h1 i
    · exact q1 b i
  · rw [mI_wI, mS_wI]; unfold up; split
    · next e => subst e; exact fun z => h2 z i
    · exact q3 b i
  · rw [mI_wI, mS_wI]; unfold up; split
    · next e => subst e; exact fun z => h3 z i
    · exact q4 b i
theorem okM_wJ {M : XM} (h : okM M) {a : Nat} {f : Int → Int} (h1 : ∀ i, okL (f i)) : okM (wJ M a f) := by
  obtain ⟨q1, q2, q3, q4, q5⟩ := h
  refine ⟨q1, fun b i => ?_, q3, q4, q5⟩
  rw [mJ_wJ]; unfold up; split
  · exact h1 i
  · exact q2 b i
theorem okM_wR {M : XM} (h : okM M) {a : Nat} {f : Int → Nat} (h1 : (mS M a).1 = 104 → ∀ i, f i = 0 ∨ (mS M (f i)).1 ∈ okE) : okM (wR M a f) := by
  obtain ⟨q1, q2, q3, q4, q5⟩ := h
  refine ⟨q1, q2, q3, q4, fun b i => ?_⟩
  rw [mR_wR, mS_wR]; unfold up; split
  · next e => subst e; exact fun z => h1 z i
  · exact q5 b i
theorem ui_ok {P : Int → Prop} {f : Int → Int} {k x : Int} (h : ∀ i, P (f i)) (hx : P x) : ∀ i, P (ui f k x i) := by
  intro i; unfold ui; split
  · exact hx
  · exact h i
theorem sFv_put {G : SG} {fi fj : Int → Int} {fr : Int → Nat} {k j : Nat} {x : Int} {ty : Nat → FieldType} {v : Value} (hv : ∀ (fi fj : Int → Int) (fr : Int → Nat), sFv G fi fj fr k (ty k) = .int (Int32.ofInt (fi k))) (e : v = .int (Int32.ofInt x)) : sFv G (ui fi (k : Int) x) fj fr j (ty j) = if j = k then v else sFv G fi fj fr j (ty j) := by
  by_cases h : j = k
  · subst h
    rw [if_pos rfl, hv, e, ui_s]
  · rw [if_neg h]
    unfold sFv
    rw [ui_n _ _ (show (j : Int) ≠ (k : Int) by omega)]
theorem sFv_putJ {G : SG} {fi fj : Int → Int} {fr : Int → Nat} {k j : Nat} {x : Int} {ty : Nat → FieldType} {v : Value} (hv : ∀ (fi fj : Int → Int) (fr : Int → Nat), sFv G fi fj fr k (ty k) = .long (Int64.ofInt (fj k))) (e : v = .long (Int64.ofInt x)) : sFv G fi (ui fj (k : Int) x) fr j (ty j) = if j = k then v else sFv G fi fj fr j (ty j) := by
  by_cases h : j = k
  · subst h
    rw [if_pos rfl, hv, e, ui_s]
  · rw [if_neg h]
    unfold sFv
    rw [ui_n _ _ (show (j : Int) ≠ (k : Int) by omega)]
theorem sFv_putR {G : SG} {fi fj : Int → Int} {fr : Int → Nat} {k j : Nat} {x : Nat} {ty : Nat → FieldType} {v : Value} (hv : ∀ (fi fj : Int → Int) (fr : Int → Nat), sFv G fi fj fr k (ty k) = va_rf (sRf G (fr k))) (e : v = va_rf (sRf G x)) : sFv G fi fj (ui fr (k : Int) x) j (ty j) = if j = k then v else sFv G fi fj fr j (ty j) := by
  by_cases h : j = k
  · subst h
    rw [if_pos rfl, hv, e, ui_s]
  · rw [if_neg h]
    unfold sFv
    rw [ui_n _ _ (show (j : Int) ≠ (k : Int) by omega)]
theorem snd_pfI {kd N : Nat} {C : String} {T : u_T} {ty : Nat → FieldType} {idx k : Nat} {ref : String} (hci : sCi kd C T N ty) (hk : k < N) (hd : decode cc pc = .ok (.putfield idx, 3)) (hq : Cond.fieldLink own idx ref (T k).2.1 (T k).2.2.1 ∈ lw_all) (hs : sSm ref (T k).1 (T k).2.1 (T k).2.2.1) (hfin : (T k).2.2.2 = false ∨ (nm = "<init>" ∧ (T k).1 = own))
    (hty : ty k = .int) {ki : Int} (hki : ki = (k : Int)) (hn : pc + 3 = n) : Snd own cc nL nm ret pc (ia_pfI n kd ki) := by
  intro G p l e R s m args below meth c Q n0 u0 hC L st M f1 M1 g hx hg h1 h2
  unfold ia_pfI at hx
  split at hx
  · next x a st =>
    cases hx
    subst hki
    subst hn
    refine ⟨⟨Nat.le_refl _, Nat.le_refl _⟩, fun kk => ?_⟩
    intro q1 q2 o H locs ls hR hO hS hl
    have ha := (okS_new hR.2.2.2.1 (Or.inl hci.1) hg).1
    have hx := okF_h o.2
    have o2 := okF_t (okF_t o.2)
    show W p l e R s m args below meth c H locs _ _ Q (F0 m pc ls (.int (Int32.ofInt x) :: (vR a :: st).map (sV G)))
    rw [sV_cons ha]
    refine aw_put hci hk hd hC hq hs hfin (by rw [hty]; rfl) (by rw [hty]; rfl) hR hO hS hg (M1 := wI M a (ui (mI M a) k x)) ⟨rfl, rfl, fun b hb => ⟨up_n _ _ hb, rfl, rfl⟩, okM_wI hR.2.2.1 (ui_ok (hR.2.2.1.1 a) hx) (fun z => ?_) (fun z => ?_)⟩ (fun j hj => ?_) (fun H1 locs1 r1 r2 r3 => kk q1 q2 ⟨o.1, o2⟩ H1 locs1 ls r1 r2 r3 hl)
    · rw [hg] at z; have := hci.1; omega
    · rw [hg] at z; have := hci.1; omega
    · rw [mI_wI, up_s]
      exact sFv_put (fun fi fj fr => by rw [hty]; rfl) rfl
  · cases hx
theorem snd_pfZ {kd N : Nat} {C : String} {T : u_T} {ty : Nat → FieldType} {idx k : Nat} {ref : String} (hci : sCi kd C T N ty) (hk : k < N) (hd : decode cc pc = .ok (.putfield idx, 3)) (hq : Cond.fieldLink own idx ref (T k).2.1 (T k).2.2.1 ∈ lw_all) (hs : sSm ref (T k).1 (T k).2.1 (T k).2.2.1) (hfin : (T k).2.2.2 = false ∨ (nm = "<init>" ∧ (T k).1 = own))
    (hty : ty k = .boolean) {ki : Int} (hki : ki = (k : Int)) (hn : pc + 3 = n) : Snd own cc nL nm ret pc (ia_pfZ n kd ki) := by
  intro G p l e R s m args below meth c Q n0 u0 hC L st M f1 M1 g hx hg h1 h2
  unfold ia_pfZ at hx
  split at hx
  · next x a st =>
    cases hx
    subst hki
    subst hn
    refine ⟨⟨Nat.le_refl _, Nat.le_refl _⟩, fun kk => ?_⟩
    intro q1 q2 o H locs ls hR hO hS hl
    have ha := (okS_new hR.2.2.2.1 (Or.inl hci.1) hg.1).1
    have hx := okF_h o.2
    have o2 := okF_t (okF_t o.2)
    show W p l e R s m args below meth c H locs _ _ Q (F0 m pc ls (.int (Int32.ofInt x) :: (vR a :: st).map (sV G)))
    rw [sV_cons ha]
    refine aw_put hci hk hd hC hq hs hfin (by rw [hty]; rcases hg.2 with z | z <;> subst z <;> rfl) (by rw [hty]; rcases hg.2 with z | z <;> subst z <;> rfl) hR hO hS hg.1 (M1 := wI M a (ui (mI M a) k x)) ⟨rfl, rfl, fun b hb => ⟨up_n _ _ hb, rfl, rfl⟩, okM_wI hR.2.2.1 (ui_ok (hR.2.2.1.1 a) hx) (fun z => ?_) (fun z => ?_)⟩ (fun j hj => ?_) (fun H1 locs1 r1 r2 r3 => kk q1 q2 ⟨o.1, o2⟩ H1 locs1 ls r1 r2 r3 hl)
    · rw [hg.1] at z; have := hci.1; omega
    · rw [hg.1] at z; have := hci.1; omega
    · rw [mI_wI, up_s]
      exact sFv_put (fun fi fj fr => by rw [hty]; rfl) rfl
  · cases hx
theorem snd_pfJ {kd N : Nat} {C : String} {T : u_T} {ty : Nat → FieldType} {idx k : Nat} {ref : String} (hci : sCi kd C T N ty) (hk : k < N) (hd : decode cc pc = .ok (.putfield idx, 3)) (hq : Cond.fieldLink own idx ref (T k).2.1 (T k).2.2.1 ∈ lw_all) (hs : sSm ref (T k).1 (T k).2.1 (T k).2.2.1) (hfin : (T k).2.2.2 = false ∨ (nm = "<init>" ∧ (T k).1 = own))
    (hty : ty k = .long) {ki : Int} (hki : ki = (k : Int)) (hn : pc + 3 = n) : Snd own cc nL nm ret pc (ia_pfJ n kd ki) := by
  intro G p l e R s m args below meth c Q n0 u0 hC L st M f1 M1 g hx hg h1 h2
  unfold ia_pfJ at hx
  split at hx
  · next x a st =>
    cases hx
    subst hki
    subst hn
    refine ⟨⟨Nat.le_refl _, Nat.le_refl _⟩, fun kk => ?_⟩
    intro q1 q2 o H locs ls hR hO hS hl
    have ha := (okS_new hR.2.2.2.1 (Or.inl hci.1) hg).1
    have hx := okF_h o.2
    have o2 := okF_t (okF_t o.2)
    show W p l e R s m args below meth c H locs _ _ Q (F0 m pc ls (.long (Int64.ofInt x) :: (vR a :: st).map (sV G)))
    rw [sV_cons ha]
    refine aw_put hci hk hd hC hq hs hfin (by rw [hty]; rfl) (by rw [hty]; rfl) hR hO hS hg (M1 := wJ M a (ui (mJ M a) k x)) ⟨rfl, rfl, fun b hb => ⟨rfl, up_n _ _ hb, rfl⟩, okM_wJ hR.2.2.1 (ui_ok (hR.2.2.1.2.1 a) hx)⟩ (fun j hj => ?_) (fun H1 locs1 r1 r2 r3 => kk q1 q2 ⟨o.1, o2⟩ H1 locs1 ls r1 r2 r3 hl)
    rw [mJ_wJ, up_s]
    exact sFv_putJ (fun fi fj fr => by rw [hty]; rfl) rfl
  · cases hx
theorem snd_pfR {kd N : Nat} {C : String} {T : u_T} {ty : Nat → FieldType} {idx k : Nat} {ref : String} (hci : sCi kd C T N ty) (hk : k < N) (hd : decode cc pc = .ok (.putfield idx, 3)) (hq : Cond.fieldLink own idx ref (T k).2.1 (T k).2.2.1 ∈ lw_all) (hs : sSm ref (T k).1 (T k).2.1 (T k).2.2.1) (hfin : (T k).2.2.2 = false ∨ (nm = "<init>" ∧ (T k).1 = own))
    (hty : (∃ z, ty k = .object z) ∨ ∃ z, ty k = .array z) {ki : Int} (hki : ki = (k : Int)) (hn : pc + 3 = n) : Snd own cc nL nm ret pc (ia_pfR n kd ki) := by
  intro G p l e R s m args below meth c Q n0 u0 hC L st M f1 M1 g hx hg h1 h2
  unfold ia_pfR at hx
  split at hx
  · next x a st =>
    cases hx
    subst hki
    subst hn
    refine ⟨⟨Nat.le_refl _, Nat.le_refl _⟩, fun kk => ?_⟩
    intro q1 q2 o H locs ls hR hO hS hl
    have ha := (okS_new hR.2.2.2.1 (Or.inl hci.1) hg).1
    have o2 := okF_t (okF_t o.2)
    show W p l e R s m args below meth c H locs _ _ Q (F0 m pc ls (va_rf (sRf G x) :: (vR a :: st).map (sV G)))
    rw [sV_cons ha]
    refine aw_put hci hk hd hC hq hs hfin (by rcases hty with ⟨z, e⟩ | ⟨z, e⟩ <;> rw [e] <;> cases sRf G x <;> rfl) (by rcases hty with ⟨z, e⟩ | ⟨z, e⟩ <;> rw [e] <;> cases sRf G x <;> rfl) hR hO hS hg (M1 := wR M a (ui (mR M a) k x)) ⟨rfl, rfl, fun b hb => ⟨rfl, rfl, up_n _ _ hb⟩, okM_wR hR.2.2.1 (fun z => by rw [hg] at z; have := hci.1; omega)⟩ (fun j hj => ?_) (fun H1 locs1 r1 r2 r3 => kk q1 q2 ⟨o.1, o2⟩ H1 locs1 ls r1 r2 r3 hl)
    rw [mR_wR, up_s]
    exact sFv_putR (fun fi fj fr => by rcases hty with ⟨z, e⟩ | ⟨z, e⟩ <;> rw [e] <;> rfl) rfl
  · cases hx
end
