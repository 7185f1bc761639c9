/-! THE CLAIM OUT OF ONE WALK OF THE LAW'S BODY. Your part is whole_start (and what it stands on); all else here is the same for every law, but numbers. -/
def R_law : String := "WeekFootLaw"
def lw_P (b : Addr) (xs : List Int32) (args : Array Value) (s : State) : Prop := args = #[.ref b] ∧ s.IntsAt b xs ∧ xs.length ≤ 384 ∧ (Jvm.Cond.and given_1 narrow_1).before args s = true
def lw_Q (_ : Array Value) (s : State) (o : Outcome) (t : State) : Prop := o = .returned (some (.int 1)) ∧ Framed s o t [] 751483 6841656
def lw_Z (below : List Frame) (a : Array Value) (s : State) : State → Prop := fun t => ∃ o, t.status = .running ∧ Ended t below o ∧ lw_Q a s o t
/-- the law's own end, with 1 on the stack, nothing written that was there before, its room as the claim has it -/
theorem lw_ret {p : Program} {l : Launch} {e : Env} {s : State} {m : MethodId} {below : List Frame} {meth : Method} {c : Code} {b : Nat} (hx : p.tables.exec = Jvm.exec) (hb : c.code = code) (hr : meth.sig.returnType = ret) (hlocks : meth.locks = false) {pc : Nat} {H : Heap} {ls : Array Slot} (hdg : decode code pc = .ok (.ireturn, 1)) : W p l e room_1 s m #[Value.ref b] below meth c H [] 751483 6841656 (lw_Z below #[Value.ref b] s) (F0 m pc ls [.int 1]) := by
  intro T hT X
  obtain ⟨fs, hret, hrun, hended, hW, hframe⟩ := X.leave (v := some (.int 1)) (hlocks := hlocks) (fun h => by rw [hr] at h; cases h)
  have hmeth' : T.vm.method? m = some meth := X.method'
  refine ⟨T.setFrames fs, ?_, .returned (some (.int 1)), hrun, hended, rfl, ⟨_, rfl⟩, hW, hframe⟩
  jvm_step X.here [X.here.top, hx, hb, hdg, hmeth', hr, ret, narrow_b1]
  (try refine ⟨rfl, ?_⟩); (try refine ⟨rfl, ?_⟩)
  first | (intro acts; rw [hret _ acts rfl rfl rfl]) | rw [hret _ _ rfl rfl rfl]
  exact Steps.refl _
/-- what holds at the law's entry: the machine, the code, the tables' words (any of lw_tbl by 'hts w (by decide +kernel)'), the script of L ints xs at the cell b, what the Statement gives of the start (any of its parts by flat_of_before) -/
def lw_At (p : Program) (s : State) (m : MethodId) (meth : Method) (c : Code) (b L : Nat) (xs : Nat → Int32) : Prop :=
  p.tables.exec = Jvm.exec ∧ c.code = code ∧ meth.sig.returnType = ret ∧ c.maxLocals = 4 ∧ s.vm.findClass R_law = some m.cls ∧ (∀ w ∈ lw_tbl, w.before #[Value.ref b] s = true) ∧ va_X b L xs s s.heap ∧ b < s.heap.size ∧ meth.locks = false ∧ (Jvm.Cond.and given_1 narrow_1).before #[Value.ref b] s = true
theorem m0_ok {L : Nat} {xs : Nat → Int32} {sr : Nat → Nat} : okM (m0 L xs sr) := by
  have hI : ∀ x : Int32, okI x.toInt := fun x => ⟨Int32.le_toInt x, Int32.toInt_lt x⟩
  have hk : ∀ a : Nat, (mS (m0 L xs sr) a).1 ≠ 101 ∧ (mS (m0 L xs sr) a).1 ≠ 102 ∧ (mS (m0 L xs sr) a).1 ≠ 104 := by
    intro a
    show (if a = 1 then (50, L) else if 2 ≤ a ∧ a < 18 then (51, 0) else if 18 ≤ a ∧ a < 34 then (52, sTl.getD (a - 18) 0) else (0, 0) : Nat × Nat).1 ≠ 101 ∧ (if a = 1 then (50, L) else if 2 ≤ a ∧ a < 18 then (51, 0) else if 18 ≤ a ∧ a < 34 then (52, sTl.getD (a - 18) 0) else (0, 0) : Nat × Nat).1 ≠ 102 ∧ (if a = 1 then (50, L) else if 2 ≤ a ∧ a < 18 then (51, 0) else if 18 ≤ a ∧ a < 34 then (52, sTl.getD (a - 18) 0) else (0, 0) : Nat × Nat).1 ≠ 104
    split
    · exact ⟨show (50 : Nat) ≠ 101 by decide, show (50 : Nat) ≠ 102 by decide, show (50 : Nat) ≠ 104 by decide⟩
    · split
      · exact ⟨show (51 : Nat) ≠ 101 by decide, show (51 : Nat) ≠ 102 by decide, show (51 : Nat) ≠ 104 by decide⟩
      · split
        · exact ⟨show (52 : Nat) ≠ 101 by decide, show (52 : Nat) ≠ 102 by decide, show (52 : Nat) ≠ 104 by decide⟩
        · exact ⟨show (0 : Nat) ≠ 101 by decide, show (0 : Nat) ≠ 102 by decide, show (0 : Nat) ≠ 104 by decide⟩
  refine ⟨fun a i => ?_, fun a i => ?_, fun a i h => absurd h (hk a).1, fun a i h => absurd h (hk a).2.1, fun a i h => absurd h (hk a).2.2⟩
  · show okI (if a = 1 then (xs i.toNat).toInt else if 18 ≤ a ∧ a < 34 then ((sTx.getD (a - 18) []).getD i.toNat 0).toInt else 0)
    split
    · exact hI _
    · split
      · exact hI _
      · show okI 0; unfold okI; omega
  · show okL 0; unfold okL; omega
theorem m0_S {L : Nat} {xs : Nat → Int32} {sr : Nat → Nat} : okS (m0 L xs sr) := by
  intro a
  show (if a = 1 then (50, L) else if 2 ≤ a ∧ a < 18 then (51, 0) else if 18 ≤ a ∧ a < 34 then (52, sTl.getD (a - 18) 0) else (0, 0) : Nat × Nat).1 ≠ 0 → (a = 1 ∧ (if a = 1 then (50, L) else if 2 ≤ a ∧ a < 18 then (51, 0) else if 18 ≤ a ∧ a < 34 then (52, sTl.getD (a - 18) 0) else (0, 0) : Nat × Nat).1 = 50) ∨ ((2 ≤ a ∧ a < 34) ∧ 51 ≤ (if a = 1 then (50, L) else if 2 ≤ a ∧ a < 18 then (51, 0) else if 18 ≤ a ∧ a < 34 then (52, sTl.getD (a - 18) 0) else (0, 0) : Nat × Nat).1 ∧ (if a = 1 then (50, L) else if 2 ≤ a ∧ a < 18 then (51, 0) else if 18 ≤ a ∧ a < 34 then (52, sTl.getD (a - 18) 0) else (0, 0) : Nat × Nat).1 ≤ 52) ∨ _
  split
  · next h => intro _; exact Or.inl ⟨h, rfl⟩
  · split
    · next h => intro _; exact Or.inr (Or.inl ⟨⟨h.1, by omega⟩, by decide, by decide⟩)
    · split
      · next h => intro _; exact Or.inr (Or.inl ⟨⟨by omega, h.2⟩, Nat.le_succ 51, Nat.le_refl 52⟩)
      · intro h; exact absurd rfl h
theorem m0_O {G : SG} : okO G (m0 (gL G) (gX G) (gV G)) := by
  refine ⟨⟨rfl, fun j hj => ?_⟩, fun i hi => ⟨⟨?_, ?_⟩, fun j hj => ?_⟩, ⟨fun a h1 h2 => ?_, fun a h1 h2 => ?_⟩, fun k hk => ?_⟩
  · show (if 1 = 1 then (gX G (j : Int).toNat).toInt else if 18 ≤ 1 ∧ 1 < 34 then ((sTx.getD (1 - 18) []).getD (j : Int).toNat 0).toInt else 0) = _
    rw [if_pos rfl, Int.toNat_natCast]
  · show (if 2 + i = 1 then (50, gL G) else if 2 ≤ 2 + i ∧ 2 + i < 18 then (51, 0) else if 18 ≤ 2 + i ∧ 2 + i < 34 then (52, sTl.getD (2 + i - 18) 0) else (0, 0) : Nat × Nat).1 = 51
    rw [if_neg (by omega), if_pos (by omega)]
  · show (if 18 + i = 1 then (50, gL G) else if 2 ≤ 18 + i ∧ 18 + i < 18 then (51, 0) else if 18 ≤ 18 + i ∧ 18 + i < 34 then (52, sTl.getD (18 + i - 18) 0) else (0, 0) : Nat × Nat) = _
    rw [if_neg (by omega), if_neg (by omega), if_pos (by omega), Nat.add_sub_cancel_left]
  · show (if 18 + i = 1 then (gX G (j : Int).toNat).toInt else if 18 ≤ 18 + i ∧ 18 + i < 34 then ((sTx.getD (18 + i - 18) []).getD (j : Int).toNat 0).toInt else 0) = _
    rw [if_neg (by omega), if_pos (by omega), Nat.add_sub_cancel_left, Int.toNat_natCast]
  · show (if a = 1 then (50, gL G) else if 2 ≤ a ∧ a < 18 then (51, 0) else if 18 ≤ a ∧ a < 34 then (52, sTl.getD (a - 18) 0) else (0, 0) : Nat × Nat).1 ≠ 52
    rw [if_neg (by omega), if_pos (by omega)]
    show 51 ≠ 52
    decide
  · show (if a = 1 then (50, gL G) else if 2 ≤ a ∧ a < 18 then (51, 0) else if 18 ≤ a ∧ a < 34 then (52, sTl.getD (a - 18) 0) else (0, 0) : Nat × Nat).1 ≠ 51
    rw [if_neg (by omega), if_neg (by omega), if_pos (by omega)]
    show 52 ≠ 51
    decide
  · show (if 38 = 38 then gV G (k : Int).toNat else 0) = _
    rw [if_pos rfl, Int.toNat_natCast]
/-- from the plain machine's run of the law to the machine's -/
theorem start_of (HL : LawRuns) {p : Program} {e : Env} {s : State} {m : MethodId} {below : List Frame} {meth : Method} {c : Code} (l : Launch) (hnm : meth.name = "law") {b L : Nat} {xs : Nat → Int32} (htb : c.exceptionTable.toList = []) (hL : L ≤ 384) (C0 : lw_At p s m meth c b L xs) : W p l e room_1 s m #[Value.ref b] below meth c s.heap [] 0 0 (lw_Z below #[Value.ref b] s) (entryFrame m ([Value.ref b] : List Value).toArray 4) := by
  obtain ⟨hx, hb, hr, hml, hown, hts, hX, hbl, hlocks, hgv⟩ := C0
  obtain ⟨G, g1, g2, g3, g4, hK, hO⟩ := st_G hL hts hX hbl hgv
  obtain ⟨n, d, MF, hd, hrun, hN, hU⟩ := HL L xs (gV G) hL
  have F := (run_snd n d 277 _ _ _ _ hrun).2
  have hC : Cx G (sYn 277).cls (sBy 277) (sLn 277) (sYn 277).name (sRt 277) p room_1 s m #[Value.ref b] meth c :=
    ⟨hx, hb, hml, hown, fun w hw => hts w (lw_all_tbl hw), hK, hnm, hr, hlocks, Nat.le_of_eq g1, by decide, by decide⟩
  have hl := lv_entry ([.ref b]) (n := 4) (Nat.le_of_ble_eq_true rfl)
  rw [lg_entry_eq]
  generalize (lg_sl ([.ref b]) ++ List.replicate (4 - (lg_sl ([.ref b])).length) Slot.unset).toArray = ls at hl ⊢
  have k := F G p l e room_1 s m #[Value.ref b] below meth c (lw_Z below #[Value.ref b] s) 40 0 hC htb (by show d + 8 ≤ 8192; omega) (by show 64 * d + 512 ≤ 100000; omega) hN (by show _ ≤ 0 + 6841656; omega)
    (fun v ho pc L9 hdec hret => by
      cases ho
      intro q1 q2 ok H locs ls hR hO hS hl
      refine va_forget (fun q hq => by have := hS.2.2 q hq; rw [← g1]; exact this) ?_
      refine W.widen (k := 751483) (n := 6841656) (by omega) (by omega) ?_
      exact lw_ret hx hb hr hlocks hdec)
    (fun a ho => by cases ho)
  have hR : sRel G (m0 L xs (gV G)) s.heap := by
    refine ⟨Nat.le_refl _, by rw [g1]; rfl, m0_ok, m0_S, by rw [← g3, ← g4]; exact m0_O, fun a h1 h2 => absurd h2 (Nat.not_lt.mpr h1)⟩
  have hl2 : lv_has ls 4 (sL G [(0, vR 1)]) := by
    have e1 : sL G [(0, vR 1)] = [(0, .ref b)] := by
      show [(0, sV G (vR 1))] = _
      rw [sV_old (by omega) (by omega), g2]
    rw [e1]
    exact hl
  exact k (Nat.le_refl _) (Nat.le_refl _) ⟨fun q hq => by rw [List.mem_singleton.mp hq]; trivial, fun v hv => by cases hv⟩ s.heap [] ls hR hO va_S.rf hl2
set_option maxHeartbeats 4000000 in
theorem lw_walk (HL : LawRuns) (l : Launch) (hflags : l.flags = flags0) (b : Addr) (xs : List Int32) : MetFree l x (headSpec (Jvm.Cond.code x code maxLocals ret :: tables_1) room_1) (lw_P b xs) (fun _ _ _ _ _ => True) lw_Q := by
  refine MetFree.of_bodyS (code := code) (maxLocals := maxLocals) (ret := ret) (by decide) ?_ ?_
  · intro args s m h hn
    obtain ⟨meth, c, h1, h2, h3, h4, h5, h6, -, -⟩ := Cond.code_spec hn (atoms_spec (ws := Jvm.Cond.code x code maxLocals ret :: tables_1) h _ List.mem_cons_self)
    exact ⟨meth, c, h1, h2, h3, h4, h5, h6⟩
  · intro p e s m args below meth c s₁ B hml0 hP _
    obtain ⟨rfl, hx, hbd, hgv⟩ := hP
    obtain ⟨scr, harrAt, hlist, hof, hsmall⟩ := hx
    obtain ⟨hcb, hkn, -, -⟩ := State.arrayAt?_spec harrAt
    have hown : s.vm.findClass R_law = some m.cls := findClass_of_methodNamed B.named
    have hts0 : ∀ c ∈ (Jvm.Cond.code x code maxLocals ret :: tables_1), c.before #[Value.ref b] s = true := atoms_spec (ws := Jvm.Cond.code x code maxLocals ret :: tables_1) B.pre
    have hts : ∀ w ∈ lw_tbl, w.before #[Value.ref b] s = true := k2_hts_sels lw_privs (fun w hw => hts0 w (List.mem_cons_of_mem _ hw)) lw_privs_ok
    have hml : c.maxLocals = 4 := B.maxLocals_eq (hts0 _ List.mem_cons_self)
    have X₀ : Stand p l e room_1 s m #[Value.ref b] below meth c s₁ [] 0 0 := Stand.of_body B
    have hh0 : s₁.heap = s.heap := by rw [B.state]; rfl
    have hsz : scr.slots.size = xs.length := by rw [← Array.length_toList, hlist, List.length_map]
    have hval : ∀ j : Nat, j < xs.length → scr.slots[j]? = some (.int (xs.getD j 0)) := fun j hj => by
      rw [← Array.getElem?_toList, hlist]
      simp [hj]
    have hbl : b < s.heap.size := (Array.getElem?_eq_some_iff.mp hcb).1
    have hX : va_X b xs.length (fun j => xs.getD j 0) s s.heap := ⟨scr, hcb, hof, hkn, hsz, hval⟩
    have hnm9 : meth.name = "law" := (name_of_methodNamed B.named B.method).1
    have htb9 : c.exceptionTable.toList = [] := by
      obtain ⟨meth9, c9, h1, h2, -, -, -, -, h7, -⟩ := Cond.code_spec B.named (hts0 _ List.mem_cons_self)
      cases Option.some.inj (h1.symm.trans B.method)
      cases Option.some.inj (h2.symm.trans (Stand.of_body B).code)
      rw [Array.isEmpty_iff.mp h7]
    have K : W p l e room_1 s m #[Value.ref b] below meth c s₁.heap [] 0 0 (lw_Z below #[Value.ref b] s) (entryFrame m ([Value.ref b] : List Value).toArray 4) := by
      rw [hh0]
      exact start_of HL l hnm9 htb9 hbd ⟨B.exec, B.bytes, B.returns, hml, hown, hts, hX, hbl, B.notSynchronized, hgv⟩
    obtain ⟨t, a1, o, b1, b2, b3⟩ := K s₁ rfl X₀
    exact ⟨t, o, a1, b1, b2, b3⟩
theorem lw_pre_spec {args : Array Value} {s : State} (h : (Jvm.Cond.and given_1 narrow_1).before args s = true) (hr : rest_1_c.before args s = true) : ∃ (b : Addr) (xs : List Int32), lw_P b xs args s := by
  have hs := flat_of_before _ h
  have hq := flat_of_before _ hr
  have hc : (Cond.count 1).before args s = true := hs _ (by decide +kernel)
  have harr : (Cond.arrayOf (.arg 0) .int).before args s = true := hs _ (by decide +kernel)
  have hle : (Cond.le (.length (.arg 0)) (.int 384)).before args s = true := hs _ (by decide +kernel)
  have hlen : (Cond.isInt (.length (.arg 0))).before args s = true := hq _ (by decide +kernel)
  have hall : (Cond.all (.arg 0) (.isInt (.elem (.arg 0) (.index 0)))).before args s = true := hq _ (by decide +kernel)
  obtain ⟨b, xs, hb, hx⟩ := State.ints_of_pre rfl harr hlen hall
  have hsm : xs.length < 2 ^ 31 := hx.choose_spec.2.2.2
  have hev : (Term.length (.arg 0)).eval args s none [] s = some (.int xs.length.toInt32) := hx.length_eval hb
  have hv := Cond.le_ints hev (show (Term.int 384).eval args s none [] s = some (.int 384) from rfl)
  have hd : xs.length.toInt32 ≤ 384 := by
    simpa [Cond.before, Cond.holds, hv] using hle
  have hN : xs.length ≤ 384 := (Int32.ofNat_le_ofNat hsm (by decide)).mp (show Int32.ofNat xs.length ≤ Int32.ofNat 384 from hd)
  exact ⟨b, xs, Cond.one_arg hc (show args[0]? = some (.ref b) from hb), hx, hN, h⟩
theorem lw_comes (HL : LawRuns) (l : Launch) (hflags : l.flags = flags0) : Comes l x (Jvm.Cond.code x code maxLocals ret :: tables_1) room_1 (fun tb e args s => Calls_1 tb e args s ∧ rest_1 tb e args s ∧ Pre_1 tb e args s)
    (fun _ _ args s o t => lw_Q args s o t) := by
  intro p e ha hc hk s m args below hf hfit hheap happ hpre
  obtain ⟨b, xs, hP⟩ := lw_pre_spec hpre.2.2 hpre.2.1
  obtain ⟨k, o, h1, h2, h3, hQ⟩ := lw_walk HL l hflags b xs p e ha hc hk s m args below hf ((Spec.applies_iff_loose hf).mp happ).1 hP trivial
  exact ⟨k, o, h1, h2, h3, hQ⟩
theorem lw_frame {s t : State} {o : Outcome} {args : Array Value} (h : Framed s o t [] 751483 6841656) :
    Framed s o t (fieldLocs frame_1_writes args s ++ arrayLocs frame_1_arrays args s ++ staticLocs frame_1_statics s) 751483 6841656 := h
theorem lw_limb (HL : LawRuns) (L : Cond) (hL : ∀ (args : Array Value) (s t : State), L.after args s (.returned (some (.int 1))) t = true) :
    ArmFor flags0 classFile x code maxLocals ret World_1 tables_1 room_1 Calls_1 rest_1 Pre_1
      (fun tb e a s o t => postC L tb e a s o t ∧ Framed s o t (fieldLocs frame_1_writes a s ++ arrayLocs frame_1_arrays a s ++ staticLocs frame_1_statics s) 751483 6841656) := by
  intro l hflags _ _ p e ha hc hk s m args below hf hfit hheap happ hpre
  obtain ⟨k, o, h1, h2, h3, rfl, hF⟩ := lw_comes HL l hflags p e ha hc hk s m args below hf hfit hheap happ hpre
  exact ⟨k, _, h1, h2, h3, hL args s _, lw_frame hF⟩
theorem i_vc_of (HL : LawRuns) : Claimed_1_1 ∧ Claimed_1_2 := ⟨lw_limb HL limb_1_1 (fun args s t => by simp [limb_1_1, Cond.after, Cond.holds, Cond.value]), lw_limb HL limb_1_2 (fun args s t => Cond.after_iff.mpr (by
  first | (rw [show limb_1_2 = Cond.eq .result (.int 1) from rfl, Cond.eq_ints (x := 1) (y := 1) rfl rfl]; simp; done) | (simp [limb_1_2, Cond.value, Term.eval]; done)))⟩

