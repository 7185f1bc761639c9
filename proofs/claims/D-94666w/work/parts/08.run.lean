/-! PLAIN MACHINE, 3: runs and the rules to step through them -/
/-- what a method gives: it returns (a value or none), or throws -/
abbrev XO : Type := (Option XV) ⊕ Nat
abbrev oI (x : Int) : XO := Sum.inl (some (vI x))
abbrev oL (x : Int) : XO := Sum.inl (some (vL x))
abbrev oR (x : Nat) : XO := Sum.inl (some (vR x))
abbrev oV : XO := Sum.inl none
abbrev oX (a : Nat) : XO := Sum.inr a
noncomputable def xc_w {α : Type} (c : Prop) (a b : α) : α := @ite α c (Classical.propDecidable c) a b
theorem xc_t {α : Type} {c : Prop} {a b : α} (h : c) : xc_w c a b = a := by unfold xc_w; exact if_pos h
theorem xc_f {α : Type} {c : Prop} {a b : α} (h : ¬ c) : xc_w c a b = b := by unfold xc_w; exact if_neg h
noncomputable def xc_pick : List (Prop × XF) → Option XF
  | [] => none
  | q :: t => xc_w q.1 (some q.2) (xc_pick t)
noncomputable def xrun : Nat → Nat → Nat → XF → XM → Option (XO × XM)
  | 0, _, _, _, _ => none
  | n + 1, d, id, f, M => match prog id f.1 f.2.1 f.2.2 M with
    | .inl (g, f1, M1) => xc_w g (xrun n d id f1 M1) none
    | .inr (.inl (c, f1, f2)) => xc_w c (xrun n d id f1 M) (xrun n d id f2 M)
    | .inr (.inr (.inl cs)) => match xc_pick cs with
      | some f1 => xrun n d id f1 M
      | none => none
    | .inr (.inr (.inr (.inl (g, cid, vs, f1)))) => xc_w g (match d with
      | 0 => none
      | d1 + 1 => match xrun n d1 cid (0, xl_e 0 vs, []) M with
        | none => none
        | some (.inl none, M1) => xrun n d id f1 M1
        | some (.inl (some v), M1) => xrun n d id (f1.1, f1.2.1, v :: f1.2.2) M1
        | some (.inr a, M1) => match hndl id f.1 with
          | none => some (.inr a, M1)
          | some h => xrun n d id (h, f1.2.1, [vR a]) M1) none
    | .inr (.inr (.inr (.inr (.inl (g, v))))) => xc_w g (some (.inl v, M)) none
    | .inr (.inr (.inr (.inr (.inr (.inl (g, a)))))) => match hndl id f.1 with
      | none => xc_w g (some (.inr a, M)) none
      | some _ => none
    | .inr (.inr (.inr (.inr (.inr (.inr _))))) => none
theorem xrun_s {n d id : Nat} {f : XF} {M : XM} : xrun (n + 1) d id f M = match prog id f.1 f.2.1 f.2.2 M with
    | .inl (g, f1, M1) => xc_w g (xrun n d id f1 M1) none
    | .inr (.inl (c, f1, f2)) => xc_w c (xrun n d id f1 M) (xrun n d id f2 M)
    | .inr (.inr (.inl cs)) => match xc_pick cs with
      | some f1 => xrun n d id f1 M
      | none => none
    | .inr (.inr (.inr (.inl (g, cid, vs, f1)))) => xc_w g (match d with
      | 0 => none
      | d1 + 1 => match xrun n d1 cid (0, xl_e 0 vs, []) M with
        | none => none
        | some (.inl none, M1) => xrun n d id f1 M1
        | some (.inl (some v), M1) => xrun n d id (f1.1, f1.2.1, v :: f1.2.2) M1
        | some (.inr a, M1) => match hndl id f.1 with
          | none => some (.inr a, M1)
          | some h => xrun n d id (h, f1.2.1, [vR a]) M1) none
    | .inr (.inr (.inr (.inr (.inl (g, v))))) => xc_w g (some (.inl v, M)) none
    | .inr (.inr (.inr (.inr (.inr (.inl (g, a)))))) => match hndl id f.1 with
      | none => xc_w g (some (.inr a, M)) none
      | some _ => none
    | .inr (.inr (.inr (.inr (.inr (.inr _))))) => none := rfl
/-- more fuel does no harm -/
theorem xrun_more : ∀ (n d id : Nat) (f : XF) (M : XM) (r : XO × XM), xrun n d id f M = some r → xrun (n + 1) d id f M = some r := by
  intro n
  induction n with
  | zero => intro d id f M r h; exact absurd h (by simp [xrun])
  | succ n ih =>
    intro d id f M r h
    rw [xrun_s] at h ⊢
    generalize prog id f.1 f.2.1 f.2.2 M = s at h ⊢
    rcases s with ⟨g, f1, M1⟩ | ⟨c, f1, f2⟩ | cs | ⟨g, cid, vs, f1⟩ | ⟨g, v⟩ | ⟨g, a⟩ | u
    · dsimp only at h ⊢
      by_cases hg : g
      · rw [xc_t hg] at h ⊢; exact ih _ _ _ _ _ h
      · rw [xc_f hg] at h; cases h
    · dsimp only at h ⊢
      by_cases hg : c
      · rw [xc_t hg] at h ⊢; exact ih _ _ _ _ _ h
      · rw [xc_f hg] at h ⊢; exact ih _ _ _ _ _ h
    · dsimp only at h ⊢
      cases hp : xc_pick cs with
      | none => rw [hp] at h; cases h
      | some f1 => rw [hp] at h; exact ih _ _ _ _ _ h
    · dsimp only at h ⊢
      by_cases hg : g
      · rw [xc_t hg] at h ⊢
        cases d with
        | zero => cases h
        | succ d1 =>
          dsimp only at h ⊢
          cases hr : xrun n d1 cid (0, xl_e 0 vs, []) M with
          | none => rw [hr] at h; cases h
          | some q =>
            obtain ⟨o, M1⟩ := q
            have e := ih _ _ _ _ _ hr
            rw [e]
            rw [hr] at h
            rcases o with (_ | v) | a
            · exact ih _ _ _ _ _ h
            · exact ih _ _ _ _ _ h
            · dsimp only at h ⊢
              cases hh : hndl id f.1 with
              | none => rw [hh] at h; exact h
              | some k => rw [hh] at h; exact ih _ _ _ _ _ h
      · rw [xc_f hg] at h; cases h
    · exact h
    · exact h
    · exact h
theorem xrun_le {n m d id : Nat} {f : XF} {M : XM} {r : XO × XM} (h : xrun n d id f M = some r) (hm : n ≤ m) : xrun m d id f M = some r := by
  induction hm with
  | refl => exact h
  | step _ ih => exact xrun_more _ _ _ _ _ _ ih
/-- from this frame the method number id comes to its end, with Q -/
def Ev (d id : Nat) (f : XF) (M : XM) (Q : XO → XM → Prop) : Prop := ∃ (n : Nat) (o : XO) (M1 : XM), xrun n d id f M = some (o, M1) ∧ Q o M1
/-- a call of the method number id -/
def Ct (d id : Nat) (vs : List XV) (M : XM) (Q : XO → XM → Prop) : Prop := Ev d id (0, xl_e 0 vs, []) M Q
theorem Ev.mono {d id : Nat} {f : XF} {M : XM} {Q Q1 : XO → XM → Prop} (h : Ev d id f M Q) (hq : ∀ o M1, Q o M1 → Q1 o M1) : Ev d id f M Q1 := by
  obtain ⟨n, o, M1, h1, h2⟩ := h
  exact ⟨n, o, M1, h1, hq _ _ h2⟩
theorem ev_g {d id pc : Nat} {L : XL} {st : List XV} {M M1 : XM} {g : Prop} {f1 : XF} {Q : XO → XM → Prop} (hs : prog id pc L st M = rN g f1 M1) (hg : g) (k : Ev d id f1 M1 Q) : Ev d id (pc, L, st) M Q := by
  obtain ⟨n, o, M2, h1, h2⟩ := k
  refine ⟨n + 1, o, M2, ?_, h2⟩
  rw [xrun_s]
  dsimp only
  rw [hs]
  dsimp only
  rw [xc_t hg]
  exact h1
theorem ev_t {d id pc : Nat} {L : XL} {st : List XV} {M M1 : XM} {f1 : XF} {Q : XO → XM → Prop} (hs : prog id pc L st M = rN True f1 M1) (k : Ev d id f1 M1 Q) : Ev d id (pc, L, st) M Q := ev_g hs trivial k
theorem ev_b {d id pc : Nat} {L : XL} {st : List XV} {M : XM} {c : Prop} {f1 f2 : XF} {Q : XO → XM → Prop} (hs : prog id pc L st M = rB c f1 f2) (k1 : c → Ev d id f1 M Q) (k2 : ¬ c → Ev d id f2 M Q) : Ev d id (pc, L, st) M Q := by
  by_cases hc : c
  · obtain ⟨n, o, M2, h1, h2⟩ := k1 hc
    refine ⟨n + 1, o, M2, ?_, h2⟩
    rw [xrun_s]
    dsimp only
    rw [hs]
    dsimp only
    rw [xc_t hc]
    exact h1
  · obtain ⟨n, o, M2, h1, h2⟩ := k2 hc
    refine ⟨n + 1, o, M2, ?_, h2⟩
    rw [xrun_s]
    dsimp only
    rw [hs]
    dsimp only
    rw [xc_f hc]
    exact h1
def xc_all (d id : Nat) (M : XM) (Q : XO → XM → Prop) : List (Prop × XF) → Prop
  | [] => False
  | q :: t => (q.1 → Ev d id q.2 M Q) ∧ (¬ q.1 → xc_all d id M Q t)
theorem ev_m {d id pc : Nat} {L : XL} {st : List XV} {M : XM} {cs : List (Prop × XF)} {Q : XO → XM → Prop} (hs : prog id pc L st M = rM cs) (k : xc_all d id M Q cs) : Ev d id (pc, L, st) M Q := by
  have key : ∀ cs : List (Prop × XF), xc_all d id M Q cs → ∃ f1, xc_pick cs = some f1 ∧ Ev d id f1 M Q := by
    intro cs
    induction cs with
    | nil => intro h; exact h.elim
    | cons q t ih =>
      intro h
      by_cases hc : q.1
      · exact ⟨q.2, by show xc_w _ _ _ = _; rw [xc_t hc], h.1 hc⟩
      · obtain ⟨f1, e1, e2⟩ := ih (h.2 hc)
        exact ⟨f1, by show xc_w _ _ _ = _; rw [xc_f hc]; exact e1, e2⟩
  obtain ⟨f1, e1, n, o, M2, h1, h2⟩ := key cs k
  refine ⟨n + 1, o, M2, ?_, h2⟩
  rw [xrun_s]
  dsimp only
  rw [hs]
  dsimp only
  rw [e1]
  exact h1
theorem ev_r {d id pc : Nat} {L : XL} {st : List XV} {M : XM} {g : Prop} {v : Option XV} {Q : XO → XM → Prop} (hs : prog id pc L st M = rT g v) (hg : g) (k : Q (Sum.inl v) M) : Ev d id (pc, L, st) M Q := by
  refine ⟨1, _, M, ?_, k⟩
  rw [xrun_s]
  dsimp only
  rw [hs]
  dsimp only
  rw [xc_t hg]
theorem ev_x {d id pc : Nat} {L : XL} {st : List XV} {M : XM} {g : Prop} {a : Nat} {Q : XO → XM → Prop} (hs : prog id pc L st M = rX g a) (hh : hndl id pc = none) (hg : g) (k : Q (Sum.inr a) M) : Ev d id (pc, L, st) M Q := by
  refine ⟨1, _, M, ?_, k⟩
  rw [xrun_s]
  dsimp only
  rw [hs]
  dsimp only
  rw [hh]
  dsimp only
  rw [xc_t hg]
/-- a call, in general -/
theorem ev_c {d id pc cid : Nat} {L : XL} {st vs : List XV} {M : XM} {g : Prop} {f1 : XF} {Q Q1 : XO → XM → Prop} (hs : prog id pc L st M = rC g cid vs f1) (hg : g) (hc : Ct d cid vs M Q1)
    (k : ∀ o M1, Q1 o M1 → match o with
      | .inl none => Ev (d + 1) id f1 M1 Q
      | .inl (some v) => Ev (d + 1) id (f1.1, f1.2.1, v :: f1.2.2) M1 Q
      | .inr a => match hndl id pc with
        | none => Q (.inr a) M1
        | some h => Ev (d + 1) id (h, f1.2.1, [vR a]) M1 Q) : Ev (d + 1) id (pc, L, st) M Q := by
  obtain ⟨n, o, M1, h1, h2⟩ := hc
  have k := k o M1 h2
  rcases o with (_ | v) | a
  · obtain ⟨n2, o2, M2, e1, e2⟩ := k
    refine ⟨max n n2 + 1, o2, M2, ?_, e2⟩
    rw [xrun_s]
    dsimp only
    rw [hs]
    dsimp only
    rw [xc_t hg, xrun_le h1 (Nat.le_max_left n n2)]
    exact xrun_le e1 (Nat.le_max_right n n2)
  · obtain ⟨n2, o2, M2, e1, e2⟩ := k
    refine ⟨max n n2 + 1, o2, M2, ?_, e2⟩
    rw [xrun_s]
    dsimp only
    rw [hs]
    dsimp only
    rw [xc_t hg, xrun_le h1 (Nat.le_max_left n n2)]
    exact xrun_le e1 (Nat.le_max_right n n2)
  · dsimp only at k
    cases hh : hndl id pc with
    | none =>
      rw [hh] at k
      refine ⟨n + 1, _, M1, ?_, k⟩
      rw [xrun_s]
      dsimp only
      rw [hs]
      dsimp only
      rw [xc_t hg, h1]
      dsimp only
      rw [hh]
    | some h =>
      rw [hh] at k
      obtain ⟨n2, o2, M2, e1, e2⟩ := k
      refine ⟨max n n2 + 1, o2, M2, ?_, e2⟩
      rw [xrun_s]
      dsimp only
      rw [hs]
      dsimp only
      rw [xc_t hg, xrun_le h1 (Nat.le_max_left n n2)]
      dsimp only
      rw [hh]
      exact xrun_le e1 (Nat.le_max_right n n2)
/-! what contracts say -/
abbrev RI (post : Int → XM → Prop) : XO → XM → Prop := fun o M => ∃ r, o = oI r ∧ post r M
abbrev RL (post : Int → XM → Prop) : XO → XM → Prop := fun o M => ∃ r, o = oL r ∧ post r M
abbrev RR (post : Nat → XM → Prop) : XO → XM → Prop := fun o M => ∃ r, o = oR r ∧ post r M
abbrev RV (post : XM → Prop) : XO → XM → Prop := fun o M => o = oV ∧ post M
theorem ev_ci {d id pc cid : Nat} {L : XL} {st vs : List XV} {M : XM} {g : Prop} {f1 : XF} {Q : XO → XM → Prop} {post : Int → XM → Prop} (hs : prog id pc L st M = rC g cid vs f1) (hg : g) (hc : Ct d cid vs M (RI post))
    (k : ∀ r M1, post r M1 → Ev (d + 1) id (f1.1, f1.2.1, vI r :: f1.2.2) M1 Q) : Ev (d + 1) id (pc, L, st) M Q :=
  ev_c hs hg hc (fun o M1 h => by obtain ⟨r, rfl, h⟩ := h; exact k r M1 h)
theorem ev_cl {d id pc cid : Nat} {L : XL} {st vs : List XV} {M : XM} {g : Prop} {f1 : XF} {Q : XO → XM → Prop} {post : Int → XM → Prop} (hs : prog id pc L st M = rC g cid vs f1) (hg : g) (hc : Ct d cid vs M (RL post))
    (k : ∀ r M1, post r M1 → Ev (d + 1) id (f1.1, f1.2.1, vL r :: f1.2.2) M1 Q) : Ev (d + 1) id (pc, L, st) M Q :=
  ev_c hs hg hc (fun o M1 h => by obtain ⟨r, rfl, h⟩ := h; exact k r M1 h)
theorem ev_cr {d id pc cid : Nat} {L : XL} {st vs : List XV} {M : XM} {g : Prop} {f1 : XF} {Q : XO → XM → Prop} {post : Nat → XM → Prop} (hs : prog id pc L st M = rC g cid vs f1) (hg : g) (hc : Ct d cid vs M (RR post))
    (k : ∀ r M1, post r M1 → Ev (d + 1) id (f1.1, f1.2.1, vR r :: f1.2.2) M1 Q) : Ev (d + 1) id (pc, L, st) M Q :=
  ev_c hs hg hc (fun o M1 h => by obtain ⟨r, rfl, h⟩ := h; exact k r M1 h)
theorem ev_cv {d id pc cid : Nat} {L : XL} {st vs : List XV} {M : XM} {g : Prop} {f1 : XF} {Q : XO → XM → Prop} {post : XM → Prop} (hs : prog id pc L st M = rC g cid vs f1) (hg : g) (hc : Ct d cid vs M (RV post))
    (k : ∀ M1, post M1 → Ev (d + 1) id f1 M1 Q) : Ev (d + 1) id (pc, L, st) M Q :=
  ev_c hs hg hc (fun o M1 h => by obtain ⟨rfl, h⟩ := h; exact k M1 h)
/-! memory laws -/
theorem mI_wI (M : XM) (a : Nat) (f : Int → Int) : mI (wI M a f) = up (mI M) a f := rfl
theorem mI_wJ (M : XM) (a : Nat) (f : Int → Int) : mI (wJ M a f) = mI M := rfl
theorem mI_wR (M : XM) (a : Nat) (f : Int → Nat) : mI (wR M a f) = mI M := rfl
theorem mJ_wI (M : XM) (a : Nat) (f : Int → Int) : mJ (wI M a f) = mJ M := rfl
theorem mJ_wJ (M : XM) (a : Nat) (f : Int → Int) : mJ (wJ M a f) = up (mJ M) a f := rfl
theorem mJ_wR (M : XM) (a : Nat) (f : Int → Nat) : mJ (wR M a f) = mJ M := rfl
theorem mR_wI (M : XM) (a : Nat) (f : Int → Int) : mR (wI M a f) = mR M := rfl
theorem mR_wJ (M : XM) (a : Nat) (f : Int → Int) : mR (wJ M a f) = mR M := rfl
theorem mR_wR (M : XM) (a : Nat) (f : Int → Nat) : mR (wR M a f) = up (mR M) a f := rfl
theorem mS_wI (M : XM) (a : Nat) (f : Int → Int) : mS (wI M a f) = mS M := rfl
theorem mS_wJ (M : XM) (a : Nat) (f : Int → Int) : mS (wJ M a f) = mS M := rfl
theorem mS_wR (M : XM) (a : Nat) (f : Int → Nat) : mS (wR M a f) = mS M := rfl
theorem mN_wI (M : XM) (a : Nat) (f : Int → Int) : mN (wI M a f) = mN M := rfl
theorem mN_wJ (M : XM) (a : Nat) (f : Int → Int) : mN (wJ M a f) = mN M := rfl
theorem mN_wR (M : XM) (a : Nat) (f : Int → Nat) : mN (wR M a f) = mN M := rfl
theorem mU_wI (M : XM) (a : Nat) (f : Int → Int) : mU (wI M a f) = mU M := rfl
theorem mU_wJ (M : XM) (a : Nat) (f : Int → Int) : mU (wJ M a f) = mU M := rfl
theorem mU_wR (M : XM) (a : Nat) (f : Int → Nat) : mU (wR M a f) = mU M := rfl
theorem mS_nO (M : XM) (k n s : Nat) : mS (nO M k n s) = up (mS M) (mN M) (k, n) := rfl
theorem mI_nO (M : XM) (k n s : Nat) : mI (nO M k n s) = up (mI M) (mN M) (fun _ => 0) := rfl
theorem mJ_nO (M : XM) (k n s : Nat) : mJ (nO M k n s) = up (mJ M) (mN M) (fun _ => 0) := rfl
theorem mR_nO (M : XM) (k n s : Nat) : mR (nO M k n s) = up (mR M) (mN M) (fun _ => 0) := rfl
theorem mN_nO (M : XM) (k n s : Nat) : mN (nO M k n s) = mN M + 1 := rfl
theorem mU_nO (M : XM) (k n s : Nat) : mU (nO M k n s) = mU M + s := rfl
theorem up_s {α : Type} (f : Nat → α) (k : Nat) (v : α) : up f k v k = v := if_pos rfl
theorem up_n {α : Type} (f : Nat → α) {k j : Nat} (v : α) (h : j ≠ k) : up f k v j = f j := if_neg h
theorem ui_s {α : Type} (f : Int → α) (k : Int) (v : α) : ui f k v k = v := if_pos rfl
theorem ui_n {α : Type} (f : Int → α) {k j : Int} (v : α) (h : j ≠ k) : ui f k v j = f j := if_neg h
theorem up_up {α : Type} (f : Nat → α) (k : Nat) (v w : α) : up (up f k v) k w = up f k w := by
  funext j; unfold up; split <;> rfl
theorem up_self {α : Type} (f : Nat → α) (k : Nat) : up f k (f k) = f := by
  funext j; unfold up; split
  · next h => rw [h]
  · rfl
theorem wI_wI (M : XM) (a : Nat) (f g : Int → Int) : wI (wI M a f) a g = wI M a g := by
  show (M.1, up (up M.2.1 a f) a g, M.2.2) = _
  rw [up_up]; rfl
theorem wJ_wJ (M : XM) (a : Nat) (f g : Int → Int) : wJ (wJ M a f) a g = wJ M a g := by
  show (M.1, M.2.1, up (up M.2.2.1 a f) a g, M.2.2.2) = _
  rw [up_up]; rfl
theorem wR_wR (M : XM) (a : Nat) (f g : Int → Nat) : wR (wR M a f) a g = wR M a g := by
  show (M.1, M.2.1, M.2.2.1, up (up M.2.2.2.1 a f) a g, M.2.2.2.2) = _
  rw [up_up]; rfl
theorem wI_self (M : XM) (a : Nat) : wI M a (mI M a) = M := by
  show (M.1, up M.2.1 a (M.2.1 a), M.2.2) = _
  rw [up_self]
theorem wJ_self (M : XM) (a : Nat) : wJ M a (mJ M a) = M := by
  show (M.1, M.2.1, up M.2.2.1 a (M.2.2.1 a), M.2.2.2) = _
  rw [up_self]
theorem wR_self (M : XM) (a : Nat) : wR M a (mR M a) = M := by
  show (M.1, M.2.1, M.2.2.1, up M.2.2.2.1 a (M.2.2.2.1 a), M.2.2.2.2) = _
  rw [up_self]
