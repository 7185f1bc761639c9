/-! CONTRACTS, 1: stepping in the large; the fixed cells -/
/-- a truth as a number -/
noncomputable def bi (p : Prop) : Int := xc_w p 1 0
theorem bi_t {p : Prop} (h : p) : bi p = 1 := xc_t h
theorem bi_f {p : Prop} (h : ¬ p) : bi p = 0 := xc_f h
theorem bi_01 (p : Prop) : bi p = 0 ∨ bi p = 1 := by
  by_cases h : p
  · exact Or.inr (bi_t h)
  · exact Or.inl (bi_f h)
theorem bi_0 {p : Prop} : bi p = 0 ↔ ¬ p := by
  constructor
  · intro e h
    rw [bi_t h] at e
    exact absurd e (by decide)
  · exact bi_f
theorem bi_1 {p : Prop} : bi p = 1 ↔ p := by
  constructor
  · intro e
    by_cases h : p
    · exact h
    · rw [bi_f h] at e
      exact absurd e (by decide)
  · exact bi_t
theorem bi_c {p q : Prop} (h : p ↔ q) : bi p = bi q := by rw [propext h]
section
variable {d id pc : Nat} {L : XL} {st : List XV} {M M1 : XM} {g c : Prop} {f1 f2 : XF} {Q : XO → XM → Prop}
theorem sv_t (lo hi : Nat) (hb : (Nat.ble lo pc && Nat.blt pc hi) = true) (hs : prog id pc L st M = rN True f1 M1) (hf : Nat.blt pc f1.1 = true) (k : Ev d id f1 M1 Q) : Ev d id (pc, L, st) M Q := ev_t hs k
theorem sv_g (lo hi : Nat) (hb : (Nat.ble lo pc && Nat.blt pc hi) = true) (hs : prog id pc L st M = rN g f1 M1) (hf : Nat.blt pc f1.1 = true) (hg : g) (k : Ev d id f1 M1 Q) : Ev d id (pc, L, st) M Q := ev_g hs hg k
theorem sv_fr (lo hi : Nat) {n a v : Nat} {x : Int} {L1 : XL} {st1 : List XV} (hb : (Nat.ble lo pc && Nat.blt pc hi) = true) (hs : prog id pc L st M = rN g (n, L1, vR (mR M a x) :: st1) M) (hr : mR M a x = v) (hg : g) (k : Ev d id (n, L1, vR v :: st1) M Q) : Ev d id (pc, L, st) M Q := by
  subst hr
  exact ev_g hs hg k
theorem sv_b (lo hi : Nat) (hb : (Nat.ble lo pc && Nat.blt pc hi) = true) (hs : prog id pc L st M = rB c f1 f2) (k1 : c → Ev d id f1 M Q) (k2 : ¬ c → Ev d id f2 M Q) : Ev d id (pc, L, st) M Q := ev_b hs k1 k2
theorem sv_bt (lo hi : Nat) (hb : (Nat.ble lo pc && Nat.blt pc hi) = true) (hs : prog id pc L st M = rB c f1 f2) (hc : c) (k1 : Ev d id f1 M Q) : Ev d id (pc, L, st) M Q := ev_b hs (fun _ => k1) (fun z => absurd hc z)
theorem sv_bf (lo hi : Nat) (hb : (Nat.ble lo pc && Nat.blt pc hi) = true) (hs : prog id pc L st M = rB c f1 f2) (hc : ¬ c) (k1 : Ev d id f2 M Q) : Ev d id (pc, L, st) M Q := ev_b hs (fun z => absurd z hc) (fun _ => k1)
theorem sv_b0 (lo hi : Nat) {p : Prop} (hb : (Nat.ble lo pc && Nat.blt pc hi) = true) (hs : prog id pc L st M = rB (k0e (bi p)) f1 f2) (k1 : ¬ p → Ev d id f1 M Q) (k2 : p → Ev d id f2 M Q) : Ev d id (pc, L, st) M Q := ev_b hs (fun z => k1 (bi_0.mp z)) (fun z => k2 (Classical.byContradiction fun h => z (bi_f h)))
theorem sv_b1 (lo hi : Nat) {p : Prop} (hb : (Nat.ble lo pc && Nat.blt pc hi) = true) (hs : prog id pc L st M = rB (k0n (bi p)) f1 f2) (k1 : p → Ev d id f1 M Q) (k2 : ¬ p → Ev d id f2 M Q) : Ev d id (pc, L, st) M Q := ev_b hs (fun z => k1 (Classical.byContradiction fun h => z (bi_f h))) (fun z => k2 (fun h => z (by rw [bi_t h]; decide)))
/-- at a loop's head only the locals that live count -/
theorem ev_h {L1 : XL} (h : prog id pc L st M = prog id pc L1 st M) (k : Ev d id (pc, L1, st) M Q) : Ev d id (pc, L, st) M Q := by
  obtain ⟨n, o, M2, h1, h2⟩ := k
  refine ⟨n, o, M2, ?_, h2⟩
  cases n with
  | zero => exact absurd h1 (by simp [xrun])
  | succ n =>
    rw [xrun_s] at h1 ⊢
    dsimp only at h1 ⊢
    rw [h]
    exact h1
/-- a pure call with a truth -/
theorem sv_cb (lo hi : Nat) {cid : Nat} {vs : List XV} {p : Prop} (hb : (Nat.ble lo pc && Nat.blt pc hi) = true) (hs : prog id pc L st M = rC g cid vs f1) (hc : Ct d cid vs M (RI fun r M1 => M1 = M ∧ r = bi p)) (hg : g)
    (k : Ev (d + 1) id (f1.1, f1.2.1, vI (bi p) :: f1.2.2) M Q) : Ev (d + 1) id (pc, L, st) M Q :=
  ev_ci hs hg hc (fun r M1 h => by obtain ⟨rfl, rfl⟩ := h; exact k)
/-- a pure call with a number -/
theorem sv_cp (lo hi : Nat) {cid : Nat} {vs : List XV} {x : Int} (hb : (Nat.ble lo pc && Nat.blt pc hi) = true) (hs : prog id pc L st M = rC g cid vs f1) (hc : Ct d cid vs M (RI fun r M1 => M1 = M ∧ r = x)) (hg : g)
    (k : Ev (d + 1) id (f1.1, f1.2.1, vI x :: f1.2.2) M Q) : Ev (d + 1) id (pc, L, st) M Q :=
  ev_ci hs hg hc (fun r M1 h => by obtain ⟨rfl, rfl⟩ := h; exact k)
end
theorem c_2 (d : Nat) (v lo hi : Int) (M : XM) : Ct d 2 [vI v, vI lo, vI hi] M (RI fun r M1 => M1 = M ∧ r = bi (lo ≤ v ∧ v ≤ hi)) := by
  unfold Ct
  repeat' (first
    | refine sv_t 0 100 rfl rfl rfl ?_
    | refine sv_b 0 100 rfl rfl (fun _ => ?_) (fun _ => ?_))
  all_goals (refine ev_r rfl (by first | decide | exact bi_01 _) ⟨_, rfl, rfl, ?_⟩)
  all_goals (first | (rw [bi_t (by omega)]; done) | (rw [bi_f (by omega)]; done))
theorem c_8 (d : Nat) (v : Int) (M : XM) : Ct (d + 1) 8 [vI v] M (RI fun r M1 => M1 = M ∧ r = bi (0 ≤ v ∧ v ≤ 31)) := by
  unfold Ct
  repeat' (first
    | refine sv_t 0 100 rfl rfl rfl ?_
    | refine sv_cb 0 100 rfl rfl (c_2 _ _ _ _ _) trivial ?_)
  exact ev_r rfl (bi_01 _) ⟨_, rfl, rfl, rfl⟩
