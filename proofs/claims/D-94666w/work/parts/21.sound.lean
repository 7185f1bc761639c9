/-! SOUNDNESS, 13: handlers, entries; the soundness of runs -/
theorem snd_h (id pc h : Nat) (e : hndl id pc = some h) : SndH id pc h := by
  have e1 : id = 24 ∧ (27 ≤ pc ∧ pc < 31) ∧ h = 34 := by
    unfold hndl at e
    cases h1 : Nat.beq id 24 with
    | false => rw [h1] at e; cases e
    | true =>
      cases h2 : Nat.ble 27 pc with
      | false => rw [h1, h2] at e; cases e
      | true =>
        cases h3 : Nat.blt pc 31 with
        | false => rw [h1, h2, h3] at e; cases e
        | true =>
          rw [h1, h2, h3] at e
          have h4 := Nat.le_of_ble_eq_true h3
          exact ⟨Nat.eq_of_beq_eq_true h1, ⟨Nat.le_of_ble_eq_true h2, h4⟩, (Option.some.inj e).symm⟩
  obtain ⟨rfl, hp, rfl⟩ := e1
  intro G p l e R s m args below meth c Q n0 u0 hC htb L st a M hAW q1 q2 ok hk H locs ls hR hO hS hl
  obtain ⟨ce, c1, c2, c3⟩ := thr_at hC.2.2.2.2.2.1 hR hk
  refine vx_catch (own := "WeekFoot") (name := RX9) (E := RX9) hC.2.2.2.1 [] ⟨27, 31, 34, 171⟩ [] htb (fun z hz => by cases hz) ?_ (by decide) (hC.2.2.2.2.1 _ q457) (va_Nw.use rfl (hC.2.2.2.2.2.1.2.1 _ q570 rfl)) c1 c2 c3 ?_
  · show (decide (27 ≤ pc) && decide (pc < 31)) = true
    rw [decide_eq_true hp.1, decide_eq_true hp.2]; rfl
  · have k := hAW q1 q2 ⟨ok.1, fun v hv => by rw [List.mem_singleton.mp hv]; trivial⟩ H locs ls hR hO hS hl
    rw [sV_cons (okS_new hR.2.2.2.1 (Or.inl (by omega)) hk).1] at k
    exact k
theorem ent_all (id : Nat) : Ent id := by
  refine ⟨pl_all id, ?_⟩
  cases e : Nat.beq id 24 with
  | false => left; unfold sWs sTb; rw [e]; exact ⟨rfl, rfl⟩
  | true =>
    right
    refine ⟨by unfold sWs; rw [e]; rfl, by unfold sTb; rw [e]; rfl, fun pc h hp => ?_⟩
    unfold hndl at h
    rw [e, Nat.ble_eq_true_of_le hp.1, show Nat.blt pc 31 = true from Nat.ble_eq_true_of_le hp.2] at h
    cases h
theorem run_snd (n d id : Nat) (f : XF) (M : XM) (o : XO) (MF : XM) (h : xrun n d id f M = some (o, MF)) : (mN M ≤ mN MF ∧ mU M ≤ mU MF) ∧ Fr d id f M o MF := run_sound sa_all snd_h ent_all n d id f M o MF h
