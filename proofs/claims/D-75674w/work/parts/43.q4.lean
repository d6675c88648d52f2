set_option maxRecDepth 100000
/-! stage 2: questions, 4 -/
variable {L : Lh} {σ μ σ' μ' μ2 : PS}
theorem cracksIn_e {K : Kf} (R : K.RX σ) (H : K.X σ) (O : K.Ok) (v : Int32) : X_cracksIn σ v = some (nI (cnt (fun p => decide (oI (K.R K.ns p).crack = v)) K.np)) := by
  have hn := O.np
  unfold X_cracksIn
  refine fold_e (fun a k => (nI a, nI k)) (fun p a => if decide (oI (K.R K.ns p).crack = v) = true then a + 1 else a) (fun _ _ => True) 0 K.np trivial (fun k x hk _ => ⟨?_, trivial⟩) (fun x hx _ => ?_) (by omega)
  · show X_cracksIn_l4 σ v (nI x) (nI k) = _
    unfold X_cracksIn_l4 X_cracksIn_j31
    rw [H.np, if_neg (by rw [le_I (by omega) (by omega)]; omega), ix_nI (by omega) (by omega), rA_nI (by omega), R.crack k hk]
    simp only [nm_eq, nI_1]
    by_cases c : oI (K.R K.ns k).crack = v
    · rw [if_pos c, decide_eq_true c]; rfl
    · rw [if_neg c, decide_eq_false c, Int32.add_zero]; rfl
  · show X_cracksIn_l4 σ v (nI x) (nI K.np) = _
    unfold X_cracksIn_l4 X_cracksIn_j39
    rw [H.np, if_pos (by rw [le_I (by omega) (by omega)]; omega), hx]; rfl
theorem crackedIn_e {K : Kf} (R : K.RM μ) (H : K.M μ) (O : K.Ok) (v : Int32) : M_crackedIn μ v = some (bits (fun p => decide (oI (K.R K.ns p).crack = v)) K.np) := by
  have hn := O.np
  unfold M_crackedIn
  refine fold_e (fun a k => (a, nI k)) (fun p a => a ||| (if decide (oI (K.R K.ns p).crack = v) = true then 1 <<< (nI p &&& 31) else 0)) (fun _ _ => True) 0 K.np trivial (fun k x hk _ => ⟨?_, trivial⟩) (fun x hx _ => ?_) (by omega)
  · show M_crackedIn_l4 μ v x (nI k) = _
    unfold M_crackedIn_l4 M_crackedIn_j30
    rw [H.pieces_e, bd_some, if_neg (by rw [le_I (by omega) (by omega)]; omega), ix_nI (by omega) (by omega), rA_nI (by omega), R.crack k hk]
    simp only [nm_eq, nI_1]
    by_cases c : oI (K.R K.ns k).crack = v
    · rw [if_pos c, decide_eq_true c]; rfl
    · rw [if_neg c, decide_eq_false c]; rfl
  · show M_crackedIn_l4 μ v x (nI K.np) = _
    unfold M_crackedIn_l4 M_crackedIn_j38
    rw [H.pieces_e, bd_some, if_pos (by rw [le_I (by omega) (by omega)]; omega), hx]; rfl
theorem q_worst (H : L.X σ) (G : Lh.M 0 L μ) (O : L.Ok) : Ag σ μ (X_worst σ) (M_worst μ) := by
  obtain ⟨σ', μ', μ2, A⟩ := asked_e H G O
  unfold X_worst M_worst
  simp only [A.step, A.piece, A.lehr, A.isPiece, A.isZone, A.mStep, A.mPiece, A.mZone, A.mLehr, A.mThen, A.now, A.lay, bd_some, nm_eq, X_worst_j55, X_worst_j49, X_worst_j44, M_worst_j67, M_worst_j61, M_worst_j56]
  by_cases c0 : 0 < L.lines
  · simp only [decide_eq_true c0, bIt, bIf, if_true, if_false, Bool.and_true, Bool.and_false, Bool.false_and, Bool.true_and]
    have hs : L.K.ns ≤ 14 := A.k.ns
    have hnp : L.K.np ≤ 6 := A.k.np
    have hnz : L.zones ≤ 7 := O.zones
    have zM : gI μ' 25 = nI L.zones := A.hM.nz
    have zM2 : gI μ2 25 = nI L.zones := A.hM2.nz
    have inX : ∀ {t : Nat} (z : Int32), t ≤ 15 → X_insideOf σ' z (nI t) = some (bits (fun p => decide (L.K.plM p t = z)) L.K.np) := fun z h => by rw [A.hX.inside_e A.k h z, show (fun p => decide (L.K.plX p _ = z)) = (fun p => decide (L.K.plM p _ = z)) from funext (fun p => by rw [L.pl])]
    have mX : ∀ c, J_bitCount (bits c L.K.np) = some (nI (cnt c L.K.np)) := fun c => (many_e c (by omega)).1
    have mM : ∀ c, M_sizeOf (bits c L.K.np) = some (nI (cnt c L.K.np)) := fun c => (many_e c (by omega)).2
    have airX : ∀ {z t : Nat}, z < L.K.nz → t ≤ 15 → X_airOf σ' (nI z) (nI t) = some (nI (L.K.airOf z t)) := fun hz ht => by have := A.hX.air_e A.k hz ht; rw [L.ord hz] at this; exact this
    have cX := cracksIn_e A.rX A.hX A.k
    have cM := crackedIn_e A.rM A.hM A.k
    refine Ag.of (lock_e (b1 := X_worst_B14 σ' ) (b2 := M_worst_B23 μ' ) (L.K.ns + 1) (fun k s => ∃ a, s = (oI a, nI k) ∧ ∀ b, a = some b → b < k + 0) (fun r1 r2 => r1.1 = r2.1 ∧ r1.2 = σ' ∧ r2.2 = μ') ⟨none, rfl, fun b h => (by cases h)⟩ (fun k s hk hI => ?_) (fun s hI => ?_) (by omega)) A.fX A.fM
    · obtain ⟨a, rfl, hb⟩ := hI
      have kf : (L.K.ns < k) = False := eq_false (by omega)
      show Sm _ _ (X_worst_l14 σ'  (oI a) (nI k)) (M_worst_l23 μ'  (oI a) (nI k))
      unfold X_worst_l14 M_worst_l23
      cases a with
      | none =>
        simp (disch := omega) only [bd_some, nm_eq, le_I, lt_I, eq_I, nI_1, nI_add, ix_nI, rA_nI, mul_L, add_L, A.hX.np, A.hX.ns, A.hM.pieces_e, A.hM.steps_e, A.hM2.pieces_e, A.hM2.steps_e, A.lX.zones, zM, zM2, A.hX.come_e A.k, A.hM.come_e A.k, A.rX.skin_e A.k, A.rM.skin_e A.k, A.rX.core_e A.k, A.rM.core_e A.k, A.rX.strain_e A.k, A.rM.strain_e A.k, A.rX.whole_e A.k, A.rM.whole_e A.k, A.hX.place A.k, A.hM.place A.k, A.hM2.place A.k, L.pl, inX, A.hM.inside_e A.k, A.hM2.inside_e A.k, A.rX.sound_e A.k, A.rX.soundNow_e A.hX A.k, A.rM.soundNow_e A.hM A.k, airX, mX, mM, A.hM.air_e A.k, A.hM2.air_e A.k, A.rX.crack, A.rM.crack, A.rX.why, A.rM.why, A.rX.fz, A.rM.fz, A.rX.st, A.rM.st, A.hX.comes, A.hM.comes_e A.k, A.hX.set, A.hM.set, ix40_4, r17_4, kf, if_false, show oI none = -1 from rfl, if_true, cX, cM, X_worst_j55, X_worst_j49, X_worst_j44, M_worst_j67, M_worst_j61, M_worst_j56]
        repeat' first | exact Sm.next rfl rfl ⟨none, rfl, fun b h => (by cases h)⟩ | exact Sm.next rfl rfl ⟨some _, rfl, fun b h => (by cases h; omega)⟩ | refine Sm.ite (fun c => ?_) (fun c => ?_)
      | some b =>
        have hb2 := hb b rfl
        simp (disch := omega) only [bd_some, nm_eq, le_I, lt_I, eq_I, nI_1, nI_add, ix_nI, rA_nI, mul_L, add_L, A.hX.np, A.hX.ns, A.hM.pieces_e, A.hM.steps_e, A.hM2.pieces_e, A.hM2.steps_e, A.lX.zones, zM, zM2, A.hX.come_e A.k, A.hM.come_e A.k, A.rX.skin_e A.k, A.rM.skin_e A.k, A.rX.core_e A.k, A.rM.core_e A.k, A.rX.strain_e A.k, A.rM.strain_e A.k, A.rX.whole_e A.k, A.rM.whole_e A.k, A.hX.place A.k, A.hM.place A.k, A.hM2.place A.k, L.pl, inX, A.hM.inside_e A.k, A.hM2.inside_e A.k, A.rX.sound_e A.k, A.rX.soundNow_e A.hX A.k, A.rM.soundNow_e A.hM A.k, airX, mX, mM, A.hM.air_e A.k, A.hM2.air_e A.k, A.rX.crack, A.rM.crack, A.rX.why, A.rM.why, A.rX.fz, A.rM.fz, A.rX.st, A.rM.st, A.hX.comes, A.hM.comes_e A.k, A.hX.set, A.hM.set, ix40_4, r17_4, kf, if_false, show oI (some b) = nI b from rfl, nI_m1, cX, cM, X_worst_j55, X_worst_j49, X_worst_j44, M_worst_j67, M_worst_j61, M_worst_j56]
        repeat' first | exact Sm.next rfl rfl ⟨some b, rfl, fun b h => (by cases h; omega)⟩ | exact Sm.next rfl rfl ⟨some _, rfl, fun b h => (by cases h; omega)⟩ | refine Sm.ite (fun c => ?_) (fun c => ?_)
    · obtain ⟨a, rfl, hb⟩ := hI
      have kf : (L.K.ns < L.K.ns + 1) = True := eq_true (by omega)
      show ∃ r1 r2, X_worst_l14 σ'  (oI a) (nI (L.K.ns + 1)) = some (.inr r1) ∧ M_worst_l23 μ'  (oI a) (nI (L.K.ns + 1)) = some (.inr r2) ∧ _
      unfold X_worst_l14 M_worst_l23
      simp (disch := omega) only [bd_some, nm_eq, le_I, lt_I, eq_I, nI_1, nI_add, ix_nI, rA_nI, mul_L, add_L, A.hX.np, A.hX.ns, A.hM.pieces_e, A.hM.steps_e, A.hM2.pieces_e, A.hM2.steps_e, A.lX.zones, zM, zM2, A.hX.come_e A.k, A.hM.come_e A.k, A.rX.skin_e A.k, A.rM.skin_e A.k, A.rX.core_e A.k, A.rM.core_e A.k, A.rX.strain_e A.k, A.rM.strain_e A.k, A.rX.whole_e A.k, A.rM.whole_e A.k, A.hX.place A.k, A.hM.place A.k, A.hM2.place A.k, L.pl, inX, A.hM.inside_e A.k, A.hM2.inside_e A.k, A.rX.sound_e A.k, A.rX.soundNow_e A.hX A.k, A.rM.soundNow_e A.hM A.k, airX, mX, mM, A.hM.air_e A.k, A.hM2.air_e A.k, A.rX.crack, A.rM.crack, A.rX.why, A.rM.why, A.rX.fz, A.rM.fz, A.rX.st, A.rM.st, A.hX.comes, A.hM.comes_e A.k, A.hX.set, A.hM.set, ix40_4, r17_4, kf, if_true, cX, cM, X_worst_j55, X_worst_j49, X_worst_j44, M_worst_j67, M_worst_j61, M_worst_j56]
      exact ⟨_, _, rfl, rfl, rfl, rfl, rfl⟩
  · simp only [decide_eq_false c0, bIt, bIf, if_true, if_false, Bool.and_true, Bool.and_false, Bool.false_and, Bool.true_and]
    exact ⟨-2, σ', _, rfl, rfl, A.fX, A.fM0⟩
theorem q_idle (H : L.X σ) (G : Lh.M 0 L μ) (O : L.Ok) : Ag σ μ (X_idle σ) (M_idle μ) := by
  obtain ⟨σ', μ', μ2, A⟩ := asked_e H G O
  unfold X_idle M_idle
  simp only [A.step, A.piece, A.lehr, A.isPiece, A.isZone, A.mStep, A.mPiece, A.mZone, A.mLehr, A.mThen, A.now, A.lay, bd_some, nm_eq, X_idle_j49, X_idle_j41, M_idle_j55, M_idle_j47]
  by_cases c0 : 0 < L.lines
  · simp only [decide_eq_true c0, bIt, bIf, if_true, if_false, Bool.and_true, Bool.and_false, Bool.false_and, Bool.true_and]
    have hs : L.K.ns ≤ 14 := A.k.ns
    have hnp : L.K.np ≤ 6 := A.k.np
    have hnz : L.zones ≤ 7 := O.zones
    have zM : gI μ' 25 = nI L.zones := A.hM.nz
    have zM2 : gI μ2 25 = nI L.zones := A.hM2.nz
    have inX : ∀ {t : Nat} (z : Int32), t ≤ 15 → X_insideOf σ' z (nI t) = some (bits (fun p => decide (L.K.plM p t = z)) L.K.np) := fun z h => by rw [A.hX.inside_e A.k h z, show (fun p => decide (L.K.plX p _ = z)) = (fun p => decide (L.K.plM p _ = z)) from funext (fun p => by rw [L.pl])]
    have mX : ∀ c, J_bitCount (bits c L.K.np) = some (nI (cnt c L.K.np)) := fun c => (many_e c (by omega)).1
    have mM : ∀ c, M_sizeOf (bits c L.K.np) = some (nI (cnt c L.K.np)) := fun c => (many_e c (by omega)).2
    have airX : ∀ {z t : Nat}, z < L.K.nz → t ≤ 15 → X_airOf σ' (nI z) (nI t) = some (nI (L.K.airOf z t)) := fun hz ht => by have := A.hX.air_e A.k hz ht; rw [L.ord hz] at this; exact this
    refine Ag.of (lock_e (b1 := X_idle_B14 σ' ) (b2 := M_idle_B23 μ2 ) (L.zones) (fun k s => ∃ a, s = (a, nI k)) (fun r1 r2 => r1.1 = r2.1 ∧ r1.2 = σ' ∧ r2.2 = μ2) ⟨_, rfl⟩ (fun k s hk hI => ?_) (fun s hI => ?_) (by omega)) A.fX A.fM2
    · obtain ⟨a, rfl⟩ := hI
      have kf : (L.zones ≤ k) = False := eq_false (by omega)
      show Sm _ _ (X_idle_l14 σ'  a (nI k)) (M_idle_l23 μ2  a (nI k))
      obtain ⟨b, e1, e2⟩ := busy_e A (nI k)
      unfold X_idle_l14 M_idle_l23
      simp (disch := omega) only [bd_some, nm_eq, le_I, lt_I, eq_I, nI_1, nI_add, ix_nI, rA_nI, mul_L, add_L, A.hX.np, A.hX.ns, A.hM.pieces_e, A.hM.steps_e, A.hM2.pieces_e, A.hM2.steps_e, A.lX.zones, zM, zM2, A.hX.come_e A.k, A.hM.come_e A.k, A.rX.skin_e A.k, A.rM.skin_e A.k, A.rX.core_e A.k, A.rM.core_e A.k, A.rX.strain_e A.k, A.rM.strain_e A.k, A.rX.whole_e A.k, A.rM.whole_e A.k, A.hX.place A.k, A.hM.place A.k, A.hM2.place A.k, L.pl, inX, A.hM.inside_e A.k, A.hM2.inside_e A.k, A.rX.sound_e A.k, A.rX.soundNow_e A.hX A.k, A.rM.soundNow_e A.hM A.k, airX, mX, mM, A.hM.air_e A.k, A.hM2.air_e A.k, A.rX.crack, A.rM.crack, A.rX.why, A.rM.why, A.rX.fz, A.rM.fz, A.rX.st, A.rM.st, A.hX.comes, A.hM.comes_e A.k, A.hX.set, A.hM.set, ix40_4, r17_4, kf, if_false, e1, e2, X_idle_j49, X_idle_j41, M_idle_j55, M_idle_j47]
      repeat' first | exact Sm.next rfl rfl ⟨_, rfl⟩ | exact Sm.done rfl rfl ⟨rfl, rfl, rfl⟩ | refine Sm.ite (fun c => ?_) (fun c => ?_)
    · obtain ⟨a, rfl⟩ := hI
      have kf : (L.zones ≤ L.zones) = True := eq_true (by omega)
      show ∃ r1 r2, X_idle_l14 σ'  a (nI L.zones) = some (.inr r1) ∧ M_idle_l23 μ2  a (nI L.zones) = some (.inr r2) ∧ _
      unfold X_idle_l14 M_idle_l23
      simp (disch := omega) only [bd_some, nm_eq, le_I, lt_I, eq_I, nI_1, nI_add, ix_nI, rA_nI, mul_L, add_L, A.hX.np, A.hX.ns, A.hM.pieces_e, A.hM.steps_e, A.hM2.pieces_e, A.hM2.steps_e, A.lX.zones, zM, zM2, A.hX.come_e A.k, A.hM.come_e A.k, A.rX.skin_e A.k, A.rM.skin_e A.k, A.rX.core_e A.k, A.rM.core_e A.k, A.rX.strain_e A.k, A.rM.strain_e A.k, A.rX.whole_e A.k, A.rM.whole_e A.k, A.hX.place A.k, A.hM.place A.k, A.hM2.place A.k, L.pl, inX, A.hM.inside_e A.k, A.hM2.inside_e A.k, A.rX.sound_e A.k, A.rX.soundNow_e A.hX A.k, A.rM.soundNow_e A.hM A.k, airX, mX, mM, A.hM.air_e A.k, A.hM2.air_e A.k, A.rX.crack, A.rM.crack, A.rX.why, A.rM.why, A.rX.fz, A.rM.fz, A.rX.st, A.rM.st, A.hX.comes, A.hM.comes_e A.k, A.hX.set, A.hM.set, ix40_4, r17_4, kf, if_true, X_idle_j49, X_idle_j41, M_idle_j55, M_idle_j47]
      exact ⟨_, _, rfl, rfl, rfl, rfl, rfl⟩
  · simp only [decide_eq_false c0, bIt, bIf, if_true, if_false, Bool.and_true, Bool.and_false, Bool.false_and, Bool.true_and]
    exact ⟨-2, σ', _, rfl, rfl, A.fX, A.fM0⟩
theorem crowd_in (A : Asked L σ μ σ' μ' μ2) {t : Nat} (ht : t ≤ 14) (a : Int32) : ∃ r1 r2, loop (X_crowd_B27 σ' (nI t)) fu (a, 0) = some r1 ∧ loop (M_crowd_B33 μ2 (nI t)) fu (a, 0) = some r2 ∧ ∃ c, r1 = .inl (c, nI (t + 1)) ∧ r2 = .inl (c, nI (t + 1)) := by
  have hnz : L.zones ≤ 7 := A.ok.zones
  have hnp : L.K.np ≤ 6 := A.k.np
  have zM2 : gI μ2 25 = nI L.zones := A.hM2.nz
  have inX : ∀ {t : Nat} (z : Int32), t ≤ 15 → X_insideOf σ' z (nI t) = some (bits (fun p => decide (L.K.plM p t = z)) L.K.np) := fun z h => by rw [A.hX.inside_e A.k h z, show (fun p => decide (L.K.plX p _ = z)) = (fun p => decide (L.K.plM p _ = z)) from funext (fun p => by rw [L.pl])]
  have mX : ∀ c, J_bitCount (bits c L.K.np) = some (nI (cnt c L.K.np)) := fun c => (many_e c (by omega)).1
  have mM : ∀ c, M_sizeOf (bits c L.K.np) = some (nI (cnt c L.K.np)) := fun c => (many_e c (by omega)).2
  refine lock_e (b1 := X_crowd_B27 σ' (nI t)) (b2 := M_crowd_B33 μ2 (nI t)) L.zones (fun k s => ∃ a, s = (a, nI k)) (fun r1 r2 => ∃ c, r1 = .inl (c, nI (t + 1)) ∧ r2 = .inl (c, nI (t + 1))) ⟨a, rfl⟩ (fun k s hk hI => ?_) (fun s hI => ?_) (by omega)
  · obtain ⟨a, rfl⟩ := hI
    have kf : (L.zones ≤ k) = False := eq_false (by omega)
    show Sm _ _ (X_crowd_l27 σ' (nI t) a (nI k)) (M_crowd_l33 μ2 (nI t) a (nI k))
    unfold X_crowd_l27 M_crowd_l33
    simp (disch := omega) only [A.lX.zones, zM2, le_I, kf, if_false, inX, A.hM2.inside_e A.k, mX, mM, bd_some, nm_eq, more_mx, nI_1]
    exact Sm.next rfl rfl ⟨_, rfl⟩
  · obtain ⟨a, rfl⟩ := hI
    have kf : (L.zones ≤ L.zones) = True := eq_true (by omega)
    show ∃ r1 r2, X_crowd_l27 σ' (nI t) a (nI L.zones) = some (.inr r1) ∧ M_crowd_l33 μ2 (nI t) a (nI L.zones) = some (.inr r2) ∧ _
    unfold X_crowd_l27 M_crowd_l33
    simp (disch := omega) only [A.lX.zones, zM2, le_I, kf, if_true, X_crowd_j58, M_crowd_j61, nm_eq, nI_1]
    exact ⟨_, _, rfl, rfl, a, rfl, rfl⟩
theorem q_crowd (H : L.X σ) (G : Lh.M 0 L μ) (O : L.Ok) : Ag σ μ (X_crowd σ) (M_crowd μ) := by
  obtain ⟨σ', μ', μ2, A⟩ := asked_e H G O
  unfold X_crowd M_crowd
  simp only [A.step, A.piece, A.lehr, A.isPiece, A.isZone, A.mStep, A.mPiece, A.mZone, A.mLehr, A.mThen, A.now, A.lay, bd_some, nm_eq, X_crowd_j64, X_crowd_j58, M_crowd_j67, M_crowd_j61]
  by_cases c0 : 0 < L.lines
  · simp only [decide_eq_true c0, bIt, bIf, if_true, if_false, Bool.and_true, Bool.and_false, Bool.false_and, Bool.true_and]
    have hs : L.K.ns ≤ 14 := A.k.ns
    have hnp : L.K.np ≤ 6 := A.k.np
    have hnz : L.zones ≤ 7 := O.zones
    have zM : gI μ' 25 = nI L.zones := A.hM.nz
    have zM2 : gI μ2 25 = nI L.zones := A.hM2.nz
    have inX : ∀ {t : Nat} (z : Int32), t ≤ 15 → X_insideOf σ' z (nI t) = some (bits (fun p => decide (L.K.plM p t = z)) L.K.np) := fun z h => by rw [A.hX.inside_e A.k h z, show (fun p => decide (L.K.plX p _ = z)) = (fun p => decide (L.K.plM p _ = z)) from funext (fun p => by rw [L.pl])]
    have mX : ∀ c, J_bitCount (bits c L.K.np) = some (nI (cnt c L.K.np)) := fun c => (many_e c (by omega)).1
    have mM : ∀ c, M_sizeOf (bits c L.K.np) = some (nI (cnt c L.K.np)) := fun c => (many_e c (by omega)).2
    have airX : ∀ {z t : Nat}, z < L.K.nz → t ≤ 15 → X_airOf σ' (nI z) (nI t) = some (nI (L.K.airOf z t)) := fun hz ht => by have := A.hX.air_e A.k hz ht; rw [L.ord hz] at this; exact this
    refine Ag.of (lock_e (b1 := X_crowd_B14 σ') (b2 := M_crowd_B23 μ2) (L.K.ns + 1) (fun k s => ∃ a, s = (a, nI k)) (fun r1 r2 => r1.1 = r2.1 ∧ r1.2 = σ' ∧ r2.2 = μ2) ⟨_, rfl⟩ (fun k s hk hI => ?_) (fun s hI => ?_) (by omega)) A.fX A.fM2
    · obtain ⟨a, rfl⟩ := hI
      have kf : (L.K.ns < k) = False := eq_false (by omega)
      show Sm _ _ (X_crowd_l14 σ' a (nI k)) (M_crowd_l23 μ2 a (nI k))
      unfold X_crowd_l14 M_crowd_l23
      simp (disch := omega) only [bd_some, nm_eq, le_I, lt_I, eq_I, nI_1, nI_add, ix_nI, rA_nI, mul_L, add_L, A.hX.np, A.hX.ns, A.hM.pieces_e, A.hM.steps_e, A.hM2.pieces_e, A.hM2.steps_e, A.lX.zones, zM, zM2, A.hX.come_e A.k, A.hM.come_e A.k, A.rX.skin_e A.k, A.rM.skin_e A.k, A.rX.core_e A.k, A.rM.core_e A.k, A.rX.strain_e A.k, A.rM.strain_e A.k, A.rX.whole_e A.k, A.rM.whole_e A.k, A.hX.place A.k, A.hM.place A.k, A.hM2.place A.k, L.pl, inX, A.hM.inside_e A.k, A.hM2.inside_e A.k, A.rX.sound_e A.k, A.rX.soundNow_e A.hX A.k, A.rM.soundNow_e A.hM A.k, airX, mX, mM, A.hM.air_e A.k, A.hM2.air_e A.k, A.rX.crack, A.rM.crack, A.rX.why, A.rM.why, A.rX.fz, A.rM.fz, A.rX.st, A.rM.st, A.hX.comes, A.hM.comes_e A.k, A.hX.set, A.hM.set, ix40_4, r17_4, kf, if_false]
      obtain ⟨r1, r2, e1, e2, c, h1, h2⟩ := crowd_in A (by omega : k ≤ 14) a
      rw [e1, e2, h1, h2]
      exact Sm.next rfl rfl ⟨c, rfl⟩
    · obtain ⟨a, rfl⟩ := hI
      have kf : (L.K.ns < L.K.ns + 1) = True := eq_true (by omega)
      show ∃ r1 r2, X_crowd_l14 σ' a (nI (L.K.ns + 1)) = some (.inr r1) ∧ M_crowd_l23 μ2 a (nI (L.K.ns + 1)) = some (.inr r2) ∧ _
      unfold X_crowd_l14 M_crowd_l23
      simp (disch := omega) only [bd_some, nm_eq, le_I, lt_I, eq_I, nI_1, nI_add, ix_nI, rA_nI, mul_L, add_L, A.hX.np, A.hX.ns, A.hM.pieces_e, A.hM.steps_e, A.hM2.pieces_e, A.hM2.steps_e, A.lX.zones, zM, zM2, A.hX.come_e A.k, A.hM.come_e A.k, A.rX.skin_e A.k, A.rM.skin_e A.k, A.rX.core_e A.k, A.rM.core_e A.k, A.rX.strain_e A.k, A.rM.strain_e A.k, A.rX.whole_e A.k, A.rM.whole_e A.k, A.hX.place A.k, A.hM.place A.k, A.hM2.place A.k, L.pl, inX, A.hM.inside_e A.k, A.hM2.inside_e A.k, A.rX.sound_e A.k, A.rX.soundNow_e A.hX A.k, A.rM.soundNow_e A.hM A.k, airX, mX, mM, A.hM.air_e A.k, A.hM2.air_e A.k, A.rX.crack, A.rM.crack, A.rX.why, A.rM.why, A.rX.fz, A.rM.fz, A.rX.st, A.rM.st, A.hX.comes, A.hM.comes_e A.k, A.hX.set, A.hM.set, ix40_4, r17_4, kf, if_true, X_crowd_j64, M_crowd_j67]
      exact ⟨_, _, rfl, rfl, rfl, rfl, rfl⟩
  · simp only [decide_eq_false c0, bIt, bIf, if_true, if_false, Bool.and_true, Bool.and_false, Bool.false_and, Bool.true_and]
    exact ⟨-2, σ', _, rfl, rfl, A.fX, A.fM0⟩
theorem q_drop (H : L.X σ) (G : Lh.M 0 L μ) (O : L.Ok) (v1 v2 : Int32) : Ag σ μ (X_drop σ v1 v2) (M_drop μ v1 v2) := by
  obtain ⟨σ', μ', μ2, A⟩ := asked_e H G O
  have ahM : M_isAhead (sI μ 0 0) v2 = some (bI (decide (0 ≤ v2.toInt ∧ v2.toInt < L.steps))) := by
    have := O.steps
    unfold M_isAhead M_steps
    rw [ix40_0, r17_0, show gA (sI μ 0 0) 17 0 = nI L.steps from (G.fr A.fM0).steps, bd_some, M_in_b, bd_some, bI_tz, l0, lNm1 (by omega), Int32.toInt_toInt64]
    exact congrArg (fun b => some (bI b)) (dec_cong (by omega))
  have ahX : X_isAhead σ' v2 = some (bI (decide (0 ≤ v2.toInt ∧ v2.toInt < L.steps))) := by
    have := O.steps
    unfold X_isAhead X_isAhead_j30 X_isAhead_j31
    rw [A.lX.isLehr_e O, bd_some]
    by_cases c : 0 < L.lines
    · rw [decide_eq_true c, if_neg (by decide), X_isIn_b, bd_some, A.lX.steps, l0, nIm1 (by omega), Int32.toInt_toInt64]
      by_cases c2 : (0 : Int) ≤ v2.toInt ∧ v2.toInt < L.steps
      · rw [decide_eq_true c2, decide_eq_true (by omega), if_neg (by decide)]; rfl
      · rw [decide_eq_false c2, decide_eq_false (by omega), if_pos (by decide)]; rfl
    · have := (O.none (by omega)).1
      rw [decide_eq_false c, if_pos (by decide), decide_eq_false (by omega)]; rfl
  unfold X_drop M_drop
  simp only [A.step, A.piece, A.lehr, A.isPiece, A.isZone, A.mStep, A.mPiece, A.mZone, A.mLehr, A.mThen, A.now, A.lay, bd_some, nm_eq, X_drop_j28, X_drop_j25, M_drop_j22, ahX, ahM]
  by_cases c0 : L.pieceG v1
  · by_cases c1 : 0 ≤ (v2).toInt ∧ (v2).toInt < L.steps
    · simp only [decide_eq_true c0, decide_eq_true c1, bIt, bIf, if_true, if_false, Bool.and_true, Bool.and_false, Bool.false_and, Bool.true_and]
      obtain ⟨p, hp, rfl⟩ := c0.to O
      have hp : p < L.K.np := hp
      have hs : L.K.ns ≤ 14 := A.k.ns
      have hnp : L.K.np ≤ 6 := A.k.np
      have hnz : L.zones ≤ 7 := O.zones
      have zM : gI μ' 25 = nI L.zones := A.hM.nz
      have zM2 : gI μ2 25 = nI L.zones := A.hM2.nz
      have inX : ∀ {t : Nat} (z : Int32), t ≤ 15 → X_insideOf σ' z (nI t) = some (bits (fun p => decide (L.K.plM p t = z)) L.K.np) := fun z h => by rw [A.hX.inside_e A.k h z, show (fun p => decide (L.K.plX p _ = z)) = (fun p => decide (L.K.plM p _ = z)) from funext (fun p => by rw [L.pl])]
      have mX : ∀ c, J_bitCount (bits c L.K.np) = some (nI (cnt c L.K.np)) := fun c => (many_e c (by omega)).1
      have mM : ∀ c, M_sizeOf (bits c L.K.np) = some (nI (cnt c L.K.np)) := fun c => (many_e c (by omega)).2
      have airX : ∀ {z t : Nat}, z < L.K.nz → t ≤ 15 → X_airOf σ' (nI z) (nI t) = some (nI (L.K.airOf z t)) := fun hz ht => by have := A.hX.air_e A.k hz ht; rw [L.ord hz] at this; exact this
      obtain ⟨t, ht, rfl⟩ := in_nI c1.1 c1.2 (by have := O.steps; omega)
      have ht : t < L.K.ns := ht
      simp (disch := omega) only [bd_some, nm_eq, le_I, lt_I, eq_I, nI_1, nI_add, ix_nI, rA_nI, mul_L, add_L, A.hX.np, A.hX.ns, A.hM.pieces_e, A.hM.steps_e, A.hM2.pieces_e, A.hM2.steps_e, A.lX.zones, zM, zM2, A.hX.come_e A.k, A.hM.come_e A.k, A.rX.skin_e A.k, A.rM.skin_e A.k, A.rX.core_e A.k, A.rM.core_e A.k, A.rX.strain_e A.k, A.rM.strain_e A.k, A.rX.whole_e A.k, A.rM.whole_e A.k, A.hX.place A.k, A.hM.place A.k, A.hM2.place A.k, L.pl, inX, A.hM.inside_e A.k, A.hM2.inside_e A.k, A.rX.sound_e A.k, A.rX.soundNow_e A.hX A.k, A.rM.soundNow_e A.hM A.k, airX, mX, mM, A.hM.air_e A.k, A.hM2.air_e A.k, A.rX.crack, A.rM.crack, A.rX.why, A.rM.why, A.rX.fz, A.rM.fz, A.rX.st, A.rM.st, A.hX.comes, A.hM.comes_e A.k, A.hX.set, A.hM.set, ix40_4, r17_4, X_dropOf, M_dropOf]
      exact ⟨_, σ', μ', rfl, rfl, A.fX, A.fM⟩
    · simp only [decide_eq_true c0, decide_eq_false c1, bIt, bIf, if_true, if_false, Bool.and_true, Bool.and_false, Bool.false_and, Bool.true_and]
      exact ⟨-100000, σ', _, rfl, rfl, A.fX, A.fM0⟩
  · by_cases c1 : 0 ≤ (v2).toInt ∧ (v2).toInt < L.steps
    · simp only [decide_eq_false c0, decide_eq_true c1, bIt, bIf, if_true, if_false, Bool.and_true, Bool.and_false, Bool.false_and, Bool.true_and]
      exact ⟨-100000, σ', _, rfl, rfl, A.fX, A.fM0⟩
    · simp only [decide_eq_false c0, decide_eq_false c1, bIt, bIf, if_true, if_false, Bool.and_true, Bool.and_false, Bool.false_and, Bool.true_and]
      exact ⟨-100000, σ', _, rfl, rfl, A.fX, A.fM0⟩
