set_option maxRecDepth 100000
/-! stage 2: questions, 2 -/
theorem more_mx (a b : Int32) : M_moreOf a b = some (mx a b) := by
  unfold M_moreOf M_moreOf_j10 mx
  by_cases c : a < b
  · rw [if_pos c, if_pos (Int32.le_of_lt c)]
  · rw [if_neg c]
    by_cases c2 : a ≤ b
    · rw [if_pos c2, Int32.le_antisymm (Int32.not_lt.mp c) c2]
    · rw [if_neg c2]
theorem less_mn (a b : Int32) : M_lessOf a b = some (mn a b) := by
  unfold M_lessOf M_lessOf_j10 mn
  by_cases c : b < a
  · rw [if_pos c, if_pos (Int32.le_of_lt c)]
  · rw [if_neg c]
    by_cases c2 : b ≤ a
    · rw [if_pos c2, Int32.le_antisymm c2 (Int32.not_lt.mp c)]
    · rw [if_neg c2]
variable {L : Lh} {σ μ : PS}
theorem q_gaps (H : L.X σ) (G : Lh.M 0 L μ) (O : L.Ok) (v1 : Int32) : Ag σ μ (X_gaps σ v1) (M_gaps μ v1) := by
  obtain ⟨σ', μ', μ2, A⟩ := asked_e H G O
  unfold X_gaps M_gaps
  simp only [A.step, A.piece, A.lehr, A.isPiece, A.isZone, A.mStep, A.mPiece, A.mZone, A.mLehr, A.mThen, A.now, A.lay, bd_some, nm_eq, X_gaps_j60, X_gaps_j52, M_gaps_j68, M_gaps_j60]
  by_cases c0 : L.pieceG v1
  · simp only [decide_eq_true c0, bIt, bIf, if_true, if_false, Bool.and_true, Bool.and_false, Bool.false_and, Bool.true_and]
    obtain ⟨p, hp, rfl⟩ := c0.to O
    have hp : p < L.K.np := hp
    have hs : L.K.ns ≤ 14 := A.k.ns
    have hnp : L.K.np ≤ 6 := A.k.np
    have hnz : L.zones ≤ 7 := O.zones
    have zM : gI μ' 25 = nI L.zones := A.hM.nz
    have zM2 : gI μ2 25 = nI L.zones := A.hM2.nz
    have inX : ∀ {t : Nat} (z : Int32), t ≤ 15 → X_insideOf σ' z (nI t) = some (bits (fun p => decide (L.K.plM p t = z)) L.K.np) := fun z h => by rw [A.hX.inside_e A.k h z, show (fun p => decide (L.K.plX p _ = z)) = (fun p => decide (L.K.plM p _ = z)) from funext (fun p => by rw [L.pl])]
    have mX : ∀ c, J_bitCount (bits c L.K.np) = some (nI (cnt c L.K.np)) := fun c => (many_e c (by omega)).1
    have mM : ∀ c, M_sizeOf (bits c L.K.np) = some (nI (cnt c L.K.np)) := fun c => (many_e c (by omega)).2
    have airX : ∀ {z t : Nat}, z < L.K.nz → t ≤ 15 → X_airOf σ' (nI z) (nI t) = some (nI (L.K.airOf z t)) := fun hz ht => by have := A.hX.air_e A.k hz ht; rw [L.ord hz] at this; exact this
    have b1 : gA σ' 112 p = nI (L.bears p) := A.lX.bears p hp
    have b2 : gA μ' 19 (4 * p + 2) = nI (L.bears p) := by have := A.lM.bears p hp; rw [show 24 * 0 + 4 * p + 2 = 4 * p + 2 by omega] at this; exact this
    refine Ag.of (lock_e (b1 := X_gaps_B15 σ' (nI p)) (b2 := M_gaps_B25 μ' (nI p)) (L.K.ns + 1) (fun k s => ∃ a, s = (a, nI k)) (fun r1 r2 => r1.1 = r2.1 ∧ r1.2 = σ' ∧ r2.2 = μ') ⟨_, rfl⟩ (fun k s hk hI => ?_) (fun s hI => ?_) (by omega)) A.fX A.fM
    · obtain ⟨a, rfl⟩ := hI
      have kf : (L.K.ns < k) = False := eq_false (by omega)
      show Sm _ _ (X_gaps_l15 σ' (nI p) a (nI k)) (M_gaps_l25 μ' (nI p) a (nI k))
      unfold X_gaps_l15 M_gaps_l25
      simp (disch := omega) only [bd_some, nm_eq, le_I, lt_I, eq_I, nI_1, nI_add, ix_nI, rA_nI, mul_L, add_L, A.hX.np, A.hX.ns, A.hM.pieces_e, A.hM.steps_e, A.hM2.pieces_e, A.hM2.steps_e, A.lX.zones, zM, zM2, A.hX.come_e A.k, A.hM.come_e A.k, A.rX.skin_e A.k, A.rM.skin_e A.k, A.rX.core_e A.k, A.rM.core_e A.k, A.rX.strain_e A.k, A.rM.strain_e A.k, A.rX.whole_e A.k, A.rM.whole_e A.k, A.hX.place A.k, A.hM.place A.k, A.hM2.place A.k, L.pl, inX, A.hM.inside_e A.k, A.hM2.inside_e A.k, A.rX.sound_e A.k, A.rX.soundNow_e A.hX A.k, A.rM.soundNow_e A.hM A.k, airX, mX, mM, A.hM.air_e A.k, A.hM2.air_e A.k, A.rX.crack, A.rM.crack, A.rX.why, A.rM.why, A.rX.fz, A.rM.fz, A.rX.st, A.rM.st, A.hX.comes, A.hM.comes_e A.k, A.hX.set, A.hM.set, ix40_4, r17_4, kf, if_false, b1, b2, X_gaps_j60, X_gaps_j52, M_gaps_j68, M_gaps_j60]
      repeat' first | exact Sm.next rfl rfl ⟨_, rfl⟩ | exact Sm.done rfl rfl ⟨rfl, rfl, rfl⟩ | refine Sm.ite (fun c => ?_) (fun c => ?_)
    · obtain ⟨a, rfl⟩ := hI
      have kf : (L.K.ns < L.K.ns + 1) = True := eq_true (by omega)
      show ∃ r1 r2, X_gaps_l15 σ' (nI p) a (nI (L.K.ns + 1)) = some (.inr r1) ∧ M_gaps_l25 μ' (nI p) a (nI (L.K.ns + 1)) = some (.inr r2) ∧ _
      unfold X_gaps_l15 M_gaps_l25
      simp (disch := omega) only [bd_some, nm_eq, le_I, lt_I, eq_I, nI_1, nI_add, ix_nI, rA_nI, mul_L, add_L, A.hX.np, A.hX.ns, A.hM.pieces_e, A.hM.steps_e, A.hM2.pieces_e, A.hM2.steps_e, A.lX.zones, zM, zM2, A.hX.come_e A.k, A.hM.come_e A.k, A.rX.skin_e A.k, A.rM.skin_e A.k, A.rX.core_e A.k, A.rM.core_e A.k, A.rX.strain_e A.k, A.rM.strain_e A.k, A.rX.whole_e A.k, A.rM.whole_e A.k, A.hX.place A.k, A.hM.place A.k, A.hM2.place A.k, L.pl, inX, A.hM.inside_e A.k, A.hM2.inside_e A.k, A.rX.sound_e A.k, A.rX.soundNow_e A.hX A.k, A.rM.soundNow_e A.hM A.k, airX, mX, mM, A.hM.air_e A.k, A.hM2.air_e A.k, A.rX.crack, A.rM.crack, A.rX.why, A.rM.why, A.rX.fz, A.rM.fz, A.rX.st, A.rM.st, A.hX.comes, A.hM.comes_e A.k, A.hX.set, A.hM.set, ix40_4, r17_4, kf, if_true, b1, b2, X_gaps_j60, X_gaps_j52, M_gaps_j68, M_gaps_j60]
      exact ⟨_, _, rfl, rfl, rfl, rfl, rfl⟩
  · simp only [decide_eq_false c0, bIt, bIf, if_true, if_false, Bool.and_true, Bool.and_false, Bool.false_and, Bool.true_and]
    exact ⟨-2, σ', _, rfl, rfl, A.fX, A.fM0⟩
theorem q_pairs (H : L.X σ) (G : Lh.M 0 L μ) (O : L.Ok) (v1 : Int32) : Ag σ μ (X_pairs σ v1) (M_pairs μ v1) := by
  obtain ⟨σ', μ', μ2, A⟩ := asked_e H G O
  unfold X_pairs M_pairs
  simp only [A.step, A.piece, A.lehr, A.isPiece, A.isZone, A.mStep, A.mPiece, A.mZone, A.mLehr, A.mThen, A.now, A.lay, bd_some, nm_eq, X_pairs_j55, M_pairs_j62]
  by_cases c0 : L.stepG v1
  · simp only [decide_eq_true c0, bIt, bIf, if_true, if_false, Bool.and_true, Bool.and_false, Bool.false_and, Bool.true_and]
    obtain ⟨t, ht, rfl⟩ := c0.to O
    have ht : t ≤ L.K.ns := ht
    have hs : L.K.ns ≤ 14 := A.k.ns
    have hnp : L.K.np ≤ 6 := A.k.np
    have hnz : L.zones ≤ 7 := O.zones
    have zM : gI μ' 25 = nI L.zones := A.hM.nz
    have zM2 : gI μ2 25 = nI L.zones := A.hM2.nz
    have inX : ∀ {t : Nat} (z : Int32), t ≤ 15 → X_insideOf σ' z (nI t) = some (bits (fun p => decide (L.K.plM p t = z)) L.K.np) := fun z h => by rw [A.hX.inside_e A.k h z, show (fun p => decide (L.K.plX p _ = z)) = (fun p => decide (L.K.plM p _ = z)) from funext (fun p => by rw [L.pl])]
    have mX : ∀ c, J_bitCount (bits c L.K.np) = some (nI (cnt c L.K.np)) := fun c => (many_e c (by omega)).1
    have mM : ∀ c, M_sizeOf (bits c L.K.np) = some (nI (cnt c L.K.np)) := fun c => (many_e c (by omega)).2
    have airX : ∀ {z t : Nat}, z < L.K.nz → t ≤ 15 → X_airOf σ' (nI z) (nI t) = some (nI (L.K.airOf z t)) := fun hz ht => by have := A.hX.air_e A.k hz ht; rw [L.ord hz] at this; exact this
    refine Ag.of (lock_e (b1 := X_pairs_B15 σ' (nI t)) (b2 := M_pairs_B25 μ2 (nI t)) (L.zones) (fun k s => ∃ a, s = (a, nI k)) (fun r1 r2 => r1.1 = r2.1 ∧ r1.2 = σ' ∧ r2.2 = μ2) ⟨_, rfl⟩ (fun k s hk hI => ?_) (fun s hI => ?_) (by omega)) A.fX A.fM2
    · obtain ⟨a, rfl⟩ := hI
      have kf : (L.zones ≤ k) = False := eq_false (by omega)
      show Sm _ _ (X_pairs_l15 σ' (nI t) a (nI k)) (M_pairs_l25 μ2 (nI t) a (nI k))
      unfold X_pairs_l15 M_pairs_l25
      simp (disch := omega) only [bd_some, nm_eq, le_I, lt_I, eq_I, nI_1, nI_add, ix_nI, rA_nI, mul_L, add_L, A.hX.np, A.hX.ns, A.hM.pieces_e, A.hM.steps_e, A.hM2.pieces_e, A.hM2.steps_e, A.lX.zones, zM, zM2, A.hX.come_e A.k, A.hM.come_e A.k, A.rX.skin_e A.k, A.rM.skin_e A.k, A.rX.core_e A.k, A.rM.core_e A.k, A.rX.strain_e A.k, A.rM.strain_e A.k, A.rX.whole_e A.k, A.rM.whole_e A.k, A.hX.place A.k, A.hM.place A.k, A.hM2.place A.k, L.pl, inX, A.hM.inside_e A.k, A.hM2.inside_e A.k, A.rX.sound_e A.k, A.rX.soundNow_e A.hX A.k, A.rM.soundNow_e A.hM A.k, airX, mX, mM, A.hM.air_e A.k, A.hM2.air_e A.k, A.rX.crack, A.rM.crack, A.rX.why, A.rM.why, A.rX.fz, A.rM.fz, A.rX.st, A.rM.st, A.hX.comes, A.hM.comes_e A.k, A.hX.set, A.hM.set, ix40_4, r17_4, kf, if_false, X_pairs_j55, M_pairs_j62]
      repeat' first | exact Sm.next rfl rfl ⟨_, rfl⟩ | exact Sm.done rfl rfl ⟨rfl, rfl, rfl⟩ | refine Sm.ite (fun c => ?_) (fun c => ?_)
    · obtain ⟨a, rfl⟩ := hI
      have kf : (L.zones ≤ L.zones) = True := eq_true (by omega)
      show ∃ r1 r2, X_pairs_l15 σ' (nI t) a (nI L.zones) = some (.inr r1) ∧ M_pairs_l25 μ2 (nI t) a (nI L.zones) = some (.inr r2) ∧ _
      unfold X_pairs_l15 M_pairs_l25
      simp (disch := omega) only [bd_some, nm_eq, le_I, lt_I, eq_I, nI_1, nI_add, ix_nI, rA_nI, mul_L, add_L, A.hX.np, A.hX.ns, A.hM.pieces_e, A.hM.steps_e, A.hM2.pieces_e, A.hM2.steps_e, A.lX.zones, zM, zM2, A.hX.come_e A.k, A.hM.come_e A.k, A.rX.skin_e A.k, A.rM.skin_e A.k, A.rX.core_e A.k, A.rM.core_e A.k, A.rX.strain_e A.k, A.rM.strain_e A.k, A.rX.whole_e A.k, A.rM.whole_e A.k, A.hX.place A.k, A.hM.place A.k, A.hM2.place A.k, L.pl, inX, A.hM.inside_e A.k, A.hM2.inside_e A.k, A.rX.sound_e A.k, A.rX.soundNow_e A.hX A.k, A.rM.soundNow_e A.hM A.k, airX, mX, mM, A.hM.air_e A.k, A.hM2.air_e A.k, A.rX.crack, A.rM.crack, A.rX.why, A.rM.why, A.rX.fz, A.rM.fz, A.rX.st, A.rM.st, A.hX.comes, A.hM.comes_e A.k, A.hX.set, A.hM.set, ix40_4, r17_4, kf, if_true, X_pairs_j55, M_pairs_j62]
      exact ⟨_, _, rfl, rfl, rfl, rfl, rfl⟩
  · simp only [decide_eq_false c0, bIt, bIf, if_true, if_false, Bool.and_true, Bool.and_false, Bool.false_and, Bool.true_and]
    exact ⟨-2, σ', _, rfl, rfl, A.fX, A.fM0⟩
theorem q_oven (H : L.X σ) (G : Lh.M 0 L μ) (O : L.Ok) (v1 : Int32) : Ag σ μ (X_oven σ v1) (M_oven μ v1) := by
  obtain ⟨σ', μ', μ2, A⟩ := asked_e H G O
  unfold X_oven M_oven
  simp only [A.step, A.piece, A.lehr, A.isPiece, A.isZone, A.mStep, A.mPiece, A.mZone, A.mLehr, A.mThen, A.now, A.lay, bd_some, nm_eq, X_oven_j54, X_oven_j48, X_oven_j46, M_oven_j61, M_oven_j55, M_oven_j53]
  by_cases c0 : L.stepG v1
  · simp only [decide_eq_true c0, bIt, bIf, if_true, if_false, Bool.and_true, Bool.and_false, Bool.false_and, Bool.true_and]
    obtain ⟨t, ht, rfl⟩ := c0.to O
    have ht : t ≤ L.K.ns := ht
    have hs : L.K.ns ≤ 14 := A.k.ns
    have hnp : L.K.np ≤ 6 := A.k.np
    have hnz : L.zones ≤ 7 := O.zones
    have zM : gI μ' 25 = nI L.zones := A.hM.nz
    have zM2 : gI μ2 25 = nI L.zones := A.hM2.nz
    have inX : ∀ {t : Nat} (z : Int32), t ≤ 15 → X_insideOf σ' z (nI t) = some (bits (fun p => decide (L.K.plM p t = z)) L.K.np) := fun z h => by rw [A.hX.inside_e A.k h z, show (fun p => decide (L.K.plX p _ = z)) = (fun p => decide (L.K.plM p _ = z)) from funext (fun p => by rw [L.pl])]
    have mX : ∀ c, J_bitCount (bits c L.K.np) = some (nI (cnt c L.K.np)) := fun c => (many_e c (by omega)).1
    have mM : ∀ c, M_sizeOf (bits c L.K.np) = some (nI (cnt c L.K.np)) := fun c => (many_e c (by omega)).2
    have airX : ∀ {z t : Nat}, z < L.K.nz → t ≤ 15 → X_airOf σ' (nI z) (nI t) = some (nI (L.K.airOf z t)) := fun hz ht => by have := A.hX.air_e A.k hz ht; rw [L.ord hz] at this; exact this
    have hzz : L.zones = L.K.nz := rfl
    refine Ag.of (lock_e (b1 := X_oven_B15 σ' (nI t)) (b2 := M_oven_B25 μ2 (nI t)) (L.zones) (fun k s => ∃ a, s = (oI a, nI k) ∧ ∀ b, a = some b → b < k + 0) (fun r1 r2 => r1.1 = r2.1 ∧ r1.2 = σ' ∧ r2.2 = μ2) ⟨none, rfl, fun b h => (by cases h)⟩ (fun k s hk hI => ?_) (fun s hI => ?_) (by omega)) A.fX A.fM2
    · obtain ⟨a, rfl, hb⟩ := hI
      have kf : (L.zones ≤ k) = False := eq_false (by omega)
      show Sm _ _ (X_oven_l15 σ' (nI t) (oI a) (nI k)) (M_oven_l25 μ2 (nI t) (oI a) (nI k))
      unfold X_oven_l15 M_oven_l25
      cases a with
      | none =>
        simp (disch := omega) only [bd_some, nm_eq, le_I, lt_I, eq_I, nI_1, nI_add, ix_nI, rA_nI, mul_L, add_L, A.hX.np, A.hX.ns, A.hM.pieces_e, A.hM.steps_e, A.hM2.pieces_e, A.hM2.steps_e, A.lX.zones, zM, zM2, A.hX.come_e A.k, A.hM.come_e A.k, A.rX.skin_e A.k, A.rM.skin_e A.k, A.rX.core_e A.k, A.rM.core_e A.k, A.rX.strain_e A.k, A.rM.strain_e A.k, A.rX.whole_e A.k, A.rM.whole_e A.k, A.hX.place A.k, A.hM.place A.k, A.hM2.place A.k, L.pl, inX, A.hM.inside_e A.k, A.hM2.inside_e A.k, A.rX.sound_e A.k, A.rX.soundNow_e A.hX A.k, A.rM.soundNow_e A.hM A.k, airX, mX, mM, A.hM.air_e A.k, A.hM2.air_e A.k, A.rX.crack, A.rM.crack, A.rX.why, A.rM.why, A.rX.fz, A.rM.fz, A.rX.st, A.rM.st, A.hX.comes, A.hM.comes_e A.k, A.hX.set, A.hM.set, ix40_4, r17_4, kf, if_false, show oI none = -1 from rfl, if_true, X_oven_j54, X_oven_j48, X_oven_j46, M_oven_j61, M_oven_j55, M_oven_j53]
        repeat' first | exact Sm.next rfl rfl ⟨none, rfl, fun b h => (by cases h)⟩ | exact Sm.next rfl rfl ⟨some _, rfl, fun b h => (by cases h; omega)⟩ | refine Sm.ite (fun c => ?_) (fun c => ?_)
      | some b =>
        have hb2 := hb b rfl
        simp (disch := omega) only [bd_some, nm_eq, le_I, lt_I, eq_I, nI_1, nI_add, ix_nI, rA_nI, mul_L, add_L, A.hX.np, A.hX.ns, A.hM.pieces_e, A.hM.steps_e, A.hM2.pieces_e, A.hM2.steps_e, A.lX.zones, zM, zM2, A.hX.come_e A.k, A.hM.come_e A.k, A.rX.skin_e A.k, A.rM.skin_e A.k, A.rX.core_e A.k, A.rM.core_e A.k, A.rX.strain_e A.k, A.rM.strain_e A.k, A.rX.whole_e A.k, A.rM.whole_e A.k, A.hX.place A.k, A.hM.place A.k, A.hM2.place A.k, L.pl, inX, A.hM.inside_e A.k, A.hM2.inside_e A.k, A.rX.sound_e A.k, A.rX.soundNow_e A.hX A.k, A.rM.soundNow_e A.hM A.k, airX, mX, mM, A.hM.air_e A.k, A.hM2.air_e A.k, A.rX.crack, A.rM.crack, A.rX.why, A.rM.why, A.rX.fz, A.rM.fz, A.rX.st, A.rM.st, A.hX.comes, A.hM.comes_e A.k, A.hX.set, A.hM.set, ix40_4, r17_4, kf, if_false, show oI (some b) = nI b from rfl, nI_m1, X_oven_j54, X_oven_j48, X_oven_j46, M_oven_j61, M_oven_j55, M_oven_j53]
        repeat' first | exact Sm.next rfl rfl ⟨some b, rfl, fun b h => (by cases h; omega)⟩ | exact Sm.next rfl rfl ⟨some _, rfl, fun b h => (by cases h; omega)⟩ | refine Sm.ite (fun c => ?_) (fun c => ?_)
    · obtain ⟨a, rfl, hb⟩ := hI
      have kf : (L.zones ≤ L.zones) = True := eq_true (by omega)
      show ∃ r1 r2, X_oven_l15 σ' (nI t) (oI a) (nI L.zones) = some (.inr r1) ∧ M_oven_l25 μ2 (nI t) (oI a) (nI L.zones) = some (.inr r2) ∧ _
      unfold X_oven_l15 M_oven_l25
      simp (disch := omega) only [bd_some, nm_eq, le_I, lt_I, eq_I, nI_1, nI_add, ix_nI, rA_nI, mul_L, add_L, A.hX.np, A.hX.ns, A.hM.pieces_e, A.hM.steps_e, A.hM2.pieces_e, A.hM2.steps_e, A.lX.zones, zM, zM2, A.hX.come_e A.k, A.hM.come_e A.k, A.rX.skin_e A.k, A.rM.skin_e A.k, A.rX.core_e A.k, A.rM.core_e A.k, A.rX.strain_e A.k, A.rM.strain_e A.k, A.rX.whole_e A.k, A.rM.whole_e A.k, A.hX.place A.k, A.hM.place A.k, A.hM2.place A.k, L.pl, inX, A.hM.inside_e A.k, A.hM2.inside_e A.k, A.rX.sound_e A.k, A.rX.soundNow_e A.hX A.k, A.rM.soundNow_e A.hM A.k, airX, mX, mM, A.hM.air_e A.k, A.hM2.air_e A.k, A.rX.crack, A.rM.crack, A.rX.why, A.rM.why, A.rX.fz, A.rM.fz, A.rX.st, A.rM.st, A.hX.comes, A.hM.comes_e A.k, A.hX.set, A.hM.set, ix40_4, r17_4, kf, if_true, X_oven_j54, X_oven_j48, X_oven_j46, M_oven_j61, M_oven_j55, M_oven_j53]
      exact ⟨_, _, rfl, rfl, rfl, rfl, rfl⟩
  · simp only [decide_eq_false c0, bIt, bIf, if_true, if_false, Bool.and_true, Bool.and_false, Bool.false_and, Bool.true_and]
    exact ⟨-2, σ', _, rfl, rfl, A.fX, A.fM0⟩
theorem q_cliff (H : L.X σ) (G : Lh.M 0 L μ) (O : L.Ok) (v1 : Int32) : Ag σ μ (X_cliff σ v1) (M_cliff μ v1) := by
  obtain ⟨σ', μ', μ2, A⟩ := asked_e H G O
  unfold X_cliff M_cliff
  simp only [A.step, A.piece, A.lehr, A.isPiece, A.isZone, A.mStep, A.mPiece, A.mZone, A.mLehr, A.mThen, A.now, A.lay, bd_some, nm_eq, X_cliff_j56, X_cliff_j50, X_cliff_j48, M_cliff_j63, M_cliff_j57, M_cliff_j55]
  by_cases c0 : L.stepG v1
  · simp only [decide_eq_true c0, bIt, bIf, if_true, if_false, Bool.and_true, Bool.and_false, Bool.false_and, Bool.true_and]
    obtain ⟨t, ht, rfl⟩ := c0.to O
    have ht : t ≤ L.K.ns := ht
    have hs : L.K.ns ≤ 14 := A.k.ns
    have hnp : L.K.np ≤ 6 := A.k.np
    have hnz : L.zones ≤ 7 := O.zones
    have zM : gI μ' 25 = nI L.zones := A.hM.nz
    have zM2 : gI μ2 25 = nI L.zones := A.hM2.nz
    have inX : ∀ {t : Nat} (z : Int32), t ≤ 15 → X_insideOf σ' z (nI t) = some (bits (fun p => decide (L.K.plM p t = z)) L.K.np) := fun z h => by rw [A.hX.inside_e A.k h z, show (fun p => decide (L.K.plX p _ = z)) = (fun p => decide (L.K.plM p _ = z)) from funext (fun p => by rw [L.pl])]
    have mX : ∀ c, J_bitCount (bits c L.K.np) = some (nI (cnt c L.K.np)) := fun c => (many_e c (by omega)).1
    have mM : ∀ c, M_sizeOf (bits c L.K.np) = some (nI (cnt c L.K.np)) := fun c => (many_e c (by omega)).2
    have airX : ∀ {z t : Nat}, z < L.K.nz → t ≤ 15 → X_airOf σ' (nI z) (nI t) = some (nI (L.K.airOf z t)) := fun hz ht => by have := A.hX.air_e A.k hz ht; rw [L.ord hz] at this; exact this
    have hzz : L.zones = L.K.nz := rfl
    refine Ag.of (lock_e (b1 := X_cliff_B15 σ' (nI t)) (b2 := M_cliff_B25 μ2 (nI t)) (L.zones - 1) (fun k s => ∃ a, s = (oI a, nI k) ∧ ∀ b, a = some b → b < k + 0) (fun r1 r2 => r1.1 = r2.1 ∧ r1.2 = σ' ∧ r2.2 = μ2) ⟨none, rfl, fun b h => (by cases h)⟩ (fun k s hk hI => ?_) (fun s hI => ?_) (by omega)) A.fX A.fM2
    · obtain ⟨a, rfl, hb⟩ := hI
      have kf : (L.zones ≤ k + 1) = False := eq_false (by omega)
      show Sm _ _ (X_cliff_l15 σ' (nI t) (oI a) (nI k)) (M_cliff_l25 μ2 (nI t) (oI a) (nI k))
      unfold X_cliff_l15 M_cliff_l25
      cases a with
      | none =>
        simp (disch := omega) only [bd_some, nm_eq, le_I, lt_I, eq_I, nI_1, nI_add, ix_nI, rA_nI, mul_L, add_L, A.hX.np, A.hX.ns, A.hM.pieces_e, A.hM.steps_e, A.hM2.pieces_e, A.hM2.steps_e, A.lX.zones, zM, zM2, A.hX.come_e A.k, A.hM.come_e A.k, A.rX.skin_e A.k, A.rM.skin_e A.k, A.rX.core_e A.k, A.rM.core_e A.k, A.rX.strain_e A.k, A.rM.strain_e A.k, A.rX.whole_e A.k, A.rM.whole_e A.k, A.hX.place A.k, A.hM.place A.k, A.hM2.place A.k, L.pl, inX, A.hM.inside_e A.k, A.hM2.inside_e A.k, A.rX.sound_e A.k, A.rX.soundNow_e A.hX A.k, A.rM.soundNow_e A.hM A.k, airX, mX, mM, A.hM.air_e A.k, A.hM2.air_e A.k, A.rX.crack, A.rM.crack, A.rX.why, A.rM.why, A.rX.fz, A.rM.fz, A.rX.st, A.rM.st, A.hX.comes, A.hM.comes_e A.k, A.hX.set, A.hM.set, ix40_4, r17_4, kf, if_false, show oI none = -1 from rfl, if_true, X_fallOf, M_fallOf, X_cliff_j56, X_cliff_j50, X_cliff_j48, M_cliff_j63, M_cliff_j57, M_cliff_j55]
        repeat' first | exact Sm.next rfl rfl ⟨none, rfl, fun b h => (by cases h)⟩ | exact Sm.next rfl rfl ⟨some _, rfl, fun b h => (by cases h; omega)⟩ | refine Sm.ite (fun c => ?_) (fun c => ?_)
      | some b =>
        have hb2 := hb b rfl
        simp (disch := omega) only [bd_some, nm_eq, le_I, lt_I, eq_I, nI_1, nI_add, ix_nI, rA_nI, mul_L, add_L, A.hX.np, A.hX.ns, A.hM.pieces_e, A.hM.steps_e, A.hM2.pieces_e, A.hM2.steps_e, A.lX.zones, zM, zM2, A.hX.come_e A.k, A.hM.come_e A.k, A.rX.skin_e A.k, A.rM.skin_e A.k, A.rX.core_e A.k, A.rM.core_e A.k, A.rX.strain_e A.k, A.rM.strain_e A.k, A.rX.whole_e A.k, A.rM.whole_e A.k, A.hX.place A.k, A.hM.place A.k, A.hM2.place A.k, L.pl, inX, A.hM.inside_e A.k, A.hM2.inside_e A.k, A.rX.sound_e A.k, A.rX.soundNow_e A.hX A.k, A.rM.soundNow_e A.hM A.k, airX, mX, mM, A.hM.air_e A.k, A.hM2.air_e A.k, A.rX.crack, A.rM.crack, A.rX.why, A.rM.why, A.rX.fz, A.rM.fz, A.rX.st, A.rM.st, A.hX.comes, A.hM.comes_e A.k, A.hX.set, A.hM.set, ix40_4, r17_4, kf, if_false, show oI (some b) = nI b from rfl, nI_m1, X_fallOf, M_fallOf, X_cliff_j56, X_cliff_j50, X_cliff_j48, M_cliff_j63, M_cliff_j57, M_cliff_j55]
        repeat' first | exact Sm.next rfl rfl ⟨some b, rfl, fun b h => (by cases h; omega)⟩ | exact Sm.next rfl rfl ⟨some _, rfl, fun b h => (by cases h; omega)⟩ | refine Sm.ite (fun c => ?_) (fun c => ?_)
    · obtain ⟨a, rfl, hb⟩ := hI
      have kf : (L.zones ≤ L.zones - 1 + 1) = True := eq_true (by omega)
      show ∃ r1 r2, X_cliff_l15 σ' (nI t) (oI a) (nI (L.zones - 1)) = some (.inr r1) ∧ M_cliff_l25 μ2 (nI t) (oI a) (nI (L.zones - 1)) = some (.inr r2) ∧ _
      unfold X_cliff_l15 M_cliff_l25
      simp (disch := omega) only [bd_some, nm_eq, le_I, lt_I, eq_I, nI_1, nI_add, ix_nI, rA_nI, mul_L, add_L, A.hX.np, A.hX.ns, A.hM.pieces_e, A.hM.steps_e, A.hM2.pieces_e, A.hM2.steps_e, A.lX.zones, zM, zM2, A.hX.come_e A.k, A.hM.come_e A.k, A.rX.skin_e A.k, A.rM.skin_e A.k, A.rX.core_e A.k, A.rM.core_e A.k, A.rX.strain_e A.k, A.rM.strain_e A.k, A.rX.whole_e A.k, A.rM.whole_e A.k, A.hX.place A.k, A.hM.place A.k, A.hM2.place A.k, L.pl, inX, A.hM.inside_e A.k, A.hM2.inside_e A.k, A.rX.sound_e A.k, A.rX.soundNow_e A.hX A.k, A.rM.soundNow_e A.hM A.k, airX, mX, mM, A.hM.air_e A.k, A.hM2.air_e A.k, A.rX.crack, A.rM.crack, A.rX.why, A.rM.why, A.rX.fz, A.rM.fz, A.rX.st, A.rM.st, A.hX.comes, A.hM.comes_e A.k, A.hX.set, A.hM.set, ix40_4, r17_4, kf, if_true, X_fallOf, M_fallOf, X_cliff_j56, X_cliff_j50, X_cliff_j48, M_cliff_j63, M_cliff_j57, M_cliff_j55]
      exact ⟨_, _, rfl, rfl, rfl, rfl, rfl⟩
  · simp only [decide_eq_false c0, bIt, bIf, if_true, if_false, Bool.and_true, Bool.and_false, Bool.false_and, Bool.true_and]
    exact ⟨-2, σ', _, rfl, rfl, A.fX, A.fM0⟩
theorem q_chill (H : L.X σ) (G : Lh.M 0 L μ) (O : L.Ok) (v1 : Int32) : Ag σ μ (X_chill σ v1) (M_chill μ v1) := by
  obtain ⟨σ', μ', μ2, A⟩ := asked_e H G O
  unfold X_chill M_chill
  simp only [A.step, A.piece, A.lehr, A.isPiece, A.isZone, A.mStep, A.mPiece, A.mZone, A.mLehr, A.mThen, A.now, A.lay, bd_some, nm_eq, X_chill_j58, X_chill_j52, X_chill_j47, M_chill_j65, M_chill_j59, M_chill_j54]
  by_cases c0 : L.pieceG v1
  · simp only [decide_eq_true c0, bIt, bIf, if_true, if_false, Bool.and_true, Bool.and_false, Bool.false_and, Bool.true_and]
    obtain ⟨p, hp, rfl⟩ := c0.to O
    have hp : p < L.K.np := hp
    have hs : L.K.ns ≤ 14 := A.k.ns
    have hnp : L.K.np ≤ 6 := A.k.np
    have hnz : L.zones ≤ 7 := O.zones
    have zM : gI μ' 25 = nI L.zones := A.hM.nz
    have zM2 : gI μ2 25 = nI L.zones := A.hM2.nz
    have inX : ∀ {t : Nat} (z : Int32), t ≤ 15 → X_insideOf σ' z (nI t) = some (bits (fun p => decide (L.K.plM p t = z)) L.K.np) := fun z h => by rw [A.hX.inside_e A.k h z, show (fun p => decide (L.K.plX p _ = z)) = (fun p => decide (L.K.plM p _ = z)) from funext (fun p => by rw [L.pl])]
    have mX : ∀ c, J_bitCount (bits c L.K.np) = some (nI (cnt c L.K.np)) := fun c => (many_e c (by omega)).1
    have mM : ∀ c, M_sizeOf (bits c L.K.np) = some (nI (cnt c L.K.np)) := fun c => (many_e c (by omega)).2
    have airX : ∀ {z t : Nat}, z < L.K.nz → t ≤ 15 → X_airOf σ' (nI z) (nI t) = some (nI (L.K.airOf z t)) := fun hz ht => by have := A.hX.air_e A.k hz ht; rw [L.ord hz] at this; exact this
    refine Ag.of (lock_e (b1 := X_chill_B15 σ' (nI p)) (b2 := M_chill_B25 μ' (nI p)) (L.K.ns) (fun k s => ∃ a, s = (oI a, nI k) ∧ ∀ b, a = some b → b < k + 0) (fun r1 r2 => r1.1 = r2.1 ∧ r1.2 = σ' ∧ r2.2 = μ') ⟨none, rfl, fun b h => (by cases h)⟩ (fun k s hk hI => ?_) (fun s hI => ?_) (by omega)) A.fX A.fM
    · obtain ⟨a, rfl, hb⟩ := hI
      have kf : (L.K.ns ≤ k) = False := eq_false (by omega)
      show Sm _ _ (X_chill_l15 σ' (nI p) (oI a) (nI k)) (M_chill_l25 μ' (nI p) (oI a) (nI k))
      unfold X_chill_l15 M_chill_l25
      cases a with
      | none =>
        simp (disch := omega) only [bd_some, nm_eq, le_I, lt_I, eq_I, nI_1, nI_add, ix_nI, rA_nI, mul_L, add_L, A.hX.np, A.hX.ns, A.hM.pieces_e, A.hM.steps_e, A.hM2.pieces_e, A.hM2.steps_e, A.lX.zones, zM, zM2, A.hX.come_e A.k, A.hM.come_e A.k, A.rX.skin_e A.k, A.rM.skin_e A.k, A.rX.core_e A.k, A.rM.core_e A.k, A.rX.strain_e A.k, A.rM.strain_e A.k, A.rX.whole_e A.k, A.rM.whole_e A.k, A.hX.place A.k, A.hM.place A.k, A.hM2.place A.k, L.pl, inX, A.hM.inside_e A.k, A.hM2.inside_e A.k, A.rX.sound_e A.k, A.rX.soundNow_e A.hX A.k, A.rM.soundNow_e A.hM A.k, airX, mX, mM, A.hM.air_e A.k, A.hM2.air_e A.k, A.rX.crack, A.rM.crack, A.rX.why, A.rM.why, A.rX.fz, A.rM.fz, A.rX.st, A.rM.st, A.hX.comes, A.hM.comes_e A.k, A.hX.set, A.hM.set, ix40_4, r17_4, kf, if_false, show oI none = -1 from rfl, if_true, X_dropOf, M_dropOf, X_chill_j58, X_chill_j52, X_chill_j47, M_chill_j65, M_chill_j59, M_chill_j54]
        repeat' first | exact Sm.next rfl rfl ⟨none, rfl, fun b h => (by cases h)⟩ | exact Sm.next rfl rfl ⟨some _, rfl, fun b h => (by cases h; omega)⟩ | refine Sm.ite (fun c => ?_) (fun c => ?_)
      | some b =>
        have hb2 := hb b rfl
        simp (disch := omega) only [bd_some, nm_eq, le_I, lt_I, eq_I, nI_1, nI_add, ix_nI, rA_nI, mul_L, add_L, A.hX.np, A.hX.ns, A.hM.pieces_e, A.hM.steps_e, A.hM2.pieces_e, A.hM2.steps_e, A.lX.zones, zM, zM2, A.hX.come_e A.k, A.hM.come_e A.k, A.rX.skin_e A.k, A.rM.skin_e A.k, A.rX.core_e A.k, A.rM.core_e A.k, A.rX.strain_e A.k, A.rM.strain_e A.k, A.rX.whole_e A.k, A.rM.whole_e A.k, A.hX.place A.k, A.hM.place A.k, A.hM2.place A.k, L.pl, inX, A.hM.inside_e A.k, A.hM2.inside_e A.k, A.rX.sound_e A.k, A.rX.soundNow_e A.hX A.k, A.rM.soundNow_e A.hM A.k, airX, mX, mM, A.hM.air_e A.k, A.hM2.air_e A.k, A.rX.crack, A.rM.crack, A.rX.why, A.rM.why, A.rX.fz, A.rM.fz, A.rX.st, A.rM.st, A.hX.comes, A.hM.comes_e A.k, A.hX.set, A.hM.set, ix40_4, r17_4, kf, if_false, show oI (some b) = nI b from rfl, nI_m1, X_dropOf, M_dropOf, X_chill_j58, X_chill_j52, X_chill_j47, M_chill_j65, M_chill_j59, M_chill_j54]
        repeat' first | exact Sm.next rfl rfl ⟨some b, rfl, fun b h => (by cases h; omega)⟩ | exact Sm.next rfl rfl ⟨some _, rfl, fun b h => (by cases h; omega)⟩ | refine Sm.ite (fun c => ?_) (fun c => ?_)
    · obtain ⟨a, rfl, hb⟩ := hI
      have kf : (L.K.ns ≤ L.K.ns) = True := eq_true (by omega)
      show ∃ r1 r2, X_chill_l15 σ' (nI p) (oI a) (nI L.K.ns) = some (.inr r1) ∧ M_chill_l25 μ' (nI p) (oI a) (nI L.K.ns) = some (.inr r2) ∧ _
      unfold X_chill_l15 M_chill_l25
      simp (disch := omega) only [bd_some, nm_eq, le_I, lt_I, eq_I, nI_1, nI_add, ix_nI, rA_nI, mul_L, add_L, A.hX.np, A.hX.ns, A.hM.pieces_e, A.hM.steps_e, A.hM2.pieces_e, A.hM2.steps_e, A.lX.zones, zM, zM2, A.hX.come_e A.k, A.hM.come_e A.k, A.rX.skin_e A.k, A.rM.skin_e A.k, A.rX.core_e A.k, A.rM.core_e A.k, A.rX.strain_e A.k, A.rM.strain_e A.k, A.rX.whole_e A.k, A.rM.whole_e A.k, A.hX.place A.k, A.hM.place A.k, A.hM2.place A.k, L.pl, inX, A.hM.inside_e A.k, A.hM2.inside_e A.k, A.rX.sound_e A.k, A.rX.soundNow_e A.hX A.k, A.rM.soundNow_e A.hM A.k, airX, mX, mM, A.hM.air_e A.k, A.hM2.air_e A.k, A.rX.crack, A.rM.crack, A.rX.why, A.rM.why, A.rX.fz, A.rM.fz, A.rX.st, A.rM.st, A.hX.comes, A.hM.comes_e A.k, A.hX.set, A.hM.set, ix40_4, r17_4, kf, if_true, X_dropOf, M_dropOf, X_chill_j58, X_chill_j52, X_chill_j47, M_chill_j65, M_chill_j59, M_chill_j54]
      exact ⟨_, _, rfl, rfl, rfl, rfl, rfl⟩
  · simp only [decide_eq_false c0, bIt, bIf, if_true, if_false, Bool.and_true, Bool.and_false, Bool.false_and, Bool.true_and]
    exact ⟨-2, σ', _, rfl, rfl, A.fX, A.fM0⟩
