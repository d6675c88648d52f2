set_option maxRecDepth 100000
/-! stage 2: questions, 1 -/
def Sm {S R1 R2 : Type} (I : S → Prop) (Q : R1 → R2 → Prop) (x : Option (S ⊕ R1)) (y : Option (S ⊕ R2)) : Prop := (∃ t, x = some (.inl t) ∧ y = some (.inl t) ∧ I t) ∨ ∃ r1 r2, x = some (.inr r1) ∧ y = some (.inr r2) ∧ Q r1 r2
theorem Sm.next {S R1 R2 : Type} {I : S → Prop} {Q : R1 → R2 → Prop} {x : Option (S ⊕ R1)} {y : Option (S ⊕ R2)} {t : S} (h1 : x = some (.inl t)) (h2 : y = some (.inl t)) (h : I t) : Sm I Q x y := Or.inl ⟨t, h1, h2, h⟩
theorem Sm.done {S R1 R2 : Type} {I : S → Prop} {Q : R1 → R2 → Prop} {x : Option (S ⊕ R1)} {y : Option (S ⊕ R2)} {r1 : R1} {r2 : R2} (h1 : x = some (.inr r1)) (h2 : y = some (.inr r2)) (h : Q r1 r2) : Sm I Q x y := Or.inr ⟨r1, r2, h1, h2, h⟩
theorem Sm.ite {S R1 R2 : Type} {I : S → Prop} {Q : R1 → R2 → Prop} {x x2 : Option (S ⊕ R1)} {y y2 : Option (S ⊕ R2)} {c : Prop} {d1 d2 : Decidable c} (h : c → Sm I Q x y) (h2 : ¬ c → Sm I Q x2 y2) : Sm I Q (@ite _ c d1 x x2) (@ite _ c d2 y y2) := by
  by_cases hc : c
  · rw [if_pos hc, if_pos hc]; exact h hc
  · rw [if_neg hc, if_neg hc]; exact h2 hc
theorem lock_e {S R1 R2 : Type} {b1 : S → Option (S ⊕ R1)} {b2 : S → Option (S ⊕ R2)} (N : Nat) (I : Nat → S → Prop) (Q : R1 → R2 → Prop) {s : S} (h0 : I 0 s) (hs : ∀ k s, k < N → I k s → Sm (I (k + 1)) Q (b1 s) (b2 s)) (he : ∀ s, I N s → ∃ r1 r2, b1 s = some (.inr r1) ∧ b2 s = some (.inr r2) ∧ Q r1 r2) (hN : N < 4096) : ∃ r1 r2, loop b1 fu s = some r1 ∧ loop b2 fu s = some r2 ∧ Q r1 r2 :=
  loop_lock N (fun k s1 s2 => s1 = s2 ∧ I k s1) Q (fun k s1 s2 hk h => by
    obtain ⟨rfl, h⟩ := h
    rcases hs k s1 hk h with ⟨t, e1, e2, h2⟩ | ⟨r1, r2, e1, e2, h2⟩
    · exact Or.inl ⟨t, t, e1, e2, rfl, h2⟩
    · exact Or.inr ⟨r1, r2, e1, e2, h2⟩) (fun s1 s2 h => by
    obtain ⟨rfl, h⟩ := h
    exact he s1 h) ⟨rfl, h0⟩ hN
theorem Ag.of {σ μ σ' μ' : PS} {x y : Option (Int32 × PS)} (h : ∃ r1 r2, x = some r1 ∧ y = some r2 ∧ (r1.1 = r2.1 ∧ r1.2 = σ' ∧ r2.2 = μ')) (f1 : PX σ σ') (f2 : PM μ μ') : Ag σ μ x y := by
  obtain ⟨⟨a, s⟩, ⟨b, u⟩, e1, e2, h1, h2, h3⟩ := h
  dsimp only at h1 h2 h3
  subst h1; subst h2; subst h3
  exact ⟨a, s, u, e1, e2, f1, f2⟩
variable {L : Lh} {σ μ : PS}
theorem q_air (H : L.X σ) (G : Lh.M 0 L μ) (O : L.Ok) (v1 v2 : Int32) : Ag σ μ (X_air σ v1 v2) (M_air μ v1 v2) := by
  obtain ⟨σ', μ', μ2, A⟩ := asked_e H G O
  unfold X_air M_air
  simp only [A.step, A.piece, A.lehr, A.isPiece, A.isZone, A.mStep, A.mPiece, A.mZone, A.mLehr, A.mThen, A.now, A.lay, bd_some, nm_eq, X_air_j27, X_air_j25, M_air_j22]
  by_cases c0 : L.stepG v2
  · by_cases c1 : L.zoneG v1
    · simp only [decide_eq_true c0, decide_eq_true c1, bIt, bIf, if_true, if_false, Bool.and_true, Bool.and_false, Bool.false_and, Bool.true_and]
      obtain ⟨t, ht, rfl⟩ := c0.to O
      have ht : t ≤ L.K.ns := ht
      obtain ⟨z, hz, rfl⟩ := c1.to O
      have hs : L.K.ns ≤ 14 := A.k.ns
      have hnp : L.K.np ≤ 6 := A.k.np
      have hnz : L.zones ≤ 7 := O.zones
      have zM : gI μ' 25 = nI L.zones := A.hM.nz
      have zM2 : gI μ2 25 = nI L.zones := A.hM2.nz
      have inX : ∀ {t : Nat} (z : Int32), t ≤ 15 → X_insideOf σ' z (nI t) = some (bits (fun p => decide (L.K.plM p t = z)) L.K.np) := fun z h => by rw [A.hX.inside_e A.k h z, show (fun p => decide (L.K.plX p _ = z)) = (fun p => decide (L.K.plM p _ = z)) from funext (fun p => by rw [L.pl])]
      have mX : ∀ c, J_bitCount (bits c L.K.np) = some (nI (cnt c L.K.np)) := fun c => (many_e c (by omega)).1
      have mM : ∀ c, M_sizeOf (bits c L.K.np) = some (nI (cnt c L.K.np)) := fun c => (many_e c (by omega)).2
      have airX : ∀ {z t : Nat}, z < L.K.nz → t ≤ 15 → X_airOf σ' (nI z) (nI t) = some (nI (L.K.airOf z t)) := fun hz ht => by have := A.hX.air_e A.k hz ht; rw [L.ord hz] at this; exact this
      have hz : z < L.K.nz := hz
      simp (disch := omega) only [bd_some, nm_eq, le_I, lt_I, eq_I, nI_1, nI_add, ix_nI, rA_nI, mul_L, add_L, A.hX.np, A.hX.ns, A.hM.pieces_e, A.hM.steps_e, A.hM2.pieces_e, A.hM2.steps_e, A.lX.zones, zM, zM2, A.hX.come_e A.k, A.hM.come_e A.k, A.rX.skin_e A.k, A.rM.skin_e A.k, A.rX.core_e A.k, A.rM.core_e A.k, A.rX.strain_e A.k, A.rM.strain_e A.k, A.rX.whole_e A.k, A.rM.whole_e A.k, A.hX.place A.k, A.hM.place A.k, A.hM2.place A.k, L.pl, inX, A.hM.inside_e A.k, A.hM2.inside_e A.k, A.rX.sound_e A.k, A.rX.soundNow_e A.hX A.k, A.rM.soundNow_e A.hM A.k, airX, mX, mM, A.hM.air_e A.k, A.hM2.air_e A.k, A.rX.crack, A.rM.crack, A.rX.why, A.rM.why, A.rX.fz, A.rM.fz, A.rX.st, A.rM.st, A.hX.comes, A.hM.comes_e A.k, A.hX.set, A.hM.set, ix40_4, r17_4]
      exact ⟨_, σ', μ2, rfl, rfl, A.fX, A.fM2⟩
    · simp only [decide_eq_true c0, decide_eq_false c1, bIt, bIf, if_true, if_false, Bool.and_true, Bool.and_false, Bool.false_and, Bool.true_and]
      exact ⟨-2, σ', _, rfl, rfl, A.fX, A.fM0⟩
  · by_cases c1 : L.zoneG v1
    · simp only [decide_eq_false c0, decide_eq_true c1, bIt, bIf, if_true, if_false, Bool.and_true, Bool.and_false, Bool.false_and, Bool.true_and]
      exact ⟨-2, σ', _, rfl, rfl, A.fX, A.fM0⟩
    · simp only [decide_eq_false c0, decide_eq_false c1, bIt, bIf, if_true, if_false, Bool.and_true, Bool.and_false, Bool.false_and, Bool.true_and]
      exact ⟨-2, σ', _, rfl, rfl, A.fX, A.fM0⟩
theorem q_inside (H : L.X σ) (G : Lh.M 0 L μ) (O : L.Ok) (v1 v2 : Int32) : Ag σ μ (X_inside σ v1 v2) (M_inside μ v1 v2) := by
  obtain ⟨σ', μ', μ2, A⟩ := asked_e H G O
  unfold X_inside M_inside
  simp only [A.step, A.piece, A.lehr, A.isPiece, A.isZone, A.mStep, A.mPiece, A.mZone, A.mLehr, A.mThen, A.now, A.lay, bd_some, nm_eq, X_inside_j27, X_inside_j25, M_inside_j22]
  by_cases c0 : L.stepG v2
  · by_cases c1 : L.zoneG v1
    · simp only [decide_eq_true c0, decide_eq_true c1, bIt, bIf, if_true, if_false, Bool.and_true, Bool.and_false, Bool.false_and, Bool.true_and]
      obtain ⟨t, ht, rfl⟩ := c0.to O
      have ht : t ≤ L.K.ns := ht
      obtain ⟨z, hz, rfl⟩ := c1.to O
      have hs : L.K.ns ≤ 14 := A.k.ns
      have hnp : L.K.np ≤ 6 := A.k.np
      have hnz : L.zones ≤ 7 := O.zones
      have zM : gI μ' 25 = nI L.zones := A.hM.nz
      have zM2 : gI μ2 25 = nI L.zones := A.hM2.nz
      have inX : ∀ {t : Nat} (z : Int32), t ≤ 15 → X_insideOf σ' z (nI t) = some (bits (fun p => decide (L.K.plM p t = z)) L.K.np) := fun z h => by rw [A.hX.inside_e A.k h z, show (fun p => decide (L.K.plX p _ = z)) = (fun p => decide (L.K.plM p _ = z)) from funext (fun p => by rw [L.pl])]
      have mX : ∀ c, J_bitCount (bits c L.K.np) = some (nI (cnt c L.K.np)) := fun c => (many_e c (by omega)).1
      have mM : ∀ c, M_sizeOf (bits c L.K.np) = some (nI (cnt c L.K.np)) := fun c => (many_e c (by omega)).2
      have airX : ∀ {z t : Nat}, z < L.K.nz → t ≤ 15 → X_airOf σ' (nI z) (nI t) = some (nI (L.K.airOf z t)) := fun hz ht => by have := A.hX.air_e A.k hz ht; rw [L.ord hz] at this; exact this
      simp (disch := omega) only [bd_some, nm_eq, le_I, lt_I, eq_I, nI_1, nI_add, ix_nI, rA_nI, mul_L, add_L, A.hX.np, A.hX.ns, A.hM.pieces_e, A.hM.steps_e, A.hM2.pieces_e, A.hM2.steps_e, A.lX.zones, zM, zM2, A.hX.come_e A.k, A.hM.come_e A.k, A.rX.skin_e A.k, A.rM.skin_e A.k, A.rX.core_e A.k, A.rM.core_e A.k, A.rX.strain_e A.k, A.rM.strain_e A.k, A.rX.whole_e A.k, A.rM.whole_e A.k, A.hX.place A.k, A.hM.place A.k, A.hM2.place A.k, L.pl, inX, A.hM.inside_e A.k, A.hM2.inside_e A.k, A.rX.sound_e A.k, A.rX.soundNow_e A.hX A.k, A.rM.soundNow_e A.hM A.k, airX, mX, mM, A.hM.air_e A.k, A.hM2.air_e A.k, A.rX.crack, A.rM.crack, A.rX.why, A.rM.why, A.rX.fz, A.rM.fz, A.rX.st, A.rM.st, A.hX.comes, A.hM.comes_e A.k, A.hX.set, A.hM.set, ix40_4, r17_4]
      exact ⟨_, σ', μ2, rfl, rfl, A.fX, A.fM2⟩
    · simp only [decide_eq_true c0, decide_eq_false c1, bIt, bIf, if_true, if_false, Bool.and_true, Bool.and_false, Bool.false_and, Bool.true_and]
      exact ⟨-2, σ', _, rfl, rfl, A.fX, A.fM0⟩
  · by_cases c1 : L.zoneG v1
    · simp only [decide_eq_false c0, decide_eq_true c1, bIt, bIf, if_true, if_false, Bool.and_true, Bool.and_false, Bool.false_and, Bool.true_and]
      exact ⟨-2, σ', _, rfl, rfl, A.fX, A.fM0⟩
    · simp only [decide_eq_false c0, decide_eq_false c1, bIt, bIf, if_true, if_false, Bool.and_true, Bool.and_false, Bool.false_and, Bool.true_and]
      exact ⟨-2, σ', _, rfl, rfl, A.fX, A.fM0⟩
theorem q_out (H : L.X σ) (G : Lh.M 0 L μ) (O : L.Ok) (v1 : Int32) : Ag σ μ (X_out σ v1) (M_out μ v1) := by
  obtain ⟨σ', μ', μ2, A⟩ := asked_e H G O
  unfold X_out M_out
  simp only [A.step, A.piece, A.lehr, A.isPiece, A.isZone, A.mStep, A.mPiece, A.mZone, A.mLehr, A.mThen, A.now, A.lay, bd_some, nm_eq, X_out_j20]
  by_cases c0 : L.stepG v1
  · simp only [decide_eq_true c0, bIt, bIf, if_true, if_false, Bool.and_true, Bool.and_false, Bool.false_and, Bool.true_and]
    obtain ⟨t, ht, rfl⟩ := c0.to O
    have ht : t ≤ L.K.ns := ht
    have hs : L.K.ns ≤ 14 := A.k.ns
    have hnp : L.K.np ≤ 6 := A.k.np
    have hnz : L.zones ≤ 7 := O.zones
    have zM : gI μ' 25 = nI L.zones := A.hM.nz
    have zM2 : gI μ2 25 = nI L.zones := A.hM2.nz
    have inX : ∀ {t : Nat} (z : Int32), t ≤ 15 → X_insideOf σ' z (nI t) = some (bits (fun p => decide (L.K.plM p t = z)) L.K.np) := fun z h => by rw [A.hX.inside_e A.k h z, show (fun p => decide (L.K.plX p _ = z)) = (fun p => decide (L.K.plM p _ = z)) from funext (fun p => by rw [L.pl])]
    have mX : ∀ c, J_bitCount (bits c L.K.np) = some (nI (cnt c L.K.np)) := fun c => (many_e c (by omega)).1
    have mM : ∀ c, M_sizeOf (bits c L.K.np) = some (nI (cnt c L.K.np)) := fun c => (many_e c (by omega)).2
    have airX : ∀ {z t : Nat}, z < L.K.nz → t ≤ 15 → X_airOf σ' (nI z) (nI t) = some (nI (L.K.airOf z t)) := fun hz ht => by have := A.hX.air_e A.k hz ht; rw [L.ord hz] at this; exact this
    simp (disch := omega) only [bd_some, nm_eq, le_I, lt_I, eq_I, nI_1, nI_add, ix_nI, rA_nI, mul_L, add_L, A.hX.np, A.hX.ns, A.hM.pieces_e, A.hM.steps_e, A.hM2.pieces_e, A.hM2.steps_e, A.lX.zones, zM, zM2, A.hX.come_e A.k, A.hM.come_e A.k, A.rX.skin_e A.k, A.rM.skin_e A.k, A.rX.core_e A.k, A.rM.core_e A.k, A.rX.strain_e A.k, A.rM.strain_e A.k, A.rX.whole_e A.k, A.rM.whole_e A.k, A.hX.place A.k, A.hM.place A.k, A.hM2.place A.k, L.pl, inX, A.hM.inside_e A.k, A.hM2.inside_e A.k, A.rX.sound_e A.k, A.rX.soundNow_e A.hX A.k, A.rM.soundNow_e A.hM A.k, airX, mX, mM, A.hM.air_e A.k, A.hM2.air_e A.k, A.rX.crack, A.rM.crack, A.rX.why, A.rM.why, A.rX.fz, A.rM.fz, A.rX.st, A.rM.st, A.hX.comes, A.hM.comes_e A.k, A.hX.set, A.hM.set, ix40_4, r17_4]
    exact ⟨_, σ', μ2, rfl, rfl, A.fX, A.fM2⟩
  · simp only [decide_eq_false c0, bIt, bIf, if_true, if_false, Bool.and_true, Bool.and_false, Bool.false_and, Bool.true_and]
    exact ⟨-2, σ', _, rfl, rfl, A.fX, A.fM0⟩
theorem q_skin (H : L.X σ) (G : Lh.M 0 L μ) (O : L.Ok) (v1 v2 : Int32) : Ag σ μ (X_skin σ v1 v2) (M_skin μ v1 v2) := by
  obtain ⟨σ', μ', μ2, A⟩ := asked_e H G O
  unfold X_skin M_skin
  simp only [A.step, A.piece, A.lehr, A.isPiece, A.isZone, A.mStep, A.mPiece, A.mZone, A.mLehr, A.mThen, A.now, A.lay, bd_some, nm_eq, X_skin_j28, X_skin_j26]
  by_cases c0 : L.stepG v2
  · by_cases c1 : L.pieceG v1
    · simp only [decide_eq_true c0, decide_eq_true c1, bIt, bIf, if_true, if_false, Bool.and_true, Bool.and_false, Bool.false_and, Bool.true_and]
      obtain ⟨t, ht, rfl⟩ := c0.to O
      have ht : t ≤ L.K.ns := ht
      obtain ⟨p, hp, rfl⟩ := c1.to O
      have hp : p < L.K.np := hp
      have hs : L.K.ns ≤ 14 := A.k.ns
      have hnp : L.K.np ≤ 6 := A.k.np
      have hnz : L.zones ≤ 7 := O.zones
      have zM : gI μ' 25 = nI L.zones := A.hM.nz
      have zM2 : gI μ2 25 = nI L.zones := A.hM2.nz
      have inX : ∀ {t : Nat} (z : Int32), t ≤ 15 → X_insideOf σ' z (nI t) = some (bits (fun p => decide (L.K.plM p t = z)) L.K.np) := fun z h => by rw [A.hX.inside_e A.k h z, show (fun p => decide (L.K.plX p _ = z)) = (fun p => decide (L.K.plM p _ = z)) from funext (fun p => by rw [L.pl])]
      have mX : ∀ c, J_bitCount (bits c L.K.np) = some (nI (cnt c L.K.np)) := fun c => (many_e c (by omega)).1
      have mM : ∀ c, M_sizeOf (bits c L.K.np) = some (nI (cnt c L.K.np)) := fun c => (many_e c (by omega)).2
      have airX : ∀ {z t : Nat}, z < L.K.nz → t ≤ 15 → X_airOf σ' (nI z) (nI t) = some (nI (L.K.airOf z t)) := fun hz ht => by have := A.hX.air_e A.k hz ht; rw [L.ord hz] at this; exact this
      simp (disch := omega) only [bd_some, nm_eq, le_I, lt_I, eq_I, nI_1, nI_add, ix_nI, rA_nI, mul_L, add_L, A.hX.np, A.hX.ns, A.hM.pieces_e, A.hM.steps_e, A.hM2.pieces_e, A.hM2.steps_e, A.lX.zones, zM, zM2, A.hX.come_e A.k, A.hM.come_e A.k, A.rX.skin_e A.k, A.rM.skin_e A.k, A.rX.core_e A.k, A.rM.core_e A.k, A.rX.strain_e A.k, A.rM.strain_e A.k, A.rX.whole_e A.k, A.rM.whole_e A.k, A.hX.place A.k, A.hM.place A.k, A.hM2.place A.k, L.pl, inX, A.hM.inside_e A.k, A.hM2.inside_e A.k, A.rX.sound_e A.k, A.rX.soundNow_e A.hX A.k, A.rM.soundNow_e A.hM A.k, airX, mX, mM, A.hM.air_e A.k, A.hM2.air_e A.k, A.rX.crack, A.rM.crack, A.rX.why, A.rM.why, A.rX.fz, A.rM.fz, A.rX.st, A.rM.st, A.hX.comes, A.hM.comes_e A.k, A.hX.set, A.hM.set, ix40_4, r17_4]
      exact ⟨_, σ', μ', rfl, rfl, A.fX, A.fM⟩
    · simp only [decide_eq_true c0, decide_eq_false c1, bIt, bIf, if_true, if_false, Bool.and_true, Bool.and_false, Bool.false_and, Bool.true_and]
      exact ⟨-2, σ', _, rfl, rfl, A.fX, A.fM0⟩
  · by_cases c1 : L.pieceG v1
    · simp only [decide_eq_false c0, decide_eq_true c1, bIt, bIf, if_true, if_false, Bool.and_true, Bool.and_false, Bool.false_and, Bool.true_and]
      exact ⟨-2, σ', _, rfl, rfl, A.fX, A.fM0⟩
    · simp only [decide_eq_false c0, decide_eq_false c1, bIt, bIf, if_true, if_false, Bool.and_true, Bool.and_false, Bool.false_and, Bool.true_and]
      exact ⟨-2, σ', _, rfl, rfl, A.fX, A.fM0⟩
theorem q_core (H : L.X σ) (G : Lh.M 0 L μ) (O : L.Ok) (v1 v2 : Int32) : Ag σ μ (X_core σ v1 v2) (M_core μ v1 v2) := by
  obtain ⟨σ', μ', μ2, A⟩ := asked_e H G O
  unfold X_core M_core
  simp only [A.step, A.piece, A.lehr, A.isPiece, A.isZone, A.mStep, A.mPiece, A.mZone, A.mLehr, A.mThen, A.now, A.lay, bd_some, nm_eq, X_core_j28, X_core_j26]
  by_cases c0 : L.stepG v2
  · by_cases c1 : L.pieceG v1
    · simp only [decide_eq_true c0, decide_eq_true c1, bIt, bIf, if_true, if_false, Bool.and_true, Bool.and_false, Bool.false_and, Bool.true_and]
      obtain ⟨t, ht, rfl⟩ := c0.to O
      have ht : t ≤ L.K.ns := ht
      obtain ⟨p, hp, rfl⟩ := c1.to O
      have hp : p < L.K.np := hp
      have hs : L.K.ns ≤ 14 := A.k.ns
      have hnp : L.K.np ≤ 6 := A.k.np
      have hnz : L.zones ≤ 7 := O.zones
      have zM : gI μ' 25 = nI L.zones := A.hM.nz
      have zM2 : gI μ2 25 = nI L.zones := A.hM2.nz
      have inX : ∀ {t : Nat} (z : Int32), t ≤ 15 → X_insideOf σ' z (nI t) = some (bits (fun p => decide (L.K.plM p t = z)) L.K.np) := fun z h => by rw [A.hX.inside_e A.k h z, show (fun p => decide (L.K.plX p _ = z)) = (fun p => decide (L.K.plM p _ = z)) from funext (fun p => by rw [L.pl])]
      have mX : ∀ c, J_bitCount (bits c L.K.np) = some (nI (cnt c L.K.np)) := fun c => (many_e c (by omega)).1
      have mM : ∀ c, M_sizeOf (bits c L.K.np) = some (nI (cnt c L.K.np)) := fun c => (many_e c (by omega)).2
      have airX : ∀ {z t : Nat}, z < L.K.nz → t ≤ 15 → X_airOf σ' (nI z) (nI t) = some (nI (L.K.airOf z t)) := fun hz ht => by have := A.hX.air_e A.k hz ht; rw [L.ord hz] at this; exact this
      simp (disch := omega) only [bd_some, nm_eq, le_I, lt_I, eq_I, nI_1, nI_add, ix_nI, rA_nI, mul_L, add_L, A.hX.np, A.hX.ns, A.hM.pieces_e, A.hM.steps_e, A.hM2.pieces_e, A.hM2.steps_e, A.lX.zones, zM, zM2, A.hX.come_e A.k, A.hM.come_e A.k, A.rX.skin_e A.k, A.rM.skin_e A.k, A.rX.core_e A.k, A.rM.core_e A.k, A.rX.strain_e A.k, A.rM.strain_e A.k, A.rX.whole_e A.k, A.rM.whole_e A.k, A.hX.place A.k, A.hM.place A.k, A.hM2.place A.k, L.pl, inX, A.hM.inside_e A.k, A.hM2.inside_e A.k, A.rX.sound_e A.k, A.rX.soundNow_e A.hX A.k, A.rM.soundNow_e A.hM A.k, airX, mX, mM, A.hM.air_e A.k, A.hM2.air_e A.k, A.rX.crack, A.rM.crack, A.rX.why, A.rM.why, A.rX.fz, A.rM.fz, A.rX.st, A.rM.st, A.hX.comes, A.hM.comes_e A.k, A.hX.set, A.hM.set, ix40_4, r17_4]
      exact ⟨_, σ', μ', rfl, rfl, A.fX, A.fM⟩
    · simp only [decide_eq_true c0, decide_eq_false c1, bIt, bIf, if_true, if_false, Bool.and_true, Bool.and_false, Bool.false_and, Bool.true_and]
      exact ⟨-2, σ', _, rfl, rfl, A.fX, A.fM0⟩
  · by_cases c1 : L.pieceG v1
    · simp only [decide_eq_false c0, decide_eq_true c1, bIt, bIf, if_true, if_false, Bool.and_true, Bool.and_false, Bool.false_and, Bool.true_and]
      exact ⟨-2, σ', _, rfl, rfl, A.fX, A.fM0⟩
    · simp only [decide_eq_false c0, decide_eq_false c1, bIt, bIf, if_true, if_false, Bool.and_true, Bool.and_false, Bool.false_and, Bool.true_and]
      exact ⟨-2, σ', _, rfl, rfl, A.fX, A.fM0⟩
theorem q_strain (H : L.X σ) (G : Lh.M 0 L μ) (O : L.Ok) (v1 v2 : Int32) : Ag σ μ (X_strain σ v1 v2) (M_strain μ v1 v2) := by
  obtain ⟨σ', μ', μ2, A⟩ := asked_e H G O
  unfold X_strain M_strain
  simp only [A.step, A.piece, A.lehr, A.isPiece, A.isZone, A.mStep, A.mPiece, A.mZone, A.mLehr, A.mThen, A.now, A.lay, bd_some, nm_eq, X_strain_j28, X_strain_j26]
  by_cases c0 : L.stepG v2
  · by_cases c1 : L.pieceG v1
    · simp only [decide_eq_true c0, decide_eq_true c1, bIt, bIf, if_true, if_false, Bool.and_true, Bool.and_false, Bool.false_and, Bool.true_and]
      obtain ⟨t, ht, rfl⟩ := c0.to O
      have ht : t ≤ L.K.ns := ht
      obtain ⟨p, hp, rfl⟩ := c1.to O
      have hp : p < L.K.np := hp
      have hs : L.K.ns ≤ 14 := A.k.ns
      have hnp : L.K.np ≤ 6 := A.k.np
      have hnz : L.zones ≤ 7 := O.zones
      have zM : gI μ' 25 = nI L.zones := A.hM.nz
      have zM2 : gI μ2 25 = nI L.zones := A.hM2.nz
      have inX : ∀ {t : Nat} (z : Int32), t ≤ 15 → X_insideOf σ' z (nI t) = some (bits (fun p => decide (L.K.plM p t = z)) L.K.np) := fun z h => by rw [A.hX.inside_e A.k h z, show (fun p => decide (L.K.plX p _ = z)) = (fun p => decide (L.K.plM p _ = z)) from funext (fun p => by rw [L.pl])]
      have mX : ∀ c, J_bitCount (bits c L.K.np) = some (nI (cnt c L.K.np)) := fun c => (many_e c (by omega)).1
      have mM : ∀ c, M_sizeOf (bits c L.K.np) = some (nI (cnt c L.K.np)) := fun c => (many_e c (by omega)).2
      have airX : ∀ {z t : Nat}, z < L.K.nz → t ≤ 15 → X_airOf σ' (nI z) (nI t) = some (nI (L.K.airOf z t)) := fun hz ht => by have := A.hX.air_e A.k hz ht; rw [L.ord hz] at this; exact this
      simp (disch := omega) only [bd_some, nm_eq, le_I, lt_I, eq_I, nI_1, nI_add, ix_nI, rA_nI, mul_L, add_L, A.hX.np, A.hX.ns, A.hM.pieces_e, A.hM.steps_e, A.hM2.pieces_e, A.hM2.steps_e, A.lX.zones, zM, zM2, A.hX.come_e A.k, A.hM.come_e A.k, A.rX.skin_e A.k, A.rM.skin_e A.k, A.rX.core_e A.k, A.rM.core_e A.k, A.rX.strain_e A.k, A.rM.strain_e A.k, A.rX.whole_e A.k, A.rM.whole_e A.k, A.hX.place A.k, A.hM.place A.k, A.hM2.place A.k, L.pl, inX, A.hM.inside_e A.k, A.hM2.inside_e A.k, A.rX.sound_e A.k, A.rX.soundNow_e A.hX A.k, A.rM.soundNow_e A.hM A.k, airX, mX, mM, A.hM.air_e A.k, A.hM2.air_e A.k, A.rX.crack, A.rM.crack, A.rX.why, A.rM.why, A.rX.fz, A.rM.fz, A.rX.st, A.rM.st, A.hX.comes, A.hM.comes_e A.k, A.hX.set, A.hM.set, ix40_4, r17_4]
      exact ⟨_, σ', μ', rfl, rfl, A.fX, A.fM⟩
    · simp only [decide_eq_true c0, decide_eq_false c1, bIt, bIf, if_true, if_false, Bool.and_true, Bool.and_false, Bool.false_and, Bool.true_and]
      exact ⟨-2, σ', _, rfl, rfl, A.fX, A.fM0⟩
  · by_cases c1 : L.pieceG v1
    · simp only [decide_eq_false c0, decide_eq_true c1, bIt, bIf, if_true, if_false, Bool.and_true, Bool.and_false, Bool.false_and, Bool.true_and]
      exact ⟨-2, σ', _, rfl, rfl, A.fX, A.fM0⟩
    · simp only [decide_eq_false c0, decide_eq_false c1, bIt, bIf, if_true, if_false, Bool.and_true, Bool.and_false, Bool.false_and, Bool.true_and]
      exact ⟨-2, σ', _, rfl, rfl, A.fX, A.fM0⟩
theorem q_frozen (H : L.X σ) (G : Lh.M 0 L μ) (O : L.Ok) (v1 : Int32) : Ag σ μ (X_frozen σ v1) (M_frozen μ v1) := by
  obtain ⟨σ', μ', μ2, A⟩ := asked_e H G O
  unfold X_frozen M_frozen
  simp only [A.step, A.piece, A.lehr, A.isPiece, A.isZone, A.mStep, A.mPiece, A.mZone, A.mLehr, A.mThen, A.now, A.lay, bd_some, nm_eq, X_frozen_j19]
  by_cases c0 : L.pieceG v1
  · simp only [decide_eq_true c0, bIt, bIf, if_true, if_false, Bool.and_true, Bool.and_false, Bool.false_and, Bool.true_and]
    obtain ⟨p, hp, rfl⟩ := c0.to O
    have hp : p < L.K.np := hp
    have hs : L.K.ns ≤ 14 := A.k.ns
    have hnp : L.K.np ≤ 6 := A.k.np
    have hnz : L.zones ≤ 7 := O.zones
    have zM : gI μ' 25 = nI L.zones := A.hM.nz
    have zM2 : gI μ2 25 = nI L.zones := A.hM2.nz
    have inX : ∀ {t : Nat} (z : Int32), t ≤ 15 → X_insideOf σ' z (nI t) = some (bits (fun p => decide (L.K.plM p t = z)) L.K.np) := fun z h => by rw [A.hX.inside_e A.k h z, show (fun p => decide (L.K.plX p _ = z)) = (fun p => decide (L.K.plM p _ = z)) from funext (fun p => by rw [L.pl])]
    have mX : ∀ c, J_bitCount (bits c L.K.np) = some (nI (cnt c L.K.np)) := fun c => (many_e c (by omega)).1
    have mM : ∀ c, M_sizeOf (bits c L.K.np) = some (nI (cnt c L.K.np)) := fun c => (many_e c (by omega)).2
    have airX : ∀ {z t : Nat}, z < L.K.nz → t ≤ 15 → X_airOf σ' (nI z) (nI t) = some (nI (L.K.airOf z t)) := fun hz ht => by have := A.hX.air_e A.k hz ht; rw [L.ord hz] at this; exact this
    simp (disch := omega) only [bd_some, nm_eq, le_I, lt_I, eq_I, nI_1, nI_add, ix_nI, rA_nI, mul_L, add_L, A.hX.np, A.hX.ns, A.hM.pieces_e, A.hM.steps_e, A.hM2.pieces_e, A.hM2.steps_e, A.lX.zones, zM, zM2, A.hX.come_e A.k, A.hM.come_e A.k, A.rX.skin_e A.k, A.rM.skin_e A.k, A.rX.core_e A.k, A.rM.core_e A.k, A.rX.strain_e A.k, A.rM.strain_e A.k, A.rX.whole_e A.k, A.rM.whole_e A.k, A.hX.place A.k, A.hM.place A.k, A.hM2.place A.k, L.pl, inX, A.hM.inside_e A.k, A.hM2.inside_e A.k, A.rX.sound_e A.k, A.rX.soundNow_e A.hX A.k, A.rM.soundNow_e A.hM A.k, airX, mX, mM, A.hM.air_e A.k, A.hM2.air_e A.k, A.rX.crack, A.rM.crack, A.rX.why, A.rM.why, A.rX.fz, A.rM.fz, A.rX.st, A.rM.st, A.hX.comes, A.hM.comes_e A.k, A.hX.set, A.hM.set, ix40_4, r17_4]
    exact ⟨_, σ', μ', rfl, rfl, A.fX, A.fM⟩
  · simp only [decide_eq_false c0, bIt, bIf, if_true, if_false, Bool.and_true, Bool.and_false, Bool.false_and, Bool.true_and]
    exact ⟨-2, σ', _, rfl, rfl, A.fX, A.fM0⟩
theorem q_sets (H : L.X σ) (G : Lh.M 0 L μ) (O : L.Ok) (v1 : Int32) : Ag σ μ (X_sets σ v1) (M_sets μ v1) := by
  obtain ⟨σ', μ', μ2, A⟩ := asked_e H G O
  unfold X_sets M_sets
  simp only [A.step, A.piece, A.lehr, A.isPiece, A.isZone, A.mStep, A.mPiece, A.mZone, A.mLehr, A.mThen, A.now, A.lay, bd_some, nm_eq, X_sets_j19]
  by_cases c0 : L.pieceG v1
  · simp only [decide_eq_true c0, bIt, bIf, if_true, if_false, Bool.and_true, Bool.and_false, Bool.false_and, Bool.true_and]
    obtain ⟨p, hp, rfl⟩ := c0.to O
    have hp : p < L.K.np := hp
    have hs : L.K.ns ≤ 14 := A.k.ns
    have hnp : L.K.np ≤ 6 := A.k.np
    have hnz : L.zones ≤ 7 := O.zones
    have zM : gI μ' 25 = nI L.zones := A.hM.nz
    have zM2 : gI μ2 25 = nI L.zones := A.hM2.nz
    have inX : ∀ {t : Nat} (z : Int32), t ≤ 15 → X_insideOf σ' z (nI t) = some (bits (fun p => decide (L.K.plM p t = z)) L.K.np) := fun z h => by rw [A.hX.inside_e A.k h z, show (fun p => decide (L.K.plX p _ = z)) = (fun p => decide (L.K.plM p _ = z)) from funext (fun p => by rw [L.pl])]
    have mX : ∀ c, J_bitCount (bits c L.K.np) = some (nI (cnt c L.K.np)) := fun c => (many_e c (by omega)).1
    have mM : ∀ c, M_sizeOf (bits c L.K.np) = some (nI (cnt c L.K.np)) := fun c => (many_e c (by omega)).2
    have airX : ∀ {z t : Nat}, z < L.K.nz → t ≤ 15 → X_airOf σ' (nI z) (nI t) = some (nI (L.K.airOf z t)) := fun hz ht => by have := A.hX.air_e A.k hz ht; rw [L.ord hz] at this; exact this
    simp (disch := omega) only [bd_some, nm_eq, le_I, lt_I, eq_I, nI_1, nI_add, ix_nI, rA_nI, mul_L, add_L, A.hX.np, A.hX.ns, A.hM.pieces_e, A.hM.steps_e, A.hM2.pieces_e, A.hM2.steps_e, A.lX.zones, zM, zM2, A.hX.come_e A.k, A.hM.come_e A.k, A.rX.skin_e A.k, A.rM.skin_e A.k, A.rX.core_e A.k, A.rM.core_e A.k, A.rX.strain_e A.k, A.rM.strain_e A.k, A.rX.whole_e A.k, A.rM.whole_e A.k, A.hX.place A.k, A.hM.place A.k, A.hM2.place A.k, L.pl, inX, A.hM.inside_e A.k, A.hM2.inside_e A.k, A.rX.sound_e A.k, A.rX.soundNow_e A.hX A.k, A.rM.soundNow_e A.hM A.k, airX, mX, mM, A.hM.air_e A.k, A.hM2.air_e A.k, A.rX.crack, A.rM.crack, A.rX.why, A.rM.why, A.rX.fz, A.rM.fz, A.rX.st, A.rM.st, A.hX.comes, A.hM.comes_e A.k, A.hX.set, A.hM.set, ix40_4, r17_4]
    exact ⟨_, σ', μ', rfl, rfl, A.fX, A.fM⟩
  · simp only [decide_eq_false c0, bIt, bIf, if_true, if_false, Bool.and_true, Bool.and_false, Bool.false_and, Bool.true_and]
    exact ⟨-2, σ', _, rfl, rfl, A.fX, A.fM0⟩
theorem q_cracks (H : L.X σ) (G : Lh.M 0 L μ) (O : L.Ok) (v1 : Int32) : Ag σ μ (X_cracks σ v1) (M_cracks μ v1) := by
  obtain ⟨σ', μ', μ2, A⟩ := asked_e H G O
  unfold X_cracks M_cracks
  simp only [A.step, A.piece, A.lehr, A.isPiece, A.isZone, A.mStep, A.mPiece, A.mZone, A.mLehr, A.mThen, A.now, A.lay, bd_some, nm_eq, X_cracks_j19]
  by_cases c0 : L.pieceG v1
  · simp only [decide_eq_true c0, bIt, bIf, if_true, if_false, Bool.and_true, Bool.and_false, Bool.false_and, Bool.true_and]
    obtain ⟨p, hp, rfl⟩ := c0.to O
    have hp : p < L.K.np := hp
    have hs : L.K.ns ≤ 14 := A.k.ns
    have hnp : L.K.np ≤ 6 := A.k.np
    have hnz : L.zones ≤ 7 := O.zones
    have zM : gI μ' 25 = nI L.zones := A.hM.nz
    have zM2 : gI μ2 25 = nI L.zones := A.hM2.nz
    have inX : ∀ {t : Nat} (z : Int32), t ≤ 15 → X_insideOf σ' z (nI t) = some (bits (fun p => decide (L.K.plM p t = z)) L.K.np) := fun z h => by rw [A.hX.inside_e A.k h z, show (fun p => decide (L.K.plX p _ = z)) = (fun p => decide (L.K.plM p _ = z)) from funext (fun p => by rw [L.pl])]
    have mX : ∀ c, J_bitCount (bits c L.K.np) = some (nI (cnt c L.K.np)) := fun c => (many_e c (by omega)).1
    have mM : ∀ c, M_sizeOf (bits c L.K.np) = some (nI (cnt c L.K.np)) := fun c => (many_e c (by omega)).2
    have airX : ∀ {z t : Nat}, z < L.K.nz → t ≤ 15 → X_airOf σ' (nI z) (nI t) = some (nI (L.K.airOf z t)) := fun hz ht => by have := A.hX.air_e A.k hz ht; rw [L.ord hz] at this; exact this
    simp (disch := omega) only [bd_some, nm_eq, le_I, lt_I, eq_I, nI_1, nI_add, ix_nI, rA_nI, mul_L, add_L, A.hX.np, A.hX.ns, A.hM.pieces_e, A.hM.steps_e, A.hM2.pieces_e, A.hM2.steps_e, A.lX.zones, zM, zM2, A.hX.come_e A.k, A.hM.come_e A.k, A.rX.skin_e A.k, A.rM.skin_e A.k, A.rX.core_e A.k, A.rM.core_e A.k, A.rX.strain_e A.k, A.rM.strain_e A.k, A.rX.whole_e A.k, A.rM.whole_e A.k, A.hX.place A.k, A.hM.place A.k, A.hM2.place A.k, L.pl, inX, A.hM.inside_e A.k, A.hM2.inside_e A.k, A.rX.sound_e A.k, A.rX.soundNow_e A.hX A.k, A.rM.soundNow_e A.hM A.k, airX, mX, mM, A.hM.air_e A.k, A.hM2.air_e A.k, A.rX.crack, A.rM.crack, A.rX.why, A.rM.why, A.rX.fz, A.rM.fz, A.rX.st, A.rM.st, A.hX.comes, A.hM.comes_e A.k, A.hX.set, A.hM.set, ix40_4, r17_4]
    exact ⟨_, σ', μ', rfl, rfl, A.fX, A.fM⟩
  · simp only [decide_eq_false c0, bIt, bIf, if_true, if_false, Bool.and_true, Bool.and_false, Bool.false_and, Bool.true_and]
    exact ⟨-2, σ', _, rfl, rfl, A.fX, A.fM0⟩
theorem q_why (H : L.X σ) (G : Lh.M 0 L μ) (O : L.Ok) (v1 : Int32) : Ag σ μ (X_why σ v1) (M_why μ v1) := by
  obtain ⟨σ', μ', μ2, A⟩ := asked_e H G O
  unfold X_why M_why
  simp only [A.step, A.piece, A.lehr, A.isPiece, A.isZone, A.mStep, A.mPiece, A.mZone, A.mLehr, A.mThen, A.now, A.lay, bd_some, nm_eq, X_why_j19]
  by_cases c0 : L.pieceG v1
  · simp only [decide_eq_true c0, bIt, bIf, if_true, if_false, Bool.and_true, Bool.and_false, Bool.false_and, Bool.true_and]
    obtain ⟨p, hp, rfl⟩ := c0.to O
    have hp : p < L.K.np := hp
    have hs : L.K.ns ≤ 14 := A.k.ns
    have hnp : L.K.np ≤ 6 := A.k.np
    have hnz : L.zones ≤ 7 := O.zones
    have zM : gI μ' 25 = nI L.zones := A.hM.nz
    have zM2 : gI μ2 25 = nI L.zones := A.hM2.nz
    have inX : ∀ {t : Nat} (z : Int32), t ≤ 15 → X_insideOf σ' z (nI t) = some (bits (fun p => decide (L.K.plM p t = z)) L.K.np) := fun z h => by rw [A.hX.inside_e A.k h z, show (fun p => decide (L.K.plX p _ = z)) = (fun p => decide (L.K.plM p _ = z)) from funext (fun p => by rw [L.pl])]
    have mX : ∀ c, J_bitCount (bits c L.K.np) = some (nI (cnt c L.K.np)) := fun c => (many_e c (by omega)).1
    have mM : ∀ c, M_sizeOf (bits c L.K.np) = some (nI (cnt c L.K.np)) := fun c => (many_e c (by omega)).2
    have airX : ∀ {z t : Nat}, z < L.K.nz → t ≤ 15 → X_airOf σ' (nI z) (nI t) = some (nI (L.K.airOf z t)) := fun hz ht => by have := A.hX.air_e A.k hz ht; rw [L.ord hz] at this; exact this
    simp (disch := omega) only [bd_some, nm_eq, le_I, lt_I, eq_I, nI_1, nI_add, ix_nI, rA_nI, mul_L, add_L, A.hX.np, A.hX.ns, A.hM.pieces_e, A.hM.steps_e, A.hM2.pieces_e, A.hM2.steps_e, A.lX.zones, zM, zM2, A.hX.come_e A.k, A.hM.come_e A.k, A.rX.skin_e A.k, A.rM.skin_e A.k, A.rX.core_e A.k, A.rM.core_e A.k, A.rX.strain_e A.k, A.rM.strain_e A.k, A.rX.whole_e A.k, A.rM.whole_e A.k, A.hX.place A.k, A.hM.place A.k, A.hM2.place A.k, L.pl, inX, A.hM.inside_e A.k, A.hM2.inside_e A.k, A.rX.sound_e A.k, A.rX.soundNow_e A.hX A.k, A.rM.soundNow_e A.hM A.k, airX, mX, mM, A.hM.air_e A.k, A.hM2.air_e A.k, A.rX.crack, A.rM.crack, A.rX.why, A.rM.why, A.rX.fz, A.rM.fz, A.rX.st, A.rM.st, A.hX.comes, A.hM.comes_e A.k, A.hX.set, A.hM.set, ix40_4, r17_4]
    exact ⟨_, σ', μ', rfl, rfl, A.fX, A.fM⟩
  · simp only [decide_eq_false c0, bIt, bIf, if_true, if_false, Bool.and_true, Bool.and_false, Bool.false_and, Bool.true_and]
    exact ⟨-2, σ', _, rfl, rfl, A.fX, A.fM0⟩
theorem q_sound (H : L.X σ) (G : Lh.M 0 L μ) (O : L.Ok) : Ag σ μ (X_sound σ) (M_sound μ) := by
  obtain ⟨σ', μ', μ2, A⟩ := asked_e H G O
  unfold X_sound M_sound
  simp only [A.step, A.piece, A.lehr, A.isPiece, A.isZone, A.mStep, A.mPiece, A.mZone, A.mLehr, A.mThen, A.now, A.lay, bd_some, nm_eq, X_sound_j16]
  by_cases c0 : 0 < L.lines
  · simp only [decide_eq_true c0, bIt, bIf, if_true, if_false, Bool.and_true, Bool.and_false, Bool.false_and, Bool.true_and]
    have hs : L.K.ns ≤ 14 := A.k.ns
    have hnp : L.K.np ≤ 6 := A.k.np
    have hnz : L.zones ≤ 7 := O.zones
    have zM : gI μ' 25 = nI L.zones := A.hM.nz
    have zM2 : gI μ2 25 = nI L.zones := A.hM2.nz
    have inX : ∀ {t : Nat} (z : Int32), t ≤ 15 → X_insideOf σ' z (nI t) = some (bits (fun p => decide (L.K.plM p t = z)) L.K.np) := fun z h => by rw [A.hX.inside_e A.k h z, show (fun p => decide (L.K.plX p _ = z)) = (fun p => decide (L.K.plM p _ = z)) from funext (fun p => by rw [L.pl])]
    have mX : ∀ c, J_bitCount (bits c L.K.np) = some (nI (cnt c L.K.np)) := fun c => (many_e c (by omega)).1
    have mM : ∀ c, M_sizeOf (bits c L.K.np) = some (nI (cnt c L.K.np)) := fun c => (many_e c (by omega)).2
    have airX : ∀ {z t : Nat}, z < L.K.nz → t ≤ 15 → X_airOf σ' (nI z) (nI t) = some (nI (L.K.airOf z t)) := fun hz ht => by have := A.hX.air_e A.k hz ht; rw [L.ord hz] at this; exact this
    simp (disch := omega) only [bd_some, nm_eq, le_I, lt_I, eq_I, nI_1, nI_add, ix_nI, rA_nI, mul_L, add_L, A.hX.np, A.hX.ns, A.hM.pieces_e, A.hM.steps_e, A.hM2.pieces_e, A.hM2.steps_e, A.lX.zones, zM, zM2, A.hX.come_e A.k, A.hM.come_e A.k, A.rX.skin_e A.k, A.rM.skin_e A.k, A.rX.core_e A.k, A.rM.core_e A.k, A.rX.strain_e A.k, A.rM.strain_e A.k, A.rX.whole_e A.k, A.rM.whole_e A.k, A.hX.place A.k, A.hM.place A.k, A.hM2.place A.k, L.pl, inX, A.hM.inside_e A.k, A.hM2.inside_e A.k, A.rX.sound_e A.k, A.rX.soundNow_e A.hX A.k, A.rM.soundNow_e A.hM A.k, airX, mX, mM, A.hM.air_e A.k, A.hM2.air_e A.k, A.rX.crack, A.rM.crack, A.rX.why, A.rM.why, A.rX.fz, A.rM.fz, A.rX.st, A.rM.st, A.hX.comes, A.hM.comes_e A.k, A.hX.set, A.hM.set, ix40_4, r17_4]
    exact ⟨_, σ', μ', rfl, rfl, A.fX, A.fM⟩
  · simp only [decide_eq_false c0, bIt, bIf, if_true, if_false, Bool.and_true, Bool.and_false, Bool.false_and, Bool.true_and]
    exact ⟨-2, σ', _, rfl, rfl, A.fX, A.fM0⟩
theorem q_good (H : L.X σ) (G : Lh.M 0 L μ) (O : L.Ok) : Ag σ μ (X_good σ) (M_good μ) := by
  obtain ⟨σ', μ', μ2, A⟩ := asked_e H G O
  unfold X_good M_good
  simp only [A.step, A.piece, A.lehr, A.isPiece, A.isZone, A.mStep, A.mPiece, A.mZone, A.mLehr, A.mThen, A.now, A.lay, bd_some, nm_eq, X_good_j30]
  by_cases c0 : 0 < L.lines
  · simp only [decide_eq_true c0, bIt, bIf, if_true, if_false, Bool.and_true, Bool.and_false, Bool.false_and, Bool.true_and]
    have hs : L.K.ns ≤ 14 := A.k.ns
    have hnp : L.K.np ≤ 6 := A.k.np
    have hnz : L.zones ≤ 7 := O.zones
    have zM : gI μ' 25 = nI L.zones := A.hM.nz
    have zM2 : gI μ2 25 = nI L.zones := A.hM2.nz
    have inX : ∀ {t : Nat} (z : Int32), t ≤ 15 → X_insideOf σ' z (nI t) = some (bits (fun p => decide (L.K.plM p t = z)) L.K.np) := fun z h => by rw [A.hX.inside_e A.k h z, show (fun p => decide (L.K.plX p _ = z)) = (fun p => decide (L.K.plM p _ = z)) from funext (fun p => by rw [L.pl])]
    have mX : ∀ c, J_bitCount (bits c L.K.np) = some (nI (cnt c L.K.np)) := fun c => (many_e c (by omega)).1
    have mM : ∀ c, M_sizeOf (bits c L.K.np) = some (nI (cnt c L.K.np)) := fun c => (many_e c (by omega)).2
    have airX : ∀ {z t : Nat}, z < L.K.nz → t ≤ 15 → X_airOf σ' (nI z) (nI t) = some (nI (L.K.airOf z t)) := fun hz ht => by have := A.hX.air_e A.k hz ht; rw [L.ord hz] at this; exact this
    simp (disch := omega) only [bd_some, nm_eq, le_I, lt_I, eq_I, nI_1, nI_add, ix_nI, rA_nI, mul_L, add_L, A.hX.np, A.hX.ns, A.hM.pieces_e, A.hM.steps_e, A.hM2.pieces_e, A.hM2.steps_e, A.lX.zones, zM, zM2, A.hX.come_e A.k, A.hM.come_e A.k, A.rX.skin_e A.k, A.rM.skin_e A.k, A.rX.core_e A.k, A.rM.core_e A.k, A.rX.strain_e A.k, A.rM.strain_e A.k, A.rX.whole_e A.k, A.rM.whole_e A.k, A.hX.place A.k, A.hM.place A.k, A.hM2.place A.k, L.pl, inX, A.hM.inside_e A.k, A.hM2.inside_e A.k, A.rX.sound_e A.k, A.rX.soundNow_e A.hX A.k, A.rM.soundNow_e A.hM A.k, airX, mX, mM, A.hM.air_e A.k, A.hM2.air_e A.k, A.rX.crack, A.rM.crack, A.rX.why, A.rM.why, A.rX.fz, A.rM.fz, A.rX.st, A.rM.st, A.hX.comes, A.hM.comes_e A.k, A.hX.set, A.hM.set, ix40_4, r17_4]
    exact ⟨_, σ', μ', rfl, by rw [Int32.and_comm], A.fX, A.fM⟩
  · simp only [decide_eq_false c0, bIt, bIf, if_true, if_false, Bool.and_true, Bool.and_false, Bool.false_and, Bool.true_and]
    exact ⟨-2, σ', _, rfl, rfl, A.fX, A.fM0⟩
theorem q_whole (H : L.X σ) (G : Lh.M 0 L μ) (O : L.Ok) (v1 : Int32) : Ag σ μ (X_whole σ v1) (M_whole μ v1) := by
  obtain ⟨σ', μ', μ2, A⟩ := asked_e H G O
  unfold X_whole M_whole
  simp only [A.step, A.piece, A.lehr, A.isPiece, A.isZone, A.mStep, A.mPiece, A.mZone, A.mLehr, A.mThen, A.now, A.lay, bd_some, nm_eq, X_whole_j60, X_whole_j52, X_whole_j51, M_whole_j67, M_whole_j59, M_whole_j58]
  by_cases c0 : L.stepG v1
  · simp only [decide_eq_true c0, bIt, bIf, if_true, if_false, Bool.and_true, Bool.and_false, Bool.false_and, Bool.true_and]
    obtain ⟨t, ht, rfl⟩ := c0.to O
    have ht : t ≤ L.K.ns := ht
    have hs : L.K.ns ≤ 14 := A.k.ns
    have hnp : L.K.np ≤ 6 := A.k.np
    have hnz : L.zones ≤ 7 := O.zones
    have zM : gI μ' 25 = nI L.zones := A.hM.nz
    have zM2 : gI μ2 25 = nI L.zones := A.hM2.nz
    have inX : ∀ {t : Nat} (z : Int32), t ≤ 15 → X_insideOf σ' z (nI t) = some (bits (fun p => decide (L.K.plM p t = z)) L.K.np) := fun z h => by rw [A.hX.inside_e A.k h z, show (fun p => decide (L.K.plX p _ = z)) = (fun p => decide (L.K.plM p _ = z)) from funext (fun p => by rw [L.pl])]
    have mX : ∀ c, J_bitCount (bits c L.K.np) = some (nI (cnt c L.K.np)) := fun c => (many_e c (by omega)).1
    have mM : ∀ c, M_sizeOf (bits c L.K.np) = some (nI (cnt c L.K.np)) := fun c => (many_e c (by omega)).2
    have airX : ∀ {z t : Nat}, z < L.K.nz → t ≤ 15 → X_airOf σ' (nI z) (nI t) = some (nI (L.K.airOf z t)) := fun hz ht => by have := A.hX.air_e A.k hz ht; rw [L.ord hz] at this; exact this
    refine Ag.of (lock_e (b1 := X_whole_B15 σ' (nI t)) (b2 := M_whole_B25 μ' (nI t)) (L.K.np) (fun k s => ∃ a, s = (a, nI k)) (fun r1 r2 => r1.1 = r2.1 ∧ r1.2 = σ' ∧ r2.2 = μ') ⟨_, rfl⟩ (fun k s hk hI => ?_) (fun s hI => ?_) (by omega)) A.fX A.fM
    · obtain ⟨a, rfl⟩ := hI
      have kf : (L.K.np ≤ k) = False := eq_false (by omega)
      show Sm _ _ (X_whole_l15 σ' (nI t) a (nI k)) (M_whole_l25 μ' (nI t) a (nI k))
      unfold X_whole_l15 M_whole_l25
      simp (disch := omega) only [bd_some, nm_eq, le_I, lt_I, eq_I, nI_1, nI_add, ix_nI, rA_nI, mul_L, add_L, A.hX.np, A.hX.ns, A.hM.pieces_e, A.hM.steps_e, A.hM2.pieces_e, A.hM2.steps_e, A.lX.zones, zM, zM2, A.hX.come_e A.k, A.hM.come_e A.k, A.rX.skin_e A.k, A.rM.skin_e A.k, A.rX.core_e A.k, A.rM.core_e A.k, A.rX.strain_e A.k, A.rM.strain_e A.k, A.rX.whole_e A.k, A.rM.whole_e A.k, A.hX.place A.k, A.hM.place A.k, A.hM2.place A.k, L.pl, inX, A.hM.inside_e A.k, A.hM2.inside_e A.k, A.rX.sound_e A.k, A.rX.soundNow_e A.hX A.k, A.rM.soundNow_e A.hM A.k, airX, mX, mM, A.hM.air_e A.k, A.hM2.air_e A.k, A.rX.crack, A.rM.crack, A.rX.why, A.rM.why, A.rX.fz, A.rM.fz, A.rX.st, A.rM.st, A.hX.comes, A.hM.comes_e A.k, A.hX.set, A.hM.set, ix40_4, r17_4, kf, if_false, X_whole_j60, X_whole_j52, X_whole_j51, M_whole_j67, M_whole_j59, M_whole_j58]
      repeat' first | exact Sm.next rfl rfl ⟨_, rfl⟩ | exact Sm.done rfl rfl ⟨rfl, rfl, rfl⟩ | refine Sm.ite (fun c => ?_) (fun c => ?_)
    · obtain ⟨a, rfl⟩ := hI
      have kf : (L.K.np ≤ L.K.np) = True := eq_true (by omega)
      show ∃ r1 r2, X_whole_l15 σ' (nI t) a (nI L.K.np) = some (.inr r1) ∧ M_whole_l25 μ' (nI t) a (nI L.K.np) = some (.inr r2) ∧ _
      unfold X_whole_l15 M_whole_l25
      simp (disch := omega) only [bd_some, nm_eq, le_I, lt_I, eq_I, nI_1, nI_add, ix_nI, rA_nI, mul_L, add_L, A.hX.np, A.hX.ns, A.hM.pieces_e, A.hM.steps_e, A.hM2.pieces_e, A.hM2.steps_e, A.lX.zones, zM, zM2, A.hX.come_e A.k, A.hM.come_e A.k, A.rX.skin_e A.k, A.rM.skin_e A.k, A.rX.core_e A.k, A.rM.core_e A.k, A.rX.strain_e A.k, A.rM.strain_e A.k, A.rX.whole_e A.k, A.rM.whole_e A.k, A.hX.place A.k, A.hM.place A.k, A.hM2.place A.k, L.pl, inX, A.hM.inside_e A.k, A.hM2.inside_e A.k, A.rX.sound_e A.k, A.rX.soundNow_e A.hX A.k, A.rM.soundNow_e A.hM A.k, airX, mX, mM, A.hM.air_e A.k, A.hM2.air_e A.k, A.rX.crack, A.rM.crack, A.rX.why, A.rM.why, A.rX.fz, A.rM.fz, A.rX.st, A.rM.st, A.hX.comes, A.hM.comes_e A.k, A.hX.set, A.hM.set, ix40_4, r17_4, kf, if_true, X_whole_j60, X_whole_j52, X_whole_j51, M_whole_j67, M_whole_j59, M_whole_j58]
      exact ⟨_, _, rfl, rfl, rfl, rfl, rfl⟩
  · simp only [decide_eq_false c0, bIt, bIf, if_true, if_false, Bool.and_true, Bool.and_false, Bool.false_and, Bool.true_and]
    exact ⟨-2, σ', _, rfl, rfl, A.fX, A.fM0⟩
theorem q_glow (H : L.X σ) (G : Lh.M 0 L μ) (O : L.Ok) (v1 : Int32) : Ag σ μ (X_glow σ v1) (M_glow μ v1) := by
  obtain ⟨σ', μ', μ2, A⟩ := asked_e H G O
  unfold X_glow M_glow
  simp only [A.step, A.piece, A.lehr, A.isPiece, A.isZone, A.mStep, A.mPiece, A.mZone, A.mLehr, A.mThen, A.now, A.lay, bd_some, nm_eq, X_glow_j54, X_glow_j46, M_glow_j61, M_glow_j53]
  by_cases c0 : L.stepG v1
  · simp only [decide_eq_true c0, bIt, bIf, if_true, if_false, Bool.and_true, Bool.and_false, Bool.false_and, Bool.true_and]
    obtain ⟨t, ht, rfl⟩ := c0.to O
    have ht : t ≤ L.K.ns := ht
    have hs : L.K.ns ≤ 14 := A.k.ns
    have hnp : L.K.np ≤ 6 := A.k.np
    have hnz : L.zones ≤ 7 := O.zones
    have zM : gI μ' 25 = nI L.zones := A.hM.nz
    have zM2 : gI μ2 25 = nI L.zones := A.hM2.nz
    have inX : ∀ {t : Nat} (z : Int32), t ≤ 15 → X_insideOf σ' z (nI t) = some (bits (fun p => decide (L.K.plM p t = z)) L.K.np) := fun z h => by rw [A.hX.inside_e A.k h z, show (fun p => decide (L.K.plX p _ = z)) = (fun p => decide (L.K.plM p _ = z)) from funext (fun p => by rw [L.pl])]
    have mX : ∀ c, J_bitCount (bits c L.K.np) = some (nI (cnt c L.K.np)) := fun c => (many_e c (by omega)).1
    have mM : ∀ c, M_sizeOf (bits c L.K.np) = some (nI (cnt c L.K.np)) := fun c => (many_e c (by omega)).2
    have airX : ∀ {z t : Nat}, z < L.K.nz → t ≤ 15 → X_airOf σ' (nI z) (nI t) = some (nI (L.K.airOf z t)) := fun hz ht => by have := A.hX.air_e A.k hz ht; rw [L.ord hz] at this; exact this
    refine Ag.of (lock_e (b1 := X_glow_B15 σ' (nI t)) (b2 := M_glow_B25 μ' (nI t)) (L.K.np) (fun k s => ∃ a, s = (a, nI k)) (fun r1 r2 => r1.1 = r2.1 ∧ r1.2 = σ' ∧ r2.2 = μ') ⟨_, rfl⟩ (fun k s hk hI => ?_) (fun s hI => ?_) (by omega)) A.fX A.fM
    · obtain ⟨a, rfl⟩ := hI
      have kf : (L.K.np ≤ k) = False := eq_false (by omega)
      show Sm _ _ (X_glow_l15 σ' (nI t) a (nI k)) (M_glow_l25 μ' (nI t) a (nI k))
      unfold X_glow_l15 M_glow_l25
      simp (disch := omega) only [bd_some, nm_eq, le_I, lt_I, eq_I, nI_1, nI_add, ix_nI, rA_nI, mul_L, add_L, A.hX.np, A.hX.ns, A.hM.pieces_e, A.hM.steps_e, A.hM2.pieces_e, A.hM2.steps_e, A.lX.zones, zM, zM2, A.hX.come_e A.k, A.hM.come_e A.k, A.rX.skin_e A.k, A.rM.skin_e A.k, A.rX.core_e A.k, A.rM.core_e A.k, A.rX.strain_e A.k, A.rM.strain_e A.k, A.rX.whole_e A.k, A.rM.whole_e A.k, A.hX.place A.k, A.hM.place A.k, A.hM2.place A.k, L.pl, inX, A.hM.inside_e A.k, A.hM2.inside_e A.k, A.rX.sound_e A.k, A.rX.soundNow_e A.hX A.k, A.rM.soundNow_e A.hM A.k, airX, mX, mM, A.hM.air_e A.k, A.hM2.air_e A.k, A.rX.crack, A.rM.crack, A.rX.why, A.rM.why, A.rX.fz, A.rM.fz, A.rX.st, A.rM.st, A.hX.comes, A.hM.comes_e A.k, A.hX.set, A.hM.set, ix40_4, r17_4, kf, if_false, X_glow_j54, X_glow_j46, M_glow_j61, M_glow_j53]
      repeat' first | exact Sm.next rfl rfl ⟨_, rfl⟩ | exact Sm.done rfl rfl ⟨rfl, rfl, rfl⟩ | refine Sm.ite (fun c => ?_) (fun c => ?_)
    · obtain ⟨a, rfl⟩ := hI
      have kf : (L.K.np ≤ L.K.np) = True := eq_true (by omega)
      show ∃ r1 r2, X_glow_l15 σ' (nI t) a (nI L.K.np) = some (.inr r1) ∧ M_glow_l25 μ' (nI t) a (nI L.K.np) = some (.inr r2) ∧ _
      unfold X_glow_l15 M_glow_l25
      simp (disch := omega) only [bd_some, nm_eq, le_I, lt_I, eq_I, nI_1, nI_add, ix_nI, rA_nI, mul_L, add_L, A.hX.np, A.hX.ns, A.hM.pieces_e, A.hM.steps_e, A.hM2.pieces_e, A.hM2.steps_e, A.lX.zones, zM, zM2, A.hX.come_e A.k, A.hM.come_e A.k, A.rX.skin_e A.k, A.rM.skin_e A.k, A.rX.core_e A.k, A.rM.core_e A.k, A.rX.strain_e A.k, A.rM.strain_e A.k, A.rX.whole_e A.k, A.rM.whole_e A.k, A.hX.place A.k, A.hM.place A.k, A.hM2.place A.k, L.pl, inX, A.hM.inside_e A.k, A.hM2.inside_e A.k, A.rX.sound_e A.k, A.rX.soundNow_e A.hX A.k, A.rM.soundNow_e A.hM A.k, airX, mX, mM, A.hM.air_e A.k, A.hM2.air_e A.k, A.rX.crack, A.rM.crack, A.rX.why, A.rM.why, A.rX.fz, A.rM.fz, A.rX.st, A.rM.st, A.hX.comes, A.hM.comes_e A.k, A.hX.set, A.hM.set, ix40_4, r17_4, kf, if_true, X_glow_j54, X_glow_j46, M_glow_j61, M_glow_j53]
      exact ⟨_, _, rfl, rfl, rfl, rfl, rfl⟩
  · simp only [decide_eq_false c0, bIt, bIf, if_true, if_false, Bool.and_true, Bool.and_false, Bool.false_and, Bool.true_and]
    exact ⟨-2, σ', _, rfl, rfl, A.fX, A.fM0⟩
theorem q_stiff (H : L.X σ) (G : Lh.M 0 L μ) (O : L.Ok) (v1 : Int32) : Ag σ μ (X_stiff σ v1) (M_stiff μ v1) := by
  obtain ⟨σ', μ', μ2, A⟩ := asked_e H G O
  unfold X_stiff M_stiff
  simp only [A.step, A.piece, A.lehr, A.isPiece, A.isZone, A.mStep, A.mPiece, A.mZone, A.mLehr, A.mThen, A.now, A.lay, bd_some, nm_eq, X_stiff_j67, X_stiff_j59, X_stiff_j58, M_stiff_j73, M_stiff_j65, M_stiff_j64]
  by_cases c0 : L.stepG v1
  · simp only [decide_eq_true c0, bIt, bIf, if_true, if_false, Bool.and_true, Bool.and_false, Bool.false_and, Bool.true_and]
    obtain ⟨t, ht, rfl⟩ := c0.to O
    have ht : t ≤ L.K.ns := ht
    have hs : L.K.ns ≤ 14 := A.k.ns
    have hnp : L.K.np ≤ 6 := A.k.np
    have hnz : L.zones ≤ 7 := O.zones
    have zM : gI μ' 25 = nI L.zones := A.hM.nz
    have zM2 : gI μ2 25 = nI L.zones := A.hM2.nz
    have inX : ∀ {t : Nat} (z : Int32), t ≤ 15 → X_insideOf σ' z (nI t) = some (bits (fun p => decide (L.K.plM p t = z)) L.K.np) := fun z h => by rw [A.hX.inside_e A.k h z, show (fun p => decide (L.K.plX p _ = z)) = (fun p => decide (L.K.plM p _ = z)) from funext (fun p => by rw [L.pl])]
    have mX : ∀ c, J_bitCount (bits c L.K.np) = some (nI (cnt c L.K.np)) := fun c => (many_e c (by omega)).1
    have mM : ∀ c, M_sizeOf (bits c L.K.np) = some (nI (cnt c L.K.np)) := fun c => (many_e c (by omega)).2
    have airX : ∀ {z t : Nat}, z < L.K.nz → t ≤ 15 → X_airOf σ' (nI z) (nI t) = some (nI (L.K.airOf z t)) := fun hz ht => by have := A.hX.air_e A.k hz ht; rw [L.ord hz] at this; exact this
    refine Ag.of (lock_e (b1 := X_stiff_B15 σ' (nI t)) (b2 := M_stiff_B25 μ' (nI t)) (L.K.np) (fun k s => ∃ a, s = (a, nI k)) (fun r1 r2 => r1.1 = r2.1 ∧ r1.2 = σ' ∧ r2.2 = μ') ⟨_, rfl⟩ (fun k s hk hI => ?_) (fun s hI => ?_) (by omega)) A.fX A.fM
    · obtain ⟨a, rfl⟩ := hI
      have kf : (L.K.np ≤ k) = False := eq_false (by omega)
      show Sm _ _ (X_stiff_l15 σ' (nI t) a (nI k)) (M_stiff_l25 μ' (nI t) a (nI k))
      unfold X_stiff_l15 M_stiff_l25
      simp (disch := omega) only [bd_some, nm_eq, le_I, lt_I, eq_I, nI_1, nI_add, ix_nI, rA_nI, mul_L, add_L, A.hX.np, A.hX.ns, A.hM.pieces_e, A.hM.steps_e, A.hM2.pieces_e, A.hM2.steps_e, A.lX.zones, zM, zM2, A.hX.come_e A.k, A.hM.come_e A.k, A.rX.skin_e A.k, A.rM.skin_e A.k, A.rX.core_e A.k, A.rM.core_e A.k, A.rX.strain_e A.k, A.rM.strain_e A.k, A.rX.whole_e A.k, A.rM.whole_e A.k, A.hX.place A.k, A.hM.place A.k, A.hM2.place A.k, L.pl, inX, A.hM.inside_e A.k, A.hM2.inside_e A.k, A.rX.sound_e A.k, A.rX.soundNow_e A.hX A.k, A.rM.soundNow_e A.hM A.k, airX, mX, mM, A.hM.air_e A.k, A.hM2.air_e A.k, A.rX.crack, A.rM.crack, A.rX.why, A.rM.why, A.rX.fz, A.rM.fz, A.rX.st, A.rM.st, A.hX.comes, A.hM.comes_e A.k, A.hX.set, A.hM.set, ix40_4, r17_4, kf, if_false, X_stiff_j67, X_stiff_j59, X_stiff_j58, M_stiff_j73, M_stiff_j65, M_stiff_j64]
      repeat' first | exact Sm.next rfl rfl ⟨_, rfl⟩ | exact Sm.done rfl rfl ⟨rfl, rfl, rfl⟩ | refine Sm.ite (fun c => ?_) (fun c => ?_)
    · obtain ⟨a, rfl⟩ := hI
      have kf : (L.K.np ≤ L.K.np) = True := eq_true (by omega)
      show ∃ r1 r2, X_stiff_l15 σ' (nI t) a (nI L.K.np) = some (.inr r1) ∧ M_stiff_l25 μ' (nI t) a (nI L.K.np) = some (.inr r2) ∧ _
      unfold X_stiff_l15 M_stiff_l25
      simp (disch := omega) only [bd_some, nm_eq, le_I, lt_I, eq_I, nI_1, nI_add, ix_nI, rA_nI, mul_L, add_L, A.hX.np, A.hX.ns, A.hM.pieces_e, A.hM.steps_e, A.hM2.pieces_e, A.hM2.steps_e, A.lX.zones, zM, zM2, A.hX.come_e A.k, A.hM.come_e A.k, A.rX.skin_e A.k, A.rM.skin_e A.k, A.rX.core_e A.k, A.rM.core_e A.k, A.rX.strain_e A.k, A.rM.strain_e A.k, A.rX.whole_e A.k, A.rM.whole_e A.k, A.hX.place A.k, A.hM.place A.k, A.hM2.place A.k, L.pl, inX, A.hM.inside_e A.k, A.hM2.inside_e A.k, A.rX.sound_e A.k, A.rX.soundNow_e A.hX A.k, A.rM.soundNow_e A.hM A.k, airX, mX, mM, A.hM.air_e A.k, A.hM2.air_e A.k, A.rX.crack, A.rM.crack, A.rX.why, A.rM.why, A.rX.fz, A.rM.fz, A.rX.st, A.rM.st, A.hX.comes, A.hM.comes_e A.k, A.hX.set, A.hM.set, ix40_4, r17_4, kf, if_true, X_stiff_j67, X_stiff_j59, X_stiff_j58, M_stiff_j73, M_stiff_j65, M_stiff_j64]
      exact ⟨_, _, rfl, rfl, rfl, rfl, rfl⟩
  · simp only [decide_eq_false c0, bIt, bIf, if_true, if_false, Bool.and_true, Bool.and_false, Bool.false_and, Bool.true_and]
    exact ⟨-2, σ', _, rfl, rfl, A.fX, A.fM0⟩
theorem q_leaves (H : L.X σ) (G : Lh.M 0 L μ) (O : L.Ok) (v1 : Int32) : Ag σ μ (X_leaves σ v1) (M_leaves μ v1) := by
  obtain ⟨σ', μ', μ2, A⟩ := asked_e H G O
  unfold X_leaves M_leaves
  simp only [A.step, A.piece, A.lehr, A.isPiece, A.isZone, A.mStep, A.mPiece, A.mZone, A.mLehr, A.mThen, A.now, A.lay, bd_some, nm_eq, X_leaves_j43, X_leaves_j35, M_leaves_j50, M_leaves_j42]
  by_cases c0 : L.pieceG v1
  · simp only [decide_eq_true c0, bIt, bIf, if_true, if_false, Bool.and_true, Bool.and_false, Bool.false_and, Bool.true_and]
    obtain ⟨p, hp, rfl⟩ := c0.to O
    have hp : p < L.K.np := hp
    have hs : L.K.ns ≤ 14 := A.k.ns
    have hnp : L.K.np ≤ 6 := A.k.np
    have hnz : L.zones ≤ 7 := O.zones
    have zM : gI μ' 25 = nI L.zones := A.hM.nz
    have zM2 : gI μ2 25 = nI L.zones := A.hM2.nz
    have inX : ∀ {t : Nat} (z : Int32), t ≤ 15 → X_insideOf σ' z (nI t) = some (bits (fun p => decide (L.K.plM p t = z)) L.K.np) := fun z h => by rw [A.hX.inside_e A.k h z, show (fun p => decide (L.K.plX p _ = z)) = (fun p => decide (L.K.plM p _ = z)) from funext (fun p => by rw [L.pl])]
    have mX : ∀ c, J_bitCount (bits c L.K.np) = some (nI (cnt c L.K.np)) := fun c => (many_e c (by omega)).1
    have mM : ∀ c, M_sizeOf (bits c L.K.np) = some (nI (cnt c L.K.np)) := fun c => (many_e c (by omega)).2
    have airX : ∀ {z t : Nat}, z < L.K.nz → t ≤ 15 → X_airOf σ' (nI z) (nI t) = some (nI (L.K.airOf z t)) := fun hz ht => by have := A.hX.air_e A.k hz ht; rw [L.ord hz] at this; exact this
    refine Ag.of (lock_e (b1 := X_leaves_B13 σ' (nI p)) (b2 := M_leaves_B23 μ2 (nI p)) (L.K.ns + 1) (fun k s => s = nI k) (fun r1 r2 => r1.1 = r2.1 ∧ r1.2 = σ' ∧ r2.2 = μ2) rfl (fun k s hk hI => ?_) (fun s hI => ?_) (by omega)) A.fX A.fM2
    · obtain rfl := hI
      have kf : (L.K.ns < k) = False := eq_false (by omega)
      show Sm _ _ (X_leaves_l13 σ' (nI p) (nI k)) (M_leaves_l23 μ2 (nI p) (nI k))
      unfold X_leaves_l13 M_leaves_l23
      simp (disch := omega) only [bd_some, nm_eq, le_I, lt_I, eq_I, nI_1, nI_add, ix_nI, rA_nI, mul_L, add_L, A.hX.np, A.hX.ns, A.hM.pieces_e, A.hM.steps_e, A.hM2.pieces_e, A.hM2.steps_e, A.lX.zones, zM, zM2, A.hX.come_e A.k, A.hM.come_e A.k, A.rX.skin_e A.k, A.rM.skin_e A.k, A.rX.core_e A.k, A.rM.core_e A.k, A.rX.strain_e A.k, A.rM.strain_e A.k, A.rX.whole_e A.k, A.rM.whole_e A.k, A.hX.place A.k, A.hM.place A.k, A.hM2.place A.k, L.pl, inX, A.hM.inside_e A.k, A.hM2.inside_e A.k, A.rX.sound_e A.k, A.rX.soundNow_e A.hX A.k, A.rM.soundNow_e A.hM A.k, airX, mX, mM, A.hM.air_e A.k, A.hM2.air_e A.k, A.rX.crack, A.rM.crack, A.rX.why, A.rM.why, A.rX.fz, A.rM.fz, A.rX.st, A.rM.st, A.hX.comes, A.hM.comes_e A.k, A.hX.set, A.hM.set, ix40_4, r17_4, kf, if_false, X_leaves_j43, X_leaves_j35, M_leaves_j50, M_leaves_j42]
      repeat' first | exact Sm.next rfl rfl rfl | exact Sm.done rfl rfl ⟨rfl, rfl, rfl⟩ | refine Sm.ite (fun c => ?_) (fun c => ?_)
    · obtain rfl := hI
      have kf : (L.K.ns < L.K.ns + 1) = True := eq_true (by omega)
      show ∃ r1 r2, X_leaves_l13 σ' (nI p) (nI (L.K.ns + 1)) = some (.inr r1) ∧ M_leaves_l23 μ2 (nI p) (nI (L.K.ns + 1)) = some (.inr r2) ∧ _
      unfold X_leaves_l13 M_leaves_l23
      simp (disch := omega) only [bd_some, nm_eq, le_I, lt_I, eq_I, nI_1, nI_add, ix_nI, rA_nI, mul_L, add_L, A.hX.np, A.hX.ns, A.hM.pieces_e, A.hM.steps_e, A.hM2.pieces_e, A.hM2.steps_e, A.lX.zones, zM, zM2, A.hX.come_e A.k, A.hM.come_e A.k, A.rX.skin_e A.k, A.rM.skin_e A.k, A.rX.core_e A.k, A.rM.core_e A.k, A.rX.strain_e A.k, A.rM.strain_e A.k, A.rX.whole_e A.k, A.rM.whole_e A.k, A.hX.place A.k, A.hM.place A.k, A.hM2.place A.k, L.pl, inX, A.hM.inside_e A.k, A.hM2.inside_e A.k, A.rX.sound_e A.k, A.rX.soundNow_e A.hX A.k, A.rM.soundNow_e A.hM A.k, airX, mX, mM, A.hM.air_e A.k, A.hM2.air_e A.k, A.rX.crack, A.rM.crack, A.rX.why, A.rM.why, A.rX.fz, A.rM.fz, A.rX.st, A.rM.st, A.hX.comes, A.hM.comes_e A.k, A.hX.set, A.hM.set, ix40_4, r17_4, kf, if_true, X_leaves_j43, X_leaves_j35, M_leaves_j50, M_leaves_j42]
      exact ⟨_, _, rfl, rfl, rfl, rfl, rfl⟩
  · simp only [decide_eq_false c0, bIt, bIf, if_true, if_false, Bool.and_true, Bool.and_false, Bool.false_and, Bool.true_and]
    exact ⟨-2, σ', _, rfl, rfl, A.fX, A.fM0⟩
theorem q_warms (H : L.X σ) (G : Lh.M 0 L μ) (O : L.Ok) (v1 : Int32) : Ag σ μ (X_warms σ v1) (M_warms μ v1) := by
  obtain ⟨σ', μ', μ2, A⟩ := asked_e H G O
  unfold X_warms M_warms
  simp only [A.step, A.piece, A.lehr, A.isPiece, A.isZone, A.mStep, A.mPiece, A.mZone, A.mLehr, A.mThen, A.now, A.lay, bd_some, nm_eq, X_warms_j57, X_warms_j49, M_warms_j64, M_warms_j56]
  by_cases c0 : L.pieceG v1
  · simp only [decide_eq_true c0, bIt, bIf, if_true, if_false, Bool.and_true, Bool.and_false, Bool.false_and, Bool.true_and]
    obtain ⟨p, hp, rfl⟩ := c0.to O
    have hp : p < L.K.np := hp
    have hs : L.K.ns ≤ 14 := A.k.ns
    have hnp : L.K.np ≤ 6 := A.k.np
    have hnz : L.zones ≤ 7 := O.zones
    have zM : gI μ' 25 = nI L.zones := A.hM.nz
    have zM2 : gI μ2 25 = nI L.zones := A.hM2.nz
    have inX : ∀ {t : Nat} (z : Int32), t ≤ 15 → X_insideOf σ' z (nI t) = some (bits (fun p => decide (L.K.plM p t = z)) L.K.np) := fun z h => by rw [A.hX.inside_e A.k h z, show (fun p => decide (L.K.plX p _ = z)) = (fun p => decide (L.K.plM p _ = z)) from funext (fun p => by rw [L.pl])]
    have mX : ∀ c, J_bitCount (bits c L.K.np) = some (nI (cnt c L.K.np)) := fun c => (many_e c (by omega)).1
    have mM : ∀ c, M_sizeOf (bits c L.K.np) = some (nI (cnt c L.K.np)) := fun c => (many_e c (by omega)).2
    have airX : ∀ {z t : Nat}, z < L.K.nz → t ≤ 15 → X_airOf σ' (nI z) (nI t) = some (nI (L.K.airOf z t)) := fun hz ht => by have := A.hX.air_e A.k hz ht; rw [L.ord hz] at this; exact this
    refine Ag.of (lock_e (b1 := X_warms_B15 σ' (nI p)) (b2 := M_warms_B25 μ' (nI p)) (L.K.ns) (fun k s => ∃ a, s = (a, nI (k + 1))) (fun r1 r2 => r1.1 = r2.1 ∧ r1.2 = σ' ∧ r2.2 = μ') ⟨_, rfl⟩ (fun k s hk hI => ?_) (fun s hI => ?_) (by omega)) A.fX A.fM
    · obtain ⟨a, rfl⟩ := hI
      have kf : (L.K.ns < k + 1) = False := eq_false (by omega)
      show Sm _ _ (X_warms_l15 σ' (nI p) a (nI (k + 1))) (M_warms_l25 μ' (nI p) a (nI (k + 1)))
      unfold X_warms_l15 M_warms_l25
      simp (disch := omega) only [bd_some, nm_eq, le_I, lt_I, eq_I, nI_1, nI_add, ix_nI, rA_nI, mul_L, add_L, A.hX.np, A.hX.ns, A.hM.pieces_e, A.hM.steps_e, A.hM2.pieces_e, A.hM2.steps_e, A.lX.zones, zM, zM2, A.hX.come_e A.k, A.hM.come_e A.k, A.rX.skin_e A.k, A.rM.skin_e A.k, A.rX.core_e A.k, A.rM.core_e A.k, A.rX.strain_e A.k, A.rM.strain_e A.k, A.rX.whole_e A.k, A.rM.whole_e A.k, A.hX.place A.k, A.hM.place A.k, A.hM2.place A.k, L.pl, inX, A.hM.inside_e A.k, A.hM2.inside_e A.k, A.rX.sound_e A.k, A.rX.soundNow_e A.hX A.k, A.rM.soundNow_e A.hM A.k, airX, mX, mM, A.hM.air_e A.k, A.hM2.air_e A.k, A.rX.crack, A.rM.crack, A.rX.why, A.rM.why, A.rX.fz, A.rM.fz, A.rX.st, A.rM.st, A.hX.comes, A.hM.comes_e A.k, A.hX.set, A.hM.set, ix40_4, r17_4, kf, if_false, nI_pred, X_warms_j57, X_warms_j49, M_warms_j64, M_warms_j56]
      repeat' first | exact Sm.next rfl rfl ⟨_, rfl⟩ | exact Sm.done rfl rfl ⟨rfl, rfl, rfl⟩ | refine Sm.ite (fun c => ?_) (fun c => ?_)
    · obtain ⟨a, rfl⟩ := hI
      have kf : (L.K.ns < L.K.ns + 1) = True := eq_true (by omega)
      show ∃ r1 r2, X_warms_l15 σ' (nI p) a (nI (L.K.ns + 1)) = some (.inr r1) ∧ M_warms_l25 μ' (nI p) a (nI (L.K.ns + 1)) = some (.inr r2) ∧ _
      unfold X_warms_l15 M_warms_l25
      simp (disch := omega) only [bd_some, nm_eq, le_I, lt_I, eq_I, nI_1, nI_add, ix_nI, rA_nI, mul_L, add_L, A.hX.np, A.hX.ns, A.hM.pieces_e, A.hM.steps_e, A.hM2.pieces_e, A.hM2.steps_e, A.lX.zones, zM, zM2, A.hX.come_e A.k, A.hM.come_e A.k, A.rX.skin_e A.k, A.rM.skin_e A.k, A.rX.core_e A.k, A.rM.core_e A.k, A.rX.strain_e A.k, A.rM.strain_e A.k, A.rX.whole_e A.k, A.rM.whole_e A.k, A.hX.place A.k, A.hM.place A.k, A.hM2.place A.k, L.pl, inX, A.hM.inside_e A.k, A.hM2.inside_e A.k, A.rX.sound_e A.k, A.rX.soundNow_e A.hX A.k, A.rM.soundNow_e A.hM A.k, airX, mX, mM, A.hM.air_e A.k, A.hM2.air_e A.k, A.rX.crack, A.rM.crack, A.rX.why, A.rM.why, A.rX.fz, A.rM.fz, A.rX.st, A.rM.st, A.hX.comes, A.hM.comes_e A.k, A.hX.set, A.hM.set, ix40_4, r17_4, kf, if_true, nI_pred, X_warms_j57, X_warms_j49, M_warms_j64, M_warms_j56]
      exact ⟨_, _, rfl, rfl, rfl, rfl, rfl⟩
  · simp only [decide_eq_false c0, bIt, bIf, if_true, if_false, Bool.and_true, Bool.and_false, Bool.false_and, Bool.true_and]
    exact ⟨-2, σ', _, rfl, rfl, A.fX, A.fM0⟩
