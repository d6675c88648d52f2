set_option maxRecDepth 100000
/-! stage 2: asked, on both sides -/
def Ag (σ μ : PS) (x y : Option (Int32 × PS)) : Prop := ∃ r σ' μ', x = some (r, σ') ∧ y = some (r, μ') ∧ PX σ σ' ∧ PM μ μ'
abbrev Lh.stepG (L : Lh) (v : Int32) : Prop := 0 < L.lines ∧ 0 ≤ v.toInt ∧ v.toInt ≤ L.steps
abbrev Lh.pieceG (L : Lh) (v : Int32) : Prop := 0 ≤ v.toInt ∧ v.toInt < L.pieces
abbrev Lh.zoneG (L : Lh) (v : Int32) : Prop := 0 ≤ v.toInt ∧ v.toInt < L.zones
theorem bIt : (bI true = 0) = False := by simp [bI]
theorem bIf : (bI false = 0) = True := by simp [bI]
def Asked (L : Lh) (σ μ σ' μ' μ2 : PS) : Prop := (L.Ok) ∧ (L.K.Ok) ∧ (PX σ σ') ∧ (PM μ μ') ∧ (PM μ μ2) ∧ (PM μ (sI μ 0 0)) ∧ (L.X σ') ∧ (Lh.M 0 L μ') ∧ (Lh.M 0 L μ2) ∧ (L.K.X σ') ∧ (L.K.RX σ') ∧ (L.K.M μ') ∧ (L.K.RM μ') ∧ (L.K.M μ2) ∧ (X_asksLehr σ = some (bI (decide (0 < L.lines)), σ')) ∧ (∀ v, X_asksStep σ v = some (bI (decide (L.stepG v)), σ')) ∧ (∀ v, X_asksPiece σ v = some (bI (decide (L.pieceG v)), σ')) ∧ (∀ v : Int32, X_isPiece σ' v.toInt64 = some (bI (decide (L.pieceG v)))) ∧ (∀ v : Int32, X_isZone σ' v = some (bI (decide (L.zoneG v)))) ∧ (M_isLehr (sI μ 0 0) = some (bI (decide (0 < L.lines)))) ∧ (∀ v : Int32, M_isStep (sI μ 0 0) v.toInt64 = some (bI (decide (L.stepG v)))) ∧ (∀ v : Int32, M_isPiece (sI μ 0 0) v.toInt64 = some (bI (decide (L.pieceG v)))) ∧ (∀ v : Int32, M_isZone (sI μ 0 0) v = some (bI (decide (L.zoneG v)))) ∧ (∀ u v : Int32, M_isThen (sI μ 0 0) u v = some (bI (decide (L.stepG v) && decide (L.pieceG u)))) ∧ (M_laysNow (sI μ 0 0) = some μ') ∧ (M_lays (sI μ 0 0) = some μ2)
theorem Asked.ok {L : Lh} {σ μ σ' μ' μ2 : PS} (H : Asked L σ μ σ' μ' μ2) : L.Ok := H.1
theorem Asked.k {L : Lh} {σ μ σ' μ' μ2 : PS} (H : Asked L σ μ σ' μ' μ2) : L.K.Ok := H.2.1
theorem Asked.fX {L : Lh} {σ μ σ' μ' μ2 : PS} (H : Asked L σ μ σ' μ' μ2) : PX σ σ' := H.2.2.1
theorem Asked.fM {L : Lh} {σ μ σ' μ' μ2 : PS} (H : Asked L σ μ σ' μ' μ2) : PM μ μ' := H.2.2.2.1
theorem Asked.fM2 {L : Lh} {σ μ σ' μ' μ2 : PS} (H : Asked L σ μ σ' μ' μ2) : PM μ μ2 := H.2.2.2.2.1
theorem Asked.fM0 {L : Lh} {σ μ σ' μ' μ2 : PS} (H : Asked L σ μ σ' μ' μ2) : PM μ (sI μ 0 0) := H.2.2.2.2.2.1
theorem Asked.lX {L : Lh} {σ μ σ' μ' μ2 : PS} (H : Asked L σ μ σ' μ' μ2) : L.X σ' := H.2.2.2.2.2.2.1
theorem Asked.lM {L : Lh} {σ μ σ' μ' μ2 : PS} (H : Asked L σ μ σ' μ' μ2) : Lh.M 0 L μ' := H.2.2.2.2.2.2.2.1
theorem Asked.lM2 {L : Lh} {σ μ σ' μ' μ2 : PS} (H : Asked L σ μ σ' μ' μ2) : Lh.M 0 L μ2 := H.2.2.2.2.2.2.2.2.1
theorem Asked.hX {L : Lh} {σ μ σ' μ' μ2 : PS} (H : Asked L σ μ σ' μ' μ2) : L.K.X σ' := H.2.2.2.2.2.2.2.2.2.1
theorem Asked.rX {L : Lh} {σ μ σ' μ' μ2 : PS} (H : Asked L σ μ σ' μ' μ2) : L.K.RX σ' := H.2.2.2.2.2.2.2.2.2.2.1
theorem Asked.hM {L : Lh} {σ μ σ' μ' μ2 : PS} (H : Asked L σ μ σ' μ' μ2) : L.K.M μ' := H.2.2.2.2.2.2.2.2.2.2.2.1
theorem Asked.rM {L : Lh} {σ μ σ' μ' μ2 : PS} (H : Asked L σ μ σ' μ' μ2) : L.K.RM μ' := H.2.2.2.2.2.2.2.2.2.2.2.2.1
theorem Asked.hM2 {L : Lh} {σ μ σ' μ' μ2 : PS} (H : Asked L σ μ σ' μ' μ2) : L.K.M μ2 := H.2.2.2.2.2.2.2.2.2.2.2.2.2.1
theorem Asked.lehr {L : Lh} {σ μ σ' μ' μ2 : PS} (H : Asked L σ μ σ' μ' μ2) : X_asksLehr σ = some (bI (decide (0 < L.lines)), σ') := H.2.2.2.2.2.2.2.2.2.2.2.2.2.2.1
theorem Asked.step {L : Lh} {σ μ σ' μ' μ2 : PS} (H : Asked L σ μ σ' μ' μ2) : ∀ v, X_asksStep σ v = some (bI (decide (L.stepG v)), σ') := H.2.2.2.2.2.2.2.2.2.2.2.2.2.2.2.1
theorem Asked.piece {L : Lh} {σ μ σ' μ' μ2 : PS} (H : Asked L σ μ σ' μ' μ2) : ∀ v, X_asksPiece σ v = some (bI (decide (L.pieceG v)), σ') := H.2.2.2.2.2.2.2.2.2.2.2.2.2.2.2.2.1
theorem Asked.isPiece {L : Lh} {σ μ σ' μ' μ2 : PS} (H : Asked L σ μ σ' μ' μ2) : ∀ v : Int32, X_isPiece σ' v.toInt64 = some (bI (decide (L.pieceG v))) := H.2.2.2.2.2.2.2.2.2.2.2.2.2.2.2.2.2.1
theorem Asked.isZone {L : Lh} {σ μ σ' μ' μ2 : PS} (H : Asked L σ μ σ' μ' μ2) : ∀ v : Int32, X_isZone σ' v = some (bI (decide (L.zoneG v))) := H.2.2.2.2.2.2.2.2.2.2.2.2.2.2.2.2.2.2.1
theorem Asked.mLehr {L : Lh} {σ μ σ' μ' μ2 : PS} (H : Asked L σ μ σ' μ' μ2) : M_isLehr (sI μ 0 0) = some (bI (decide (0 < L.lines))) := H.2.2.2.2.2.2.2.2.2.2.2.2.2.2.2.2.2.2.2.1
theorem Asked.mStep {L : Lh} {σ μ σ' μ' μ2 : PS} (H : Asked L σ μ σ' μ' μ2) : ∀ v : Int32, M_isStep (sI μ 0 0) v.toInt64 = some (bI (decide (L.stepG v))) := H.2.2.2.2.2.2.2.2.2.2.2.2.2.2.2.2.2.2.2.2.1
theorem Asked.mPiece {L : Lh} {σ μ σ' μ' μ2 : PS} (H : Asked L σ μ σ' μ' μ2) : ∀ v : Int32, M_isPiece (sI μ 0 0) v.toInt64 = some (bI (decide (L.pieceG v))) := H.2.2.2.2.2.2.2.2.2.2.2.2.2.2.2.2.2.2.2.2.2.1
theorem Asked.mZone {L : Lh} {σ μ σ' μ' μ2 : PS} (H : Asked L σ μ σ' μ' μ2) : ∀ v : Int32, M_isZone (sI μ 0 0) v = some (bI (decide (L.zoneG v))) := H.2.2.2.2.2.2.2.2.2.2.2.2.2.2.2.2.2.2.2.2.2.2.1
theorem Asked.mThen {L : Lh} {σ μ σ' μ' μ2 : PS} (H : Asked L σ μ σ' μ' μ2) : ∀ u v : Int32, M_isThen (sI μ 0 0) u v = some (bI (decide (L.stepG v) && decide (L.pieceG u))) := H.2.2.2.2.2.2.2.2.2.2.2.2.2.2.2.2.2.2.2.2.2.2.2.1
theorem Asked.now {L : Lh} {σ μ σ' μ' μ2 : PS} (H : Asked L σ μ σ' μ' μ2) : M_laysNow (sI μ 0 0) = some μ' := H.2.2.2.2.2.2.2.2.2.2.2.2.2.2.2.2.2.2.2.2.2.2.2.2.1
theorem Asked.lay {L : Lh} {σ μ σ' μ' μ2 : PS} (H : Asked L σ μ σ' μ' μ2) : M_lays (sI μ 0 0) = some μ2 := H.2.2.2.2.2.2.2.2.2.2.2.2.2.2.2.2.2.2.2.2.2.2.2.2.2
variable {L : Lh} {σ μ : PS}
theorem asked_e (H : L.X σ) (G : Lh.M 0 L μ) (O : L.Ok) : ∃ σ' μ' μ2, Asked L σ μ σ' μ' μ2 := by
  have F0 : PM μ (sI μ 0 0) := PM.sI _ _ (by omega)
  have G0 := G.fr F0
  obtain ⟨σ', e, F, hX, rX⟩ := H.asksLehr_e O
  obtain ⟨μ', e2, F2, hM, rM⟩ := G0.laysNow_e O
  obtain ⟨μ2, e3, F3, hM2⟩ := G0.lays_e O
  have H' := H.fr F
  have hp : ∀ v : Int32, L.pieceG v → 0 < L.lines := by
    intro v h
    by_cases c : L.lines = 0
    · have := (O.none c).2.2.2.2.2.2.1
      have h1 := h.1; have h2 := h.2; omega
    · omega
  refine ⟨σ', μ', μ2, O, O.K, F, F0.trans F2, F0.trans F3.P, F0, H', G0.fr F2, G0.fr F3.P, hX, rX, hM, rM, hM2, e, fun v => ?_, fun v => ?_, fun v => ?_, fun v => ?_, G0.isLehr_e O, fun v => ?_, fun v => ?_, fun v => ?_, fun u v => ?_, e2, e3⟩
  · unfold X_asksStep X_asksStep_j20 X_asksStep_j21
    rw [e, bd_some]
    by_cases c : 0 < L.lines
    · simp only [decide_eq_true c, bIt, if_false, H'.isStep_e O, bd_some, Int32.toInt_toInt64]
      by_cases c2 : L.stepG v
      · rw [decide_eq_true c2]; rfl
      · rw [decide_eq_false c2]; rfl
    · simp only [decide_eq_false c, bIf, if_true]
      rw [decide_eq_false (fun h : L.stepG v => c h.1)]; rfl
  · unfold X_asksPiece X_asksPiece_j20 X_asksPiece_j21
    rw [e, bd_some]
    by_cases c : 0 < L.lines
    · simp only [decide_eq_true c, bIt, if_false, H'.isPiece_e O, bd_some, Int32.toInt_toInt64]
      by_cases c2 : L.pieceG v
      · rw [decide_eq_true c2]; rfl
      · rw [decide_eq_false c2]; rfl
    · simp only [decide_eq_false c, bIf, if_true]
      rw [decide_eq_false (fun h : L.pieceG v => c (hp v h))]; rfl
  · rw [H'.isPiece_e O, Int32.toInt_toInt64]
  · exact H'.isZone_e O v
  · rw [G0.isStep_e O, Int32.toInt_toInt64]
  · rw [G0.isPiece_e O, Int32.toInt_toInt64]
  · exact G0.isZone_e O v
  · unfold M_isThen M_isThen_j22 M_isThen_j23
    rw [G0.isPiece_e O, bd_some, Int32.toInt_toInt64]
    by_cases c : L.pieceG u
    · simp only [decide_eq_true c, bIt, if_false, G0.isStep_e O, bd_some, Int32.toInt_toInt64, Bool.and_true]
      by_cases c2 : L.stepG v
      · rw [decide_eq_true c2]; rfl
      · rw [decide_eq_false c2]; rfl
    · simp only [decide_eq_false c, bIf, if_true, Bool.and_false]; rfl
theorem Lh.stepG.to {v : Int32} (h : L.stepG v) (O : L.Ok) : ∃ t, t ≤ L.steps ∧ v = nI t := by
  have := O.steps
  obtain ⟨t, h1, h2⟩ := in_nI (n := L.steps + 1) h.2.1 (by have := h.2.2; omega) (by omega)
  exact ⟨t, by omega, h2⟩
theorem Lh.pieceG.to {v : Int32} (h : L.pieceG v) (O : L.Ok) : ∃ p, p < L.pieces ∧ v = nI p := by
  have := O.pieces
  exact in_nI h.1 h.2 (by omega)
theorem Lh.zoneG.to {v : Int32} (h : L.zoneG v) (O : L.Ok) : ∃ p, p < L.zones ∧ v = nI p := by
  have := O.zones
  exact in_nI h.1 h.2 (by omega)
theorem Lh.pl (L : Lh) (p t : Nat) : L.K.plX p t = L.K.plM p t := by
  unfold Kf.plX Kf.plM
  by_cases h : L.K.inZ p t
  · rw [if_pos h, if_pos h]
    have : L.K.ord (L.K.idx p t) = L.K.idx p t := if_pos h.2
    rw [this]
  · rw [if_neg h, if_neg h]
theorem Lh.ord (L : Lh) {k : Nat} (h : k < L.zones) : L.K.ord k = k := if_pos h
theorem q_where (H : L.X σ) (G : Lh.M 0 L μ) (O : L.Ok) (v1 v2 : Int32) : Ag σ μ (X_where σ v1 v2) (M_where μ v1 v2) := by
  obtain ⟨σ', μ', μ2, A⟩ := asked_e H G O
  unfold X_where X_where_j26 X_where_j28 M_where
  simp only [A.step, A.isPiece, A.mThen, A.lay, bd_some, nm_eq]
  by_cases c1 : L.stepG v2
  · by_cases c2 : L.pieceG v1
    · simp only [decide_eq_true c1, decide_eq_true c2, bIt, if_false, Bool.and_true]
      obtain ⟨t, ht, rfl⟩ := c1.to O
      obtain ⟨p, hp, rfl⟩ := c2.to O
      have hs := O.steps
      refine ⟨L.K.plM p t, σ', μ2, ?_, ?_, A.fX, A.fM2⟩
      · rw [A.hX.place A.k hp (by omega), bd_some, L.pl]
      · rw [A.hM2.place A.k hp (by omega), bd_some]
    · simp only [decide_eq_true c1, decide_eq_false c2, bIt, bIf, if_true, if_false, Bool.and_false]
      exact ⟨-2, σ', _, rfl, rfl, A.fX, A.fM0⟩
  · simp only [decide_eq_false c1, bIf, if_true, Bool.false_and]
    exact ⟨-2, σ', _, rfl, rfl, A.fX, A.fM0⟩
