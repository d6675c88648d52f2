set_option maxRecDepth 100000
/-! stage 2: questions, 6 -/
variable {L : Lh} {σ μ σ' μ' μ2 : PS}
theorem q_tense (H : L.X σ) (G : Lh.M 0 L μ) (O : L.Ok) (v1 : Int32) : Ag σ μ (X_tense σ v1) (M_tense μ v1) := by
  obtain ⟨σ', μ', μ2, A⟩ := asked_e H G O
  have hs : L.K.ns ≤ 14 := A.k.ns
  unfold X_tense M_tense
  simp only [A.piece, A.mPiece, A.now, bd_some, nm_eq]
  by_cases c0 : L.pieceG v1
  · obtain ⟨p, hp, rfl⟩ := c0.to O
    have hp : p < L.K.np := hp
    have hc := A.k.comes p hp
    simp only [decide_eq_true c0, bIt, if_false, A.hM.comes_e A.k hp, bd_some]
    have skip : ∀ k, k < L.K.comes p → k ≤ L.K.ns → X_tense_l15 σ' (nI p) 0 (nI k) = some (.inl (0, nI (k + 1))) := by
      intro k h1 h2
      have kf : (L.K.ns < k) = False := eq_false (by omega)
      have cf : decide (L.K.comes p ≤ k) = false := decide_eq_false (by omega)
      unfold X_tense_l15
      simp (disch := omega) only [A.hX.ns, lt_I, kf, if_false, A.hX.come_e A.k, bd_some, cf, bIf, if_true, X_tense_j55, X_tense_j56, nm_eq, nI_1]; rfl
    by_cases cc : L.K.comes p ≤ L.K.ns
    · refine Ag.of (late_e (b1 := X_tense_B15 σ' (nI p)) (b2 := M_tense_B29 μ' (nI p)) (fun k => (0, nI k)) (L.K.comes p) (L.K.ns + 1 - L.K.comes p) (fun k s => ∃ a, s = (a, nI (L.K.comes p + k))) (fun r1 r2 => r1.1 = r2.1 ∧ r1.2 = σ' ∧ r2.2 = μ') (by omega) (by omega) (fun k hk => skip k hk (by omega)) ⟨0, rfl⟩ (fun k s hk hI => ?_) (fun s hI => ?_)) A.fX A.fM
      · obtain ⟨a, rfl⟩ := hI
        show Sm _ _ (X_tense_l15 σ' (nI p) a (nI (L.K.comes p + k))) (M_tense_l29 μ' (nI p) a (nI (L.K.comes p + k)))
        have kf : (L.K.ns < L.K.comes p + k) = False := eq_false (by omega)
        have ct : decide (L.K.comes p ≤ L.K.comes p + k) = true := decide_eq_true (by omega)
        unfold X_tense_l15 M_tense_l29
        simp (disch := omega) only [A.hX.ns, A.hM.steps_e, lt_I, kf, if_false, A.hX.come_e A.k, bd_some, ct, bIt, A.rX.skin_e A.k, A.rM.skin_e A.k, A.rX.core_e A.k, A.rM.core_e A.k, X_tense_j55, X_tense_j56, M_tense_j58, nm_eq, nI_1]
        refine Sm.ite (fun c => ?_) (fun c => ?_)
        · exact Sm.next rfl rfl ⟨_, rfl⟩
        · exact Sm.next rfl rfl ⟨_, rfl⟩
      · obtain ⟨a, rfl⟩ := hI
        have ee : L.K.comes p + (L.K.ns + 1 - L.K.comes p) = L.K.ns + 1 := by omega
        rw [ee]
        show ∃ r1 r2, X_tense_l15 σ' (nI p) a (nI (L.K.ns + 1)) = some (.inr r1) ∧ M_tense_l29 μ' (nI p) a (nI (L.K.ns + 1)) = some (.inr r2) ∧ _
        have kf : (L.K.ns < L.K.ns + 1) = True := eq_true (by omega)
        unfold X_tense_l15 M_tense_l29
        simp (disch := omega) only [A.hX.ns, A.hM.steps_e, lt_I, kf, if_true, bd_some, X_tense_j64, M_tense_j66]
        exact ⟨_, _, rfl, rfl, rfl, rfl, rfl⟩
    · refine ⟨0, σ', μ', ?_, ?_, A.fX, A.fM⟩
      · refine loop_seq (fun k => (0, nI k)) (L.K.ns + 1) (fun k hk => skip k (by omega) (by omega)) ?_ (by omega)
        show X_tense_l15 σ' (nI p) 0 (nI (L.K.ns + 1)) = _
        unfold X_tense_l15 X_tense_j64
        rw [A.hX.ns, if_pos (by rw [lt_I (by omega) (by omega)]; omega)]; rfl
      · refine loop_seq (fun _ => (0, nI (L.K.comes p))) 0 (fun k hk => absurd hk (by omega)) ?_ (by omega)
        show M_tense_l29 μ' (nI p) 0 (nI (L.K.comes p)) = _
        unfold M_tense_l29 M_tense_j66
        rw [A.hM.steps_e, bd_some, if_pos (by rw [lt_I (by omega) (by omega)]; omega)]; rfl
  · simp only [decide_eq_false c0, bIf, if_true]
    exact ⟨-2, σ', _, rfl, rfl, A.fX, A.fM0⟩
theorem q_cool (H : L.X σ) (G : Lh.M 0 L μ) (O : L.Ok) (v1 v2 : Int32) : Ag σ μ (X_cool σ v1 v2) (M_cool μ v1 v2) := by
  obtain ⟨σ', μ', μ2, A⟩ := asked_e H G O
  have hs : L.K.ns ≤ 14 := A.k.ns
  unfold X_cool M_cool
  simp only [A.piece, A.mPiece, A.now, bd_some, nm_eq, Xin_e v2 600 600 rfl, Min_e v2 600 600 rfl, X_cool_j20, M_cool_j26]
  by_cases c0 : L.pieceG v1
  · by_cases c9 : 0 ≤ v2.toInt ∧ v2.toInt ≤ 600
    · obtain ⟨p, hp, rfl⟩ := c0.to O
      have hp : p < L.K.np := hp
      have hc := A.k.comes p hp
      simp only [decide_eq_true c0, decide_eq_true c9, bIt, if_false, A.hM.comes_e A.k hp, bd_some]
      have skip : ∀ k, k < L.K.comes p → k ≤ L.K.ns → X_cool_l25 σ' (nI p) v2 (nI k) = some (.inl (nI (k + 1))) := by
        intro k h1 h2
        have kf : (L.K.ns < k) = False := eq_false (by omega)
        have cf : decide (L.K.comes p ≤ k) = false := decide_eq_false (by omega)
        unfold X_cool_l25
        simp (disch := omega) only [A.hX.ns, lt_I, kf, if_false, A.hX.come_e A.k, bd_some, cf, bIf, if_true, X_cool_j57, nm_eq, nI_1]
      by_cases cc : L.K.comes p ≤ L.K.ns
      · refine Ag.of (late_e (b1 := X_cool_B25 σ' (nI p) v2) (b2 := M_cool_B39 μ' (nI p) v2) (fun k => nI k) (L.K.comes p) (L.K.ns + 1 - L.K.comes p) (fun k s => s = nI (L.K.comes p + k)) (fun r1 r2 => r1.1 = r2.1 ∧ r1.2 = σ' ∧ r2.2 = μ') (by omega) (by omega) (fun k hk => skip k hk (by omega)) rfl (fun k s hk hI => ?_) (fun s hI => ?_)) A.fX A.fM
        · subst hI
          show Sm _ _ (X_cool_l25 σ' (nI p) v2 (nI (L.K.comes p + k))) (M_cool_l39 μ' (nI p) v2 (nI (L.K.comes p + k)))
          have kf : (L.K.ns < L.K.comes p + k) = False := eq_false (by omega)
          have ct : decide (L.K.comes p ≤ L.K.comes p + k) = true := decide_eq_true (by omega)
          unfold X_cool_l25 M_cool_l39
          simp (disch := omega) only [A.hX.ns, A.hM.steps_e, lt_I, kf, if_false, A.hX.come_e A.k, bd_some, ct, bIt, A.rX.skin_e A.k, A.rM.skin_e A.k, X_cool_j57, X_cool_j55, M_cool_j57, nm_eq, nI_1]
          refine Sm.ite (fun c => ?_) (fun c => ?_)
          · exact Sm.next rfl rfl rfl
          · exact Sm.done rfl rfl ⟨rfl, rfl, rfl⟩
        · have ee : L.K.comes p + (L.K.ns + 1 - L.K.comes p) = L.K.ns + 1 := by omega
          rw [ee] at hI
          subst hI
          show ∃ r1 r2, X_cool_l25 σ' (nI p) v2 (nI (L.K.ns + 1)) = some (.inr r1) ∧ M_cool_l39 μ' (nI p) v2 (nI (L.K.ns + 1)) = some (.inr r2) ∧ _
          have kf : (L.K.ns < L.K.ns + 1) = True := eq_true (by omega)
          unfold X_cool_l25 M_cool_l39
          simp (disch := omega) only [A.hX.ns, A.hM.steps_e, lt_I, kf, if_true, bd_some, X_cool_j63, M_cool_j65]
          exact ⟨_, _, rfl, rfl, rfl, rfl, rfl⟩
      · refine ⟨-1, σ', μ', ?_, ?_, A.fX, A.fM⟩
        · refine loop_seq (fun k => nI k) (L.K.ns + 1) (fun k hk => skip k (by omega) (by omega)) ?_ (by omega)
          show X_cool_l25 σ' (nI p) v2 (nI (L.K.ns + 1)) = _
          unfold X_cool_l25 X_cool_j63
          rw [A.hX.ns, if_pos (by rw [lt_I (by omega) (by omega)]; omega)]; rfl
        · refine loop_seq (fun _ => nI (L.K.comes p)) 0 (fun k hk => absurd hk (by omega)) ?_ (by omega)
          show M_cool_l39 μ' (nI p) v2 (nI (L.K.comes p)) = _
          unfold M_cool_l39 M_cool_j65
          rw [A.hM.steps_e, bd_some, if_pos (by rw [lt_I (by omega) (by omega)]; omega)]; rfl
    · simp only [decide_eq_true c0, decide_eq_false c9, bIt, bIf, if_true, if_false]
      exact ⟨-2, σ', _, rfl, rfl, A.fX, A.fM0⟩
  · simp only [decide_eq_false c0, bIf, if_true]
    exact ⟨-2, σ', _, rfl, rfl, A.fX, A.fM0⟩
