set_option maxRecDepth 100000
/-! stage 2: questions, 5 -/
variable {L : Lh} {σ μ σ' μ' μ2 : PS}
theorem Asked.inX (A : Asked L σ μ σ' μ' μ2) {t : Nat} (z : Int32) (h : t ≤ 15) : X_insideOf σ' z (nI t) = some (bits (fun p => decide (L.K.plM p t = z)) L.K.np) := by
  rw [A.hX.inside_e A.k h z, show (fun p => decide (L.K.plX p t = z)) = (fun p => decide (L.K.plM p t = z)) from funext (fun p => by rw [L.pl])]
theorem Asked.airX (A : Asked L σ μ σ' μ' μ2) {z t : Nat} (hz : z < L.K.nz) (ht : t ≤ 15) : X_airOf σ' (nI z) (nI t) = some (nI (L.K.airOf z t)) := by
  have := A.hX.air_e A.k hz ht
  rw [L.ord hz] at this; exact this
theorem q_fall (H : L.X σ) (G : Lh.M 0 L μ) (O : L.Ok) (v1 v2 : Int32) : Ag σ μ (X_fall σ v1 v2) (M_fall μ v1 v2) := by
  obtain ⟨σ', μ', μ2, A⟩ := asked_e H G O
  have hz7 := O.zones; have hs14 := O.steps
  unfold X_fall M_fall
  simp only [A.step, A.isZone, A.mStep, A.mZone, A.lay, bd_some, nm_eq, X_fall_j38, X_fall_j35, M_fall_j34, ix40_5, r17_5, show gA (sI μ 0 0) 17 5 = nI L.zones from (G.fr A.fM0).zones]
  by_cases c0 : L.zoneG v1
  · obtain ⟨z, hz, rfl⟩ := c0.to O
    have e1 : nI z + 1 = nI (z + 1) := nI_1 z
    have e2 : nI L.zones - 1 = nI (L.zones - 1) := pk_sub (b := 1) (by omega)
    have e3 : L.zoneG (nI (z + 1)) ↔ z + 1 < L.zones := by
      show 0 ≤ (nI (z + 1)).toInt ∧ (nI (z + 1)).toInt < L.zones ↔ _
      rw [nI_toInt (by omega)]; omega
    by_cases c2 : z + 1 < L.zones
    · have n2 : ¬ nI z = nI (L.zones - 1) := by rw [eq_I (by omega) (by omega)]; omega
      by_cases c1 : L.stepG v2
      · obtain ⟨t, ht, rfl⟩ := c1.to O
        simp only [decide_eq_true c0, decide_eq_true c1, e1, e2, decide_eq_true (e3.mpr c2), bIt, if_false, n2]
        refine ⟨nI (L.K.airOf z t) - nI (L.K.airOf (z + 1) t), σ', μ2, ?_, ?_, A.fX, A.fM2⟩
        · unfold X_fallOf
          rw [A.airX hz (by omega), bd_some, e1, A.airX c2 (by omega), bd_some, bd_some]
        · unfold M_fallOf
          rw [A.hM2.air_e A.k hz (by omega), bd_some, e1, A.hM2.air_e A.k c2 (by omega), bd_some, bd_some]
      · simp only [decide_eq_true c0, decide_eq_false c1, e1, e2, bIt, bIf, if_true, if_false, n2]
        exact ⟨-10000, σ', _, rfl, rfl, A.fX, A.fM0⟩
    · have n2 : (nI z = nI (L.zones - 1)) = True := eq_true (by rw [show L.zones - 1 = z by omega])
      by_cases c1 : L.stepG v2
      · simp only [decide_eq_true c0, decide_eq_true c1, e1, e2, decide_eq_false (fun h => c2 (e3.mp h)), bIt, bIf, if_true, if_false, n2]
        exact ⟨-10000, σ', _, rfl, rfl, A.fX, A.fM0⟩
      · simp only [decide_eq_true c0, decide_eq_false c1, e1, e2, bIt, bIf, if_true, if_false, n2]
        exact ⟨-10000, σ', _, rfl, rfl, A.fX, A.fM0⟩
  · simp only [decide_eq_false c0, bIf, if_true, ite_self]
    exact ⟨-10000, σ', _, rfl, rfl, A.fX, A.fM0⟩
theorem dn_m1 {m : Nat} (h : 0 < m) : nI m + (-1) = nI (m - 1) := by
  obtain ⟨k, rfl⟩ : ∃ k, m = k + 1 := ⟨m - 1, by omega⟩
  exact pk_m1 k
theorem q_last (H : L.X σ) (G : Lh.M 0 L μ) (O : L.Ok) (v1 : Int32) : Ag σ μ (X_last σ v1) (M_last μ v1) := by
  obtain ⟨σ', μ', μ2, A⟩ := asked_e H G O
  have hs : L.K.ns ≤ 14 := A.k.ns
  unfold X_last M_last
  simp only [A.lehr, A.isZone, A.mZone, A.lay, bd_some, nm_eq, X_last_j15]
  by_cases c0 : L.zoneG v1
  · simp only [decide_eq_true c0, decide_eq_true (zone_lehr O c0), bIt, if_false, A.hX.ns, A.hM2.steps_e, bd_some]
    refine Ag.of (lock_e (b1 := X_last_B26 σ' v1) (b2 := M_last_B25 μ2 v1) (L.K.ns + 1) (fun k s => s = if k ≤ L.K.ns then nI (L.K.ns - k) else -1) (fun r1 r2 => r1.1 = r2.1 ∧ r1.2 = σ' ∧ r2.2 = μ2) (by rw [if_pos (by omega)]; rfl) (fun k s hk hI => ?_) (fun s hI => ?_) (by omega)) A.fX A.fM2
    · rw [if_pos (by omega)] at hI
      subst hI
      show Sm _ _ (X_last_l26 σ' v1 (nI (L.K.ns - k))) (M_last_l25 μ2 v1 (nI (L.K.ns - k)))
      unfold X_last_l26 M_last_l25
      have n0 : (nI (L.K.ns - k) < 0) = False := eq_false (nI_pos (by omega))
      simp (disch := omega) only [n0, if_false, A.inX, A.hM2.inside_e A.k, bd_some, nm_eq, X_last_j45, M_last_j38]
      refine Sm.ite (fun c => ?_) (fun c => ?_)
      · refine Sm.next rfl rfl ?_
        by_cases e : k + 1 ≤ L.K.ns
        · rw [if_pos e, dn_m1 (by omega), show L.K.ns - k - 1 = L.K.ns - (k + 1) by omega]
        · rw [if_neg e, show L.K.ns - k = 0 by omega]; rfl
      · exact Sm.done rfl rfl ⟨rfl, rfl, rfl⟩
    · rw [if_neg (by omega)] at hI
      subst hI
      show ∃ r1 r2, X_last_l26 σ' v1 (-1) = some (.inr r1) ∧ M_last_l25 μ2 v1 (-1) = some (.inr r2) ∧ _
      unfold X_last_l26 M_last_l25 X_last_j45 M_last_j46
      rw [if_pos (by decide), if_pos (by decide)]
      exact ⟨_, _, rfl, rfl, rfl, rfl, rfl⟩
  · simp only [decide_eq_false c0, bIf, if_true, ite_self]
    exact ⟨-2, σ', _, rfl, rfl, A.fX, A.fM0⟩
theorem q_still (H : L.X σ) (G : Lh.M 0 L μ) (O : L.Ok) (v1 : Int32) : Ag σ μ (X_still σ v1) (M_still μ v1) := by
  obtain ⟨σ', μ', μ2, A⟩ := asked_e H G O
  have hs : L.K.ns ≤ 14 := A.k.ns
  unfold X_still M_still
  simp only [A.piece, A.mPiece, A.now, bd_some, nm_eq]
  by_cases c0 : L.pieceG v1
  · obtain ⟨p, hp, rfl⟩ := c0.to O
    have hp : p < L.K.np := hp
    simp only [decide_eq_true c0, bIt, if_false, A.hX.ns, A.hM.steps_e, bd_some]
    refine Ag.of (lock_e (b1 := X_still_B19 σ' (nI p)) (b2 := M_still_B26 μ' (nI p)) L.K.ns (fun k s => s = nI (L.K.ns - k)) (fun r1 r2 => r1.1 = r2.1 ∧ r1.2 = σ' ∧ r2.2 = μ') rfl (fun k s hk hI => ?_) (fun s hI => ?_) (by omega)) A.fX A.fM
    · subst hI
      show Sm _ _ (X_still_l19 σ' (nI p) (nI (L.K.ns - k))) (M_still_l26 μ' (nI p) (nI (L.K.ns - k)))
      unfold X_still_l19 M_still_l26
      have n0 : (nI (L.K.ns - k) ≤ 0) = False := eq_false (nI_nle (by omega) (by omega))
      have e1 : nI (L.K.ns - k) - 1 = nI (L.K.ns - k - 1) := pk_sub (b := 1) (by omega)
      simp (disch := omega) only [n0, if_false, e1, A.hX.ns, A.hM.steps_e, A.rX.skin_e A.k, A.rM.skin_e A.k, bd_some, nm_eq, X_still_j52, M_still_j56]
      refine Sm.ite (fun c => ?_) (fun c => ?_)
      · refine Sm.next rfl rfl ?_
        rw [dn_m1 (by omega), show L.K.ns - k - 1 = L.K.ns - (k + 1) by omega]
      · exact Sm.done rfl rfl ⟨rfl, rfl, rfl⟩
    · subst hI
      show ∃ r1 r2, X_still_l19 σ' (nI p) (nI (L.K.ns - L.K.ns)) = some (.inr r1) ∧ M_still_l26 μ' (nI p) (nI (L.K.ns - L.K.ns)) = some (.inr r2) ∧ _
      unfold X_still_l19 M_still_l26 X_still_j52 M_still_j56
      rw [Nat.sub_self, if_pos (by decide), if_pos (by decide)]
      exact ⟨_, _, rfl, rfl, rfl, rfl, rfl⟩
  · simp only [decide_eq_false c0, bIf, if_true]
    exact ⟨-2, σ', _, rfl, rfl, A.fX, A.fM0⟩
theorem loop_skip {S R : Type} {b : S → Option (S ⊕ R)} (g : Nat → S) (n : Nat) : ∀ m, (∀ k, k < m → b (g k) = some (.inl (g (k + 1)))) → loop b (m + n) (g 0) = loop b n (g m)
  | 0, _ => by rw [Nat.zero_add]
  | m + 1, h => by
    have e := loop_skip (R := R) (b := b) g (n + 1) m (fun k hk => h k (by omega))
    rw [show m + 1 + n = m + (n + 1) by omega, e]
    show loop b (n + 1) (g m) = _
    simp only [loop, h m (by omega)]
theorem loop_lockn {S R1 R2 : Type} {b1 : S → Option (S ⊕ R1)} {b2 : S → Option (S ⊕ R2)} (N : Nat) (I : Nat → S → Prop) (Q : R1 → R2 → Prop) (hs : ∀ k s, k < N → I k s → Sm (I (k + 1)) Q (b1 s) (b2 s)) (he : ∀ s, I N s → ∃ r1 r2, b1 s = some (.inr r1) ∧ b2 s = some (.inr r2) ∧ Q r1 r2) :
    ∀ (n1 n2 k : Nat) (s : S), k ≤ N → N - k < n1 → N - k < n2 → I k s → ∃ r1 r2, loop b1 n1 s = some r1 ∧ loop b2 n2 s = some r2 ∧ Q r1 r2
  | 0, n2, k, s, _, h, _, _ => absurd h (by omega)
  | n1 + 1, 0, k, s, _, _, h, _ => absurd h (by omega)
  | n1 + 1, n2 + 1, k, s, hk, h1, h2, hI => by
    by_cases hlt : k < N
    · rcases hs k s hlt hI with ⟨t, e1, e2, hI'⟩ | ⟨r1, r2, e1, e2, hq⟩
      · obtain ⟨r1, r2, f1, f2, hq⟩ := loop_lockn N I Q hs he n1 n2 (k + 1) t hlt (by omega) (by omega) hI'
        exact ⟨r1, r2, by simp only [loop, e1]; exact f1, by simp only [loop, e2]; exact f2, hq⟩
      · exact ⟨r1, r2, by simp only [loop, e1], by simp only [loop, e2], hq⟩
    · obtain rfl : k = N := by omega
      obtain ⟨r1, r2, e1, e2, hq⟩ := he s hI
      exact ⟨r1, r2, by simp only [loop, e1], by simp only [loop, e2], hq⟩
/-- one loop counts from 0 and does nothing below c; the other begins at c -/
theorem late_e {S R1 R2 : Type} {b1 : S → Option (S ⊕ R1)} {b2 : S → Option (S ⊕ R2)} (g : Nat → S) (c N : Nat) (I : Nat → S → Prop) (Q : R1 → R2 → Prop) (hc : c ≤ 100) (hN : N ≤ 100) (hskip : ∀ k, k < c → b1 (g k) = some (.inl (g (k + 1)))) (h0 : I 0 (g c)) (hs : ∀ k s, k < N → I k s → Sm (I (k + 1)) Q (b1 s) (b2 s)) (he : ∀ s, I N s → ∃ r1 r2, b1 s = some (.inr r1) ∧ b2 s = some (.inr r2) ∧ Q r1 r2) :
    ∃ r1 r2, loop b1 fu (g 0) = some r1 ∧ loop b2 fu (g c) = some r2 ∧ Q r1 r2 := by
  obtain ⟨r1, r2, e1, e2, hq⟩ := loop_lockn N I Q hs he (4096 - c) fu 0 (g c) (Nat.zero_le _) (by omega) (by unfold fu; omega) h0
  refine ⟨r1, r2, ?_, e2, hq⟩
  have := loop_skip (b := b1) g (4096 - c) c hskip
  rw [show c + (4096 - c) = fu by unfold fu; omega] at this
  rw [this, e1]
