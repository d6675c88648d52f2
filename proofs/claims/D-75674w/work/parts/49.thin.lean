set_option maxRecDepth 100000
/-! stage 2: told otherwise, 2 -/
variable {K : Kf} {L : Lh} {σ μ σ' μ' μ2 : PS}
theorem Kf.X.wThick (H : K.X σ) {f : Nat → Nat} {g : Nat → Int32} (e : ∀ p, p < K.np → g p = nI (f p)) : (K.wThick f).X (sA σ 8 g) :=
  ⟨H.np, H.ns, H.nz, H.na, H.set, H.law, H.pc, H.gust, H.comes, H.heat, e, H.bears, H.ord, H.air, H.act⟩
theorem Kf.M.wThick (H : K.M μ) {f : Nat → Nat} {g : Nat → Int32} (e : ∀ p, p < K.np → g p = nI (f p)) : (K.wThick f).M (sA μ 28 g) :=
  ⟨H.np, H.ns, H.nz, H.na, H.set, H.law, H.pc, H.gust, H.sk, H.comes, H.heat, e, H.bears, H.air, H.kind, H.zone, H.much, H.step⟩
theorem Kf.Ok.wThick (O : K.Ok) {f : Nat → Nat} (e1 : ∀ p, p < K.np → 1 ≤ f p) (e : ∀ p, p < K.np → f p ≤ 9) : (K.wThick f).Ok :=
  ⟨O.np, O.ns, O.nz, O.na, O.pc1, O.pc, O.sk, O.ord, O.law, O.set, O.heat, e1, e, O.bears, O.comes, O.air, O.kind, O.zone, O.much, O.much1, O.step⟩
/-- one try: piece p is n thick -/
theorem thin_try {a b : PS} {f : Nat → Nat} (O : K.Ok) {p n : Nat} (hp : p < K.np) (h1n : 1 ≤ n) (h9 : n ≤ 9) (hf : ∀ q, q < K.np → q ≠ p → f q = K.thick q) (h1 : (K.wThick f).X a) (h2 : (K.wThick f).M b) :
    ∃ (a2 b2 : PS) (f2 : Nat → Nat) (w : Bool), X_isSoundBy (sA a 8 (upd (gA a 8) p (nI n))) (nI p) = some (bI w, a2) ∧ M_isSound (sA b 28 (upd (gA b 28) p (nI n))) (nI p) = some (bI w, b2) ∧ PX a a2 ∧ PM b b2 ∧ (∀ q, q < K.np → q ≠ p → f2 q = K.thick q) ∧ (K.wThick f2).X a2 ∧ (K.wThick f2).M b2 := by
  have e0 : ∀ q, q < K.np → ∀ g : Nat → Int32, (∀ q, q < K.np → g q = nI (f q)) → upd g p (nI n) q = nI (if q = p then n else K.thick q) := by
    intro q hq g hg
    rw [upd_at]
    by_cases c : q = p
    · rw [if_pos c, if_pos c]
    · rw [if_neg c, if_neg c, ← hf q hq c]; exact hg q hq
  have h3 : (K.wThick (fun q => if q = p then n else K.thick q)).X (sA a 8 (upd (gA a 8) p (nI n))) := Kf.X.wThick (K := K.wThick f) h1 (f := fun q => if q = p then n else K.thick q) (fun q hq => e0 q hq _ h1.thick)
  have h4 : (K.wThick (fun q => if q = p then n else K.thick q)).M (sA b 28 (upd (gA b 28) p (nI n))) := Kf.M.wThick (K := K.wThick f) h2 (f := fun q => if q = p then n else K.thick q) (fun q hq => e0 q hq _ h2.thick)
  have O2 : (K.wThick (fun q => if q = p then n else K.thick q)).Ok := O.wThick (fun q hq => by
      by_cases c : q = p
      · rw [if_pos c]; exact h1n
      · rw [if_neg c]; exact O.thick1 q hq) (fun q hq => by
      by_cases c : q = p
      · rw [if_pos c]; exact h9
      · rw [if_neg c]; exact O.thick q hq)
  have hp2 : p < (K.wThick (fun q => if q = p then n else K.thick q)).np := hp
  obtain ⟨K2, hK⟩ : ∃ K2, K2 = K.wThick (fun q => if q = p then n else K.thick q) := ⟨_, rfl⟩
  rw [← hK] at h3 h4 O2 hp2
  obtain ⟨a2, ea, Fa⟩ := h3.soundBy_e O2 hp2
  obtain ⟨b2, eb, Fb⟩ := h4.sound_e O2 hp2
  have h5 := h3.fr Fa
  have h6 := h4.fr Fb
  rw [hK] at h5 h6
  exact ⟨a2, b2, fun q => if q = p then n else K.thick q, K2.so p, ea, eb, (PX.sA _ _ (by omega)).trans Fa.P, (PM.sA _ _ (by omega)).trans Fb.P, fun q _ hne => if_neg hne, h5, h6⟩
theorem q_thin (H : L.X σ) (G : Lh.M 0 L μ) (O : L.Ok) (v1 : Int32) : Ag σ μ (X_thin σ v1) (M_thin μ v1) := by
  obtain ⟨σ', μ', μ2, A⟩ := asked_e H G O
  have hn : L.K.np ≤ 6 := A.k.np
  unfold X_thin M_thin
  simp only [A.piece, A.mPiece, A.lay, bd_some, nm_eq]
  by_cases c0 : L.pieceG v1
  · obtain ⟨p, hp, rfl⟩ := c0.to O
    have hp : p < L.K.np := hp
    simp only [decide_eq_true c0, bIt, if_false]
    refine Ag.of3 (loop_lock 9 (fun k s1 s2 => ∃ (a b : PS) (f : Nat → Nat), s1 = (nI (9 - k), a) ∧ s2 = (nI (9 - k), b) ∧ PX σ a ∧ PM μ b ∧ (∀ q, q < L.K.np → q ≠ p → f q = L.K.thick q) ∧ (L.K.wThick f).X a ∧ (L.K.wThick f).M b) _ (fun k s1 s2 hk hI => ?_) (fun s1 s2 hI => ?_) ⟨σ', μ2, L.K.thick, rfl, rfl, A.fX, A.fM2, fun _ _ _ => rfl, A.hX, A.hM2⟩ (by omega))
    · obtain ⟨a, b, f, rfl, rfl, F1, F2, hf, h1, h2⟩ := hI
      obtain ⟨a2, b2, f2, w, ea, eb, P1, P2, hf2, h5, h6⟩ := thin_try A.k hp (n := 9 - k) (by omega) (by omega) hf h1 h2
      have hk0 : ¬ nI (9 - k) ≤ 0 := nI_nle (by omega) (by omega)
      have eX : X_thin_B14 (nI p) (nI (9 - k), a) = if w = true then some (.inr (nI (9 - k), a2)) else some (.inl (nI (9 - (k + 1)), a2)) := by
        show X_thin_l14 (nI p) (nI (9 - k)) a = _
        unfold X_thin_l14 X_thin_j33
        rw [if_neg hk0, ix_nI (by omega) (by omega), wA_nI (by omega), nm_eq, ea, bd_some, nm_eq, dn_m1 (by omega), show 9 - k - 1 = 9 - (k + 1) by omega]
        cases w <;> rfl
      have eM : M_thin_B24 (nI p) (nI (9 - k), b) = if w = true then some (.inr (nI (9 - k), b2)) else some (.inl (nI (9 - (k + 1)), b2)) := by
        show M_thin_l24 (nI p) (nI (9 - k)) b = _
        unfold M_thin_l24 M_thin_j43
        rw [if_neg hk0, ix_nI (by omega) (by omega), wA_nI (by omega), nm_eq, eb, bd_some, nm_eq, dn_m1 (by omega), show 9 - k - 1 = 9 - (k + 1) by omega]
        cases w <;> rfl
      rw [eX, eM]
      cases w with
      | false => exact Or.inl ⟨_, _, rfl, rfl, a2, b2, f2, rfl, rfl, F1.trans P1, F2.trans P2, hf2, h5, h6⟩
      | true => exact Or.inr ⟨_, _, rfl, rfl, rfl, F1.trans P1, F2.trans P2⟩
    · obtain ⟨a, b, f, rfl, rfl, F1, F2, hf, h1, h2⟩ := hI
      refine ⟨(-1, a), (-1, b), ?_, ?_, rfl, F1, F2⟩
      · show X_thin_l14 (nI p) (nI (9 - 9)) a = _
        unfold X_thin_l14 X_thin_j41
        rw [if_pos (by decide)]; rfl
      · show M_thin_l24 (nI p) (nI (9 - 9)) b = _
        unfold M_thin_l24 M_thin_j51
        rw [if_pos (by decide)]; rfl
  · simp only [decide_eq_false c0, bIf, if_true]
    exact ⟨-2, σ', _, rfl, rfl, A.fX, A.fM0⟩
