set_option maxRecDepth 100000
/-! stage 2: told otherwise -/
def Kf.wBears (K : Kf) (f : Nat → Nat) : Kf := Kf.mk K.np K.ns K.nz K.na K.pc K.sk K.law K.gust K.set K.heat K.thick f K.comes K.air K.act
def Kf.wThick (K : Kf) (f : Nat → Nat) : Kf := Kf.mk K.np K.ns K.nz K.na K.pc K.sk K.law K.gust K.set K.heat f K.bears K.comes K.air K.act
variable {K : Kf} {L : Lh} {σ μ σ' μ' μ2 : PS}
theorem Kf.X.wBears (H : K.X σ) {f : Nat → Nat} {g : Nat → Int32} (e : ∀ p, p < K.np → g p = nI (f p)) : (K.wBears f).X (sA σ 9 g) :=
  ⟨H.np, H.ns, H.nz, H.na, H.set, H.law, H.pc, H.gust, H.comes, H.heat, H.thick, e, H.ord, H.air, H.act⟩
theorem Kf.M.wBears (H : K.M μ) {f : Nat → Nat} {g : Nat → Int32} (e : ∀ p, p < K.np → g p = nI (f p)) : (K.wBears f).M (sA μ 29 g) :=
  ⟨H.np, H.ns, H.nz, H.na, H.set, H.law, H.pc, H.gust, H.sk, H.comes, H.heat, H.thick, e, H.air, H.kind, H.zone, H.much, H.step⟩
theorem Kf.Ok.wBears (O : K.Ok) {f : Nat → Nat} (e : ∀ p, p < K.np → f p ≤ 300) : (K.wBears f).Ok :=
  ⟨O.np, O.ns, O.nz, O.na, O.pc1, O.pc, O.sk, O.ord, O.law, O.set, O.heat, O.thick1, O.thick, e, O.comes, O.air, O.kind, O.zone, O.much, O.much1, O.step⟩
theorem Kf.X.soundBy_e (H : K.X σ) (O : K.Ok) {p : Nat} (hp : p < K.np) : ∃ σ', X_isSoundBy σ (nI p) = some (bI (K.so p), σ') ∧ FX σ σ' := by
  obtain ⟨s, e, F, R⟩ := H.lays_e O
  refine ⟨s, ?_, F⟩
  unfold X_isSoundBy
  rw [e, bd_some, R.sound_e O hp, bd_some, bI_tz]
theorem Kf.M.sound_e (H : K.M μ) (O : K.Ok) {p : Nat} (hp : p < K.np) : ∃ μ', M_isSound μ (nI p) = some (bI (K.so p), μ') ∧ FM μ μ' := by
  have hn := O.np
  obtain ⟨s, e, F, R⟩ := H.runs_e O
  refine ⟨s, ?_, F⟩
  unfold M_isSound M_isSound_j19
  rw [e, bd_some, ix_nI (by omega) (by omega), rA_nI (by omega)]
  have h := R.crack_m1 O hp
  cases hb : K.so p with
  | true => rw [if_pos (h.mpr hb)]; rfl
  | false => rw [if_neg (fun c => by rw [h.mp c] at hb; cases hb)]; rfl
theorem Ag.of3 {x y : Option (Int32 × PS)} (h : ∃ r1 r2, x = some r1 ∧ y = some r2 ∧ (r1.1 = r2.1 ∧ PX σ r1.2 ∧ PM μ r2.2)) : Ag σ μ x y := by
  obtain ⟨⟨a, s⟩, ⟨b, u⟩, e1, e2, h1, h2, h3⟩ := h
  dsimp only at h1 h2 h3
  subst h1
  exact ⟨a, s, u, e1, e2, h2, h3⟩
/-- one try: piece p bears n -/
theorem bears_try {a b : PS} {f : Nat → Nat} (O : K.Ok) {p n : Nat} (hp : p < K.np) (h9 : n ≤ 300) (hf : ∀ q, q < K.np → q ≠ p → f q = K.bears q) (h1 : (K.wBears f).X a) (h2 : (K.wBears f).M b) :
    ∃ (a2 b2 : PS) (f2 : Nat → Nat) (w : Bool), X_isSoundBy (sA a 9 (upd (gA a 9) p (nI n))) (nI p) = some (bI w, a2) ∧ M_isSound (sA b 29 (upd (gA b 29) p (nI n))) (nI p) = some (bI w, b2) ∧ PX a a2 ∧ PM b b2 ∧ (∀ q, q < K.np → q ≠ p → f2 q = K.bears q) ∧ (K.wBears f2).X a2 ∧ (K.wBears f2).M b2 := by
  have e0 : ∀ q, q < K.np → ∀ g : Nat → Int32, (∀ q, q < K.np → g q = nI (f q)) → upd g p (nI n) q = nI (if q = p then n else K.bears q) := by
    intro q hq g hg
    rw [upd_at]
    by_cases c : q = p
    · rw [if_pos c, if_pos c]
    · rw [if_neg c, if_neg c, ← hf q hq c]; exact hg q hq
  have h3 : (K.wBears (fun q => if q = p then n else K.bears q)).X (sA a 9 (upd (gA a 9) p (nI n))) := Kf.X.wBears (K := K.wBears f) h1 (f := fun q => if q = p then n else K.bears q) (fun q hq => e0 q hq _ h1.bears)
  have h4 : (K.wBears (fun q => if q = p then n else K.bears q)).M (sA b 29 (upd (gA b 29) p (nI n))) := Kf.M.wBears (K := K.wBears f) h2 (f := fun q => if q = p then n else K.bears q) (fun q hq => e0 q hq _ h2.bears)
  have O2 : (K.wBears (fun q => if q = p then n else K.bears q)).Ok := O.wBears (fun q hq => by
      by_cases c : q = p
      · rw [if_pos c]; exact h9
      · rw [if_neg c]; exact O.bears q hq)
  have hp2 : p < (K.wBears (fun q => if q = p then n else K.bears q)).np := hp
  obtain ⟨K2, hK⟩ : ∃ K2, K2 = K.wBears (fun q => if q = p then n else K.bears q) := ⟨_, rfl⟩
  rw [← hK] at h3 h4 O2 hp2
  obtain ⟨a2, ea, Fa⟩ := h3.soundBy_e O2 hp2
  obtain ⟨b2, eb, Fb⟩ := h4.sound_e O2 hp2
  have h5 := h3.fr Fa
  have h6 := h4.fr Fb
  rw [hK] at h5 h6
  exact ⟨a2, b2, fun q => if q = p then n else K.bears q, K2.so p, ea, eb, (PX.sA _ _ (by omega)).trans Fa.P, (PM.sA _ _ (by omega)).trans Fb.P, fun q _ hne => if_neg hne, h5, h6⟩
theorem q_needs (H : L.X σ) (G : Lh.M 0 L μ) (O : L.Ok) (v1 : Int32) : Ag σ μ (X_needs σ v1) (M_needs μ v1) := by
  obtain ⟨σ', μ', μ2, A⟩ := asked_e H G O
  have hn : L.K.np ≤ 6 := A.k.np
  unfold X_needs M_needs
  simp only [A.piece, A.mPiece, A.lay, bd_some, nm_eq, X_needs_j18]
  by_cases c0 : L.pieceG v1
  · obtain ⟨p, hp, rfl⟩ := c0.to O
    have hp : p < L.K.np := hp
    simp only [decide_eq_true c0, bIt, if_false]
    show Ag σ μ (bd (X_needsOf σ' (nI p)) (fun q_2 => some (q_2.1, q_2.2))) _
    rw [show (fun q_2 : Int32 × PS => some (q_2.1, q_2.2)) = (fun q => some q) from rfl, bd_id]
    unfold X_needsOf
    refine Ag.of3 (loop_lock 301 (fun k s1 s2 => ∃ (a b : PS) (f : Nat → Nat), s1 = (nI k, a) ∧ s2 = (nI k, b) ∧ PX σ a ∧ PM μ b ∧ (∀ q, q < L.K.np → q ≠ p → f q = L.K.bears q) ∧ (L.K.wBears f).X a ∧ (L.K.wBears f).M b) _ (fun k s1 s2 hk hI => ?_) (fun s1 s2 hI => ?_) ⟨σ', μ2, L.K.bears, rfl, rfl, A.fX, A.fM2, fun _ _ _ => rfl, A.hX, A.hM2⟩ (by omega))
    · obtain ⟨a, b, f, rfl, rfl, F1, F2, hf, h1, h2⟩ := hI
      have hk3 : ¬ (300 : Int32) < nI k := fun h => by have := (L_lt (a := 300) (by omega) (by omega)).mp h; omega
      obtain ⟨a2, b2, f2, w, ea, eb, Q1, Q2, hf2, h5, h6⟩ := bears_try A.k hp (n := k) (by omega) hf h1 h2
      have P1 : PX σ a2 := F1.trans Q1
      have P2 : PM μ b2 := F2.trans Q2
      have eX : X_needsOf_B2 (nI p) (nI k, a) = if w = true then up (X_needsOf_j24 a2 (nI p) (nI k)) else some (.inl (nI (k + 1), a2)) := by
        show X_needsOf_l2 (nI p) (nI k) a = _
        unfold X_needsOf_l2
        rw [if_neg hk3, ix_nI (by omega) (by omega), wA_nI (by omega), nm_eq, ea, bd_some]
        cases w
        · rw [if_pos (show (bI false, a2).1 = 0 from rfl), if_neg (by decide), nm_eq, nI_1]
        · rw [if_neg (show ¬ (bI true, a2).1 = 0 from fun h => absurd (show bI true = 0 from h) (by decide)), if_pos rfl]
      have eM : M_needs_B23 (nI p) (nI k, b) = if w = true then up (M_needs_j45 b2 (nI k)) else some (.inl (nI (k + 1), b2)) := by
        show M_needs_l23 (nI p) (nI k) b = _
        unfold M_needs_l23
        rw [if_neg hk3, ix_nI (by omega) (by omega), wA_nI (by omega), nm_eq, eb, bd_some]
        cases w
        · rw [if_pos (show (bI false, b2).1 = 0 from rfl), if_neg (by decide), nm_eq, nI_1]
        · rw [if_neg (show ¬ (bI true, b2).1 = 0 from fun h => absurd (show bI true = 0 from h) (by decide)), if_pos rfl]
      rw [eX, eM]
      cases w with
      | false =>
        rw [if_neg (by decide), if_neg (by decide)]
        refine Or.inl ⟨_, _, rfl, rfl, a2, b2, f2, rfl, rfl, P1, P2, hf2, h5, h6⟩
      | true =>
        rw [if_pos rfl, if_pos rfl]
        refine Or.inr ⟨(nI k, sA a2 9 (upd (gA a2 9) p (gA a2 112 p))), (nI k, b2), ?_, rfl, rfl, P1.trans (PX.sA _ _ (by omega)), P2⟩
        unfold X_needsOf_j24 X_needsOf_j33 X_needsOf_j60
        rw [ix_nI (by omega) (by omega), ix_nI (by omega) (by omega), wA_nI (by omega), rA_nI (by omega), nm_eq, if_pos ((le_L (b := 300) (by omega) (by omega)).mpr (by omega))]; rfl
    · obtain ⟨a, b, f, rfl, rfl, F1, F2, hf, h1, h2⟩ := hI
      refine ⟨(-1, sA a 9 (upd (gA a 9) p (gA a 112 p))), (-1, b), ?_, ?_, rfl, F1.trans (PX.sA _ _ (by omega)), F2⟩
      · show X_needsOf_l2 (nI p) (nI 301) a = _
        unfold X_needsOf_l2 X_needsOf_j33 X_needsOf_j60
        rw [if_pos (by decide), ix_nI (by omega) (by omega), ix_nI (by omega) (by omega), wA_nI (by omega), rA_nI (by omega), nm_eq, if_neg (by decide)]; rfl
      · show M_needs_l23 (nI p) (nI 301) b = _
        unfold M_needs_l23 M_needs_j53
        rw [if_pos (by decide)]; rfl
  · simp only [decide_eq_false c0, bIf, if_true]
    exact ⟨-2, σ', _, rfl, rfl, A.fX, A.fM0⟩
