set_option maxRecDepth 100000
/-! stage 2: told otherwise, 3: by another law -/
def Kf.wLaw (K : Kf) (l : Int32) : Kf := Kf.mk K.np K.ns K.nz K.na K.pc K.sk l K.gust K.set K.heat K.thick K.bears K.comes K.air K.act
variable {K : Kf} {L : Lh} {σ μ σ' μ' μ2 : PS}
theorem Kf.X.wLaw (H : K.X σ) (l : Int32) : (K.wLaw l).X (sI σ 13 l) :=
  ⟨H.np, H.ns, H.nz, H.na, H.set, rfl, H.pc, H.gust, H.comes, H.heat, H.thick, H.bears, H.ord, H.air, H.act⟩
theorem Kf.M.wLaw (H : K.M μ) (l : Int32) : (K.wLaw l).M (sI μ 22 l) :=
  ⟨H.np, H.ns, H.nz, H.na, H.set, rfl, H.pc, H.gust, H.sk, H.comes, H.heat, H.thick, H.bears, H.air, H.kind, H.zone, H.much, H.step⟩
theorem Kf.Ok.wLaw (O : K.Ok) {l : Nat} (h : l ≤ 3) : (K.wLaw (nI l)).Ok := by
  refine ⟨O.np, O.ns, O.nz, O.na, O.pc1, O.pc, O.sk, O.ord, ?_, O.set, O.heat, O.thick1, O.thick, O.bears, O.comes, O.air, O.kind, O.zone, O.much, O.much1, O.step⟩
  show nI l = 0 ∨ nI l = 1 ∨ nI l = 2 ∨ nI l = 3
  have : l = 0 ∨ l = 1 ∨ l = 2 ∨ l = 3 := by omega
  rcases this with rfl | rfl | rfl | rfl
  · exact Or.inl rfl
  · exact Or.inr (Or.inl rfl)
  · exact Or.inr (Or.inr (Or.inl rfl))
  · exact Or.inr (Or.inr (Or.inr rfl))
theorem soundByLaw_e (H : K.X σ) (O : K.Ok) {l : Nat} (h : l ≤ 3) : ∃ σ', X_soundByLaw σ (nI l) = some (bits (K.wLaw (nI l)).so K.np, σ') ∧ PX σ σ' ∧ (K.wLaw (nI l)).X σ' := by
  have h1 := H.wLaw (nI l)
  have O1 := O.wLaw h
  obtain ⟨s, e, F, R⟩ := h1.lays_e O1
  refine ⟨s, ?_, (PX.sI _ _ (by omega)).trans F.P, h1.fr F⟩
  unfold X_soundByLaw
  rw [ix_nI (by omega) (by omega), nm_eq, e, bd_some, R.soundNow_e (h1.fr F) O1, bd_some]; rfl
theorem byLaw_e (G : Lh.M 0 L μ) (O : L.Ok) {l : Nat} (h : l ≤ 3) : ∃ μ', M_byLaw μ (nI l) = some (bits (L.K.wLaw (nI l)).so L.K.np, μ') ∧ PM μ μ' := by
  obtain ⟨s1, e1, F1, h1⟩ := G.lays_e O
  have h2 := h1.wLaw (nI l)
  have O1 := O.K.wLaw h
  obtain ⟨s, e, F, R⟩ := h2.runs_e O1
  refine ⟨s, ?_, F1.P.trans ((PM.sI _ _ (by omega)).trans F.P)⟩
  unfold M_byLaw
  rw [e1, bd_some, nm_eq, e, bd_some, R.soundNow_e (h2.fr F) O1, bd_some]; rfl
