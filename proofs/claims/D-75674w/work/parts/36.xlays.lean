set_option maxRecDepth 100000
/-! stage 2: LehrBelt's run whole -/
theorem cpg_e {α : Type} {i n1 j n2 n : Nat} {x : Option α} (h1 : i + n ≤ n1) (h2 : j + n ≤ n2) (b1 : n1 < 2147483648) (b2 : n2 < 2147483648) : cpg (nI i) n1 (nI j) n2 (nI n) x = x := by
  unfold cpg cpC
  rw [nI_clamp (by omega : i < 2 ^ 31), nI_clamp (by omega : j < 2 ^ 31), nI_clamp (by omega : n < 2 ^ 31), if_pos]
  simp only [Bool.and_eq_true, decide_eq_true_eq]
  exact ⟨⟨⟨⟨nI_pos (by omega), nI_pos (by omega)⟩, nI_pos (by omega)⟩, h1⟩, h2⟩
theorem cpA_e {σ : PS} {k1 k2 i j n : Nat} (hi : i < 2147483648) (hj : j < 2147483648) (hn : n < 2147483648) : cpA σ k1 (nI i) k2 (nI j) (nI n) = sA σ k2 (va_cpy (gA σ k1) (gA σ k2) i j n) := by
  unfold cpA
  rw [nI_clamp (by omega : i < 2 ^ 31), nI_clamp (by omega : j < 2 ^ 31), nI_clamp (by omega : n < 2 ^ 31)]
variable {K : Kf} {σ μ : PS}
def Kf.XS (K : Kf) (f : Nat → Pc) (σ : PS) : Prop := (∀ p, p < K.np → gA σ 14 p = nI (f p).skin) ∧ (∀ p, p < K.np → gA σ 15 p = nI (f p).core) ∧ (∀ p, p < K.np → gA σ 20 p = oI (f p).crack) ∧ (∀ p, p < K.np → gA σ 21 p = nI (f p).why) ∧ (∀ p, p < K.np → gA σ 22 p = oI (f p).fz) ∧ (∀ p, p < K.np → gA σ 23 p = oI (f p).st)
theorem Kf.XS.skin {K : Kf} {f : Nat → Pc} {σ : PS} (H : Kf.XS K f σ) : ∀ p, p < K.np → gA σ 14 p = nI (f p).skin := H.1
theorem Kf.XS.core {K : Kf} {f : Nat → Pc} {σ : PS} (H : Kf.XS K f σ) : ∀ p, p < K.np → gA σ 15 p = nI (f p).core := H.2.1
theorem Kf.XS.crack {K : Kf} {f : Nat → Pc} {σ : PS} (H : Kf.XS K f σ) : ∀ p, p < K.np → gA σ 20 p = oI (f p).crack := H.2.2.1
theorem Kf.XS.why {K : Kf} {f : Nat → Pc} {σ : PS} (H : Kf.XS K f σ) : ∀ p, p < K.np → gA σ 21 p = nI (f p).why := H.2.2.2.1
theorem Kf.XS.fz {K : Kf} {f : Nat → Pc} {σ : PS} (H : Kf.XS K f σ) : ∀ p, p < K.np → gA σ 22 p = oI (f p).fz := H.2.2.2.2.1
theorem Kf.XS.st {K : Kf} {f : Nat → Pc} {σ : PS} (H : Kf.XS K f σ) : ∀ p, p < K.np → gA σ 23 p = oI (f p).st := H.2.2.2.2.2
def Pc.In (x : Pc) : Prop := (x.skin ≤ 10000) ∧ (x.core ≤ 10000) ∧ (∀ n, x.crack = some n → n ≤ 100000) ∧ (∀ n, x.fz = some n → n ≤ 100000)
theorem Pc.In.skin {x : Pc} (H : Pc.In x) : x.skin ≤ 10000 := H.1
theorem Pc.In.core {x : Pc} (H : Pc.In x) : x.core ≤ 10000 := H.2.1
theorem Pc.In.crack {x : Pc} (H : Pc.In x) : ∀ n, x.crack = some n → n ≤ 100000 := H.2.2.1
theorem Pc.In.fz {x : Pc} (H : Pc.In x) : ∀ n, x.fz = some n → n ≤ 100000 := H.2.2.2
theorem Kf.XS.cong {f g : Nat → Pc} (h : K.XS f σ) (e : ∀ p, p < K.np → f p = g p) : K.XS g σ :=
  ⟨fun p hp => by rw [← e p hp]; exact h.skin p hp, fun p hp => by rw [← e p hp]; exact h.core p hp, fun p hp => by rw [← e p hp]; exact h.crack p hp, fun p hp => by rw [← e p hp]; exact h.why p hp, fun p hp => by rw [← e p hp]; exact h.fz p hp, fun p hp => by rw [← e p hp]; exact h.st p hp⟩
theorem Kf.XS.to {f : Nat → Pc} {σ' : PS} (h : K.XS f σ) (e1 : gA σ' 14 = gA σ 14) (e2 : gA σ' 15 = gA σ 15) (e3 : gA σ' 20 = gA σ 20) (e4 : gA σ' 21 = gA σ 21) (e5 : gA σ' 22 = gA σ 22) (e6 : gA σ' 23 = gA σ 23) : K.XS f σ' :=
  ⟨fun p hp => by rw [e1]; exact h.skin p hp, fun p hp => by rw [e2]; exact h.core p hp, fun p hp => by rw [e3]; exact h.crack p hp, fun p hp => by rw [e4]; exact h.why p hp, fun p hp => by rw [e5]; exact h.fz p hp, fun p hp => by rw [e6]; exact h.st p hp⟩
theorem spl_at {α : Type} {a b : Nat → Pc} {j : Nat} (g : Pc → α) (p : Nat) : (if p = j then g (a j) else g (if p < j then a p else b p)) = g (if p < j + 1 then a p else b p) := by
  by_cases c : p = j
  · rw [if_pos c, if_pos (by omega), c]
  · rw [if_neg c]
    by_cases c2 : p < j
    · rw [if_pos c2, if_pos (by omega)]
    · rw [if_neg c2, if_neg (by omega)]
theorem Kf.mc_skin (p t : Nat) (x : Pc) : (K.mc p t x).skin = x.skin ∧ (K.mc p t x).core = x.core ∧ (K.mc p t x).fz = x.fz ∧ (K.mc p t x).st = x.st := by
  unfold Kf.mc
  split
  · split
    · exact ⟨rfl, rfl, rfl, rfl⟩
    · split <;> exact ⟨rfl, rfl, rfl, rfl⟩
  · exact ⟨rfl, rfl, rfl, rfl⟩
theorem Kf.X.laysStep_e (H : K.X σ) (O : K.Ok) {t : Nat} (ht : t ≤ 14) {f : Nat → Pc} (B : ∀ p, p < K.np → (f p).In) (h : K.XS f σ) :
    ∃ σ', X_laysStep σ (nI t) = some σ' ∧ FX σ σ' ∧ K.XS (fun p => K.mc p t (f p)) σ' ∧ gA σ' 16 = gA σ 16 ∧ (∀ j, gA σ' 18 j = if 6 * t ≤ j ∧ j < 6 * t + 6 then gA σ' 14 (j - 6 * t) else gA σ 18 j) ∧ (∀ j, gA σ' 19 j = if 6 * t ≤ j ∧ j < 6 * t + 6 then gA σ' 15 (j - 6 * t) else gA σ 19 j) := by
  have hn := O.np
  unfold X_laysStep
  refine loop_one K.np (fun j z => z.1 = nI j ∧ FX σ z.2 ∧ K.XS (fun p => if p < j then K.mc p t (f p) else f p) z.2 ∧ gA z.2 14 = gA σ 14 ∧ gA z.2 15 = gA σ 15 ∧ gA z.2 16 = gA σ 16 ∧ gA z.2 18 = gA σ 18 ∧ gA z.2 19 = gA σ 19) _ (fun j z hj hz => Or.inl ?_) (fun z hz => ?_) ⟨rfl, FX.refl _, h.cong (fun p _ => by rw [if_neg (by omega)]), rfl, rfl, rfl, rfl, rfl⟩ (by omega)
  · obtain ⟨v, ρ⟩ := z
    obtain ⟨rfl, F1, m, g14, g15, g16, g18, g19⟩ := hz
    dsimp only at F1 m g14 g15 g16 g18 g19
    have H1 := H.fr F1
    have Bj := B j hj
    have e0 : (if j < j then K.mc j t (f j) else f j) = f j := if_neg (by omega)
    have k14 := m.skin j hj; have k15 := m.core j hj; have k20 := m.crack j hj; have k21 := m.why j hj; have k22 := m.fz j hj
    rw [e0] at k14 k15 k20 k21 k22
    obtain ⟨ρ', e, F2, a20, a21, b14, b15, b16, b18, b19, b22, b23⟩ := H1.mayCrack_e O (p := j) (t := t) (x := f j) hj ht Bj.skin Bj.core Bj.crack Bj.fz k14 k15 k20 k21 k22
    refine ⟨(nI (j + 1), ρ'), ?_, rfl, F1.trans F2, ?_, b14.trans g14, b15.trans g15, b16.trans g16, b18.trans g18, b19.trans g19⟩
    · show X_laysStep_l2 (nI t) (nI j) ρ = _
      unfold X_laysStep_l2
      rw [H1.np, if_neg (by rw [le_I (by omega) (by omega)]; omega), e, bd_some, nm_eq, nI_1]
    · have ks : ∀ p, (if p < j + 1 then K.mc p t (f p) else f p).skin = (if p < j then K.mc p t (f p) else f p).skin ∧ (if p < j + 1 then K.mc p t (f p) else f p).core = (if p < j then K.mc p t (f p) else f p).core ∧ (if p < j + 1 then K.mc p t (f p) else f p).fz = (if p < j then K.mc p t (f p) else f p).fz ∧ (if p < j + 1 then K.mc p t (f p) else f p).st = (if p < j then K.mc p t (f p) else f p).st := by
        intro p
        have q := Kf.mc_skin (K := K) p t (f p)
        split <;> split
        · exact ⟨rfl, rfl, rfl, rfl⟩
        · exact q
        · omega
        · exact ⟨rfl, rfl, rfl, rfl⟩
      refine ⟨fun p hp => ?_, fun p hp => ?_, fun p hp => ?_, fun p hp => ?_, fun p hp => ?_, fun p hp => ?_⟩
      · rw [b14, m.skin p hp, (ks p).1]
      · rw [b15, m.core p hp, (ks p).2.1]
      · rw [a20, m.crack p hp]; exact spl_at (a := fun p => K.mc p t (f p)) (b := f) (fun x => oI x.crack) p
      · rw [a21, m.why p hp]; exact spl_at (a := fun p => K.mc p t (f p)) (b := f) (fun x => nI x.why) p
      · rw [b22, m.fz p hp, (ks p).2.2.1]
      · rw [b23, m.st p hp, (ks p).2.2.2]
  · obtain ⟨v, ρ⟩ := z
    obtain ⟨rfl, F1, m, g14, g15, g16, g18, g19⟩ := hz
    dsimp only at F1 m g14 g15 g16 g18 g19
    have H1 := H.fr F1
    refine ⟨sA (sA ρ 18 (va_cpy (gA ρ 14) (gA ρ 18) 0 (6 * t) 6)) 19 (va_cpy (gA ρ 15) (gA ρ 19) 0 (6 * t) 6), ?_, ?_, ?_, ?_, fun j => ?_, fun j => ?_⟩
    · show X_laysStep_l2 (nI t) (nI K.np) ρ = _
      unfold X_laysStep_l2 X_laysStep_j25
      rw [H1.np, if_pos (by rw [le_I (by omega) (by omega)]; omega), show (6 : Int32) * nI t = nI (6 * t) from pk_mul 6 t]
      show up (cpg (nI 0) 6 (nI (6 * t)) 90 (nI 6) (cpg (nI 0) 6 (nI (6 * t)) 90 (nI 6) (some (cpA (cpA ρ 14 (nI 0) 18 (nI (6 * t)) (nI 6)) 15 (nI 0) 19 (nI (6 * t)) (nI 6))))) = _
      rw [cpg_e (by omega) (by omega) (by omega) (by omega), cpg_e (by omega) (by omega) (by omega) (by omega), cpA_e (by omega) (by omega) (by omega), cpA_e (by omega) (by omega) (by omega)]; rfl
    · exact F1.trans ((FX.sA _ _ (by omega) (by omega)).trans (FX.sA _ _ (by omega) (by omega)))
    · exact (m.cong (fun p hp => by rw [if_pos hp])).to rfl rfl rfl rfl rfl rfl
    · exact g16
    · show va_cpy (gA ρ 14) (gA ρ 18) 0 (6 * t) 6 j = if 6 * t ≤ j ∧ j < 6 * t + 6 then gA ρ 14 (j - 6 * t) else gA σ 18 j
      rw [cpy_at, g18, Nat.zero_add]
    · show va_cpy (gA ρ 15) (gA ρ 19) 0 (6 * t) 6 j = if 6 * t ≤ j ∧ j < 6 * t + 6 then gA ρ 15 (j - 6 * t) else gA σ 19 j
      rw [cpy_at, g19, Nat.zero_add]
/-- LehrBelt holds the run -/
def Kf.RX (K : Kf) (σ : PS) : Prop := (∀ t p, t ≤ K.ns → p < K.np → gA σ 18 (6 * t + p) = nI (K.R t p).skin) ∧ (∀ t p, t ≤ K.ns → p < K.np → gA σ 19 (6 * t + p) = nI (K.R t p).core) ∧ (∀ p, p < K.np → gA σ 22 p = oI (K.R K.ns p).fz) ∧ (∀ p, p < K.np → gA σ 23 p = oI (K.R K.ns p).st) ∧ (∀ p, p < K.np → gA σ 20 p = oI (K.R K.ns p).crack) ∧ (∀ p, p < K.np → gA σ 21 p = nI (K.R K.ns p).why)
theorem Kf.RX.skin {K : Kf} {σ : PS} (H : Kf.RX K σ) : ∀ t p, t ≤ K.ns → p < K.np → gA σ 18 (6 * t + p) = nI (K.R t p).skin := H.1
theorem Kf.RX.core {K : Kf} {σ : PS} (H : Kf.RX K σ) : ∀ t p, t ≤ K.ns → p < K.np → gA σ 19 (6 * t + p) = nI (K.R t p).core := H.2.1
theorem Kf.RX.fz {K : Kf} {σ : PS} (H : Kf.RX K σ) : ∀ p, p < K.np → gA σ 22 p = oI (K.R K.ns p).fz := H.2.2.1
theorem Kf.RX.st {K : Kf} {σ : PS} (H : Kf.RX K σ) : ∀ p, p < K.np → gA σ 23 p = oI (K.R K.ns p).st := H.2.2.2.1
theorem Kf.RX.crack {K : Kf} {σ : PS} (H : Kf.RX K σ) : ∀ p, p < K.np → gA σ 20 p = oI (K.R K.ns p).crack := H.2.2.2.2.1
theorem Kf.RX.why {K : Kf} {σ : PS} (H : Kf.RX K σ) : ∀ p, p < K.np → gA σ 21 p = nI (K.R K.ns p).why := H.2.2.2.2.2
theorem Kf.Ok.inR (O : K.Ok) {t p : Nat} (ht : t ≤ 14) (hp : p < K.np) : (K.R t p).In := by
  have B := O.R t p hp
  exact ⟨B.skin, B.core, fun n hn => by have := B.crack n hn; omega, fun n hn => by have := B.fz n hn; omega⟩
theorem Kf.Ok.inY (O : K.Ok) {p : Nat} (hp : p < K.np) : ∀ t, t ≤ 14 → (K.Y t p).In
  | 0, _ => O.inR (t := 0) (by omega) hp
  | t + 1, ht => by
    have A := O.inR (t := t) (by omega) hp
    show (K.coolIf (fun q => (K.R t q).skin) p t (K.R t p)).In
    unfold Kf.coolIf
    by_cases c : K.inZ p t ∧ (K.R t p).crack = none
    · rw [if_pos c]
      have hg := O.goal (s := fun q => (K.R t q).skin) (fun o ho => (O.R t o ho).skin) (p := p) (t := t) c.1.2
      have ha := Kf.skinTo_le (K := K) hg A.skin
      have hb := coreTo_le (d := K.thick p) ha A.core
      refine ⟨ha, hb, fun n hn => (by cases hn), fun n hn => ?_⟩
      have hd := dist_le ha hb
      have hn : (if K.set ≤ (K.R t p).core ∧ coreTo (K.skinTo (K.goal (fun q => (K.R t q).skin) p t) (K.R t p).skin) (K.R t p).core (K.thick p) < K.set then some (dist (K.skinTo (K.goal (fun q => (K.R t q).skin) p t) (K.R t p).skin) (coreTo (K.skinTo (K.goal (fun q => (K.R t q).skin) p t) (K.R t p).skin) (K.R t p).core (K.thick p))) else (K.R t p).fz) = some n := hn
      split at hn
      · cases hn; omega
      · exact A.fz n hn
    · rw [if_neg c]; exact A
/-- before step t is laid -/
def Kf.XR (K : Kf) (t : Nat) (σ : PS) : Prop := (K.XS (K.Y t) σ) ∧ (∀ u p, u < t → p < K.np → gA σ 18 (6 * u + p) = nI (K.R u p).skin) ∧ (∀ u p, u < t → p < K.np → gA σ 19 (6 * u + p) = nI (K.R u p).core)
theorem Kf.XR.now {K : Kf} {t : Nat} {σ : PS} (H : Kf.XR K t σ) : K.XS (K.Y t) σ := H.1
theorem Kf.XR.skin {K : Kf} {t : Nat} {σ : PS} (H : Kf.XR K t σ) : ∀ u p, u < t → p < K.np → gA σ 18 (6 * u + p) = nI (K.R u p).skin := H.2.1
theorem Kf.XR.core {K : Kf} {t : Nat} {σ : PS} (H : Kf.XR K t σ) : ∀ u p, u < t → p < K.np → gA σ 19 (6 * u + p) = nI (K.R u p).core := H.2.2
theorem Kf.X.laid_e (H : K.X σ) (O : K.Ok) {t : Nat} (ht : t ≤ 14) (h : K.XR t σ) : ∃ σ', X_laysStep σ (nI t) = some σ' ∧ FX σ σ' ∧ K.XS (K.R t) σ' ∧ (∀ u p, u < t + 1 → p < K.np → gA σ' 18 (6 * u + p) = nI (K.R u p).skin) ∧ (∀ u p, u < t + 1 → p < K.np → gA σ' 19 (6 * u + p) = nI (K.R u p).core) := by
  have hn := O.np
  obtain ⟨σ', e, F, m, -, g18, g19⟩ := H.laysStep_e O ht (fun p hp => O.inY hp t ht) h.now
  have m2 : K.XS (K.R t) σ' := m.cong (fun p hp => Kf.mc_R O hp t)
  refine ⟨σ', e, F, m2, fun u p hu hp => ?_, fun u p hu hp => ?_⟩
  · rw [g18]
    by_cases c : u = t
    · rw [if_pos (by omega), c, show 6 * t + p - 6 * t = p by omega]; exact m2.skin p hp
    · rw [if_neg (by omega)]; exact h.skin u p (by omega) hp
  · rw [g19]
    by_cases c : u = t
    · rw [if_pos (by omega), c, show 6 * t + p - 6 * t = p by omega]; exact m2.core p hp
    · rw [if_neg (by omega)]; exact h.core u p (by omega) hp
theorem Kf.X.lays_e (H : K.X σ) (O : K.Ok) : ∃ σ', X_lays σ = some σ' ∧ FX σ σ' ∧ K.RX σ' := by
  have hn := O.np; have hns := O.ns
  have e107 : ∀ (t : Nat) (ρ : PS), t < K.ns → FX σ ρ → K.XS (K.R t) ρ → (∀ u p, u < t + 1 → p < K.np → gA ρ 18 (6 * u + p) = nI (K.R u p).skin) → (∀ u p, u < t + 1 → p < K.np → gA ρ 19 (6 * u + p) = nI (K.R u p).core) →
      ∃ r, loop (X_lays_B107 (nI t)) fu (0, sA ρ 16 (va_cpy (gA ρ 14) (gA ρ 16) 0 0 6)) = some r ∧ ∃ ρ', r = .inl (nI (t + 1), ρ') ∧ FX σ ρ' ∧ K.XR (t + 1) ρ' := by
    intro t ρ ht F m s18 s19
    have g16 : ∀ o, o < K.np → gA (sA ρ 16 (va_cpy (gA ρ 14) (gA ρ 16) 0 0 6)) 16 o = nI (K.R t o).skin := by
      intro o ho
      rw [gA_eq, cpy_at, if_pos (by omega), show 0 + (o - 0) = o by omega]; exact m.skin o ho
    refine loop_one K.np (fun j z => z.1 = nI j ∧ FX σ z.2 ∧ K.XS (fun p => if p < j then K.Y (t + 1) p else K.R t p) z.2 ∧ (∀ o, o < K.np → gA z.2 16 o = nI (K.R t o).skin) ∧ gA z.2 18 = gA ρ 18 ∧ gA z.2 19 = gA ρ 19) _ (fun j z hj hz => Or.inl ?_) (fun z hz => ?_) ⟨rfl, F.trans (FX.sA _ _ (by omega) (by omega)), (m.to rfl rfl rfl rfl rfl rfl).cong (fun p _ => by rw [if_neg (by omega)]), g16, rfl, rfl⟩ (by omega)
    · obtain ⟨v, z⟩ := z
      obtain ⟨rfl, F1, m1, k16, k18, k19⟩ := hz
      dsimp only at F1 m1 k16 k18 k19
      have H1 := H.fr F1
      have A := O.inR (t := t) (by omega) hj
      have e0 : (if j < j then K.Y (t + 1) j else K.R t j) = K.R t j := if_neg (by omega)
      have k14 := m1.skin j hj; have k15 := m1.core j hj; have k20 := m1.crack j hj; have k22 := m1.fz j hj; have k23 := m1.st j hj
      rw [e0] at k14 k15 k20 k22 k23
      obtain ⟨z', e, F2, a14, a15, a22, a23, b16, b18, b19, b20, b21⟩ := H1.cools_e O (s := fun q => (K.R t q).skin) (fun o ho => (O.R t o ho).skin) k16 (p := j) (t := t) (x := K.R t j) hj (by omega) A.skin A.core A.crack k14 k15 k20 k22 k23
      refine ⟨(nI (j + 1), z'), ?_, rfl, F1.trans F2, ?_, fun o ho => by rw [b16]; exact k16 o ho, b18.trans k18, b19.trans k19⟩
      · show X_lays_l107 (nI t) (nI j) z = _
        unfold X_lays_l107
        rw [H1.np, if_neg (by rw [le_I (by omega) (by omega)]; omega), e, bd_some, nm_eq, nI_1]
      · have eY : K.coolIf (fun q => (K.R t q).skin) j t (K.R t j) = K.Y (t + 1) j := rfl
        rw [eY] at a14 a15 a22 a23
        have ks : ∀ p, (if p < j + 1 then K.Y (t + 1) p else K.R t p).crack = (if p < j then K.Y (t + 1) p else K.R t p).crack ∧ (if p < j + 1 then K.Y (t + 1) p else K.R t p).why = (if p < j then K.Y (t + 1) p else K.R t p).why := by
          intro p
          have q : (K.Y (t + 1) p).crack = (K.R t p).crack ∧ (K.Y (t + 1) p).why = (K.R t p).why := by
            show (K.coolIf (fun q => (K.R t q).skin) p t (K.R t p)).crack = _ ∧ (K.coolIf (fun q => (K.R t q).skin) p t (K.R t p)).why = _
            unfold Kf.coolIf
            by_cases c : K.inZ p t ∧ (K.R t p).crack = none
            · rw [if_pos c]; exact ⟨c.2.symm, rfl⟩
            · rw [if_neg c]; exact ⟨rfl, rfl⟩
          split <;> split
          · exact ⟨rfl, rfl⟩
          · exact q
          · omega
          · exact ⟨rfl, rfl⟩
        refine ⟨fun p hp => ?_, fun p hp => ?_, fun p hp => ?_, fun p hp => ?_, fun p hp => ?_, fun p hp => ?_⟩
        · rw [a14, m1.skin p hp]; exact spl_at (a := K.Y (t + 1)) (b := K.R t) (fun x => nI x.skin) p
        · rw [a15, m1.core p hp]; exact spl_at (a := K.Y (t + 1)) (b := K.R t) (fun x => nI x.core) p
        · rw [b20, m1.crack p hp, (ks p).1]
        · rw [b21, m1.why p hp, (ks p).2]
        · rw [a22, m1.fz p hp]; exact spl_at (a := K.Y (t + 1)) (b := K.R t) (fun x => oI x.fz) p
        · rw [a23, m1.st p hp]; exact spl_at (a := K.Y (t + 1)) (b := K.R t) (fun x => oI x.st) p
    · obtain ⟨v, z⟩ := z
      obtain ⟨rfl, F1, m1, k16, k18, k19⟩ := hz
      dsimp only at F1 m1 k16 k18 k19
      have H1 := H.fr F1
      refine ⟨.inl (nI (t + 1), z), ?_, z, rfl, F1, m1.cong (fun p hp => by rw [if_pos hp]), fun u p hu hp => by rw [k18]; exact s18 u p hu hp, fun u p hu hp => by rw [k19]; exact s19 u p hu hp⟩
      show X_lays_l107 (nI t) (nI K.np) z = _
      unfold X_lays_l107 X_lays_j130
      rw [H1.np, if_pos (by rw [le_I (by omega) (by omega)]; omega), nm_eq, nI_1]; rfl
  have e72 : ∀ ρ, FX σ ρ → K.XR 0 ρ → ∃ r, X_lays_j72 ρ = some r ∧ FX σ r ∧ K.RX r := by
    intro ρ F h
    unfold X_lays_j72
    refine loop_one K.ns (fun t z => z.1 = nI t ∧ FX σ z.2 ∧ K.XR t z.2) (fun r => FX σ r ∧ K.RX r) (fun t z ht hz => Or.inl ?_) (fun z hz => ?_) ⟨rfl, F, h⟩ (by omega)
    · obtain ⟨v, z⟩ := z
      obtain ⟨rfl, F1, m⟩ := hz
      dsimp only at F1 m
      obtain ⟨z1, e1, F2, m2, s18, s19⟩ := (H.fr F1).laid_e O (t := t) (by omega) m
      obtain ⟨r, e2, z2, rfl, F3, m3⟩ := e107 t z1 ht (F1.trans F2) m2 s18 s19
      refine ⟨(nI (t + 1), z2), ?_, rfl, F3, m3⟩
      show X_lays_l74 (nI t) z = _
      unfold X_lays_l74
      rw [(H.fr F1).ns, if_neg (by rw [le_I (by omega) (by omega)]; omega), e1, bd_some]
      show cpg (nI 0) 6 (nI 0) 6 (nI 6) (loop (X_lays_B107 (nI t)) fu (0, cpA z1 14 (nI 0) 16 (nI 0) (nI 6))) = _
      rw [cpg_e (by omega) (by omega) (by omega) (by omega), cpA_e (by omega) (by omega) (by omega), e2]
    · obtain ⟨v, z⟩ := z
      obtain ⟨rfl, F1, m⟩ := hz
      dsimp only at F1 m
      obtain ⟨z1, e1, F2, m2, s18, s19⟩ := (H.fr F1).laid_e O (t := K.ns) (by omega) m
      refine ⟨z1, ?_, F1.trans F2, fun t p ht hp => s18 t p (by omega) hp, fun t p ht hp => s19 t p (by omega) hp, m2.fz, m2.st, m2.crack, m2.why⟩
      show X_lays_l74 (nI K.ns) z = _
      unfold X_lays_l74 X_lays_j136
      rw [(H.fr F1).ns, if_pos (by rw [le_I (by omega) (by omega)]; omega), e1, bd_some]; rfl
  unfold X_lays
  refine loop_one 6 (fun j z => z.1 = nI j ∧ FX σ z.2 ∧ ∀ p, p < j → gA z.2 14 p = gA σ 110 p ∧ gA z.2 15 p = gA σ 110 p ∧ gA z.2 20 p = -1 ∧ gA z.2 21 p = 0 ∧ gA z.2 22 p = -1 ∧ gA z.2 23 p = -1) (fun r => FX σ r ∧ K.RX r) (fun j z hj hz => Or.inl ?_) (fun z hz => ?_) ⟨rfl, FX.refl _, fun p hp => absurd hp (by omega)⟩ (by omega)
  · obtain ⟨v, ρ⟩ := z
    obtain ⟨rfl, F1, m⟩ := hz
    dsimp only at F1 m
    have e110 := F1.2.2.2 110 (by omega)
    refine ⟨(nI (j + 1), sA (sA (sA (sA (sA (sA ρ 14 (upd (gA ρ 14) j (gA σ 110 j))) 15 (upd (gA ρ 15) j (gA σ 110 j))) 20 (upd (gA ρ 20) j (-1))) 21 (upd (gA ρ 21) j 0)) 22 (upd (gA ρ 22) j (-1))) 23 (upd (gA ρ 23) j (-1))), ?_, rfl, ?_, fun p hp => ?_⟩
    · show X_lays_l2 (nI j) ρ = _
      unfold X_lays_l2
      rw [if_neg (fun h => by have := (L_le (a := 6) (by omega) (by omega)).mp h; omega)]
      simp (disch := omega) only [ix_nI, rA_nI, wA_nI, nm_eq, gA_ne, e110, nI_1]
    · exact F1.trans ((FX.sA _ _ (by omega) (by omega)).trans ((FX.sA _ _ (by omega) (by omega)).trans ((FX.sA _ _ (by omega) (by omega)).trans ((FX.sA _ _ (by omega) (by omega)).trans ((FX.sA _ _ (by omega) (by omega)).trans (FX.sA _ _ (by omega) (by omega)))))))
    · simp (disch := omega) only [gA_ne, gA_eq, upd_at]
      by_cases c : p = j
      · simp only [c, if_true]
        exact ⟨trivial, trivial, trivial, trivial, trivial, trivial⟩
      · simp only [c, if_false]
        exact m p (by omega)
  · obtain ⟨v, ρ⟩ := z
    obtain ⟨rfl, F1, m⟩ := hz
    dsimp only at F1 m
    have m0 : K.XR 0 ρ := by
      refine ⟨⟨fun p hp => ?_, fun p hp => ?_, fun p hp => ?_, fun p hp => ?_, fun p hp => ?_, fun p hp => ?_⟩, fun u p hu => absurd hu (by omega), fun u p hu => absurd hu (by omega)⟩
      · rw [(m p (by omega)).1]; exact H.heat p hp
      · rw [(m p (by omega)).2.1]; exact H.heat p hp
      · exact (m p (by omega)).2.2.1
      · exact (m p (by omega)).2.2.2.1
      · exact (m p (by omega)).2.2.2.2.1
      · exact (m p (by omega)).2.2.2.2.2
    obtain ⟨r, e, h1, h2⟩ := e72 ρ F1 m0
    refine ⟨r, ?_, h1, h2⟩
    show X_lays_l2 (nI 6) ρ = _
    unfold X_lays_l2
    rw [if_pos (by decide), e]; rfl
