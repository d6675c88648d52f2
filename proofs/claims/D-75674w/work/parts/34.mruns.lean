set_option maxRecDepth 100000
/-! stage 2: bounds of a run; the model's run whole -/
def Pc.Ok (b t : Nat) (x : Pc) : Prop := (x.skin ≤ 10000) ∧ (x.core ≤ 10000) ∧ (∀ n, x.fz = some n → n ≤ 10000) ∧ (∀ n, x.st = some n → n ≤ t) ∧ (∀ n, x.crack = some n → n ≤ t) ∧ (x.why ≤ 2) ∧ (x.crack = none → x.why = 0 ∧ dist x.skin x.core ≤ b)
theorem Pc.Ok.skin {b t : Nat} {x : Pc} (H : Pc.Ok b t x) : x.skin ≤ 10000 := H.1
theorem Pc.Ok.core {b t : Nat} {x : Pc} (H : Pc.Ok b t x) : x.core ≤ 10000 := H.2.1
theorem Pc.Ok.fz {b t : Nat} {x : Pc} (H : Pc.Ok b t x) : ∀ n, x.fz = some n → n ≤ 10000 := H.2.2.1
theorem Pc.Ok.st {b t : Nat} {x : Pc} (H : Pc.Ok b t x) : ∀ n, x.st = some n → n ≤ t := H.2.2.2.1
theorem Pc.Ok.crack {b t : Nat} {x : Pc} (H : Pc.Ok b t x) : ∀ n, x.crack = some n → n ≤ t := H.2.2.2.2.1
theorem Pc.Ok.why {b t : Nat} {x : Pc} (H : Pc.Ok b t x) : x.why ≤ 2 := H.2.2.2.2.2.1
theorem Pc.Ok.whole {b t : Nat} {x : Pc} (H : Pc.Ok b t x) : x.crack = none → x.why = 0 ∧ dist x.skin x.core ≤ b := H.2.2.2.2.2.2
variable {K : Kf} {σ μ : PS}
theorem Kf.Ok.R (O : K.Ok) : ∀ t p, p < K.np → Pc.Ok (K.bears p) t (K.R t p)
  | 0, p, hp => by
    have h := O.heat p hp
    refine ⟨by show K.heat p ≤ _; omega, by show K.heat p ≤ _; omega, fun n h => (by cases h), fun n h => (by cases h), fun n h => (by cases h), Nat.zero_le _, fun _ => ⟨rfl, ?_⟩⟩
    show dist (K.heat p) (K.heat p) ≤ _
    unfold dist
    rw [if_pos (Nat.le_refl _)]; omega
  | t + 1, p, hp => by
    have ih := Kf.Ok.R O t p hp
    have ihs : ∀ o, o < K.np → (K.R t o).skin ≤ 10000 := fun o ho => (Kf.Ok.R O t o ho).skin
    show Pc.Ok (K.bears p) (t + 1) (K.stepP (fun q => (K.R t q).skin) p t (K.R t p))
    generalize K.R t p = x at ih
    unfold Kf.stepP
    by_cases c : K.inZ p t ∧ x.crack = none
    · rw [if_pos c]
      have hg := O.goal (s := fun q => (K.R t q).skin) ihs (p := p) (t := t) c.1.2
      generalize (fun q => (K.R t q).skin) = s at hg
      have ha : K.skinTo (K.goal s p t) x.skin ≤ 10000 := Kf.skinTo_le hg ih.skin
      have hb : coreTo (K.skinTo (K.goal s p t) x.skin) x.core (K.thick p) ≤ 10000 := coreTo_le ha ih.core
      have hd := dist_le ha hb
      have hy : ∀ n, (K.cool s p t x).fz = some n → n ≤ 10000 := by
        intro n hn
        have hn : (if K.set ≤ x.core ∧ coreTo (K.skinTo (K.goal s p t) x.skin) x.core (K.thick p) < K.set then some (dist (K.skinTo (K.goal s p t) x.skin) (coreTo (K.skinTo (K.goal s p t) x.skin) x.core (K.thick p))) else x.fz) = some n := hn
        split at hn
        · cases hn; exact hd
        · exact ih.fz n hn
      have hz : ∀ n, (K.cool s p t x).st = some n → n ≤ t + 1 := by
        intro n hn
        have hn : (if K.set ≤ x.core ∧ coreTo (K.skinTo (K.goal s p t) x.skin) x.core (K.thick p) < K.set then some (t + 1) else x.st) = some n := hn
        split at hn
        · cases hn; omega
        · have := ih.st n hn; omega
      unfold Kf.breaks
      by_cases c1 : K.bears p < dist (K.cool s p t x).skin (K.cool s p t x).core
      · rw [if_pos c1]
        exact ⟨ha, hb, hy, hz, fun n hn => (by cases hn; exact Nat.le_refl _), (by decide : 1 ≤ 2), fun h => (by cases h)⟩
      · rw [if_neg c1]
        by_cases c2 : K.isOut p (t + 1) ∧ K.broken p (K.cool s p t x).fz = true
        · rw [if_pos c2]
          exact ⟨ha, hb, hy, hz, fun n hn => (by cases hn; exact Nat.le_refl _), (by decide : 2 ≤ 2), fun h => (by cases h)⟩
        · rw [if_neg c2]
          exact ⟨ha, hb, hy, hz, fun n hn => (by cases hn), ih.why, fun _ => ⟨(ih.whole c.2).1, by omega⟩⟩
    · rw [if_neg c]
      exact ⟨ih.skin, ih.core, ih.fz, fun n hn => (by have := ih.st n hn; omega), fun n hn => (by have := ih.crack n hn; omega), ih.why, ih.whole⟩
/-- the model holds the run -/
def Kf.RM (K : Kf) (μ : PS) : Prop := (∀ t p, t ≤ K.ns → p < K.np → gA μ 30 (6 * t + p) = nI (K.R t p).skin) ∧ (∀ t p, t ≤ K.ns → p < K.np → gA μ 31 (6 * t + p) = nI (K.R t p).core) ∧ (∀ p, p < K.np → gA μ 32 p = oI (K.R K.ns p).fz) ∧ (∀ p, p < K.np → gA μ 33 p = oI (K.R K.ns p).st) ∧ (∀ p, p < K.np → gA μ 34 p = oI (K.R K.ns p).crack) ∧ (∀ p, p < K.np → gA μ 35 p = nI (K.R K.ns p).why)
theorem Kf.RM.skin {K : Kf} {μ : PS} (H : Kf.RM K μ) : ∀ t p, t ≤ K.ns → p < K.np → gA μ 30 (6 * t + p) = nI (K.R t p).skin := H.1
theorem Kf.RM.core {K : Kf} {μ : PS} (H : Kf.RM K μ) : ∀ t p, t ≤ K.ns → p < K.np → gA μ 31 (6 * t + p) = nI (K.R t p).core := H.2.1
theorem Kf.RM.fz {K : Kf} {μ : PS} (H : Kf.RM K μ) : ∀ p, p < K.np → gA μ 32 p = oI (K.R K.ns p).fz := H.2.2.1
theorem Kf.RM.st {K : Kf} {μ : PS} (H : Kf.RM K μ) : ∀ p, p < K.np → gA μ 33 p = oI (K.R K.ns p).st := H.2.2.2.1
theorem Kf.RM.crack {K : Kf} {μ : PS} (H : Kf.RM K μ) : ∀ p, p < K.np → gA μ 34 p = oI (K.R K.ns p).crack := H.2.2.2.2.1
theorem Kf.RM.why {K : Kf} {μ : PS} (H : Kf.RM K μ) : ∀ p, p < K.np → gA μ 35 p = nI (K.R K.ns p).why := H.2.2.2.2.2
/-- in step t, pieces below j done -/
def Kf.MR (K : Kf) (t j : Nat) (μ : PS) : Prop := (∀ u p, u ≤ t → p < K.np → gA μ 30 (6 * u + p) = nI (K.R u p).skin) ∧ (∀ u p, u ≤ t → p < K.np → gA μ 31 (6 * u + p) = nI (K.R u p).core) ∧ (∀ p, p < j → gA μ 30 (6 * t + 6 + p) = nI (K.R (t + 1) p).skin) ∧ (∀ p, p < j → gA μ 31 (6 * t + 6 + p) = nI (K.R (t + 1) p).core) ∧ (∀ p, p < K.np → gA μ 32 p = oI (if p < j then K.R (t + 1) p else K.R t p).fz) ∧ (∀ p, p < K.np → gA μ 33 p = oI (if p < j then K.R (t + 1) p else K.R t p).st) ∧ (∀ p, p < K.np → gA μ 34 p = oI (if p < j then K.R (t + 1) p else K.R t p).crack) ∧ (∀ p, p < K.np → gA μ 35 p = nI (if p < j then K.R (t + 1) p else K.R t p).why)
theorem Kf.MR.skin {K : Kf} {t j : Nat} {μ : PS} (H : Kf.MR K t j μ) : ∀ u p, u ≤ t → p < K.np → gA μ 30 (6 * u + p) = nI (K.R u p).skin := H.1
theorem Kf.MR.core {K : Kf} {t j : Nat} {μ : PS} (H : Kf.MR K t j μ) : ∀ u p, u ≤ t → p < K.np → gA μ 31 (6 * u + p) = nI (K.R u p).core := H.2.1
theorem Kf.MR.skin1 {K : Kf} {t j : Nat} {μ : PS} (H : Kf.MR K t j μ) : ∀ p, p < j → gA μ 30 (6 * t + 6 + p) = nI (K.R (t + 1) p).skin := H.2.2.1
theorem Kf.MR.core1 {K : Kf} {t j : Nat} {μ : PS} (H : Kf.MR K t j μ) : ∀ p, p < j → gA μ 31 (6 * t + 6 + p) = nI (K.R (t + 1) p).core := H.2.2.2.1
theorem Kf.MR.fz {K : Kf} {t j : Nat} {μ : PS} (H : Kf.MR K t j μ) : ∀ p, p < K.np → gA μ 32 p = oI (if p < j then K.R (t + 1) p else K.R t p).fz := H.2.2.2.2.1
theorem Kf.MR.st {K : Kf} {t j : Nat} {μ : PS} (H : Kf.MR K t j μ) : ∀ p, p < K.np → gA μ 33 p = oI (if p < j then K.R (t + 1) p else K.R t p).st := H.2.2.2.2.2.1
theorem Kf.MR.crack {K : Kf} {t j : Nat} {μ : PS} (H : Kf.MR K t j μ) : ∀ p, p < K.np → gA μ 34 p = oI (if p < j then K.R (t + 1) p else K.R t p).crack := H.2.2.2.2.2.2.1
theorem Kf.MR.why {K : Kf} {t j : Nat} {μ : PS} (H : Kf.MR K t j μ) : ∀ p, p < K.np → gA μ 35 p = nI (if p < j then K.R (t + 1) p else K.R t p).why := H.2.2.2.2.2.2.2
theorem Kf.M.step_e (H : K.M μ) (O : K.Ok) {t : Nat} (ht : t < K.ns) {σ : PS} (F : FM μ σ) (h : K.MR t 0 σ) : ∃ r, loop (M_runs_B84 (nI t)) fu (0, σ) = some r ∧ ∃ σ', r = .inl (nI (t + 1), σ') ∧ FM μ σ' ∧ K.MR (t + 1) 0 σ' := by
  have hn := O.np; have hns := O.ns
  refine loop_one K.np (fun j z => z.1 = nI j ∧ FM μ z.2 ∧ K.MR t j z.2) _ (fun j z hj hz => Or.inl ?_) (fun z hz => ?_) ⟨rfl, F, h⟩ (by omega)
  · obtain ⟨v, ρ⟩ := z
    obtain ⟨rfl, F1, m⟩ := hz
    dsimp only at F1 m
    have H1 := H.fr F1
    have B := O.R t j hj
    have nlt : ¬ j < j := Nat.lt_irrefl _
    have h32 := m.fz j hj; have h33 := m.st j hj; have h34 := m.crack j hj; have h35 := m.why j hj
    rw [if_neg nlt] at h32 h33 h34 h35
    obtain ⟨ρ', e, F2, a30, a31, a32, a33, a34, a35⟩ := H1.goesOn_e O (s := fun q => (K.R t q).skin) (fun o ho => (O.R t o ho).skin) (p := j) (t := t) (x := K.R t j) hj (by omega) rfl B.core (fun n hn => by have := B.fz n hn; omega) (fun n hn => by have := B.crack n hn; omega) (fun o ho => m.skin t o (Nat.le_refl _) ho) (m.core t j (Nat.le_refl _) hj) h32 h33 h34 h35
    refine ⟨(nI (j + 1), ρ'), ?_, rfl, F1.trans F2, ?_⟩
    · show M_runs_l84 (nI t) (nI j) ρ = _
      unfold M_runs_l84
      rw [H1.pieces_e, bd_some, if_neg (by rw [le_I (by omega) (by omega)]; omega), e, bd_some, nm_eq, nI_1]
    · have eR : K.stepP (fun q => (K.R t q).skin) j t (K.R t j) = K.R (t + 1) j := rfl
      rw [eR] at a30 a31 a32 a33 a34 a35
      have spl : ∀ {p : Nat} {α : Type} (g : Pc → α), (if p = j then g (K.R (t + 1) j) else g (if p < j then K.R (t + 1) p else K.R t p)) = g (if p < j + 1 then K.R (t + 1) p else K.R t p) := by
        intro p α g
        by_cases c : p = j
        · rw [if_pos c, if_pos (by omega), c]
        · rw [if_neg c]
          by_cases c2 : p < j
          · rw [if_pos c2, if_pos (by omega)]
          · rw [if_neg c2, if_neg (by omega)]
      refine ⟨fun u p hu hp => ?_, fun u p hu hp => ?_, fun p hp => ?_, fun p hp => ?_, fun p hp => ?_, fun p hp => ?_, fun p hp => ?_, fun p hp => ?_⟩
      · rw [a30, if_neg (by omega), m.skin u p hu hp]
      · rw [a31, if_neg (by omega), m.core u p hu hp]
      · rw [a30]
        by_cases c : p = j
        · rw [if_pos (by omega), c]
        · rw [if_neg (by omega), m.skin1 p (by omega)]
      · rw [a31]
        by_cases c : p = j
        · rw [if_pos (by omega), c]
        · rw [if_neg (by omega), m.core1 p (by omega)]
      · rw [a32, m.fz p hp]; exact spl (fun x => oI x.fz)
      · rw [a33, m.st p hp]; exact spl (fun x => oI x.st)
      · rw [a34, m.crack p hp]; exact spl (fun x => oI x.crack)
      · rw [a35, m.why p hp]; exact spl (fun x => nI x.why)
  · obtain ⟨v, ρ⟩ := z
    obtain ⟨rfl, F1, m⟩ := hz
    dsimp only at F1 m
    have H1 := H.fr F1
    refine ⟨.inl (nI (t + 1), ρ), ?_, ρ, rfl, F1, ?_⟩
    · show M_runs_l84 (nI t) (nI K.np) ρ = _
      unfold M_runs_l84 M_runs_j104
      rw [H1.pieces_e, bd_some, if_pos (by rw [le_I (by omega) (by omega)]; omega), nm_eq, nI_1]; rfl
    · have e0 : ∀ {p : Nat}, p < K.np → (if p < K.np then K.R (t + 1) p else K.R t p) = (if p < 0 then K.R (t + 1 + 1) p else K.R (t + 1) p) := by
        intro p hp
        rw [if_pos hp, if_neg (by omega)]
      refine ⟨fun u p hu hp => ?_, fun u p hu hp => ?_, fun p hp => absurd hp (by omega), fun p hp => absurd hp (by omega), fun p hp => ?_, fun p hp => ?_, fun p hp => ?_, fun p hp => ?_⟩
      · by_cases c : u = t + 1
        · rw [c, show 6 * (t + 1) + p = 6 * t + 6 + p by omega, m.skin1 p hp]
        · exact m.skin u p (by omega) hp
      · by_cases c : u = t + 1
        · rw [c, show 6 * (t + 1) + p = 6 * t + 6 + p by omega, m.core1 p hp]
        · exact m.core u p (by omega) hp
      · rw [m.fz p hp, e0 hp]
      · rw [m.st p hp, e0 hp]
      · rw [m.crack p hp, e0 hp]
      · rw [m.why p hp, e0 hp]
theorem Kf.M.runs_e (H : K.M μ) (O : K.Ok) : ∃ μ', M_runs μ = some μ' ∧ FM μ μ' ∧ K.RM μ' := by
  have hn := O.np; have hns := O.ns
  have e72 : ∀ σ, FM μ σ → K.MR 0 0 σ → ∃ r, M_runs_j72 σ = some r ∧ FM μ r ∧ K.RM r := by
    intro σ F h
    unfold M_runs_j72
    refine loop_one K.ns (fun t z => z.1 = nI t ∧ FM μ z.2 ∧ K.MR t 0 z.2) (fun r => FM μ r ∧ K.RM r) (fun t z ht hz => Or.inl ?_) (fun z hz => ?_) ⟨rfl, F, h⟩ (by omega)
    · obtain ⟨v, ρ⟩ := z
      obtain ⟨rfl, F1, m⟩ := hz
      dsimp only at F1 m
      obtain ⟨r, e, σ', rfl, F2, m2⟩ := H.step_e O ht F1 m
      refine ⟨(nI (t + 1), σ'), ?_, rfl, F2, m2⟩
      show M_runs_l74 (nI t) ρ = _
      unfold M_runs_l74
      rw [(H.fr F1).steps_e, bd_some, if_neg (by rw [le_I (by omega) (by omega)]; omega), e]
    · obtain ⟨v, ρ⟩ := z
      obtain ⟨rfl, F1, m⟩ := hz
      dsimp only at F1 m
      refine ⟨ρ, ?_, F1, fun t p ht hp => m.skin t p ht hp, fun t p ht hp => m.core t p ht hp, fun p hp => ?_, fun p hp => ?_, fun p hp => ?_, fun p hp => ?_⟩
      · show M_runs_l74 (nI K.ns) ρ = _
        unfold M_runs_l74 M_runs_j110
        rw [(H.fr F1).steps_e, bd_some, if_pos (by rw [le_I (by omega) (by omega)]; omega)]; rfl
      · have := m.fz p hp; rw [if_neg (by omega)] at this; exact this
      · have := m.st p hp; rw [if_neg (by omega)] at this; exact this
      · have := m.crack p hp; rw [if_neg (by omega)] at this; exact this
      · have := m.why p hp; rw [if_neg (by omega)] at this; exact this
  unfold M_runs
  refine loop_one K.np (fun j z => z.1 = nI j ∧ FM μ z.2 ∧ ∀ p, p < j → gA z.2 30 p = nI (K.heat p) ∧ gA z.2 31 p = nI (K.heat p) ∧ gA z.2 32 p = -1 ∧ gA z.2 33 p = -1 ∧ gA z.2 34 p = -1 ∧ gA z.2 35 p = 0) (fun r => FM μ r ∧ K.RM r) (fun j z hj hz => Or.inl ?_) (fun z hz => ?_) ⟨rfl, FM.refl _, fun p hp => absurd hp (by omega)⟩ (by omega)
  · obtain ⟨v, ρ⟩ := z
    obtain ⟨rfl, F1, m⟩ := hz
    dsimp only at F1 m
    have H1 := H.fr F1
    have e19 := H1.heat j hj
    refine ⟨(nI (j + 1), sA (sA (sA (sA (sA (sA ρ 30 (upd (gA ρ 30) j (nI (K.heat j)))) 31 (upd (gA ρ 31) j (nI (K.heat j)))) 32 (upd (gA ρ 32) j (-1))) 33 (upd (gA ρ 33) j (-1))) 34 (upd (gA ρ 34) j (-1))) 35 (upd (gA ρ 35) j 0)), ?_, rfl, ?_, fun p hp => ?_⟩
    · show M_runs_l2 (nI j) ρ = _
      unfold M_runs_l2
      rw [H1.pieces_e, bd_some, if_neg (by rw [le_I (by omega) (by omega)]; omega)]
      simp (disch := omega) only [mul_L, ix_nI, rA_nI, wA_nI, nm_eq, gA_ne, e19, nI_1]
    · exact F1.trans ((FM.sA _ _ (by omega) (by omega)).trans ((FM.sA _ _ (by omega) (by omega)).trans ((FM.sA _ _ (by omega) (by omega)).trans ((FM.sA _ _ (by omega) (by omega)).trans ((FM.sA _ _ (by omega) (by omega)).trans (FM.sA _ _ (by omega) (by omega)))))))
    · simp (disch := omega) only [gA_ne, gA_eq, upd_at]
      by_cases c : p = j
      · simp only [c, if_true]
        exact ⟨trivial, trivial, trivial, trivial, trivial, trivial⟩
      · simp only [c, if_false]
        exact m p (by omega)
  · obtain ⟨v, ρ⟩ := z
    obtain ⟨rfl, F1, m⟩ := hz
    dsimp only at F1 m
    have H1 := H.fr F1
    have m0 : K.MR 0 0 ρ := by
      refine ⟨fun u p hu hp => ?_, fun u p hu hp => ?_, fun p hp => absurd hp (by omega), fun p hp => absurd hp (by omega), fun p hp => ?_, fun p hp => ?_, fun p hp => ?_, fun p hp => ?_⟩
      · obtain rfl : u = 0 := by omega
        rw [show 6 * 0 + p = p by omega]; exact (m p hp).1
      · obtain rfl : u = 0 := by omega
        rw [show 6 * 0 + p = p by omega]; exact (m p hp).2.1
      · rw [if_neg (by omega)]; exact (m p hp).2.2.1
      · rw [if_neg (by omega)]; exact (m p hp).2.2.2.1
      · rw [if_neg (by omega)]; exact (m p hp).2.2.2.2.1
      · rw [if_neg (by omega)]; exact (m p hp).2.2.2.2.2
    obtain ⟨r, e, h1, h2⟩ := e72 ρ F1 m0
    refine ⟨r, ?_, h1, h2⟩
    show M_runs_l2 (nI K.np) ρ = _
    unfold M_runs_l2
    rw [H1.pieces_e, bd_some, if_pos (by rw [le_I (by omega) (by omega)]; omega), e]; rfl
