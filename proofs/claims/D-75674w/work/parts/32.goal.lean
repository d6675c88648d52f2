set_option maxRecDepth 100000
/-! stage 2: ways, goals, strains -/
theorem bd_id {α : Type} {x : Option α} : bd x (fun q => some q) = x := by cases x <;> rfl
theorem ngI_toInt {w : Nat} (h : w < 2147483648) : (-(nI w)).toInt = -(w : Int) := by
  rw [Int32.toInt_neg, nI_toInt (by omega)]
  exact Int.bmod_eq_of_le (by omega) (by omega)
theorem ng_div {w d : Nat} (hw : w < 2147483648) (h0 : 0 < d) (hd : d < 2147483648) : (-(nI w)) / nI d = -(nI (w / d)) := by
  have hq : w / d ≤ w := Nat.div_le_self _ _
  apply Int32.toInt_inj.mp
  rw [Int32.toInt_div, ngI_toInt hw, nI_toInt (by omega), ngI_toInt (by omega), Int.neg_tdiv, show (w : Int).tdiv (d : Int) = ((w / d : Nat) : Int) from rfl]
  generalize w / d = q at hq
  exact Int.bmod_eq_of_le (by omega) (by omega)
theorem sub_ng {a b : Nat} (h : a ≤ b) : nI a - nI b = -(nI (b - a)) := by
  rw [← pk_sub h, Int32.neg_sub]
theorem add_ng {a b : Nat} (h : b ≤ a) : nI a + -(nI b) = nI (a - b) := by
  rw [← Int32.sub_eq_add_neg, pk_sub h]
theorem way_p {g s d : Nat} (h : s ≤ g) (hg : g < 2147483648) (h0 : 0 < d) (hd : d < 2147483648) : (nI g - nI s) / nI d = nI ((g - s) / d) := by
  rw [pk_sub h, pk_div (by omega) h0 hd]
theorem way_n {g s d : Nat} (h : g ≤ s) (hs : s < 2147483648) (h0 : 0 < d) (hd : d < 2147483648) : (nI g - nI s) / nI d = -(nI ((s - g) / d)) := by
  rw [sub_ng h, ng_div (by omega) h0 hd]
theorem core_e {a c d : Nat} (ha : a < 1073741824) (hc : c < 1073741824) (h0 : 0 < d) (hd : d < 2147483648) : nI c + (nI a - nI c) / nI d = nI (coreTo a c d) := by
  unfold coreTo
  by_cases h : c ≤ a
  · rw [if_pos h, way_p h (by omega) h0 hd, nI_add]
  · have := Nat.div_le_self (c - a) d
    rw [if_neg h, way_n (by omega) (by omega) h0 hd, add_ng (by omega)]
theorem apart_e {a b : Nat} (ha : a < 1073741824) (hb : b < 1073741824) : X_apart (nI a) (nI b) = some (nI (dist a b)) := by
  unfold X_apart ab dist
  by_cases h : a ≤ b
  · rw [if_pos h]
    by_cases e : a = b
    · subst e
      rw [pk_sub (Nat.le_refl _), Nat.sub_self, if_pos (by decide)]
    · have h2 := pk_sneg hb (show a < b by omega)
      rw [if_neg (Int32.not_le.mpr h2), Int32.zero_sub, sub_ng h, Int32.neg_neg]
  · rw [if_neg h, pk_sub (by omega), if_pos (nI_pos' (by omega))]
theorem M_apart_e {a b : Nat} (ha : a < 1073741824) (hb : b < 1073741824) : M_apart (nI a) (nI b) = some (nI (dist a b)) := by
  unfold M_apart M_apart_j14 dist
  by_cases h : b ≤ a
  · rw [if_pos ((le_I (by omega) (by omega)).mpr h), pk_sub h]
    by_cases e : a = b
    · subst e; rw [if_pos (Nat.le_refl _)]
    · rw [if_neg (by omega)]
  · rw [if_neg (by rw [le_I (by omega) (by omega)]; exact h), pk_sub (by omega), if_pos (by omega)]
theorem clamp_e (x : Int32) : bd (M_moreOf ((-60)) x) (fun q => M_lessOf 60 q) = some (mx ((-60)) (mn 60 x)) := by
  unfold M_moreOf M_moreOf_j10
  have m60 : (-60 : Int32).toInt = -60 := by decide
  have p60 : (60 : Int32).toInt = 60 := by decide
  by_cases h : (-60 : Int32) ≤ x
  · rw [if_pos h, bd_some]
    have h' := Int32.le_iff_toInt_le.mp h
    unfold M_lessOf M_lessOf_j10 mx mn
    by_cases h2 : x ≤ 60
    · rw [if_pos h2]
      have h2' := Int32.le_iff_toInt_le.mp h2
      by_cases h3 : x < 60
      · rw [if_pos h3]
        by_cases h4 : (-60 : Int32) < x
        · rw [if_pos h4]
        · rw [if_neg h4]
          have h4' : ¬ (-60 : Int32).toInt < x.toInt := fun c => h4 (Int32.lt_iff_toInt_lt.mpr c)
          exact congrArg some (Int32.toInt_inj.mp (by omega))
      · have h3' : ¬ x.toInt < (60 : Int32).toInt := fun c => h3 (Int32.lt_iff_toInt_lt.mpr c)
        rw [if_neg h3, if_pos (by decide)]
        exact congrArg some (Int32.toInt_inj.mp (by omega))
    · have h2' : ¬ x.toInt ≤ (60 : Int32).toInt := fun c => h2 (Int32.le_iff_toInt_le.mpr c)
      have h3 : ¬ x < 60 := fun c => by have := Int32.lt_iff_toInt_lt.mp c; omega
      rw [if_neg h2, if_neg h3, if_pos (show (-60 : Int32) < 60 by decide)]
  · rw [if_neg h, bd_some]
    have h' : ¬ (-60 : Int32).toInt ≤ x.toInt := fun c => h (Int32.le_iff_toInt_le.mpr c)
    have h3 : x < 60 := Int32.lt_iff_toInt_lt.mpr (by omega)
    have h4 : ¬ (-60 : Int32) < x := fun c => by have := Int32.lt_iff_toInt_lt.mp c; omega
    unfold M_lessOf M_lessOf_j10 mx mn
    rw [if_pos (show (-60 : Int32) ≤ 60 by decide), if_pos h3, if_neg h4]
theorem cl_p {n : Nat} (h : n < 2147483648) : mx ((-60)) (mn 60 (nI n)) = nI (min 60 n) := by
  have e : mn 60 (nI n) = nI (min 60 n) := by
    unfold mn
    by_cases c : n < 60
    · rw [if_pos ((lt_L (b := 60) (by omega) (by omega)).mpr c), Nat.min_eq_right (by omega)]
    · rw [if_neg (fun h2 => c ((lt_L (b := 60) (by omega) (by omega)).mp h2)), Nat.min_eq_left (by omega)]; rfl
  rw [e]
  unfold mx
  rw [if_pos]
  have m60 : (-60 : Int32).toInt = -60 := by decide
  have := nI_toInt (n := min 60 n) (by omega)
  exact Int32.lt_iff_toInt_lt.mpr (by omega)
theorem cl_n {n : Nat} (h : n < 2147483648) : mx ((-60)) (mn 60 (-(nI n))) = -(nI (min 60 n)) := by
  have t := ngI_toInt h
  have p60 : (60 : Int32).toInt = 60 := by decide
  have m60 : (-60 : Int32).toInt = -60 := by decide
  have e : mn 60 (-(nI n)) = -(nI n) := by
    unfold mn
    rw [if_pos (Int32.lt_iff_toInt_lt.mpr (by omega))]
  rw [e]
  unfold mx
  by_cases c : n < 60
  · rw [if_pos (Int32.lt_iff_toInt_lt.mpr (by omega)), Nat.min_eq_right (by omega)]
  · rw [if_neg (fun h2 => by have := Int32.lt_iff_toInt_lt.mp h2; omega), Nat.min_eq_left (by omega)]; rfl
variable {K : Kf} {σ μ : PS}
theorem Kf.far_le (w : Nat) : K.far w ≤ w := by
  unfold Kf.far
  have h2 := Nat.div_le_self w 2
  have h3 := Nat.div_le_self w 3
  split
  · exact h3
  · split
    · exact Nat.le_trans (Nat.min_le_right _ _) h2
    · exact h2
theorem Kf.skinTo_le {g s b : Nat} (hg : g ≤ b) (hs : s ≤ b) : K.skinTo g s ≤ b := by
  have h1 := K.far_le (g - s)
  unfold Kf.skinTo
  split <;> omega
theorem coreTo_le {a c d b : Nat} (ha : a ≤ b) (hc : c ≤ b) : coreTo a c d ≤ b := by
  have h1 := Nat.div_le_self (a - c) d
  unfold coreTo
  split
  · generalize (a - c) / d = q at h1 ⊢
    omega
  · exact Nat.le_trans (Nat.sub_le _ _) hc
theorem dist_le {a c b : Nat} (ha : a ≤ b) (hc : c ≤ b) : dist a c ≤ b := by
  unfold dist
  split <;> omega
theorem Kf.Ok.near (O : K.Ok) {s : Nat → Nat} (hs : ∀ o, o < K.np → s o ≤ 10000) {p k t : Nat} (hk : k < K.nz) : ∀ j, j ≤ K.np → (K.near s p k t j).1 ≤ 10000 * (K.near s p k t j).2 ∧ 1 ≤ (K.near s p k t j).2 ∧ (K.near s p k t j).2 ≤ 1 + j
  | 0, _ => by
    have := O.airOf (t := t) hk
    exact ⟨by show K.airOf k t ≤ 10000 * 1; omega, Nat.le_refl _, Nat.le_refl _⟩
  | j + 1, hj => by
    have h := Kf.Ok.near O hs (p := p) (t := t) hk j (by omega)
    have h2 := hs j (by omega)
    show (if j ≠ p ∧ K.inZ j t ∧ K.idx j t = k then ((K.near s p k t j).1 + s j, (K.near s p k t j).2 + 1) else K.near s p k t j).1 ≤ 10000 * (if j ≠ p ∧ K.inZ j t ∧ K.idx j t = k then ((K.near s p k t j).1 + s j, (K.near s p k t j).2 + 1) else K.near s p k t j).2 ∧ 1 ≤ (if j ≠ p ∧ K.inZ j t ∧ K.idx j t = k then ((K.near s p k t j).1 + s j, (K.near s p k t j).2 + 1) else K.near s p k t j).2 ∧ (if j ≠ p ∧ K.inZ j t ∧ K.idx j t = k then ((K.near s p k t j).1 + s j, (K.near s p k t j).2 + 1) else K.near s p k t j).2 ≤ 1 + (j + 1)
    split
    · exact ⟨by show (K.near s p k t j).1 + s j ≤ 10000 * ((K.near s p k t j).2 + 1); omega, by show 1 ≤ (K.near s p k t j).2 + 1; omega, by show (K.near s p k t j).2 + 1 ≤ 1 + (j + 1); omega⟩
    · exact ⟨h.1, h.2.1, by omega⟩
theorem Kf.Ok.goal (O : K.Ok) {s : Nat → Nat} (hs : ∀ o, o < K.np → s o ≤ 10000) {p t : Nat} (hk : K.idx p t < K.nz) : K.goal s p t ≤ 10000 := by
  unfold Kf.goal
  have h := O.near hs (p := p) (t := t) hk K.np (Nat.le_refl _)
  split
  · exact Nat.div_le_of_le_mul (by rw [Nat.mul_comm]; exact h.1)
  · have := O.airOf (t := t) hk
    omega
/-- how far a skin goes -/
theorem Kf.X.goes_e (H : K.X σ) (O : K.Ok) {g s : Nat} (hg : g ≤ 10000) (hs : s ≤ 10000) : ∃ w, X_goes σ (nI g - nI s) = some w ∧ nI s + w = nI (K.skinTo g s) := by
  unfold X_goes X_cgoes X_tgoes X_agoes X_cgoes
  rw [H.law]
  have f2 := Nat.div_le_self (s - g) 2
  have f3 := Nat.div_le_self (s - g) 3
  unfold Kf.skinTo
  have q0 : K.law = 0 ∨ K.law = 2 → ∀ w, K.far w = w / 2 := fun hl w => by unfold Kf.far; rcases hl with hl | hl <;> rw [hl, if_neg (by decide), if_neg (by decide)]
  have q1 : K.law = 1 → ∀ w, K.far w = min 60 (w / 2) := fun hl w => by unfold Kf.far; rw [hl, if_neg (by decide), if_pos rfl]
  have q3 : K.law = 3 → ∀ w, K.far w = w / 3 := fun hl w => by unfold Kf.far; rw [hl, if_pos rfl]
  rcases O.law with h | h | h | h <;> rw [h]
  · refine ⟨_, if_pos rfl, ?_⟩
    rw [q0 (Or.inl h), q0 (Or.inl h)]
    exact core_e (d := 2) (a := g) (c := s) (by omega) (by omega) (by omega) (by omega)
  · refine ⟨_, (if_neg (by decide)).trans (if_pos rfl), ?_⟩
    rw [q1 h, q1 h]
    by_cases c : s ≤ g
    · rw [if_pos c, show (nI g - nI s) / 2 = nI ((g - s) / 2) from way_p (d := 2) c (by omega) (by omega) (by omega), cl_p (by omega), nI_add]
    · rw [if_neg c, show (nI g - nI s) / 2 = -(nI ((s - g) / 2)) from way_n (d := 2) (by omega) (by omega) (by omega) (by omega), cl_n (by omega), add_ng (by omega)]
  · refine ⟨_, (if_neg (by decide)).trans ((if_neg (by decide)).trans (if_pos rfl)), ?_⟩
    rw [q0 (Or.inr h), q0 (Or.inr h)]
    exact core_e (d := 2) (a := g) (c := s) (by omega) (by omega) (by omega) (by omega)
  · refine ⟨_, (if_neg (by decide)).trans ((if_neg (by decide)).trans ((if_neg (by decide)).trans (if_pos rfl))), ?_⟩
    rw [q3 h, q3 h]
    exact core_e (d := 3) (a := g) (c := s) (by omega) (by omega) (by omega) (by omega)
theorem Kf.plX_eq {p t k : Nat} (O : K.Ok) (hk : k < K.nz) (ht : t ≤ 15) : K.plX p t = nI (K.ord k) ↔ (K.inZ p t ∧ K.idx p t = k) := by
  have ho := O.ord k hk
  unfold Kf.plX
  by_cases h : K.inZ p t
  · have hi := O.ord _ h.2
    rw [if_pos h, eq_I (by omega) (by omega), Kf.ord_inj]
    exact ⟨fun c => ⟨h, c⟩, fun c => c.2⟩
  · rw [if_neg h]
    refine ⟨fun c => ?_, fun c => absurd c.1 h⟩
    split at c
    · have := (L_eq (a := 10) (by omega) (by omega)).mp c; omega
    · exact ((nI_m1 (by omega)).mp c.symm).elim
theorem Kf.plM_eq {p t k : Nat} (O : K.Ok) (hk : k < K.nz) (ht : t ≤ 15) : K.plM p t = nI k ↔ (K.inZ p t ∧ K.idx p t = k) := by
  have hz := O.nz
  unfold Kf.plM
  by_cases h : K.inZ p t
  · have hi := h.2
    rw [if_pos h, eq_I (by omega) (by omega)]
    exact ⟨fun c => ⟨h, c⟩, fun c => c.2⟩
  · rw [if_neg h]
    refine ⟨fun c => ?_, fun c => absurd c.1 h⟩
    split at c
    · have := (L_eq (a := 10) (by omega) (by omega)).mp c; omega
    · exact ((nI_m1 (by omega)).mp c.symm).elim
theorem Kf.X.goal_e (H : K.X σ) (O : K.Ok) {s : Nat → Nat} (hs : ∀ o, o < K.np → s o ≤ 10000) (h16 : ∀ o, o < K.np → gA σ 16 o = nI (s o)) {p t : Nat} (hp : p < K.np) (ht : t ≤ 14) (hk : K.idx p t < K.nz) : X_goal σ (nI p) (nI (K.ord (K.idx p t))) (nI t) = some (nI (K.goal s p t)) := by
  have hn := O.np
  have ea := H.air_e O (t := t) hk (by omega)
  have ec : X_cgoal σ (nI p) (nI (K.ord (K.idx p t))) (nI t) = some (nI (K.airOf (K.idx p t) t)) := by
    unfold X_cgoal
    rw [ea, bd_some]
  unfold X_goal Kf.goal
  rw [H.law]
  rcases O.law with h | h | h | h <;> rw [h]
  · rw [if_pos rfl, if_neg (by decide), ec]
  · rw [if_neg (by decide), if_pos rfl, if_neg (by decide), ec]
  · rw [if_neg (by decide), if_neg (by decide), if_pos rfl, if_pos rfl]
    unfold X_ngoal
    rw [ec, bd_some]
    refine loop_seq (fun o => (nI (K.near s p (K.idx p t) t o).1, nI (K.near s p (K.idx p t) t o).2, nI o)) K.np (fun o ho => ?_) ?_ (by omega)
    · show X_ngoal_l15 σ (nI p) (nI (K.ord (K.idx p t))) (nI t) (nI (K.near s p (K.idx p t) t o).1) (nI (K.near s p (K.idx p t) t o).2) (nI o) = some (Sum.inl (nI (if o ≠ p ∧ K.inZ o t ∧ K.idx o t = K.idx p t then ((K.near s p (K.idx p t) t o).1 + s o, (K.near s p (K.idx p t) t o).2 + 1) else K.near s p (K.idx p t) t o).1, nI (if o ≠ p ∧ K.inZ o t ∧ K.idx o t = K.idx p t then ((K.near s p (K.idx p t) t o).1 + s o, (K.near s p (K.idx p t) t o).2 + 1) else K.near s p (K.idx p t) t o).2, nI (o + 1)))
      unfold X_ngoal_l15 X_ngoal_j71
      rw [H.np, if_neg (by rw [le_I (by omega) (by omega)]; omega)]
      simp (disch := omega) only [H.place O ho, bd_some, nm_eq, ix_nI, rA_nI, h16 o ho, nI_add, nI_1]
      by_cases c : o = p
      · rw [if_pos (by rw [c]), if_neg (fun c2 => c2.1 c)]
      · rw [if_neg (by rw [eq_I (by omega) (by omega)]; exact c)]
        by_cases c2 : K.inZ o t ∧ K.idx o t = K.idx p t
        · rw [if_pos ((Kf.plX_eq O hk (by omega)).mpr c2), if_pos ⟨c, c2⟩]
        · rw [if_neg (fun c3 => c2 ((Kf.plX_eq O hk (by omega)).mp c3)), if_neg (fun c3 => c2 c3.2)]
    · have hb := O.near hs (p := p) (t := t) hk K.np (Nat.le_refl _)
      show X_ngoal_l15 σ (nI p) (nI (K.ord (K.idx p t))) (nI t) (nI (K.near s p (K.idx p t) t K.np).1) (nI (K.near s p (K.idx p t) t K.np).2) (nI K.np) = _
      unfold X_ngoal_l15 X_ngoal_j77
      rw [H.np, if_pos (by rw [le_I (by omega) (by omega)]; omega), nz_nI (by omega) (by omega), div_I (by omega) (by omega) (by omega)]; rfl
  · rw [if_neg (by decide), if_neg (by decide), if_neg (by decide), if_pos rfl, if_neg (by decide), ec]
/-- the model's -/
theorem Kf.M.pieces_e (H : K.M μ) : M_pieces μ = some (nI K.np) := by
  unfold M_pieces; rw [ix40_6, r17_6, H.np]
theorem Kf.M.steps_e (H : K.M μ) : M_steps μ = some (nI K.ns) := by
  unfold M_steps; rw [ix40_0, r17_0, H.ns]
theorem M_skin_e {p t : Nat} (hp : p < 6) (ht : t ≤ 14) : M_skinOf μ (nI p) (nI t) = some (gA μ 30 (6 * t + p)) := by
  unfold M_skinOf
  simp (disch := omega) only [mul_L, nI_add, ix_nI, rA_nI]
theorem M_core_e {p t : Nat} (hp : p < 6) (ht : t ≤ 14) : M_coreOf μ (nI p) (nI t) = some (gA μ 31 (6 * t + p)) := by
  unfold M_coreOf
  simp (disch := omega) only [mul_L, nI_add, ix_nI, rA_nI]
theorem Kf.M.pull_e (H : K.M μ) (O : K.Ok) {s : Nat → Nat} (hs : ∀ o, o < K.np → s o ≤ 10000) {p t : Nat} (h30 : ∀ o, o < K.np → gA μ 30 (6 * t + o) = nI (s o)) (hp : p < K.np) (ht : t ≤ 14) (hk : K.idx p t < K.nz) : ∃ w, M_pullOf μ (nI p) (nI t) (nI (K.idx p t)) = some w ∧ nI (s p) + w = nI (K.skinTo (K.goal s p t) (s p)) := by
  have hn := O.np
  have ea := H.air_e O (t := t) hk (by omega)
  have hsp := hs p hp
  have hg := O.goal hs (p := p) (t := t) hk
  have e79 : ∀ g : Nat, g ≤ 10000 → ∃ w, M_pullOf_j79 μ (nI p) (nI t) (nI g) = some w ∧ nI (s p) + w = nI (K.skinTo g (s p)) := by
    intro g hg
    have f2 := Nat.div_le_self (s p - g) 2
    have f3 := Nat.div_le_self (s p - g) 3
    unfold M_pullOf_j79 M_pullOf_j134
    rw [M_skin_e (by omega) (by omega), h30 p hp, bd_some]
    simp only [nm_eq, H.law, bd_id]
    unfold Kf.skinTo
    have q0 : K.law = 0 ∨ K.law = 2 → ∀ w, K.far w = w / 2 := fun hl w => by unfold Kf.far; rcases hl with hl | hl <;> rw [hl, if_neg (by decide), if_neg (by decide)]
    have q1 : K.law = 1 → ∀ w, K.far w = min 60 (w / 2) := fun hl w => by unfold Kf.far; rw [hl, if_neg (by decide), if_pos rfl]
    have q3 : K.law = 3 → ∀ w, K.far w = w / 3 := fun hl w => by unfold Kf.far; rw [hl, if_pos rfl]
    rcases O.law with h | h | h | h <;> rw [h]
    · refine ⟨_, (if_neg (by decide)).trans ((if_neg (by decide))), ?_⟩
      rw [q0 (Or.inl h), q0 (Or.inl h)]
      exact core_e (d := 2) (a := g) (c := s p) (by omega) (by omega) (by omega) (by omega)
    · refine ⟨_, (if_neg (by decide)).trans ((if_pos rfl).trans (clamp_e _)), ?_⟩
      rw [q1 h, q1 h]
      by_cases c : s p ≤ g
      · rw [if_pos c, show (nI g - nI (s p)) / 2 = nI ((g - s p) / 2) from way_p (d := 2) c (by omega) (by omega) (by omega), cl_p (by omega), nI_add]
      · rw [if_neg c, show (nI g - nI (s p)) / 2 = -(nI ((s p - g) / 2)) from way_n (d := 2) (by omega) (by omega) (by omega) (by omega), cl_n (by omega), add_ng (by omega)]
    · refine ⟨_, (if_neg (by decide)).trans ((if_neg (by decide))), ?_⟩
      rw [q0 (Or.inr h), q0 (Or.inr h)]
      exact core_e (d := 2) (a := g) (c := s p) (by omega) (by omega) (by omega) (by omega)
    · refine ⟨_, if_pos rfl, ?_⟩
      rw [q3 h, q3 h]
      exact core_e (d := 3) (a := g) (c := s p) (by omega) (by omega) (by omega) (by omega)
  unfold M_pullOf
  rw [ea, bd_some, H.law]
  by_cases h2 : K.law = 2
  · rw [if_pos h2]
    obtain ⟨w, e, hw⟩ := e79 _ hg
    refine ⟨w, ?_, hw⟩
    refine loop_seq (fun o => (nI (K.near s p (K.idx p t) t o).1, nI (K.near s p (K.idx p t) t o).2, nI o)) K.np (fun o ho => ?_) ?_ (by omega)
    · show M_pullOf_l22 μ (nI p) (nI t) (nI (K.idx p t)) (nI (K.near s p (K.idx p t) t o).1) (nI (K.near s p (K.idx p t) t o).2) (nI o) = some (Sum.inl (nI (if o ≠ p ∧ K.inZ o t ∧ K.idx o t = K.idx p t then ((K.near s p (K.idx p t) t o).1 + s o, (K.near s p (K.idx p t) t o).2 + 1) else K.near s p (K.idx p t) t o).1, nI (if o ≠ p ∧ K.inZ o t ∧ K.idx o t = K.idx p t then ((K.near s p (K.idx p t) t o).1 + s o, (K.near s p (K.idx p t) t o).2 + 1) else K.near s p (K.idx p t) t o).2, nI (o + 1)))
      unfold M_pullOf_l22 M_pullOf_j66
      rw [H.pieces_e, bd_some, if_neg (by rw [le_I (by omega) (by omega)]; omega)]
      simp (disch := omega) only [H.place O ho, M_skin_e, bd_some, nm_eq, h30 o ho, nI_add, nI_1]
      by_cases c : o = p
      · rw [if_pos (by rw [c]), if_neg (fun c2 => c2.1 c)]
      · rw [if_neg (by rw [eq_I (by omega) (by omega)]; exact c)]
        by_cases c2 : K.inZ o t ∧ K.idx o t = K.idx p t
        · rw [if_pos ((Kf.plM_eq O hk (by omega)).mpr c2), if_pos ⟨c, c2⟩]
        · rw [if_neg (fun c3 => c2 ((Kf.plM_eq O hk (by omega)).mp c3)), if_neg (fun c3 => c2 c3.2)]
    · have hb := O.near hs (p := p) (t := t) hk K.np (Nat.le_refl _)
      show M_pullOf_l22 μ (nI p) (nI t) (nI (K.idx p t)) (nI (K.near s p (K.idx p t) t K.np).1) (nI (K.near s p (K.idx p t) t K.np).2) (nI K.np) = _
      unfold M_pullOf_l22 M_pullOf_j72
      rw [H.pieces_e, bd_some, if_pos (by rw [le_I (by omega) (by omega)]; omega), nz_nI (by omega) (by omega), div_I (by omega) (by omega) (by omega), nm_eq]
      have eg : K.goal s p t = (K.near s p (K.idx p t) t K.np).1 / (K.near s p (K.idx p t) t K.np).2 := if_pos h2
      rw [eg] at e
      rw [e]; rfl
  · rw [if_neg h2]
    have eg : K.goal s p t = K.airOf (K.idx p t) t := if_neg h2
    rw [← eg]
    exact e79 _ hg
