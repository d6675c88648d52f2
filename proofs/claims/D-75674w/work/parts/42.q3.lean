set_option maxRecDepth 100000
/-! stage 2: questions, 3 -/
theorem Ag.of2 {σ μ σ' μ' : PS} {x : Option (Int32 × PS)} {y : Option Int32} (h : ∃ r1 r2, x = some r1 ∧ y = some r2 ∧ (r1.1 = r2 ∧ r1.2 = σ')) (f1 : PX σ σ') (f2 : PM μ μ') : Ag σ μ x (bd y (fun q => some (q, μ'))) := by
  obtain ⟨⟨a, s⟩, b, e1, e2, h1, h2⟩ := h
  dsimp only at h1 h2
  subst h1; subst h2
  exact ⟨a, s, μ', e1, by rw [e2, bd_some], f1, f2⟩
theorem d10 : ((1 : Int32) = 0) = False := by simp
theorem d20 : ((2 : Int32) = 0) = False := by simp
theorem d21 : ((2 : Int32) = 1) = False := by simp
theorem oneOf_e (v : Int32) (n : Int32) (m : Int) (h : (n - 1).toInt64.toInt = m) : X_isOneOf v n = some (bI (decide (0 ≤ v.toInt ∧ v.toInt ≤ m))) := by
  unfold X_isOneOf
  rw [X_isIn_b, bd_some, bI_tz, l0, h, Int32.toInt_toInt64]
theorem Min_e (v : Int32) (n : Int64) (m : Int) (h : n.toInt = m) : M_in v.toInt64 0 n = some (bI (decide (0 ≤ v.toInt ∧ v.toInt ≤ m))) := by
  rw [M_in_b, l0, h, Int32.toInt_toInt64]
theorem Xin_e (v : Int32) (n : Int64) (m : Int) (h : n.toInt = m) : X_isIn v.toInt64 0 n = some (bI (decide (0 ≤ v.toInt ∧ v.toInt ≤ m))) := by
  rw [X_isIn_b, l0, h, Int32.toInt_toInt64]
variable {L : Lh} {σ μ σ' μ' μ2 : PS}
def betterB (m : Nat → Nat) (b : Option Nat) (p : Nat) : Bool := match b with
  | none => true
  | some q => decide (m q < m p)
theorem better_none {m : Nat → Nat} {p : Nat} : betterB m none p = true := rfl
theorem better_some {m : Nat → Nat} {p q : Nat} : betterB m (some q) p = true ↔ m q < m p := decide_eq_true_iff
def Kf.bestF (K : Kf) (m : Nat → Nat) (t p : Nat) (b : Option Nat) : Option Nat := if K.comes p ≤ t ∧ betterB m b p = true then some p else b
def Kf.best (K : Kf) (m : Nat → Nat) (t : Nat) (j : Nat) : Option Nat := itr (K.bestF m t) none j
theorem Kf.bestF_lt {K : Kf} {m : Nat → Nat} {t k : Nat} {x : Option Nat} (hP : ∀ q, x = some q → q < k) : ∀ q, K.bestF m t k x = some q → q < k + 1 := by
  intro q h
  unfold Kf.bestF at h
  split at h
  · cases h; omega
  · have := hP q h; omega
theorem Kf.best_lt (K : Kf) (m : Nat → Nat) (t n : Nat) : ∀ q, K.best m t n = some q → q < n :=
  itr_P (P := fun k x => ∀ q, x = some q → q < k) (fun q h => by cases h) n (fun k x hk hP => Kf.bestF_lt hP)
theorem mostAt_e {K : Kf} {μ : PS} (H : K.M μ) (O : K.Ok) {t : Nat} (ht : t ≤ 14) (w : Int32) (m : Nat → Nat) (hm : ∀ p, p < K.np → M_markOf μ (nI p) (nI t) w = some (nI (m p))) (hb : ∀ p, p < K.np → m p ≤ 100000) : M_mostAt μ (nI t) w = some (oI (K.best m t K.np)) := by
  have hn := O.np
  unfold M_mostAt
  refine fold_e (fun x k => (oI x, nI k)) (K.bestF m t) (fun k x => ∀ q, x = some q → q < k) none K.np (fun q h => by cases h) (fun k x hk hP => ⟨?_, Kf.bestF_lt hP⟩) (fun x hx hP => ?_) (by omega)
  · show M_mostAt_l5 μ (nI t) w (oI x) (nI k) = some (Sum.inl (oI (if K.comes k ≤ t ∧ betterB m x k = true then some k else x), nI (k + 1)))
    have hbk := hb k hk
    unfold M_mostAt_l5
    rw [H.pieces_e, bd_some, if_neg (by rw [le_I (by omega) (by omega)]; omega), H.come_e O hk (by omega), bd_some, hm k hk]
    simp only [M_mostAt_j50, M_mostAt_j47, nm_eq, nI_1, bd_some]
    by_cases c : K.comes k ≤ t
    · rw [decide_eq_true c, if_neg (by decide)]
      cases x with
      | none => rw [if_pos (show oI none = -1 from rfl), if_pos ⟨c, better_none⟩]; rfl
      | some q =>
        have hq := hP q rfl
        have hbq := hb q (by omega)
        rw [if_neg (show ¬ oI (some q) = -1 from fun h => (nI_m1 (by omega)).mp h), show oI (some q) = nI q from rfl, hm q (by omega), bd_some]
        by_cases c2 : m q < m k
        · rw [if_neg (by rw [le_I (by omega) (by omega)]; omega), if_pos ⟨c, better_some.mpr c2⟩]; rfl
        · rw [if_pos (by rw [le_I (by omega) (by omega)]; omega), if_neg (fun h => c2 (better_some.mp h.2))]; rfl
    · rw [decide_eq_false c, if_pos (by decide), if_neg (fun h => c h.1)]
  · show M_mostAt_l5 μ (nI t) w (oI x) (nI K.np) = _
    unfold M_mostAt_l5 M_mostAt_j56
    rw [H.pieces_e, bd_some, if_pos (by rw [le_I (by omega) (by omega)]; omega), hx]; rfl
theorem q_tight (H : L.X σ) (G : Lh.M 0 L μ) (O : L.Ok) (v1 : Int32) : Ag σ μ (X_tight σ v1) (M_tight μ v1) := by
  obtain ⟨σ', μ', μ2, A⟩ := asked_e H G O
  unfold X_tight M_tight
  simp only [A.step, A.piece, A.lehr, A.isPiece, A.isZone, A.mStep, A.mPiece, A.mZone, A.mLehr, A.mThen, A.now, A.lay, bd_some, nm_eq, X_tight_j63, X_tight_j57, X_tight_j55]
  by_cases c0 : L.stepG v1
  · simp only [decide_eq_true c0, bIt, bIf, if_true, if_false, Bool.and_true, Bool.and_false, Bool.false_and, Bool.true_and]
    obtain ⟨t, ht, rfl⟩ := c0.to O
    have ht : t ≤ L.K.ns := ht
    have hs : L.K.ns ≤ 14 := A.k.ns
    have hnp : L.K.np ≤ 6 := A.k.np
    have hnz : L.zones ≤ 7 := O.zones
    have zM : gI μ' 25 = nI L.zones := A.hM.nz
    have zM2 : gI μ2 25 = nI L.zones := A.hM2.nz
    have inX : ∀ {t : Nat} (z : Int32), t ≤ 15 → X_insideOf σ' z (nI t) = some (bits (fun p => decide (L.K.plM p t = z)) L.K.np) := fun z h => by rw [A.hX.inside_e A.k h z, show (fun p => decide (L.K.plX p _ = z)) = (fun p => decide (L.K.plM p _ = z)) from funext (fun p => by rw [L.pl])]
    have mX : ∀ c, J_bitCount (bits c L.K.np) = some (nI (cnt c L.K.np)) := fun c => (many_e c (by omega)).1
    have mM : ∀ c, M_sizeOf (bits c L.K.np) = some (nI (cnt c L.K.np)) := fun c => (many_e c (by omega)).2
    have airX : ∀ {z t : Nat}, z < L.K.nz → t ≤ 15 → X_airOf σ' (nI z) (nI t) = some (nI (L.K.airOf z t)) := fun hz ht => by have := A.hX.air_e A.k hz ht; rw [L.ord hz] at this; exact this
    have hb : ∀ p, p < L.K.np → (fun p => dist (L.K.R t p).skin (L.K.R t p).core) p ≤ 100000 := fun p hp => by have B := A.k.R t p hp; have b1 := B.skin; have b2 := B.core; have b3 := dist_le b1 b2; dsimp only; omega
    have eM := mostAt_e A.hM A.k (t := t) (by omega) 0 (fun p => dist (L.K.R t p).skin (L.K.R t p).core) (fun p hp => by unfold M_markOf M_markOf_j33; rw [if_pos rfl, A.rM.strain_e A.k hp ht, bd_some]) hb
    rw [eM, bd_some]
    refine ⟨oI (L.K.best (fun p => dist (L.K.R t p).skin (L.K.R t p).core) t L.K.np), σ', μ', ?_, rfl, A.fX, A.fM⟩
    refine fold_e (fun x k => (oI x, nI k)) (L.K.bestF (fun p => dist (L.K.R t p).skin (L.K.R t p).core) t) (fun k x => ∀ q, x = some q → q < k) none L.K.np (fun q h => by cases h) (fun k x hk hP => ⟨?_, Kf.bestF_lt hP⟩) (fun x hx hP => ?_) (by omega)
    · show X_tight_l15 σ' (nI t) (oI x) (nI k) = some (Sum.inl (oI (if L.K.comes k ≤ t ∧ betterB (fun p => dist (L.K.R t p).skin (L.K.R t p).core) x k = true then some k else x), nI (k + 1)))
      have hbk := hb k hk
      dsimp only at hbk
      unfold X_tight_l15
      rw [A.hX.np, if_neg (by rw [le_I (by omega) (by omega)]; omega), A.hX.come_e A.k hk (by omega), bd_some, A.rX.strain_e A.k hk ht]
      simp only [X_tight_j57, X_tight_j55, nm_eq, nI_1, bd_some]
      by_cases c : L.K.comes k ≤ t
      · rw [decide_eq_true c, if_neg (by decide)]
        cases x with
        | none => rw [if_pos (show oI none = -1 from rfl), if_pos ⟨c, better_none⟩]; rfl
        | some q =>
          have hq := hP q rfl
          have hbq := hb q (by omega)
          dsimp only at hbq
          rw [if_neg (show ¬ oI (some q) = -1 from fun h => (nI_m1 (by omega)).mp h), show oI (some q) = nI q from rfl, A.rX.strain_e A.k (by omega) ht, bd_some]
          by_cases c2 : dist (L.K.R t q).skin (L.K.R t q).core < dist (L.K.R t k).skin (L.K.R t k).core
          · rw [if_neg (by rw [le_I (by omega) (by omega)]; omega), if_pos ⟨c, better_some.mpr c2⟩]; rfl
          · rw [if_pos (by rw [le_I (by omega) (by omega)]; omega), if_neg (fun h => c2 (better_some.mp h.2))]; rfl
      · rw [decide_eq_false c, if_pos (by decide), if_neg (fun h => c h.1)]
    · show X_tight_l15 σ' (nI t) (oI x) (nI L.K.np) = _
      unfold X_tight_l15 X_tight_j63
      rw [A.hX.np, if_pos (by rw [le_I (by omega) (by omega)]; omega), hx]; rfl
  · simp only [decide_eq_false c0, bIt, bIf, if_true, if_false, Bool.and_true, Bool.and_false, Bool.false_and, Bool.true_and]
    exact ⟨-2, σ', _, rfl, rfl, A.fX, A.fM0⟩
theorem q_hottest (H : L.X σ) (G : Lh.M 0 L μ) (O : L.Ok) (v1 : Int32) : Ag σ μ (X_hottest σ v1) (M_hottest μ v1) := by
  obtain ⟨σ', μ', μ2, A⟩ := asked_e H G O
  unfold X_hottest M_hottest
  simp only [A.step, A.piece, A.lehr, A.isPiece, A.isZone, A.mStep, A.mPiece, A.mZone, A.mLehr, A.mThen, A.now, A.lay, bd_some, nm_eq, X_hottest_j63, X_hottest_j57, X_hottest_j55]
  by_cases c0 : L.stepG v1
  · simp only [decide_eq_true c0, bIt, bIf, if_true, if_false, Bool.and_true, Bool.and_false, Bool.false_and, Bool.true_and]
    obtain ⟨t, ht, rfl⟩ := c0.to O
    have ht : t ≤ L.K.ns := ht
    have hs : L.K.ns ≤ 14 := A.k.ns
    have hnp : L.K.np ≤ 6 := A.k.np
    have hnz : L.zones ≤ 7 := O.zones
    have zM : gI μ' 25 = nI L.zones := A.hM.nz
    have zM2 : gI μ2 25 = nI L.zones := A.hM2.nz
    have inX : ∀ {t : Nat} (z : Int32), t ≤ 15 → X_insideOf σ' z (nI t) = some (bits (fun p => decide (L.K.plM p t = z)) L.K.np) := fun z h => by rw [A.hX.inside_e A.k h z, show (fun p => decide (L.K.plX p _ = z)) = (fun p => decide (L.K.plM p _ = z)) from funext (fun p => by rw [L.pl])]
    have mX : ∀ c, J_bitCount (bits c L.K.np) = some (nI (cnt c L.K.np)) := fun c => (many_e c (by omega)).1
    have mM : ∀ c, M_sizeOf (bits c L.K.np) = some (nI (cnt c L.K.np)) := fun c => (many_e c (by omega)).2
    have airX : ∀ {z t : Nat}, z < L.K.nz → t ≤ 15 → X_airOf σ' (nI z) (nI t) = some (nI (L.K.airOf z t)) := fun hz ht => by have := A.hX.air_e A.k hz ht; rw [L.ord hz] at this; exact this
    have hb : ∀ p, p < L.K.np → (fun p => (L.K.R t p).skin) p ≤ 100000 := fun p hp => by have B := A.k.R t p hp; have b1 := B.skin; have b2 := B.core; have b3 := dist_le b1 b2; dsimp only; omega
    have eM := mostAt_e A.hM A.k (t := t) (by omega) 1 (fun p => (L.K.R t p).skin) (fun p hp => by unfold M_markOf M_markOf_j33; rw [if_neg (by decide), if_pos rfl, A.rM.skin_e A.k hp ht, bd_some]) hb
    rw [eM, bd_some]
    refine ⟨oI (L.K.best (fun p => (L.K.R t p).skin) t L.K.np), σ', μ', ?_, rfl, A.fX, A.fM⟩
    refine fold_e (fun x k => (oI x, nI k)) (L.K.bestF (fun p => (L.K.R t p).skin) t) (fun k x => ∀ q, x = some q → q < k) none L.K.np (fun q h => by cases h) (fun k x hk hP => ⟨?_, Kf.bestF_lt hP⟩) (fun x hx hP => ?_) (by omega)
    · show X_hottest_l15 σ' (nI t) (oI x) (nI k) = some (Sum.inl (oI (if L.K.comes k ≤ t ∧ betterB (fun p => (L.K.R t p).skin) x k = true then some k else x), nI (k + 1)))
      have hbk := hb k hk
      dsimp only at hbk
      unfold X_hottest_l15
      rw [A.hX.np, if_neg (by rw [le_I (by omega) (by omega)]; omega), A.hX.come_e A.k hk (by omega), bd_some, A.rX.skin_e A.k hk ht]
      simp only [X_hottest_j57, X_hottest_j55, nm_eq, nI_1, bd_some]
      by_cases c : L.K.comes k ≤ t
      · rw [decide_eq_true c, if_neg (by decide)]
        cases x with
        | none => rw [if_pos (show oI none = -1 from rfl), if_pos ⟨c, better_none⟩]; rfl
        | some q =>
          have hq := hP q rfl
          have hbq := hb q (by omega)
          dsimp only at hbq
          rw [if_neg (show ¬ oI (some q) = -1 from fun h => (nI_m1 (by omega)).mp h), show oI (some q) = nI q from rfl, A.rX.skin_e A.k (by omega) ht, bd_some]
          by_cases c2 : (L.K.R t q).skin < (L.K.R t k).skin
          · rw [if_neg (by rw [le_I (by omega) (by omega)]; omega), if_pos ⟨c, better_some.mpr c2⟩]; rfl
          · rw [if_pos (by rw [le_I (by omega) (by omega)]; omega), if_neg (fun h => c2 (better_some.mp h.2))]; rfl
      · rw [decide_eq_false c, if_pos (by decide), if_neg (fun h => c h.1)]
    · show X_hottest_l15 σ' (nI t) (oI x) (nI L.K.np) = _
      unfold X_hottest_l15 X_hottest_j63
      rw [A.hX.np, if_pos (by rw [le_I (by omega) (by omega)]; omega), hx]; rfl
  · simp only [decide_eq_false c0, bIt, bIf, if_true, if_false, Bool.and_true, Bool.and_false, Bool.false_and, Bool.true_and]
    exact ⟨-2, σ', _, rfl, rfl, A.fX, A.fM0⟩
theorem q_kernel (H : L.X σ) (G : Lh.M 0 L μ) (O : L.Ok) (v1 : Int32) : Ag σ μ (X_kernel σ v1) (M_kernel μ v1) := by
  obtain ⟨σ', μ', μ2, A⟩ := asked_e H G O
  unfold X_kernel M_kernel
  simp only [A.step, A.piece, A.lehr, A.isPiece, A.isZone, A.mStep, A.mPiece, A.mZone, A.mLehr, A.mThen, A.now, A.lay, bd_some, nm_eq, X_kernel_j63, X_kernel_j57, X_kernel_j55]
  by_cases c0 : L.stepG v1
  · simp only [decide_eq_true c0, bIt, bIf, if_true, if_false, Bool.and_true, Bool.and_false, Bool.false_and, Bool.true_and]
    obtain ⟨t, ht, rfl⟩ := c0.to O
    have ht : t ≤ L.K.ns := ht
    have hs : L.K.ns ≤ 14 := A.k.ns
    have hnp : L.K.np ≤ 6 := A.k.np
    have hnz : L.zones ≤ 7 := O.zones
    have zM : gI μ' 25 = nI L.zones := A.hM.nz
    have zM2 : gI μ2 25 = nI L.zones := A.hM2.nz
    have inX : ∀ {t : Nat} (z : Int32), t ≤ 15 → X_insideOf σ' z (nI t) = some (bits (fun p => decide (L.K.plM p t = z)) L.K.np) := fun z h => by rw [A.hX.inside_e A.k h z, show (fun p => decide (L.K.plX p _ = z)) = (fun p => decide (L.K.plM p _ = z)) from funext (fun p => by rw [L.pl])]
    have mX : ∀ c, J_bitCount (bits c L.K.np) = some (nI (cnt c L.K.np)) := fun c => (many_e c (by omega)).1
    have mM : ∀ c, M_sizeOf (bits c L.K.np) = some (nI (cnt c L.K.np)) := fun c => (many_e c (by omega)).2
    have airX : ∀ {z t : Nat}, z < L.K.nz → t ≤ 15 → X_airOf σ' (nI z) (nI t) = some (nI (L.K.airOf z t)) := fun hz ht => by have := A.hX.air_e A.k hz ht; rw [L.ord hz] at this; exact this
    have hb : ∀ p, p < L.K.np → (fun p => (L.K.R t p).core) p ≤ 100000 := fun p hp => by have B := A.k.R t p hp; have b1 := B.skin; have b2 := B.core; have b3 := dist_le b1 b2; dsimp only; omega
    have eM := mostAt_e A.hM A.k (t := t) (by omega) 2 (fun p => (L.K.R t p).core) (fun p hp => by unfold M_markOf M_markOf_j33; rw [if_neg (by decide), if_neg (by decide), A.rM.core_e A.k hp ht, bd_some]) hb
    rw [eM, bd_some]
    refine ⟨oI (L.K.best (fun p => (L.K.R t p).core) t L.K.np), σ', μ', ?_, rfl, A.fX, A.fM⟩
    refine fold_e (fun x k => (oI x, nI k)) (L.K.bestF (fun p => (L.K.R t p).core) t) (fun k x => ∀ q, x = some q → q < k) none L.K.np (fun q h => by cases h) (fun k x hk hP => ⟨?_, Kf.bestF_lt hP⟩) (fun x hx hP => ?_) (by omega)
    · show X_kernel_l15 σ' (nI t) (oI x) (nI k) = some (Sum.inl (oI (if L.K.comes k ≤ t ∧ betterB (fun p => (L.K.R t p).core) x k = true then some k else x), nI (k + 1)))
      have hbk := hb k hk
      dsimp only at hbk
      unfold X_kernel_l15
      rw [A.hX.np, if_neg (by rw [le_I (by omega) (by omega)]; omega), A.hX.come_e A.k hk (by omega), bd_some, A.rX.core_e A.k hk ht]
      simp only [X_kernel_j57, X_kernel_j55, nm_eq, nI_1, bd_some]
      by_cases c : L.K.comes k ≤ t
      · rw [decide_eq_true c, if_neg (by decide)]
        cases x with
        | none => rw [if_pos (show oI none = -1 from rfl), if_pos ⟨c, better_none⟩]; rfl
        | some q =>
          have hq := hP q rfl
          have hbq := hb q (by omega)
          dsimp only at hbq
          rw [if_neg (show ¬ oI (some q) = -1 from fun h => (nI_m1 (by omega)).mp h), show oI (some q) = nI q from rfl, A.rX.core_e A.k (by omega) ht, bd_some]
          by_cases c2 : (L.K.R t q).core < (L.K.R t k).core
          · rw [if_neg (by rw [le_I (by omega) (by omega)]; omega), if_pos ⟨c, better_some.mpr c2⟩]; rfl
          · rw [if_pos (by rw [le_I (by omega) (by omega)]; omega), if_neg (fun h => c2 (better_some.mp h.2))]; rfl
      · rw [decide_eq_false c, if_pos (by decide), if_neg (fun h => c h.1)]
    · show X_kernel_l15 σ' (nI t) (oI x) (nI L.K.np) = _
      unfold X_kernel_l15 X_kernel_j63
      rw [A.hX.np, if_pos (by rw [le_I (by omega) (by omega)]; omega), hx]; rfl
  · simp only [decide_eq_false c0, bIt, bIf, if_true, if_false, Bool.and_true, Bool.and_false, Bool.false_and, Bool.true_and]
    exact ⟨-2, σ', _, rfl, rfl, A.fX, A.fM0⟩
theorem q_cracked (H : L.X σ) (G : Lh.M 0 L μ) (O : L.Ok) (v1 : Int32) : Ag σ μ (X_cracked σ v1) (M_cracked μ v1) := by
  obtain ⟨σ', μ', μ2, A⟩ := asked_e H G O
  unfold X_cracked M_cracked
  simp only [A.step, A.piece, A.lehr, A.isPiece, A.isZone, A.mStep, A.mPiece, A.mZone, A.mLehr, A.mThen, A.now, A.lay, bd_some, nm_eq, X_cracked_j52, X_cracked_j44]
  by_cases c0 : L.stepG v1
  · simp only [decide_eq_true c0, bIt, bIf, if_true, if_false, Bool.and_true, Bool.and_false, Bool.false_and, Bool.true_and]
    obtain ⟨t, ht, rfl⟩ := c0.to O
    have ht : t ≤ L.K.ns := ht
    have hs : L.K.ns ≤ 14 := A.k.ns
    have hnp : L.K.np ≤ 6 := A.k.np
    have hnz : L.zones ≤ 7 := O.zones
    have zM : gI μ' 25 = nI L.zones := A.hM.nz
    have zM2 : gI μ2 25 = nI L.zones := A.hM2.nz
    have inX : ∀ {t : Nat} (z : Int32), t ≤ 15 → X_insideOf σ' z (nI t) = some (bits (fun p => decide (L.K.plM p t = z)) L.K.np) := fun z h => by rw [A.hX.inside_e A.k h z, show (fun p => decide (L.K.plX p _ = z)) = (fun p => decide (L.K.plM p _ = z)) from funext (fun p => by rw [L.pl])]
    have mX : ∀ c, J_bitCount (bits c L.K.np) = some (nI (cnt c L.K.np)) := fun c => (many_e c (by omega)).1
    have mM : ∀ c, M_sizeOf (bits c L.K.np) = some (nI (cnt c L.K.np)) := fun c => (many_e c (by omega)).2
    have airX : ∀ {z t : Nat}, z < L.K.nz → t ≤ 15 → X_airOf σ' (nI z) (nI t) = some (nI (L.K.airOf z t)) := fun hz ht => by have := A.hX.air_e A.k hz ht; rw [L.ord hz] at this; exact this
    unfold M_crackedIn
    refine Ag.of2 (lock_e (b1 := X_cracked_B15 σ' (nI t)) (b2 := M_crackedIn_B4 μ' (nI t)) (L.K.np) (fun k s => ∃ a, s = (a, nI k)) (fun r1 r2 => r1.1 = r2 ∧ r1.2 = σ') ⟨_, rfl⟩ (fun k s hk hI => ?_) (fun s hI => ?_) (by omega)) A.fX A.fM
    · obtain ⟨a, rfl⟩ := hI
      have kf : (L.K.np ≤ k) = False := eq_false (by omega)
      show Sm _ _ (X_cracked_l15 σ' (nI t) a (nI k)) (M_crackedIn_l4 μ' (nI t) a (nI k))
      unfold X_cracked_l15 M_crackedIn_l4
      simp (disch := omega) only [bd_some, nm_eq, le_I, lt_I, eq_I, nI_1, nI_add, ix_nI, rA_nI, mul_L, add_L, A.hX.np, A.hX.ns, A.hM.pieces_e, A.hM.steps_e, A.hM2.pieces_e, A.hM2.steps_e, A.lX.zones, zM, zM2, A.hX.come_e A.k, A.hM.come_e A.k, A.rX.skin_e A.k, A.rM.skin_e A.k, A.rX.core_e A.k, A.rM.core_e A.k, A.rX.strain_e A.k, A.rM.strain_e A.k, A.rX.whole_e A.k, A.rM.whole_e A.k, A.hX.place A.k, A.hM.place A.k, A.hM2.place A.k, L.pl, inX, A.hM.inside_e A.k, A.hM2.inside_e A.k, A.rX.sound_e A.k, A.rX.soundNow_e A.hX A.k, A.rM.soundNow_e A.hM A.k, airX, mX, mM, A.hM.air_e A.k, A.hM2.air_e A.k, A.rX.crack, A.rM.crack, A.rX.why, A.rM.why, A.rX.fz, A.rM.fz, A.rX.st, A.rM.st, A.hX.comes, A.hM.comes_e A.k, A.hX.set, A.hM.set, ix40_4, r17_4, kf, if_false, M_crackedIn_j38, M_crackedIn_j30, X_cracked_j52, X_cracked_j44, M_crackedIn_j38, M_crackedIn_j30]
      repeat' first | exact Sm.next rfl rfl ⟨_, rfl⟩ | exact Sm.done rfl rfl ⟨rfl, rfl, rfl⟩ | refine Sm.ite (fun c => ?_) (fun c => ?_)
    · obtain ⟨a, rfl⟩ := hI
      have kf : (L.K.np ≤ L.K.np) = True := eq_true (by omega)
      show ∃ r1 r2, X_cracked_l15 σ' (nI t) a (nI L.K.np) = some (.inr r1) ∧ M_crackedIn_l4 μ' (nI t) a (nI L.K.np) = some (.inr r2) ∧ _
      unfold X_cracked_l15 M_crackedIn_l4
      simp (disch := omega) only [bd_some, nm_eq, le_I, lt_I, eq_I, nI_1, nI_add, ix_nI, rA_nI, mul_L, add_L, A.hX.np, A.hX.ns, A.hM.pieces_e, A.hM.steps_e, A.hM2.pieces_e, A.hM2.steps_e, A.lX.zones, zM, zM2, A.hX.come_e A.k, A.hM.come_e A.k, A.rX.skin_e A.k, A.rM.skin_e A.k, A.rX.core_e A.k, A.rM.core_e A.k, A.rX.strain_e A.k, A.rM.strain_e A.k, A.rX.whole_e A.k, A.rM.whole_e A.k, A.hX.place A.k, A.hM.place A.k, A.hM2.place A.k, L.pl, inX, A.hM.inside_e A.k, A.hM2.inside_e A.k, A.rX.sound_e A.k, A.rX.soundNow_e A.hX A.k, A.rM.soundNow_e A.hM A.k, airX, mX, mM, A.hM.air_e A.k, A.hM2.air_e A.k, A.rX.crack, A.rM.crack, A.rX.why, A.rM.why, A.rX.fz, A.rM.fz, A.rX.st, A.rM.st, A.hX.comes, A.hM.comes_e A.k, A.hX.set, A.hM.set, ix40_4, r17_4, kf, if_true, M_crackedIn_j38, M_crackedIn_j30, X_cracked_j52, X_cracked_j44, M_crackedIn_j38, M_crackedIn_j30]
      exact ⟨_, _, rfl, rfl, rfl, rfl⟩
  · simp only [decide_eq_false c0, bIt, bIf, if_true, if_false, Bool.and_true, Bool.and_false, Bool.false_and, Bool.true_and]
    exact ⟨-2, σ', _, rfl, rfl, A.fX, A.fM0⟩
theorem q_coming (H : L.X σ) (G : Lh.M 0 L μ) (O : L.Ok) (v1 : Int32) : Ag σ μ (X_coming σ v1) (M_coming μ v1) := by
  obtain ⟨σ', μ', μ2, A⟩ := asked_e H G O
  unfold X_coming M_coming
  simp only [A.step, A.piece, A.lehr, A.isPiece, A.isZone, A.mStep, A.mPiece, A.mZone, A.mLehr, A.mThen, A.now, A.lay, bd_some, nm_eq, X_coming_j55, X_coming_j47, M_coming_j54, M_coming_j46]
  by_cases c0 : L.stepG v1
  · simp only [decide_eq_true c0, bIt, bIf, if_true, if_false, Bool.and_true, Bool.and_false, Bool.false_and, Bool.true_and]
    obtain ⟨t, ht, rfl⟩ := c0.to O
    have ht : t ≤ L.K.ns := ht
    have hs : L.K.ns ≤ 14 := A.k.ns
    have hnp : L.K.np ≤ 6 := A.k.np
    have hnz : L.zones ≤ 7 := O.zones
    have zM : gI μ' 25 = nI L.zones := A.hM.nz
    have zM2 : gI μ2 25 = nI L.zones := A.hM2.nz
    have inX : ∀ {t : Nat} (z : Int32), t ≤ 15 → X_insideOf σ' z (nI t) = some (bits (fun p => decide (L.K.plM p t = z)) L.K.np) := fun z h => by rw [A.hX.inside_e A.k h z, show (fun p => decide (L.K.plX p _ = z)) = (fun p => decide (L.K.plM p _ = z)) from funext (fun p => by rw [L.pl])]
    have mX : ∀ c, J_bitCount (bits c L.K.np) = some (nI (cnt c L.K.np)) := fun c => (many_e c (by omega)).1
    have mM : ∀ c, M_sizeOf (bits c L.K.np) = some (nI (cnt c L.K.np)) := fun c => (many_e c (by omega)).2
    have airX : ∀ {z t : Nat}, z < L.K.nz → t ≤ 15 → X_airOf σ' (nI z) (nI t) = some (nI (L.K.airOf z t)) := fun hz ht => by have := A.hX.air_e A.k hz ht; rw [L.ord hz] at this; exact this
    have G0 := G.fr A.fM0
    have pc0 : M_pieces (sI μ 0 0) = some (nI L.K.np) := by unfold M_pieces; rw [ix40_6, r17_6]; exact congrArg some G0.pieces
    have cm0 : ∀ {p : Nat}, p < L.K.np → M_comes (sI μ 0 0) (nI p) = some (nI (L.K.comes p)) := by
          intro p hp
          have e := G0.comes p hp
          rw [show 24 * 0 + 4 * p + 3 = 4 * p + 3 by omega] at e
          unfold M_comes
          simp (disch := omega) only [mul_L, add_L, ix_nI, rA_nI]
          exact congrArg some e
    refine Ag.of (lock_e (b1 := X_coming_B15 σ' (nI t)) (b2 := M_coming_B21 (sI μ 0 0) (nI t)) (L.K.np) (fun k s => ∃ a, s = (a, nI k)) (fun r1 r2 => r1.1 = r2.1 ∧ r1.2 = σ' ∧ r2.2 = (sI μ 0 0)) ⟨_, rfl⟩ (fun k s hk hI => ?_) (fun s hI => ?_) (by omega)) A.fX A.fM0
    · obtain ⟨a, rfl⟩ := hI
      have kf : (L.K.np ≤ k) = False := eq_false (by omega)
      show Sm _ _ (X_coming_l15 σ' (nI t) a (nI k)) (M_coming_l21 (sI μ 0 0) (nI t) a (nI k))
      unfold X_coming_l15 M_coming_l21
      simp (disch := omega) only [bd_some, nm_eq, le_I, lt_I, eq_I, nI_1, nI_add, ix_nI, rA_nI, mul_L, add_L, A.hX.np, A.hX.ns, A.hM.pieces_e, A.hM.steps_e, A.hM2.pieces_e, A.hM2.steps_e, A.lX.zones, zM, zM2, A.hX.come_e A.k, A.hM.come_e A.k, A.rX.skin_e A.k, A.rM.skin_e A.k, A.rX.core_e A.k, A.rM.core_e A.k, A.rX.strain_e A.k, A.rM.strain_e A.k, A.rX.whole_e A.k, A.rM.whole_e A.k, A.hX.place A.k, A.hM.place A.k, A.hM2.place A.k, L.pl, inX, A.hM.inside_e A.k, A.hM2.inside_e A.k, A.rX.sound_e A.k, A.rX.soundNow_e A.hX A.k, A.rM.soundNow_e A.hM A.k, airX, mX, mM, A.hM.air_e A.k, A.hM2.air_e A.k, A.rX.crack, A.rM.crack, A.rX.why, A.rM.why, A.rX.fz, A.rM.fz, A.rX.st, A.rM.st, A.hX.comes, A.hM.comes_e A.k, A.hX.set, A.hM.set, ix40_4, r17_4, kf, if_false, pc0, cm0, X_coming_j55, X_coming_j47, M_coming_j54, M_coming_j46]
      repeat' first | exact Sm.next rfl rfl ⟨_, rfl⟩ | exact Sm.done rfl rfl ⟨rfl, rfl, rfl⟩ | refine Sm.ite (fun c => ?_) (fun c => ?_)
    · obtain ⟨a, rfl⟩ := hI
      have kf : (L.K.np ≤ L.K.np) = True := eq_true (by omega)
      show ∃ r1 r2, X_coming_l15 σ' (nI t) a (nI L.K.np) = some (.inr r1) ∧ M_coming_l21 (sI μ 0 0) (nI t) a (nI L.K.np) = some (.inr r2) ∧ _
      unfold X_coming_l15 M_coming_l21
      simp (disch := omega) only [bd_some, nm_eq, le_I, lt_I, eq_I, nI_1, nI_add, ix_nI, rA_nI, mul_L, add_L, A.hX.np, A.hX.ns, A.hM.pieces_e, A.hM.steps_e, A.hM2.pieces_e, A.hM2.steps_e, A.lX.zones, zM, zM2, A.hX.come_e A.k, A.hM.come_e A.k, A.rX.skin_e A.k, A.rM.skin_e A.k, A.rX.core_e A.k, A.rM.core_e A.k, A.rX.strain_e A.k, A.rM.strain_e A.k, A.rX.whole_e A.k, A.rM.whole_e A.k, A.hX.place A.k, A.hM.place A.k, A.hM2.place A.k, L.pl, inX, A.hM.inside_e A.k, A.hM2.inside_e A.k, A.rX.sound_e A.k, A.rX.soundNow_e A.hX A.k, A.rM.soundNow_e A.hM A.k, airX, mX, mM, A.hM.air_e A.k, A.hM2.air_e A.k, A.rX.crack, A.rM.crack, A.rX.why, A.rM.why, A.rX.fz, A.rM.fz, A.rX.st, A.rM.st, A.hX.comes, A.hM.comes_e A.k, A.hX.set, A.hM.set, ix40_4, r17_4, kf, if_true, pc0, cm0, X_coming_j55, X_coming_j47, M_coming_j54, M_coming_j46]
      exact ⟨_, _, rfl, rfl, rfl, rfl, rfl⟩
  · simp only [decide_eq_false c0, bIt, bIf, if_true, if_false, Bool.and_true, Bool.and_false, Bool.false_and, Bool.true_and]
    exact ⟨-2, σ', _, rfl, rfl, A.fX, A.fM0⟩
theorem q_tally (H : L.X σ) (G : Lh.M 0 L μ) (O : L.Ok) (v1 : Int32) : Ag σ μ (X_tally σ v1) (M_tally μ v1) := by
  obtain ⟨σ', μ', μ2, A⟩ := asked_e H G O
  unfold X_tally M_tally
  simp only [A.step, A.piece, A.lehr, A.isPiece, A.isZone, A.mStep, A.mPiece, A.mZone, A.mLehr, A.mThen, A.now, A.lay, bd_some, nm_eq, X_tally_j57, X_tally_j49, X_tally_j15, M_tally_j67, M_tally_j59, M_tally_j24, oneOf_e _ 3 2 rfl, Min_e _ 2 2 rfl]
  by_cases c0 : 0 < L.lines
  · by_cases c1 : 0 ≤ (v1).toInt ∧ (v1).toInt ≤ 2
    · simp only [decide_eq_true c0, decide_eq_true c1, bIt, bIf, if_true, if_false, Bool.and_true, Bool.and_false, Bool.false_and, Bool.true_and]
      have hs : L.K.ns ≤ 14 := A.k.ns
      have hnp : L.K.np ≤ 6 := A.k.np
      have hnz : L.zones ≤ 7 := O.zones
      have zM : gI μ' 25 = nI L.zones := A.hM.nz
      have zM2 : gI μ2 25 = nI L.zones := A.hM2.nz
      have inX : ∀ {t : Nat} (z : Int32), t ≤ 15 → X_insideOf σ' z (nI t) = some (bits (fun p => decide (L.K.plM p t = z)) L.K.np) := fun z h => by rw [A.hX.inside_e A.k h z, show (fun p => decide (L.K.plX p _ = z)) = (fun p => decide (L.K.plM p _ = z)) from funext (fun p => by rw [L.pl])]
      have mX : ∀ c, J_bitCount (bits c L.K.np) = some (nI (cnt c L.K.np)) := fun c => (many_e c (by omega)).1
      have mM : ∀ c, M_sizeOf (bits c L.K.np) = some (nI (cnt c L.K.np)) := fun c => (many_e c (by omega)).2
      have airX : ∀ {z t : Nat}, z < L.K.nz → t ≤ 15 → X_airOf σ' (nI z) (nI t) = some (nI (L.K.airOf z t)) := fun hz ht => by have := A.hX.air_e A.k hz ht; rw [L.ord hz] at this; exact this
      refine Ag.of (lock_e (b1 := X_tally_B22 σ' v1) (b2 := M_tally_B35 μ' v1) (L.K.np) (fun k s => ∃ a, s = (a, nI k)) (fun r1 r2 => r1.1 = r2.1 ∧ r1.2 = σ' ∧ r2.2 = μ') ⟨_, rfl⟩ (fun k s hk hI => ?_) (fun s hI => ?_) (by omega)) A.fX A.fM
      · obtain ⟨a, rfl⟩ := hI
        have kf : (L.K.np ≤ k) = False := eq_false (by omega)
        show Sm _ _ (X_tally_l22 σ' v1 a (nI k)) (M_tally_l35 μ' v1 a (nI k))
        unfold X_tally_l22 M_tally_l35
        simp (disch := omega) only [bd_some, nm_eq, le_I, lt_I, eq_I, nI_1, nI_add, ix_nI, rA_nI, mul_L, add_L, A.hX.np, A.hX.ns, A.hM.pieces_e, A.hM.steps_e, A.hM2.pieces_e, A.hM2.steps_e, A.lX.zones, zM, zM2, A.hX.come_e A.k, A.hM.come_e A.k, A.rX.skin_e A.k, A.rM.skin_e A.k, A.rX.core_e A.k, A.rM.core_e A.k, A.rX.strain_e A.k, A.rM.strain_e A.k, A.rX.whole_e A.k, A.rM.whole_e A.k, A.hX.place A.k, A.hM.place A.k, A.hM2.place A.k, L.pl, inX, A.hM.inside_e A.k, A.hM2.inside_e A.k, A.rX.sound_e A.k, A.rX.soundNow_e A.hX A.k, A.rM.soundNow_e A.hM A.k, airX, mX, mM, A.hM.air_e A.k, A.hM2.air_e A.k, A.rX.crack, A.rM.crack, A.rX.why, A.rM.why, A.rX.fz, A.rM.fz, A.rX.st, A.rM.st, A.hX.comes, A.hM.comes_e A.k, A.hX.set, A.hM.set, ix40_4, r17_4, kf, if_false, X_tally_j57, X_tally_j49, X_tally_j15, M_tally_j67, M_tally_j59, M_tally_j24]
        repeat' first | exact Sm.next rfl rfl ⟨_, rfl⟩ | exact Sm.done rfl rfl ⟨rfl, rfl, rfl⟩ | refine Sm.ite (fun c => ?_) (fun c => ?_)
      · obtain ⟨a, rfl⟩ := hI
        have kf : (L.K.np ≤ L.K.np) = True := eq_true (by omega)
        show ∃ r1 r2, X_tally_l22 σ' v1 a (nI L.K.np) = some (.inr r1) ∧ M_tally_l35 μ' v1 a (nI L.K.np) = some (.inr r2) ∧ _
        unfold X_tally_l22 M_tally_l35
        simp (disch := omega) only [bd_some, nm_eq, le_I, lt_I, eq_I, nI_1, nI_add, ix_nI, rA_nI, mul_L, add_L, A.hX.np, A.hX.ns, A.hM.pieces_e, A.hM.steps_e, A.hM2.pieces_e, A.hM2.steps_e, A.lX.zones, zM, zM2, A.hX.come_e A.k, A.hM.come_e A.k, A.rX.skin_e A.k, A.rM.skin_e A.k, A.rX.core_e A.k, A.rM.core_e A.k, A.rX.strain_e A.k, A.rM.strain_e A.k, A.rX.whole_e A.k, A.rM.whole_e A.k, A.hX.place A.k, A.hM.place A.k, A.hM2.place A.k, L.pl, inX, A.hM.inside_e A.k, A.hM2.inside_e A.k, A.rX.sound_e A.k, A.rX.soundNow_e A.hX A.k, A.rM.soundNow_e A.hM A.k, airX, mX, mM, A.hM.air_e A.k, A.hM2.air_e A.k, A.rX.crack, A.rM.crack, A.rX.why, A.rM.why, A.rX.fz, A.rM.fz, A.rX.st, A.rM.st, A.hX.comes, A.hM.comes_e A.k, A.hX.set, A.hM.set, ix40_4, r17_4, kf, if_true, X_tally_j57, X_tally_j49, X_tally_j15, M_tally_j67, M_tally_j59, M_tally_j24]
        exact ⟨_, _, rfl, rfl, rfl, rfl, rfl⟩
    · simp only [decide_eq_true c0, decide_eq_false c1, bIt, bIf, if_true, if_false, Bool.and_true, Bool.and_false, Bool.false_and, Bool.true_and]
      exact ⟨-2, σ', _, rfl, rfl, A.fX, A.fM0⟩
  · by_cases c1 : 0 ≤ (v1).toInt ∧ (v1).toInt ≤ 2
    · simp only [decide_eq_false c0, decide_eq_true c1, bIt, bIf, if_true, if_false, Bool.and_true, Bool.and_false, Bool.false_and, Bool.true_and]
      exact ⟨-2, σ', _, rfl, rfl, A.fX, A.fM0⟩
    · simp only [decide_eq_false c0, decide_eq_false c1, bIt, bIf, if_true, if_false, Bool.and_true, Bool.and_false, Bool.false_and, Bool.true_and]
      exact ⟨-2, σ', _, rfl, rfl, A.fX, A.fM0⟩
theorem when_e (A : Asked L σ μ σ' μ' μ2) {p : Nat} (hp : p < L.K.np) : ∃ b, b ≤ L.K.ns ∧ X_whenOf σ' (nI p) = some (nI b) ∧ M_peakOf μ' (nI p) = some (nI b) := by
  have hs : L.K.ns ≤ 14 := A.k.ns
  have B : ∀ {t : Nat}, dist (L.K.R t p).skin (L.K.R t p).core ≤ 10000 := fun {t} => dist_le (A.k.R t p hp).skin (A.k.R t p hp).core
  suffices key : ∃ r1 r2, loop (X_whenOf_B4 σ' (nI p)) fu (0, 1) = some r1 ∧ loop (M_peakOf_B4 μ' (nI p)) fu (0, 1) = some r2 ∧ ∃ b, b ≤ L.K.ns ∧ r1 = nI b ∧ r2 = nI b by
    obtain ⟨r1, r2, e1, e2, b, h1, h2, h3⟩ := key
    exact ⟨b, h1, by unfold X_whenOf; rw [e1, h2], by unfold M_peakOf; rw [e2, h3]⟩
  refine lock_e (b1 := X_whenOf_B4 σ' (nI p)) (b2 := M_peakOf_B4 μ' (nI p)) L.K.ns (fun k s => ∃ b, b ≤ k ∧ s = (nI b, nI (k + 1))) (fun r1 r2 => ∃ b, b ≤ L.K.ns ∧ r1 = nI b ∧ r2 = nI b) (s := (0, 1)) ⟨0, Nat.le_refl _, rfl⟩ (fun k s hk hI => ?_) (fun s hI => ?_) (by omega)
  · obtain ⟨b, hb, rfl⟩ := hI
    have kf : (L.K.ns < k + 1) = False := eq_false (by omega)
    show Sm _ _ (X_whenOf_l4 σ' (nI p) (nI b) (nI (k + 1))) (M_peakOf_l4 μ' (nI p) (nI b) (nI (k + 1)))
    unfold X_whenOf_l4 M_peakOf_l4
    simp (disch := omega) only [A.hX.ns, A.hM.steps_e, bd_some, nm_eq, lt_I, kf, if_false, A.rX.strain_e A.k, A.rM.strain_e A.k, X_whenOf_j32, M_peakOf_j29, nI_1]
    refine Sm.ite (fun c => ?_) (fun c => ?_)
    · exact Sm.next rfl rfl ⟨b, by omega, rfl⟩
    · exact Sm.next rfl rfl ⟨k + 1, by omega, rfl⟩
  · obtain ⟨b, hb, rfl⟩ := hI
    have kf : (L.K.ns < L.K.ns + 1) = True := eq_true (by omega)
    show ∃ r1 r2, X_whenOf_l4 σ' (nI p) (nI b) (nI (L.K.ns + 1)) = some (.inr r1) ∧ M_peakOf_l4 μ' (nI p) (nI b) (nI (L.K.ns + 1)) = some (.inr r2) ∧ _
    unfold X_whenOf_l4 M_peakOf_l4
    simp (disch := omega) only [A.hX.ns, A.hM.steps_e, bd_some, nm_eq, lt_I, kf, if_true, X_whenOf_j38, M_peakOf_j35]
    exact ⟨_, _, rfl, rfl, b, hb, rfl, rfl⟩
theorem busy_e (A : Asked L σ μ σ' μ' μ2) (z : Int32) : ∃ b, X_busyOf σ' z = some b ∧ M_busyOf μ2 z = some b := by
  have hs : L.K.ns ≤ 14 := A.k.ns
  have inX : ∀ {t : Nat} (z : Int32), t ≤ 15 → X_insideOf σ' z (nI t) = some (bits (fun p => decide (L.K.plM p t = z)) L.K.np) := fun z h => by rw [A.hX.inside_e A.k h z, show (fun p => decide (L.K.plX p _ = z)) = (fun p => decide (L.K.plM p _ = z)) from funext (fun p => by rw [L.pl])]
  suffices key : ∃ r1 r2, loop (X_busyOf_B4 σ' z) fu (0, 0) = some r1 ∧ loop (M_busyOf_B4 μ2 z) fu (0, 0) = some r2 ∧ r1 = r2 by
    obtain ⟨r1, r2, e1, e2, h⟩ := key
    exact ⟨r1, by unfold X_busyOf; rw [e1], by unfold M_busyOf; rw [e2, h]⟩
  refine lock_e (b1 := X_busyOf_B4 σ' z) (b2 := M_busyOf_B4 μ2 z) (L.K.ns + 1) (fun k s => ∃ a, s = (a, nI k)) (fun r1 r2 => r1 = r2) (s := (0, 0)) ⟨0, rfl⟩ (fun k s hk hI => ?_) (fun s hI => ?_) (by omega)
  · obtain ⟨a, rfl⟩ := hI
    have kf : (L.K.ns < k) = False := eq_false (by omega)
    show Sm _ _ (X_busyOf_l4 σ' z a (nI k)) (M_busyOf_l4 μ2 z a (nI k))
    unfold X_busyOf_l4 M_busyOf_l4
    simp (disch := omega) only [A.hX.ns, A.hM2.steps_e, bd_some, nm_eq, lt_I, kf, if_false, inX, A.hM2.inside_e A.k, X_busyOf_j30, M_busyOf_j27, nI_1]
    refine Sm.ite (fun c => ?_) (fun c => ?_)
    · exact Sm.next rfl rfl ⟨_, rfl⟩
    · exact Sm.next rfl rfl ⟨_, rfl⟩
  · obtain ⟨a, rfl⟩ := hI
    have kf : (L.K.ns < L.K.ns + 1) = True := eq_true (by omega)
    show ∃ r1 r2, X_busyOf_l4 σ' z a (nI (L.K.ns + 1)) = some (.inr r1) ∧ M_busyOf_l4 μ2 z a (nI (L.K.ns + 1)) = some (.inr r2) ∧ _
    unfold X_busyOf_l4 M_busyOf_l4
    simp (disch := omega) only [A.hX.ns, A.hM2.steps_e, bd_some, nm_eq, lt_I, kf, if_true, X_busyOf_j38, M_busyOf_j35]
    exact ⟨_, _, rfl, rfl, rfl⟩
theorem q_peak (H : L.X σ) (G : Lh.M 0 L μ) (O : L.Ok) (v1 : Int32) : Ag σ μ (X_peak σ v1) (M_peak μ v1) := by
  obtain ⟨σ', μ', μ2, A⟩ := asked_e H G O
  unfold X_peak M_peak
  simp only [A.step, A.piece, A.lehr, A.isPiece, A.isZone, A.mStep, A.mPiece, A.mZone, A.mLehr, A.mThen, A.now, A.lay, bd_some, nm_eq, X_peak_j23]
  by_cases c0 : L.pieceG v1
  · simp only [decide_eq_true c0, bIt, bIf, if_true, if_false, Bool.and_true, Bool.and_false, Bool.false_and, Bool.true_and]
    obtain ⟨p, hp, rfl⟩ := c0.to O
    have hp : p < L.K.np := hp
    have hs : L.K.ns ≤ 14 := A.k.ns
    have hnp : L.K.np ≤ 6 := A.k.np
    have hnz : L.zones ≤ 7 := O.zones
    have zM : gI μ' 25 = nI L.zones := A.hM.nz
    have zM2 : gI μ2 25 = nI L.zones := A.hM2.nz
    have inX : ∀ {t : Nat} (z : Int32), t ≤ 15 → X_insideOf σ' z (nI t) = some (bits (fun p => decide (L.K.plM p t = z)) L.K.np) := fun z h => by rw [A.hX.inside_e A.k h z, show (fun p => decide (L.K.plX p _ = z)) = (fun p => decide (L.K.plM p _ = z)) from funext (fun p => by rw [L.pl])]
    have mX : ∀ c, J_bitCount (bits c L.K.np) = some (nI (cnt c L.K.np)) := fun c => (many_e c (by omega)).1
    have mM : ∀ c, M_sizeOf (bits c L.K.np) = some (nI (cnt c L.K.np)) := fun c => (many_e c (by omega)).2
    have airX : ∀ {z t : Nat}, z < L.K.nz → t ≤ 15 → X_airOf σ' (nI z) (nI t) = some (nI (L.K.airOf z t)) := fun hz ht => by have := A.hX.air_e A.k hz ht; rw [L.ord hz] at this; exact this
    obtain ⟨b, hb, e1, e2⟩ := when_e A hp
    simp (disch := omega) only [e1, e2, bd_some, A.rX.strain_e A.k, A.rM.strain_e A.k]
    exact ⟨_, σ', μ', rfl, rfl, A.fX, A.fM⟩
  · simp only [decide_eq_false c0, bIt, bIf, if_true, if_false, Bool.and_true, Bool.and_false, Bool.false_and, Bool.true_and]
    exact ⟨-2, σ', _, rfl, rfl, A.fX, A.fM0⟩
theorem q_when (H : L.X σ) (G : Lh.M 0 L μ) (O : L.Ok) (v1 : Int32) : Ag σ μ (X_when σ v1) (M_when μ v1) := by
  obtain ⟨σ', μ', μ2, A⟩ := asked_e H G O
  unfold X_when M_when
  simp only [A.step, A.piece, A.lehr, A.isPiece, A.isZone, A.mStep, A.mPiece, A.mZone, A.mLehr, A.mThen, A.now, A.lay, bd_some, nm_eq, X_when_j18]
  by_cases c0 : L.pieceG v1
  · simp only [decide_eq_true c0, bIt, bIf, if_true, if_false, Bool.and_true, Bool.and_false, Bool.false_and, Bool.true_and]
    obtain ⟨p, hp, rfl⟩ := c0.to O
    have hp : p < L.K.np := hp
    have hs : L.K.ns ≤ 14 := A.k.ns
    have hnp : L.K.np ≤ 6 := A.k.np
    have hnz : L.zones ≤ 7 := O.zones
    have zM : gI μ' 25 = nI L.zones := A.hM.nz
    have zM2 : gI μ2 25 = nI L.zones := A.hM2.nz
    have inX : ∀ {t : Nat} (z : Int32), t ≤ 15 → X_insideOf σ' z (nI t) = some (bits (fun p => decide (L.K.plM p t = z)) L.K.np) := fun z h => by rw [A.hX.inside_e A.k h z, show (fun p => decide (L.K.plX p _ = z)) = (fun p => decide (L.K.plM p _ = z)) from funext (fun p => by rw [L.pl])]
    have mX : ∀ c, J_bitCount (bits c L.K.np) = some (nI (cnt c L.K.np)) := fun c => (many_e c (by omega)).1
    have mM : ∀ c, M_sizeOf (bits c L.K.np) = some (nI (cnt c L.K.np)) := fun c => (many_e c (by omega)).2
    have airX : ∀ {z t : Nat}, z < L.K.nz → t ≤ 15 → X_airOf σ' (nI z) (nI t) = some (nI (L.K.airOf z t)) := fun hz ht => by have := A.hX.air_e A.k hz ht; rw [L.ord hz] at this; exact this
    obtain ⟨b, hb, e1, e2⟩ := when_e A hp
    simp only [e1, e2, bd_some]
    exact ⟨_, σ', μ', rfl, rfl, A.fX, A.fM⟩
  · simp only [decide_eq_false c0, bIt, bIf, if_true, if_false, Bool.and_true, Bool.and_false, Bool.false_and, Bool.true_and]
    exact ⟨-2, σ', _, rfl, rfl, A.fX, A.fM0⟩
theorem zone_lehr (O : L.Ok) {v : Int32} (h : L.zoneG v) : 0 < L.lines := by
  by_cases c : L.lines = 0
  · have := (O.none c).2.2.2.2.2.1
    have h1 := h.1; have h2 := h.2; omega
  · omega
theorem q_busy (H : L.X σ) (G : Lh.M 0 L μ) (O : L.Ok) (v1 : Int32) : Ag σ μ (X_busy σ v1) (M_busy μ v1) := by
  obtain ⟨σ', μ', μ2, A⟩ := asked_e H G O
  unfold X_busy M_busy
  simp only [A.lehr, A.isZone, A.mZone, A.lay, bd_some, nm_eq, X_busy_j25, X_busy_j23]
  by_cases c0 : L.zoneG v1
  · simp only [decide_eq_true c0, decide_eq_true (zone_lehr O c0), bIt, if_false]
    obtain ⟨b, e1, e2⟩ := busy_e A v1
    simp only [e1, e2, bd_some]
    exact ⟨_, σ', μ2, rfl, rfl, A.fX, A.fM2⟩
  · simp only [decide_eq_false c0, bIf, if_true, ite_self]
    exact ⟨-2, σ', _, rfl, rfl, A.fX, A.fM0⟩
