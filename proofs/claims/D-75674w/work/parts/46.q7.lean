set_option maxRecDepth 100000
/-! stage 2: questions, 7 -/
variable {L : Lh} {σ μ σ' μ' μ2 : PS}
theorem mn_I {a b : Nat} (ha : a < 2147483648) (hb : b < 2147483648) : mn (nI a) (nI b) = nI (min a b) := by
  unfold mn
  by_cases c : b < a
  · rw [if_pos ((lt_I hb ha).mpr c), Nat.min_eq_right (by omega)]
  · rw [if_neg (by rw [lt_I hb ha]; exact c), Nat.min_eq_left (by omega)]
theorem q_least (H : L.X σ) (G : Lh.M 0 L μ) (O : L.Ok) (v1 : Int32) : Ag σ μ (X_least σ v1) (M_least μ v1) := by
  obtain ⟨σ', μ', μ2, A⟩ := asked_e H G O
  have hs : L.K.ns ≤ 14 := A.k.ns
  have hn : L.K.np ≤ 6 := A.k.np
  unfold X_least M_least
  simp only [A.piece, A.mPiece, A.now, bd_some, nm_eq]
  by_cases c0 : L.pieceG v1
  · obtain ⟨p, hp, rfl⟩ := c0.to O
    have hp : p < L.K.np := hp
    have hc := A.k.comes p hp
    simp (disch := omega) only [decide_eq_true c0, bIt, if_false, A.hM.comes_e A.k hp, bd_some, ix_nI, rA_nI, A.hX.comes p hp]
    have key : ∃ r1 r2, loop (X_least_B25 σ' (nI p)) fu (1000000000, nI (L.K.comes p)) = some r1 ∧ loop (M_least_B29 μ' (nI p)) fu ((-1), nI (L.K.comes p)) = some r2 ∧ (r1.1 = r2.1 ∧ r1.2 = σ' ∧ r2.2 = μ') := by
      refine loop_lock (L.K.ns + 1 - L.K.comes p) (fun k s1 s2 => ∃ a b, s1 = (a, nI (L.K.comes p + k)) ∧ s2 = (b, nI (L.K.comes p + k)) ∧ ((a = 1000000000 ∧ b = -1) ∨ ∃ v, v ≤ 10000 ∧ a = nI v ∧ b = nI v)) _ (fun k s1 s2 hk hI => Or.inl ?_) (fun s1 s2 hI => ?_) ⟨_, _, rfl, rfl, Or.inl ⟨rfl, rfl⟩⟩ (by omega)
      · obtain ⟨a, b, rfl, rfl, hab⟩ := hI
        have kf : (L.K.ns < L.K.comes p + k) = False := eq_false (by omega)
        have hv := (A.k.R (L.K.comes p + k) p hp).skin
        have e1 : X_least_B25 σ' (nI p) (a, nI (L.K.comes p + k)) = some (.inl (mn a (nI (L.K.R (L.K.comes p + k) p).skin), nI (L.K.comes p + (k + 1)))) := by
          show X_least_l25 σ' (nI p) a (nI (L.K.comes p + k)) = _
          unfold X_least_l25
          simp (disch := omega) only [A.hX.ns, lt_I, kf, if_false, A.rX.skin_e A.k, bd_some, nm_eq, nI_1]; rfl
        rcases hab with ⟨rfl, rfl⟩ | ⟨v, hv2, rfl, rfl⟩
        · refine ⟨_, (nI (L.K.R (L.K.comes p + k) p).skin, nI (L.K.comes p + (k + 1))), e1, ?_, _, _, rfl, rfl, Or.inr ⟨_, hv, ?_, rfl⟩⟩
          · show M_least_l29 μ' (nI p) (-1) (nI (L.K.comes p + k)) = _
            unfold M_least_l29
            simp (disch := omega) only [A.hM.steps_e, lt_I, kf, if_false, A.rM.skin_e A.k, bd_some, nm_eq, nI_1, if_true, M_least_j61]; rfl
          · show mn (nI 1000000000) _ = _
            rw [mn_I (by omega) (by omega), Nat.min_eq_right (by omega)]
        · refine ⟨_, (mn (nI v) (nI (L.K.R (L.K.comes p + k) p).skin), nI (L.K.comes p + (k + 1))), e1, ?_, _, _, rfl, rfl, Or.inr ⟨min v (L.K.R (L.K.comes p + k) p).skin, by omega, mn_I (by omega) (by omega), mn_I (by omega) (by omega)⟩⟩
          show M_least_l29 μ' (nI p) (nI v) (nI (L.K.comes p + k)) = _
          unfold M_least_l29
          simp (disch := omega) only [A.hM.steps_e, lt_I, kf, if_false, A.rM.skin_e A.k, bd_some, nm_eq, nI_1, nI_m1, less_mn, M_least_j61]; rfl
      · obtain ⟨a, b, rfl, rfl, hab⟩ := hI
        have kf : L.K.ns < L.K.comes p + (L.K.ns + 1 - L.K.comes p) := by omega
        have eM : M_least_B29 μ' (nI p) (b, nI (L.K.comes p + (L.K.ns + 1 - L.K.comes p))) = some (.inr (b, μ')) := by
          show M_least_l29 μ' (nI p) b (nI (L.K.comes p + (L.K.ns + 1 - L.K.comes p))) = _
          unfold M_least_l29 M_least_j68
          rw [A.hM.steps_e, bd_some, if_pos (by rw [lt_I (by omega) (by omega)]; exact kf)]; rfl
        have eX : X_least_B25 σ' (nI p) (a, nI (L.K.comes p + (L.K.ns + 1 - L.K.comes p))) = some (.inr (b, σ')) := by
          show X_least_l25 σ' (nI p) a (nI (L.K.comes p + (L.K.ns + 1 - L.K.comes p))) = _
          unfold X_least_l25
          rw [A.hX.ns, if_pos (by rw [lt_I (by omega) (by omega)]; exact kf)]
          unfold X_least_j53 X_least_j65
          rcases hab with ⟨rfl, rfl⟩ | ⟨v, hv2, rfl, rfl⟩
          · rw [if_pos rfl]; rfl
          · rw [if_neg (fun h => by have := (eq_L (b := 1000000000) (by omega) (by omega)).mp h; omega)]; rfl
        exact ⟨_, _, eX, eM, rfl, rfl, rfl⟩
    exact Ag.of key A.fX A.fM
  · simp only [decide_eq_false c0, bIf, if_true]
    exact ⟨-2, σ', _, rfl, rfl, A.fX, A.fM0⟩
/-! spread -/
def mnO (b : Option Nat) (w : Nat) : Nat := match b with
  | none => w
  | some v => min v w
def mxO (b : Option Nat) (w : Nat) : Nat := match b with
  | none => w
  | some v => max v w
def Kf.mnF (K : Kf) (m : Nat → Nat) (t p : Nat) (b : Option Nat) : Option Nat := if K.comes p ≤ t then some (mnO b (m p)) else b
def Kf.mxF (K : Kf) (m : Nat → Nat) (t p : Nat) (b : Option Nat) : Option Nat := if K.comes p ≤ t then some (mxO b (m p)) else b
theorem Kf.best_mx (K : Kf) (m : Nat → Nat) (t : Nat) : ∀ n, (K.best m t n).map m = itr (K.mxF m t) none n
  | 0 => rfl
  | n + 1 => by
    have ih := Kf.best_mx K m t n
    show (K.bestF m t n (K.best m t n)).map m = K.mxF m t n (itr (K.mxF m t) none n)
    rw [← ih]
    unfold Kf.bestF Kf.mxF
    by_cases c : K.comes n ≤ t
    · rw [if_pos c]
      cases h : K.best m t n with
      | none => rw [if_pos ⟨c, better_none⟩]; rfl
      | some q =>
        by_cases c2 : m q < m n
        · rw [if_pos ⟨c, better_some.mpr c2⟩]
          show some (m n) = some (max (m q) (m n))
          rw [Nat.max_eq_right (by omega)]
        · rw [if_neg (fun h => c2 (better_some.mp h.2))]
          show some (m q) = some (max (m q) (m n))
          rw [Nat.max_eq_left (by omega)]
    · rw [if_neg (fun h => c h.1), if_neg c]
def farI : Option Nat → Int32
  | none => 1000000000
  | some v => nI v
theorem mx_I {a b : Nat} (ha : a < 2147483648) (hb : b < 2147483648) : mx (nI a) (nI b) = nI (max a b) := by
  unfold mx
  by_cases c : a < b
  · rw [if_pos ((lt_I ha hb).mpr c), Nat.max_eq_right (by omega)]
  · rw [if_neg (by rw [lt_I ha hb]; exact c), Nat.max_eq_left (by omega)]
theorem mx_m1 {b : Nat} (hb : b < 2147483648) : mx (-1) (nI b) = nI b := by
  unfold mx
  have h1 := nI_toInt (n := b) (by omega)
  have h2 : (-1 : Int32).toInt = -1 := by decide
  rw [if_pos (Int32.lt_iff_toInt_lt.mpr (by omega))]
theorem Kf.mx_ge (K : Kf) (m : Nat → Nat) (t : Nat) : ∀ n p, p < n → K.comes p ≤ t → ∃ T, itr (K.mxF m t) none n = some T ∧ m p ≤ T
  | 0, p, h, _ => absurd h (by omega)
  | n + 1, p, h, hc => by
    show ∃ T, K.mxF m t n (itr (K.mxF m t) none n) = some T ∧ _
    by_cases e : p = n
    · subst e
      generalize itr (K.mxF m t) none p = x
      unfold Kf.mxF
      rw [if_pos hc]
      refine ⟨_, rfl, ?_⟩
      cases x with
      | none => exact Nat.le_refl _
      | some v => exact Nat.le_max_right _ _
    · obtain ⟨T, e1, h1⟩ := Kf.mx_ge K m t n p (by omega) hc
      rw [e1]
      unfold Kf.mxF
      by_cases c : K.comes n ≤ t
      · rw [if_pos c]
        exact ⟨_, rfl, Nat.le_trans h1 (Nat.le_max_left _ _)⟩
      · rw [if_neg c]
        exact ⟨T, rfl, h1⟩
theorem Kf.mn_le (K : Kf) (m : Nat → Nat) (t B : Nat) : ∀ n, (∀ p, p < n → K.comes p ≤ t → m p ≤ B) → ∀ v, itr (K.mnF m t) none n = some v → v ≤ B
  | 0, _, v, h => by cases h
  | n + 1, hB, v, h => by
    have ih := Kf.mn_le K m t B n (fun p hp => hB p (by omega))
    have h : K.mnF m t n (itr (K.mnF m t) none n) = some v := h
    generalize itr (K.mnF m t) none n = x at h ih
    unfold Kf.mnF at h
    by_cases c : K.comes n ≤ t
    · rw [if_pos c] at h
      have := hB n (by omega) c
      cases x with
      | none => cases h; exact this
      | some w => cases h; exact Nat.le_trans (Nat.min_le_right _ _) this
    · rw [if_neg c] at h
      exact ih v h
theorem Kf.mnx (K : Kf) (m : Nat → Nat) (t : Nat) : ∀ n, (itr (K.mxF m t) none n).isSome = (itr (K.mnF m t) none n).isSome
  | 0 => rfl
  | n + 1 => by
    have ih := Kf.mnx K m t n
    show (K.mxF m t n (itr (K.mxF m t) none n)).isSome = (K.mnF m t n (itr (K.mnF m t) none n)).isSome
    generalize itr (K.mxF m t) none n = x at ih
    generalize itr (K.mnF m t) none n = y at ih
    unfold Kf.mxF Kf.mnF
    by_cases c : K.comes n ≤ t
    · rw [if_pos c, if_pos c]; rfl
    · rw [if_neg c, if_neg c]; exact ih
def gapO (T : Nat) (x : Option Nat) : Nat := match x with
  | none => 0
  | some v => T - v
theorem q_spread (H : L.X σ) (G : Lh.M 0 L μ) (O : L.Ok) (v1 : Int32) : Ag σ μ (X_spread σ v1) (M_spread μ v1) := by
  obtain ⟨σ', μ', μ2, A⟩ := asked_e H G O
  have hs : L.K.ns ≤ 14 := A.k.ns
  have hn : L.K.np ≤ 6 := A.k.np
  unfold X_spread M_spread
  simp only [A.step, A.mStep, A.now, bd_some, nm_eq]
  by_cases c0 : L.stepG v1
  · obtain ⟨t, ht, rfl⟩ := c0.to O
    have ht : t ≤ L.K.ns := ht
    have hb : ∀ p, p < L.K.np → (L.K.R t p).skin ≤ 10000 := fun p hp => (A.k.R t p hp).skin
    have eM := mostAt_e A.hM A.k (t := t) (by omega) 1 (fun p => (L.K.R t p).skin) (fun p hp => by unfold M_markOf M_markOf_j33; rw [if_neg (by decide), if_pos rfl, A.rM.skin_e A.k hp ht, bd_some]) (fun p hp => Nat.le_trans (hb p hp) (by decide))
    have eB := Kf.best_mx L.K (fun p => (L.K.R t p).skin) t L.K.np
    have lB := Kf.best_lt L.K (fun p => (L.K.R t p).skin) t L.K.np
    simp only [decide_eq_true c0, bIt, if_false, eM, bd_some]
    generalize hm : (fun p => (L.K.R t p).skin) = m at eB lB eM
    have hmp : ∀ p, (L.K.R t p).skin = m p := fun p => by rw [← hm]
    have hmb : ∀ p, p < L.K.np → m p ≤ 10000 := fun p hp => by rw [← hmp]; exact hb p hp
    have mnb := Kf.mn_le L.K m t 10000
    have eX : loop (X_spread_B20 σ' (nI t)) fu ((-1), 1000000000, 0) = some (match itr (L.K.mxF m t) none L.K.np, itr (L.K.mnF m t) none L.K.np with | some T, some v => (nI T - nI v, σ') | some T, none => (nI T - 1000000000, σ') | none, _ => (0, σ')) := by
      refine fold_e (fun x k => (oI x.1, farI x.2, nI k)) (fun p x => (L.K.mxF m t p x.1, L.K.mnF m t p x.2)) (fun k x => x = (itr (L.K.mxF m t) none k, itr (L.K.mnF m t) none k) ∧ (∀ v, x.1 = some v → v ≤ 10000) ∧ (∀ v, x.2 = some v → v ≤ 10000)) (none, none) L.K.np ⟨rfl, fun v h => (by cases h), fun v h => (by cases h)⟩ (fun k x hk hP => ⟨?_, ?_⟩) (fun x hx hP => ?_) (by omega)
      · obtain ⟨-, h1, h2⟩ := hP
        obtain ⟨x1, x2⟩ := x
        dsimp only at h1 h2
        show X_spread_l20 σ' (nI t) (oI x1) (farI x2) (nI k) = some (Sum.inl (oI (L.K.mxF m t k x1), farI (L.K.mnF m t k x2), nI (k + 1)))
        have hk2 := hmb k hk
        unfold X_spread_l20 Kf.mxF Kf.mnF
        rw [A.hX.np, if_neg (by rw [le_I (by omega) (by omega)]; omega), A.hX.come_e A.k hk (by omega), bd_some]
        by_cases c : L.K.comes k ≤ t
        · rw [decide_eq_true c, if_neg (by decide), A.rX.skin_e A.k hk ht, hmp, if_pos c, if_pos c]
          simp only [bd_some, nm_eq, X_spread_j69, nI_1]
          have q1 : mx (oI x1) (nI (m k)) = oI (some (mxO x1 (m k))) := by
            cases x1 with
            | none => exact mx_m1 (by omega)
            | some v => have := h1 v rfl; exact mx_I (by omega) (by omega)
          have q2 : mn (farI x2) (nI (m k)) = farI (some (mnO x2 (m k))) := by
            cases x2 with
            | none =>
              show mn (nI 1000000000) (nI (m k)) = nI (m k)
              rw [mn_I (by omega) (by omega), Nat.min_eq_right (by omega)]
            | some v => have := h2 v rfl; exact mn_I (by omega) (by omega)
          rw [q1, q2]
        · rw [decide_eq_false c, if_pos (by decide), if_neg c, if_neg c]
          simp only [X_spread_j69, nm_eq, nI_1]
      · obtain ⟨h0, h1, h2⟩ := hP
        subst h0
        refine ⟨rfl, fun v h => ?_, fun v h => mnb (k + 1) (fun p hp _ => hmb p (by omega)) v h⟩
        dsimp only at h h1
        generalize itr (L.K.mxF m t) none k = x1 at h h1
        unfold Kf.mxF at h
        have hk2 := hmb k hk
        by_cases c : L.K.comes k ≤ t
        · rw [if_pos c] at h
          cases x1 with
          | none => cases h; exact hk2
          | some w => cases h; have := h1 w rfl; exact Nat.max_le.mpr ⟨this, hk2⟩
        · rw [if_neg c] at h
          exact h1 v h
      · obtain ⟨h0, h1, h2⟩ := hP
        subst h0
        dsimp only at h1 h2
        generalize itr (L.K.mxF m t) none L.K.np = x1 at h1
        generalize itr (L.K.mnF m t) none L.K.np = x2 at h2
        show X_spread_l20 σ' (nI t) (oI x1) (farI x2) (nI L.K.np) = _
        unfold X_spread_l20 X_spread_j75 X_spread_j87
        rw [A.hX.np, if_pos (by rw [le_I (by omega) (by omega)]; omega)]
        cases x1 with
        | none => rfl
        | some T =>
          have := h1 T rfl
          rw [if_neg (show ¬ oI (some T) = -1 from fun h => (nI_m1 (by omega)).mp h)]
          cases x2 <;> rfl
    rw [eX]
    cases hB : L.K.best m t L.K.np with
    | none =>
      rw [hB] at eB
      have e0 : itr (L.K.mxF m t) none L.K.np = none := eB.symm
      have nc : ∀ p, p < L.K.np → ¬ L.K.comes p ≤ t := fun p hp hc => by
        obtain ⟨T, e1, -⟩ := Kf.mx_ge L.K m t L.K.np p hp hc
        rw [e0] at e1; cases e1
      rw [e0]
      refine ⟨0, σ', μ', rfl, ?_, A.fX, A.fM⟩
      refine loop_seq (fun k => (0, nI k)) L.K.np (fun k hk => ?_) ?_ (by omega)
      · show M_spread_l33 μ' (nI t) (oI none) 0 (nI k) = _
        unfold M_spread_l33
        rw [A.hM.pieces_e, bd_some, if_neg (by rw [le_I (by omega) (by omega)]; omega), A.hM.come_e A.k hk (by omega), bd_some, decide_eq_false (nc k hk), if_pos (by decide)]
        simp only [M_spread_j71, nm_eq, nI_1]
      · show M_spread_l33 μ' (nI t) (oI none) 0 (nI L.K.np) = _
        unfold M_spread_l33 M_spread_j77
        rw [A.hM.pieces_e, bd_some, if_pos (by rw [le_I (by omega) (by omega)]; omega)]; rfl
    | some q =>
      rw [hB] at eB
      have hq := lB q hB
      have e0 : itr (L.K.mxF m t) none L.K.np = some (m q) := eB.symm
      have top : ∀ p, p < L.K.np → L.K.comes p ≤ t → m p ≤ m q := fun p hp hc => by
        obtain ⟨T, e1, h1⟩ := Kf.mx_ge L.K m t L.K.np p hp hc
        rw [e0] at e1; cases e1; exact h1
      have hqb := hmb q hq
      have eM2 : loop (M_spread_B33 μ' (nI t) (oI (some q))) fu (0, 0) = some (nI (gapO (m q) (itr (L.K.mnF m t) none L.K.np)), μ') := by
        refine fold_e (fun x k => (nI (gapO (m q) x), nI k)) (L.K.mnF m t) (fun k x => x = itr (L.K.mnF m t) none k) none L.K.np rfl (fun k x hk hP => ⟨?_, by rw [hP]; rfl⟩) (fun x hx hP => ?_) (by omega)
        · show M_spread_l33 μ' (nI t) (nI q) (nI (gapO (m q) x)) (nI k) = some (Sum.inl (nI (gapO (m q) (L.K.mnF m t k x)), nI (k + 1)))
          have hg : gapO (m q) x ≤ 10000 := by
            cases x with
            | none => exact Nat.zero_le _
            | some v => exact Nat.le_trans (Nat.sub_le _ _) hqb
          unfold M_spread_l33 Kf.mnF
          rw [A.hM.pieces_e, bd_some, if_neg (by rw [le_I (by omega) (by omega)]; omega), A.hM.come_e A.k hk (by omega), bd_some]
          by_cases c : L.K.comes k ≤ t
          · have hkq := top k hk c
            rw [decide_eq_true c, if_neg (by decide), A.rM.skin_e A.k hq ht, bd_some, A.rM.skin_e A.k hk ht, bd_some, hmp, hmp, pk_sub hkq, more_mx, bd_some, mx_I (by omega) (by omega), if_pos c]
            simp only [M_spread_j71, nm_eq, nI_1]
            have e9 : max (gapO (m q) x) (m q - m k) = gapO (m q) (some (mnO x (m k))) := by
              cases x with
              | none =>
                show max 0 (m q - m k) = m q - m k
                omega
              | some v =>
                show max (m q - v) (m q - m k) = m q - min v (m k)
                omega
            rw [e9]
          · rw [decide_eq_false c, if_pos (by decide), if_neg c]
            simp only [M_spread_j71, nm_eq, nI_1]
        · show M_spread_l33 μ' (nI t) (nI q) (nI (gapO (m q) x)) (nI L.K.np) = _
          unfold M_spread_l33 M_spread_j77
          rw [A.hM.pieces_e, bd_some, if_pos (by rw [le_I (by omega) (by omega)]; omega), hP]; rfl
      have e3 := Kf.mnx L.K m t L.K.np
      have e4 := Kf.mn_le L.K m t (m q) L.K.np top
      rw [eM2, e0]
      rw [e0] at e3
      cases hv : itr (L.K.mnF m t) none L.K.np with
      | none => rw [hv] at e3; cases e3
      | some v =>
        have hle := e4 v hv
        refine ⟨nI (m q - v), σ', μ', ?_, rfl, A.fX, A.fM⟩
        show some (nI (m q) - nI v, σ') = _
        rw [pk_sub hle]
  · simp only [decide_eq_false c0, bIf, if_true]
    exact ⟨-2, σ', _, rfl, rfl, A.fX, A.fM0⟩
