set_option maxRecDepth 100000
/-! stage 2: what questions read -/
def bits (c : Nat → Bool) (n : Nat) : Int32 := itr (fun p a => a ||| (if c p = true then 1 <<< (nI p &&& 31) else 0)) 0 n
def cnt (c : Nat → Bool) (n : Nat) : Nat := itr (fun p a => if c p = true then a + 1 else a) 0 n
def Kf.wh (K : Kf) (p t : Nat) : Bool := match (K.R K.ns p).crack with
  | none => true
  | some c => decide (t < c)
def Kf.so (K : Kf) (p : Nat) : Bool := (K.R K.ns p).crack.isNone
/-- a loop that tells one thing over and over -/
theorem fold_e {S R : Type} {b : S → Option (S ⊕ R)} {α : Type} (g : α → Nat → S) (f : Nat → α → α) (P : Nat → α → Prop) (a : α) (N : Nat) {r : R} (h0 : P 0 a) (hs : ∀ k x, k < N → P k x → b (g x k) = some (.inl (g (f k x) (k + 1))) ∧ P (k + 1) (f k x)) (he : ∀ x, x = itr f a N → P N x → b (g x N) = some (.inr r)) (hN : N < 4096) : loop b fu (g a 0) = some r := by
  obtain ⟨r', e, rfl⟩ := loop_one (b := b) N (fun k s => s = g (itr f a k) k ∧ P k (itr f a k)) (fun x => x = r) (fun k s hk h => Or.inl ⟨g (itr f a (k + 1)) (k + 1), by rw [h.1]; exact (hs k _ hk h.2).1, rfl, (hs k _ hk h.2).2⟩) (fun s h => ⟨r, by rw [h.1]; exact he _ rfl h.2, rfl⟩) (s := g a 0) ⟨rfl, h0⟩ hN
  exact e
theorem itr_P {α : Type} {f : Nat → α → α} {P : Nat → α → Prop} {a : α} (h0 : P 0 a) : ∀ (n : Nat), (∀ k x, k < n → P k x → P (k + 1) (f k x)) → P n (itr f a n)
  | 0, _ => h0
  | n + 1, h => h n _ (by omega) (itr_P h0 n (fun k x hk => h k x (by omega)))
variable {K : Kf} {σ μ : PS}
theorem Kf.X.come_e (H : K.X σ) (O : K.Ok) {p t : Nat} (hp : p < K.np) (ht : t ≤ 15) : X_hasCome σ (nI p) (nI t) = some (bI (decide (K.comes p ≤ t))) := by
  have hn := O.np; have hc := O.comes p hp
  unfold X_hasCome X_hasCome_j18
  simp (disch := omega) only [ix_nI, rA_nI, H.comes p hp, lt_I]
  by_cases c : t < K.comes p
  · rw [if_pos c, decide_eq_false (by omega)]; rfl
  · rw [if_neg c, decide_eq_true (by omega)]; rfl
theorem Kf.M.come_e (H : K.M μ) (O : K.Ok) {p t : Nat} (hp : p < K.np) (ht : t ≤ 15) : M_hasCome μ (nI p) (nI t) = some (bI (decide (K.comes p ≤ t))) := by
  have hn := O.np; have hc := O.comes p hp
  unfold M_hasCome M_hasCome_j14
  simp (disch := omega) only [H.comes_e O hp, bd_some, lt_I]
  by_cases c : t < K.comes p
  · rw [if_pos c, decide_eq_false (by omega)]; rfl
  · rw [if_neg c, decide_eq_true (by omega)]; rfl
theorem Kf.RX.skin_e (R : K.RX σ) (O : K.Ok) {p t : Nat} (hp : p < K.np) (ht : t ≤ K.ns) : X_skinOf σ (nI p) (nI t) = some (nI (K.R t p).skin) := by
  have hn := O.np; have hs := O.ns
  unfold X_skinOf
  simp (disch := omega) only [mul_L, nI_add, ix_nI, rA_nI, R.skin t p ht hp]
theorem Kf.RX.core_e (R : K.RX σ) (O : K.Ok) {p t : Nat} (hp : p < K.np) (ht : t ≤ K.ns) : X_coreOf σ (nI p) (nI t) = some (nI (K.R t p).core) := by
  have hn := O.np; have hs := O.ns
  unfold X_coreOf
  simp (disch := omega) only [mul_L, nI_add, ix_nI, rA_nI, R.core t p ht hp]
theorem Kf.RX.strain_e (R : K.RX σ) (O : K.Ok) {p t : Nat} (hp : p < K.np) (ht : t ≤ K.ns) : X_strainOf σ (nI p) (nI t) = some (nI (dist (K.R t p).skin (K.R t p).core)) := by
  have B := O.R t p hp; have b1 := B.skin; have b2 := B.core
  unfold X_strainOf
  rw [R.skin_e O hp ht, bd_some, R.core_e O hp ht, bd_some, apart_e (by omega) (by omega), bd_some]
theorem Kf.RM.skin_e (R : K.RM μ) (O : K.Ok) {p t : Nat} (hp : p < K.np) (ht : t ≤ K.ns) : M_skinOf μ (nI p) (nI t) = some (nI (K.R t p).skin) := by
  have hn := O.np; have hs := O.ns
  rw [M_skin_e (by omega) (by omega), R.skin t p ht hp]
theorem Kf.RM.core_e (R : K.RM μ) (O : K.Ok) {p t : Nat} (hp : p < K.np) (ht : t ≤ K.ns) : M_coreOf μ (nI p) (nI t) = some (nI (K.R t p).core) := by
  have hn := O.np; have hs := O.ns
  rw [M_core_e (by omega) (by omega), R.core t p ht hp]
theorem Kf.RM.strain_e (R : K.RM μ) (O : K.Ok) {p t : Nat} (hp : p < K.np) (ht : t ≤ K.ns) : M_strainOf μ (nI p) (nI t) = some (nI (dist (K.R t p).skin (K.R t p).core)) := by
  have B := O.R t p hp; have b1 := B.skin; have b2 := B.core
  unfold M_strainOf
  rw [R.skin_e O hp ht, bd_some, R.core_e O hp ht, bd_some, M_apart_e (by omega) (by omega), bd_some]
theorem Kf.Ok.crk (O : K.Ok) {p : Nat} (hp : p < K.np) : ∀ n, (K.R K.ns p).crack = some n → n ≤ 14 := fun n hn => by
  have := (O.R K.ns p hp).crack n hn; have := O.ns; omega
theorem Kf.RX.sound_e (R : K.RX σ) (O : K.Ok) {p : Nat} (hp : p < K.np) : X_isSound σ (nI p) = some (bI (K.so p)) := by
  have hn := O.np; have hc := O.crk hp
  unfold X_isSound X_isSound_j15 Kf.so
  simp (disch := omega) only [ix_nI, rA_nI, R.crack p hp]
  cases h : (K.R K.ns p).crack with
  | none => rfl
  | some n => rw [if_neg (by rw [oI_m1 (fun m hm => by cases hm; have := hc n h; omega)]; exact fun h => by cases h)]; rfl
theorem Kf.RX.whole_e (R : K.RX σ) (O : K.Ok) {p t : Nat} (hp : p < K.np) (ht : t ≤ 15) : X_isWhole σ (nI p) (nI t) = some (bI (K.wh p t)) := by
  have hn := O.np; have hc := O.crk hp
  unfold X_isWhole X_isWhole_j20 X_isWhole_j25 Kf.wh
  simp (disch := omega) only [ix_nI, rA_nI, R.crack p hp]
  cases h : (K.R K.ns p).crack with
  | none => rfl
  | some n =>
    have := hc n h
    rw [if_neg (by rw [oI_m1 (fun m hm => by cases hm; omega)]; exact fun h => by cases h)]
    show (if nI n ≤ nI t then _ else _) = some (bI (decide (t < n)))
    by_cases c : t < n
    · rw [if_neg (by rw [le_I (by omega) (by omega)]; omega), decide_eq_true c]; rfl
    · rw [if_pos (by rw [le_I (by omega) (by omega)]; omega), decide_eq_false c]; rfl
theorem Kf.RM.whole_e (R : K.RM μ) (O : K.Ok) {p t : Nat} (hp : p < K.np) (ht : t ≤ 15) : M_isWhole μ (nI p) (nI t) = some (bI (K.wh p t)) := by
  have hn := O.np; have hc := O.crk hp
  unfold M_isWhole M_isWhole_j20 M_isWhole_j25 Kf.wh
  simp (disch := omega) only [ix_nI, rA_nI, R.crack p hp]
  cases h : (K.R K.ns p).crack with
  | none => rfl
  | some n =>
    have := hc n h
    rw [if_neg (by rw [oI_m1 (fun m hm => by cases hm; omega)]; exact fun h => by cases h)]
    show (if nI n ≤ nI t then _ else _) = some (bI (decide (t < n)))
    by_cases c : t < n
    · rw [if_neg (by rw [le_I (by omega) (by omega)]; omega), decide_eq_true c]; rfl
    · rw [if_pos (by rw [le_I (by omega) (by omega)]; omega), decide_eq_false c]; rfl
theorem Kf.RX.soundNow_e (R : K.RX σ) (H : K.X σ) (O : K.Ok) : X_soundNow σ = some (bits K.so K.np) := by
  have hn := O.np
  unfold X_soundNow
  refine fold_e (fun a k => (a, nI k)) (fun p a => a ||| (if K.so p = true then 1 <<< (nI p &&& 31) else 0)) (fun _ _ => True) 0 K.np trivial (fun k x hk _ => ⟨?_, trivial⟩) (fun x hx _ => ?_) (by omega)
  · show X_soundNow_l4 σ x (nI k) = _
    unfold X_soundNow_l4 X_soundNow_j31
    rw [H.np, if_neg (by rw [le_I (by omega) (by omega)]; omega), R.sound_e O hk, bd_some]
    simp only [nm_eq, nI_1]
    cases K.so k <;> rfl
  · show X_soundNow_l4 σ x (nI K.np) = _
    unfold X_soundNow_l4 X_soundNow_j39
    rw [H.np, if_pos (by rw [le_I (by omega) (by omega)]; omega), hx]; rfl
theorem Kf.RM.crack_m1 (R : K.RM μ) (O : K.Ok) {p : Nat} (hp : p < K.np) : gA μ 34 p = -1 ↔ K.so p = true := by
  have hc := O.crk hp
  rw [R.crack p hp, oI_m1 (fun m hm => by have := hc m hm; omega)]
  unfold Kf.so
  cases (K.R K.ns p).crack <;> simp
theorem Kf.RM.soundNow_e (R : K.RM μ) (H : K.M μ) (O : K.Ok) : M_soundNow μ = some (bits K.so K.np) := by
  have hn := O.np
  unfold M_soundNow
  refine fold_e (fun a k => (a, nI k)) (fun p a => a ||| (if K.so p = true then 1 <<< (nI p &&& 31) else 0)) (fun _ _ => True) 0 K.np trivial (fun k x hk _ => ⟨?_, trivial⟩) (fun x hx _ => ?_) (by omega)
  · show M_soundNow_l4 μ x (nI k) = _
    unfold M_soundNow_l4 M_soundNow_j30
    rw [H.pieces_e, bd_some, if_neg (by rw [le_I (by omega) (by omega)]; omega), ix_nI (by omega) (by omega), rA_nI (by omega)]
    simp only [nm_eq, nI_1, R.crack_m1 O hk]
    cases K.so k <;> rfl
  · show M_soundNow_l4 μ x (nI K.np) = _
    unfold M_soundNow_l4 M_soundNow_j38
    rw [H.pieces_e, bd_some, if_pos (by rw [le_I (by omega) (by omega)]; omega), hx]; rfl
theorem Kf.X.inside_e (H : K.X σ) (O : K.Ok) {t : Nat} (ht : t ≤ 15) (z : Int32) : X_insideOf σ z (nI t) = some (bits (fun p => decide (K.plX p t = z)) K.np) := by
  have hn := O.np
  unfold X_insideOf
  refine fold_e (fun a k => (a, nI k)) (fun p a => a ||| (if decide (K.plX p t = z) = true then 1 <<< (nI p &&& 31) else 0)) (fun _ _ => True) 0 K.np trivial (fun k x hk _ => ⟨?_, trivial⟩) (fun x hx _ => ?_) (by omega)
  · show X_insideOf_l5 σ z (nI t) x (nI k) = _
    unfold X_insideOf_l5 X_insideOf_j37
    rw [H.np, if_neg (by rw [le_I (by omega) (by omega)]; omega), H.place O hk ht, bd_some]
    simp only [nm_eq, nI_1]
    by_cases c : K.plX k t = z
    · rw [if_pos c, decide_eq_true c]; rfl
    · rw [if_neg c, decide_eq_false c]; rfl
  · show X_insideOf_l5 σ z (nI t) x (nI K.np) = _
    unfold X_insideOf_l5 X_insideOf_j45
    rw [H.np, if_pos (by rw [le_I (by omega) (by omega)]; omega), hx]; rfl
theorem Kf.M.inside_e (H : K.M μ) (O : K.Ok) {t : Nat} (ht : t ≤ 15) (z : Int32) : M_insideOf μ z (nI t) = some (bits (fun p => decide (K.plM p t = z)) K.np) := by
  have hn := O.np
  unfold M_insideOf
  refine fold_e (fun a k => (a, nI k)) (fun p a => a ||| (if decide (K.plM p t = z) = true then 1 <<< (nI p &&& 31) else 0)) (fun _ _ => True) 0 K.np trivial (fun k x hk _ => ⟨?_, trivial⟩) (fun x hx _ => ?_) (by omega)
  · show M_insideOf_l5 μ z (nI t) x (nI k) = _
    unfold M_insideOf_l5 M_insideOf_j34
    rw [H.pieces_e, bd_some, if_neg (by rw [le_I (by omega) (by omega)]; omega), H.place O hk ht, bd_some]
    simp only [nm_eq, nI_1]
    by_cases c : K.plM k t = z
    · rw [if_pos c, decide_eq_true c]; rfl
    · rw [if_neg c, decide_eq_false c]; rfl
  · show M_insideOf_l5 μ z (nI t) x (nI K.np) = _
    unfold M_insideOf_l5 M_insideOf_j42
    rw [H.pieces_e, bd_some, if_pos (by rw [le_I (by omega) (by omega)]; omega), hx]; rfl
/-! how many -/
theorem bits7 : ∀ a b c d e f g : Bool, J_bitCount ((((((((0 : Int32) ||| (if a = true then (1 : Int32) <<< (nI 0 &&& 31) else 0)) ||| (if b = true then (1 : Int32) <<< (nI 1 &&& 31) else 0)) ||| (if c = true then (1 : Int32) <<< (nI 2 &&& 31) else 0)) ||| (if d = true then (1 : Int32) <<< (nI 3 &&& 31) else 0)) ||| (if e = true then (1 : Int32) <<< (nI 4 &&& 31) else 0)) ||| (if f = true then (1 : Int32) <<< (nI 5 &&& 31) else 0)) ||| (if g = true then (1 : Int32) <<< (nI 6 &&& 31) else 0)) = some (nI (a.toNat + b.toNat + c.toNat + d.toNat + e.toNat + f.toNat + g.toNat))
    ∧ M_sizeOf ((((((((0 : Int32) ||| (if a = true then (1 : Int32) <<< (nI 0 &&& 31) else 0)) ||| (if b = true then (1 : Int32) <<< (nI 1 &&& 31) else 0)) ||| (if c = true then (1 : Int32) <<< (nI 2 &&& 31) else 0)) ||| (if d = true then (1 : Int32) <<< (nI 3 &&& 31) else 0)) ||| (if e = true then (1 : Int32) <<< (nI 4 &&& 31) else 0)) ||| (if f = true then (1 : Int32) <<< (nI 5 &&& 31) else 0)) ||| (if g = true then (1 : Int32) <<< (nI 6 &&& 31) else 0)) = some (nI (a.toNat + b.toNat + c.toNat + d.toNat + e.toNat + f.toNat + g.toNat)) := by decide +kernel
theorem bits_to7 (c : Nat → Bool) : ∀ (m n : Nat), n ≤ m → bits c n = bits (fun p => decide (p < n) && c p) m
  | 0, n, h => by obtain rfl : n = 0 := by omega
                  rfl
  | m + 1, n, h => by
    by_cases e : n = m + 1
    · subst e
      refine itr_cong (m + 1) (fun k x hk => ?_)
      have e : (decide (k < m + 1) && c k) = c k := by rw [decide_eq_true hk, Bool.true_and]
      exact congrArg (fun b : Bool => x ||| (if b = true then 1 <<< (nI k &&& 31) else 0)) e.symm
    · rw [bits_to7 c m n (by omega)]
      have em : (decide (m < n) && c m) = false := by rw [decide_eq_false (by omega), Bool.false_and]
      show _ = bits (fun p => decide (p < n) && c p) m ||| (if (decide (m < n) && c m) = true then 1 <<< (nI m &&& 31) else 0)
      rw [em, if_neg (by decide), Int32.or_zero]
theorem cnt_to7 (c : Nat → Bool) : ∀ (m n : Nat), n ≤ m → cnt c n = cnt (fun p => decide (p < n) && c p) m
  | 0, n, h => by obtain rfl : n = 0 := by omega
                  rfl
  | m + 1, n, h => by
    by_cases e : n = m + 1
    · subst e
      refine itr_cong (m + 1) (fun k x hk => ?_)
      have e : (decide (k < m + 1) && c k) = c k := by rw [decide_eq_true hk, Bool.true_and]
      exact congrArg (fun b : Bool => if b = true then x + 1 else x) e.symm
    · rw [cnt_to7 c m n (by omega)]
      have em : (decide (m < n) && c m) = false := by rw [decide_eq_false (by omega), Bool.false_and]
      show _ = if (decide (m < n) && c m) = true then cnt (fun p => decide (p < n) && c p) m + 1 else cnt (fun p => decide (p < n) && c p) m
      rw [em, if_neg (by decide)]
theorem cnt_b (a : Nat) (b : Bool) : (if b = true then a + 1 else a) = a + b.toNat := by cases b <;> rfl
theorem many_e (c : Nat → Bool) {n : Nat} (h : n ≤ 7) : J_bitCount (bits c n) = some (nI (cnt c n)) ∧ M_sizeOf (bits c n) = some (nI (cnt c n)) := by
  rw [bits_to7 c 7 n h, cnt_to7 c 7 n h]
  generalize (fun p => decide (p < n) && c p) = d
  have e : cnt d 7 = (d 0).toNat + (d 1).toNat + (d 2).toNat + (d 3).toNat + (d 4).toNat + (d 5).toNat + (d 6).toNat := by
    have q : ∀ m, cnt d (m + 1) = cnt d m + (d m).toNat := fun m => cnt_b _ _
    rw [q 6, q 5, q 4, q 3, q 2, q 1, q 0, show cnt d 0 = 0 from rfl, Nat.zero_add]
  rw [e]
  exact bits7 (d 0) (d 1) (d 2) (d 3) (d 4) (d 5) (d 6)
theorem Kf.RX.soundMany_e (R : K.RX σ) (H : K.X σ) (O : K.Ok) : X_soundMany σ = some (nI (cnt K.so K.np)) := by
  have := O.np
  unfold X_soundMany
  rw [R.soundNow_e H O, bd_some, (many_e K.so (by omega)).1, bd_some]
