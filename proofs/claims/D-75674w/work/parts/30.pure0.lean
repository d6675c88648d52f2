set_option maxRecDepth 100000
/-! stage 2, pure: laws of the pure words -/
theorem gI_sI (σ : PS) (k : Nat) (v : Int32) (j : Nat) : gI (sI σ k v) j = if j = k then v else gI σ j := rfl
theorem gL_sI (σ : PS) (k : Nat) (v : Int32) (j : Nat) : gL (sI σ k v) j = gL σ j := rfl
theorem gA_sI (σ : PS) (k : Nat) (v : Int32) (j : Nat) : gA (sI σ k v) j = gA σ j := rfl
theorem gB_sI (σ : PS) (k : Nat) (v : Int32) (j : Nat) : gB (sI σ k v) j = gB σ j := rfl
theorem gI_sL (σ : PS) (k : Nat) (v : Int64) (j : Nat) : gI (sL σ k v) j = gI σ j := rfl
theorem gL_sL (σ : PS) (k : Nat) (v : Int64) (j : Nat) : gL (sL σ k v) j = if j = k then v else gL σ j := rfl
theorem gA_sL (σ : PS) (k : Nat) (v : Int64) (j : Nat) : gA (sL σ k v) j = gA σ j := rfl
theorem gB_sL (σ : PS) (k : Nat) (v : Int64) (j : Nat) : gB (sL σ k v) j = gB σ j := rfl
theorem gI_sA (σ : PS) (k : Nat) (f : Nat → Int32) (j : Nat) : gI (sA σ k f) j = gI σ j := rfl
theorem gL_sA (σ : PS) (k : Nat) (f : Nat → Int32) (j : Nat) : gL (sA σ k f) j = gL σ j := rfl
theorem gA_sA (σ : PS) (k : Nat) (f : Nat → Int32) (j : Nat) : gA (sA σ k f) j = if j = k then f else gA σ j := rfl
theorem gB_sA (σ : PS) (k : Nat) (f : Nat → Int32) (j : Nat) : gB (sA σ k f) j = gB σ j := rfl
theorem gI_sB (σ : PS) (k : Nat) (f : Nat → Int64) (j : Nat) : gI (sB σ k f) j = gI σ j := rfl
theorem gL_sB (σ : PS) (k : Nat) (f : Nat → Int64) (j : Nat) : gL (sB σ k f) j = gL σ j := rfl
theorem gA_sB (σ : PS) (k : Nat) (f : Nat → Int64) (j : Nat) : gA (sB σ k f) j = gA σ j := rfl
theorem gB_sB (σ : PS) (k : Nat) (f : Nat → Int64) (j : Nat) : gB (sB σ k f) j = if j = k then f else gB σ j := rfl
theorem rA_nI {σ : PS} {k i : Nat} (h : i < 2147483648) : rA σ k (nI i) = gA σ k i := by
  unfold rA; rw [nI_clamp h]
theorem rB_nI {σ : PS} {k i : Nat} (h : i < 2147483648) : rB σ k (nI i) = gB σ k i := by
  unfold rB; rw [nI_clamp h]
theorem wA_nI {σ : PS} {k i : Nat} {v : Int32} (h : i < 2147483648) : wA σ k (nI i) v = sA σ k (upd (gA σ k) i v) := by
  unfold wA; rw [nI_clamp h]
theorem wB_nI {σ : PS} {k i : Nat} {v : Int64} (h : i < 2147483648) : wB σ k (nI i) v = sB σ k (vp_updL (gB σ k) i v) := by
  unfold wB; rw [nI_clamp h]
theorem ix_nI {α : Type} {i n : Nat} {x : Option α} (h : i < n) (hn : n < 2147483648) : ix (nI i) n x = x := by
  unfold ix; rw [if_neg (nI_in h hn)]
theorem ix_out {α : Type} {i : Int32} {n : Nat} {x : Option α} (h : ¬ vp_in i n) : ix i n x = none := by
  unfold ix; rw [if_pos (Classical.byContradiction h)]
theorem nz_nI {α : Type} {n : Nat} {x : Option α} (h0 : 0 < n) (hn : n < 2147483648) : nz (nI n) x = x := by
  unfold nz; rw [if_neg (nI_ne0 h0 hn)]
theorem nz_ne {α : Type} {y : Int32} {x : Option α} (h0 : y ≠ 0) : nz y x = x := by
  unfold nz; rw [if_neg h0]
theorem tz_0 {α : Type} {x : Option α} : tz 0 x = x := rfl
theorem tz_1 {α : Type} {x : Option α} : tz 1 x = x := rfl
theorem tz_n0 {α : Type} {x : Option α} : tz (nI 0) x = x := rfl
theorem tz_n1 {α : Type} {x : Option α} : tz (nI 1) x = x := rfl
theorem bd_some {α β : Type} {a : α} {f : α → Option β} : bd (some a) f = f a := Eq.trans rfl rfl
theorem nm_eq {α β : Type} {a : α} {f : α → Option β} : nm a f = f a := Eq.trans rfl rfl
theorem up_some {S R : Type} {r : R} : (up (some r) : Option (S ⊕ R)) = some (.inr r) := rfl
theorem up_if {S R : Type} {c : Prop} {hd : Decidable c} {x y : Option R} : (up (@ite _ c hd x y) : Option (S ⊕ R)) = @ite _ c hd (up x) (up y) := by
  by_cases h : c
  · rw [if_pos h, if_pos h]
  · rw [if_neg h, if_neg h]
theorem bd_if {α β : Type} {c : Prop} {hd : Decidable c} {x y : Option α} {f : α → Option β} : bd (@ite _ c hd x y) f = @ite _ c hd (bd x f) (bd y f) := by
  by_cases h : c
  · rw [if_pos h, if_pos h]
  · rw [if_neg h, if_neg h]
/-! loops -/
theorem loop_one {S R : Type} {b : S → Option (S ⊕ R)} (N : Nat) (I : Nat → S → Prop) (Q : R → Prop)
    (hs : ∀ (k : Nat) (s : S), k < N → I k s → (∃ t, b s = some (.inl t) ∧ I (k + 1) t) ∨ (∃ r, b s = some (.inr r) ∧ Q r))
    (he : ∀ s : S, I N s → ∃ r, b s = some (.inr r) ∧ Q r) {s : S} (h0 : I 0 s) (hN : N < 4096) : ∃ r, loop b fu s = some r ∧ Q r := by
  have key : ∀ (n k : Nat) (s : S), k ≤ N → N - k < n → I k s → ∃ r, loop b n s = some r ∧ Q r := by
    intro n
    induction n with
    | zero => intro k s _ h _; omega
    | succ n ih =>
      intro k s hk hn hI
      by_cases hlt : k < N
      · rcases hs k s hlt hI with ⟨t, e, hI'⟩ | ⟨r, e, hq⟩
        · obtain ⟨r, e2, hq⟩ := ih (k + 1) t hlt (by omega) hI'
          exact ⟨r, by simp only [loop, e]; exact e2, hq⟩
        · exact ⟨r, by simp only [loop, e], hq⟩
      · obtain rfl : k = N := by omega
        obtain ⟨r, e, hq⟩ := he s hI
        exact ⟨r, by simp only [loop, e], hq⟩
  exact key fu 0 s (Nat.zero_le _) (by unfold fu; omega) h0
theorem loop_seq {S R : Type} {b : S → Option (S ⊕ R)} (f : Nat → S) (N : Nat) {r : R} (hs : ∀ k, k < N → b (f k) = some (.inl (f (k + 1)))) (he : b (f N) = some (.inr r)) (hN : N < 4096) : loop b fu (f 0) = some r := by
  obtain ⟨r', e, rfl⟩ := loop_one N (fun k s => s = f k) (fun x => x = r) (fun k s hk h => Or.inl ⟨f (k + 1), by rw [h]; exact hs k hk, rfl⟩) (fun s h => ⟨r, by rw [h]; exact he, rfl⟩) rfl hN
  exact e
theorem loop_lock {S1 S2 R1 R2 : Type} {b1 : S1 → Option (S1 ⊕ R1)} {b2 : S2 → Option (S2 ⊕ R2)} (N : Nat) (I : Nat → S1 → S2 → Prop) (Q : R1 → R2 → Prop)
    (hs : ∀ (k : Nat) (s1 : S1) (s2 : S2), k < N → I k s1 s2 → (∃ t1 t2, b1 s1 = some (.inl t1) ∧ b2 s2 = some (.inl t2) ∧ I (k + 1) t1 t2) ∨ (∃ r1 r2, b1 s1 = some (.inr r1) ∧ b2 s2 = some (.inr r2) ∧ Q r1 r2))
    (he : ∀ (s1 : S1) (s2 : S2), I N s1 s2 → ∃ r1 r2, b1 s1 = some (.inr r1) ∧ b2 s2 = some (.inr r2) ∧ Q r1 r2) {s1 : S1} {s2 : S2} (h0 : I 0 s1 s2) (hN : N < 4096) :
    ∃ r1 r2, loop b1 fu s1 = some r1 ∧ loop b2 fu s2 = some r2 ∧ Q r1 r2 := by
  have key : ∀ (n k : Nat) (s1 : S1) (s2 : S2), k ≤ N → N - k < n → I k s1 s2 → ∃ r1 r2, loop b1 n s1 = some r1 ∧ loop b2 n s2 = some r2 ∧ Q r1 r2 := by
    intro n
    induction n with
    | zero => intro k s1 s2 _ h _; omega
    | succ n ih =>
      intro k s1 s2 hk hn hI
      by_cases hlt : k < N
      · rcases hs k s1 s2 hlt hI with ⟨t1, t2, e1, e2, hI'⟩ | ⟨r1, r2, e1, e2, hq⟩
        · obtain ⟨r1, r2, f1, f2, hq⟩ := ih (k + 1) t1 t2 hlt (by omega) hI'
          exact ⟨r1, r2, by simp only [loop, e1]; exact f1, by simp only [loop, e2]; exact f2, hq⟩
        · exact ⟨r1, r2, by simp only [loop, e1], by simp only [loop, e2], hq⟩
      · obtain rfl : k = N := by omega
        obtain ⟨r1, r2, e1, e2, hq⟩ := he s1 s2 hI
        exact ⟨r1, r2, by simp only [loop, e1], by simp only [loop, e2], hq⟩
  exact key fu 0 s1 s2 (Nat.zero_le _) (by unfold fu; omega) h0
/-- told k times -/
def itr {α : Type} (f : Nat → α → α) (a : α) : Nat → α
  | 0 => a
  | k + 1 => f k (itr f a k)
theorem itr_cong {α : Type} {f g : Nat → α → α} {a : α} : ∀ (n : Nat), (∀ k x, k < n → f k x = g k x) → itr f a n = itr g a n
  | 0, _ => rfl
  | n + 1, h => by
    show f n (itr f a n) = g n (itr g a n)
    rw [itr_cong n (fun k x hk => h k x (by omega)), h n _ (by omega)]
/-! ints within bounds -/
def inR (x : Int32) (lo hi : Nat) : Prop := ∃ n : Nat, x = nI n ∧ lo ≤ n ∧ n ≤ hi
/-- comparisons of longs -/
theorem lc_lt (a b : Int64) : lg_cmp a b < 0 ↔ a.toInt < b.toInt := by
  unfold lg_cmp
  by_cases c1 : b < a
  · have h1 := Int64.lt_iff_toInt_lt.mp c1
    rw [if_pos c1]
    exact ⟨fun h => absurd h (by decide), fun h => by omega⟩
  · have h1 : ¬ b.toInt < a.toInt := fun h => c1 (Int64.lt_iff_toInt_lt.mpr h)
    rw [if_neg c1]
    by_cases c2 : a = b
    · rw [if_pos c2, c2]
      exact ⟨fun h => absurd h (by decide), fun h => by omega⟩
    · have h2 : a.toInt ≠ b.toInt := fun e => c2 (Int64.toInt_inj.mp e)
      rw [if_neg c2]
      exact ⟨fun _ => by omega, fun _ => by decide⟩
theorem lc_gt (a b : Int64) : 0 < lg_cmp a b ↔ b.toInt < a.toInt := by
  unfold lg_cmp
  by_cases c1 : b < a
  · have h1 := Int64.lt_iff_toInt_lt.mp c1
    rw [if_pos c1]
    exact ⟨fun _ => h1, fun _ => by decide⟩
  · have h1 : ¬ b.toInt < a.toInt := fun h => c1 (Int64.lt_iff_toInt_lt.mpr h)
    rw [if_neg c1]
    by_cases c2 : a = b
    · rw [if_pos c2]
      exact ⟨fun h => absurd h (by decide), fun h => absurd h h1⟩
    · rw [if_neg c2]
      exact ⟨fun h => absurd h (by decide), fun h => absurd h h1⟩
theorem lc_eq (a b : Int64) : lg_cmp a b = 0 ↔ a = b := by
  unfold lg_cmp
  by_cases c1 : b < a
  · rw [if_pos c1]
    exact ⟨fun h => absurd h (by decide), fun h => by subst h; have := Int64.lt_iff_toInt_lt.mp c1; omega⟩
  · rw [if_neg c1]
    by_cases c2 : a = b
    · rw [if_pos c2]; exact ⟨fun _ => c2, fun _ => rfl⟩
    · rw [if_neg c2]; exact ⟨fun h => absurd h (by decide), fun h => absurd h c2⟩
theorem lc_ge (a b : Int64) : 0 ≤ lg_cmp a b ↔ b.toInt ≤ a.toInt := by
  have h := lc_lt a b
  have e : 0 ≤ lg_cmp a b ↔ ¬ lg_cmp a b < 0 := by
    rw [Int32.le_iff_toInt_le, Int32.lt_iff_toInt_lt]; omega
  rw [e, h]; omega
/-! literals as numbers -/
theorem ix_L {α : Type} {n N : Nat} {x : Option α} (h : n < N) (hN : N < 2147483648) : ix (no_index (OfNat.ofNat n) : Int32) N x = x := ix_nI h hN
theorem rA_L {σ : PS} {k n : Nat} (h : n < 2147483648) : rA σ k (no_index (OfNat.ofNat n)) = gA σ k n := rA_nI h
theorem wA_L {σ : PS} {k n : Nat} {v : Int32} (h : n < 2147483648) : wA σ k (no_index (OfNat.ofNat n)) v = sA σ k (upd (gA σ k) n v) := wA_nI h
theorem mul_L (a t : Nat) : (no_index (OfNat.ofNat a) : Int32) * nI t = nI (a * t) := pk_mul a t
theorem add_L (a b : Nat) : nI a + (no_index (OfNat.ofNat b) : Int32) = nI (a + b) := nI_add a b
theorem L_add (a b : Nat) : (no_index (OfNat.ofNat a) : Int32) + nI b = nI (a + b) := nI_add a b
theorem sub_L {a b : Nat} (h : b ≤ a) : nI a - (no_index (OfNat.ofNat b) : Int32) = nI (a - b) := pk_sub h
theorem le_L {a b : Nat} (ha : a < 2147483648) (hb : b < 2147483648) : nI a ≤ (no_index (OfNat.ofNat b) : Int32) ↔ a ≤ b := nI_leI ha hb
theorem L_le {a b : Nat} (ha : a < 2147483648) (hb : b < 2147483648) : (no_index (OfNat.ofNat a) : Int32) ≤ nI b ↔ a ≤ b := nI_leI ha hb
theorem lt_L {a b : Nat} (ha : a < 2147483648) (hb : b < 2147483648) : nI a < (no_index (OfNat.ofNat b) : Int32) ↔ a < b := nI_ltI ha hb
theorem L_lt {a b : Nat} (ha : a < 2147483648) (hb : b < 2147483648) : (no_index (OfNat.ofNat a) : Int32) < nI b ↔ a < b := nI_ltI ha hb
theorem eq_L {a b : Nat} (ha : a < 2147483648) (hb : b < 2147483648) : nI a = (no_index (OfNat.ofNat b) : Int32) ↔ a = b := nI_eq ha hb
theorem L_eq {a b : Nat} (ha : a < 2147483648) (hb : b < 2147483648) : (no_index (OfNat.ofNat a) : Int32) = nI b ↔ a = b := nI_eq ha hb
theorem nI_m1 {a : Nat} (ha : a < 2147483648) : (nI a = -1) ↔ False := by
  refine ⟨fun h => ?_, False.elim⟩
  have h1 := nI_toInt ha
  rw [h] at h1
  have h2 : (-1 : Int32).toInt = -1 := by decide
  omega
theorem le_I {a b : Nat} (ha : a < 2147483648) (hb : b < 2147483648) : nI a ≤ nI b ↔ a ≤ b := nI_leI ha hb
theorem lt_I {a b : Nat} (ha : a < 2147483648) (hb : b < 2147483648) : nI a < nI b ↔ a < b := nI_ltI ha hb
theorem eq_I {a b : Nat} (ha : a < 2147483648) (hb : b < 2147483648) : nI a = nI b ↔ a = b := nI_eq ha hb
theorem sub_I {a b : Nat} (h : b ≤ a) : nI a - nI b = nI (a - b) := pk_sub h
theorem div_I {a d : Nat} (ha : a < 2147483648) (h0 : 0 < d) (hd : d < 2147483648) : nI a / nI d = nI (a / d) := pk_div ha h0 hd
theorem div_L {a d : Nat} (ha : a < 2147483648) (h0 : 0 < d) (hd : d < 2147483648) : nI a / (no_index (OfNat.ofNat d) : Int32) = nI (a / d) := pk_div ha h0 hd
theorem upd_at (f : Nat → Int32) (k : Nat) (v : Int32) (j : Nat) : upd f k v j = if j = k then v else f j := rfl
theorem updL_at (f : Nat → Int64) (k : Nat) (v : Int64) (j : Nat) : vp_updL f k v j = if j = k then v else f j := rfl
theorem cpy_at {α : Type} (f g : Nat → α) (sp dp n j : Nat) : va_cpy f g sp dp n j = if dp ≤ j ∧ j < dp + n then f (sp + (j - dp)) else g j := rfl
/-- a test: where a piece is -/
theorem M_where_e {σ : PS} {p t c q z : Nat} (hp : p < 6) (ht : t ≤ 20) (hc : gA σ 19 (4 * p + 3) = nI c) (hc2 : c ≤ 14) (hq : gI σ 23 = nI q) (hq0 : 0 < q) (hq2 : q ≤ 6) (hz : gI σ 25 = nI z) (hz2 : z ≤ 7) : M_whereOf σ (nI p) (nI t) = some (if t < c then -1 else if z ≤ (t - c) / q then 10 else nI ((t - c) / q)) := by
  have hd : (t - c) / q < 2147483648 := Nat.lt_of_le_of_lt (Nat.div_le_self _ _) (by omega)
  unfold M_whereOf M_whereOf_j38 M_comes
  simp (disch := omega) only [mul_L, add_L, ix_nI, rA_nI, hc, bd_some, le_I, hq, nz_nI, nm_eq, hz]
  by_cases h : c ≤ t
  · simp (disch := omega) only [h, if_true, sub_I, div_I, le_I]
    rw [if_neg (by omega : ¬ t < c)]
    split <;> rfl
  · rw [if_neg h, if_pos (by omega)]
