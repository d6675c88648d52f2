set_option maxRecDepth 100000
/-! stage 2: questions, 8: sore -/
variable {L : Lh} {σ μ σ' μ' μ2 : PS}
def Kf.cz (K : Kf) (z p : Nat) : Bool := match (K.R K.ns p).crack with
  | none => false
  | some c => decide (K.plM p c = nI z)
theorem cnt_le (c : Nat → Bool) : ∀ n, cnt c n ≤ n
  | 0 => Nat.le_refl _
  | n + 1 => by
    have := cnt_le c n
    show (if c n = true then cnt c n + 1 else cnt c n) ≤ n + 1
    split <;> omega
theorem cracksAt_e (A : Asked L σ μ σ' μ' μ2) (z : Nat) : X_cracksAt σ' (nI z) = some (nI (cnt (L.K.cz z) L.K.np)) := by
  have hn : L.K.np ≤ 6 := A.k.np
  unfold X_cracksAt
  refine fold_e (fun a k => (nI a, nI k)) (fun p a => if L.K.cz z p = true then a + 1 else a) (fun _ _ => True) 0 L.K.np trivial (fun k x hk _ => ⟨?_, trivial⟩) (fun x hx _ => ?_) (by omega)
  · show X_cracksAt_l4 σ' (nI z) (nI x) (nI k) = some (Sum.inl (nI (if L.K.cz z k = true then x + 1 else x), nI (k + 1)))
    have hc := A.k.crk hk
    unfold X_cracksAt_l4
    rw [A.hX.np, if_neg (by rw [le_I (by omega) (by omega)]; omega), A.rX.sound_e A.k hk, bd_some, ix_nI (by omega) (by omega), rA_nI (by omega), A.rX.crack k hk]
    simp only [X_cracksAt_j43, X_cracksAt_j44, nm_eq, nI_1, Int32.add_zero]
    unfold Kf.so Kf.cz
    cases h : (L.K.R L.K.ns k).crack with
    | none => rfl
    | some c =>
      have hc2 := hc c h
      rw [if_pos (show bI (some c).isNone = 0 from rfl), show oI (some c) = nI c from rfl, A.hX.place A.k hk (by omega), bd_some, L.pl]
      by_cases e : L.K.plM k c = nI z
      · rw [if_pos e]
        show _ = some (Sum.inl (nI (if decide (L.K.plM k c = nI z) = true then x + 1 else x), nI (k + 1)))
        rw [decide_eq_true e]; rfl
      · rw [if_neg e]
        show _ = some (Sum.inl (nI (if decide (L.K.plM k c = nI z) = true then x + 1 else x), nI (k + 1)))
        rw [decide_eq_false e]; rfl
  · show X_cracksAt_l4 σ' (nI z) (nI x) (nI L.K.np) = _
    unfold X_cracksAt_l4 X_cracksAt_j52
    rw [A.hX.np, if_pos (by rw [le_I (by omega) (by omega)]; omega), hx]; rfl
theorem sore_in (A : Asked L σ μ σ' μ' μ2) (z : Nat) (a b : Int32) : loop (M_sore_B39 μ' a b (nI z)) fu (0, 0) = M_sore_j92 μ' a b (nI z) (nI (cnt (L.K.cz z) L.K.np)) := by
  have hn : L.K.np ≤ 6 := A.k.np
  have e92 : ∃ r, M_sore_j92 μ' a b (nI z) (nI (cnt (L.K.cz z) L.K.np)) = some r := by
    unfold M_sore_j92 M_sore_j106
    split <;> exact ⟨_, rfl⟩
  obtain ⟨r, er⟩ := e92
  rw [er]
  refine fold_e (fun a k => (nI a, nI k)) (fun p a => if L.K.cz z p = true then a + 1 else a) (fun _ _ => True) 0 L.K.np trivial (fun k x hk _ => ⟨?_, trivial⟩) (fun x hx _ => ?_) (by omega)
  · show M_sore_l39 μ' a b (nI z) (nI x) (nI k) = some (Sum.inl (nI (if L.K.cz z k = true then x + 1 else x), nI (k + 1)))
    have hc := A.k.crk hk
    unfold M_sore_l39
    rw [A.hM.pieces_e, bd_some, if_neg (by rw [le_I (by omega) (by omega)]; omega), ix_nI (by omega) (by omega), rA_nI (by omega), A.rM.crack k hk, ix_nI (by omega) (by omega)]
    simp only [M_sore_j82, M_sore_j83, nm_eq, nI_1, Int32.add_zero]
    unfold Kf.cz
    cases h : (L.K.R L.K.ns k).crack with
    | none => rfl
    | some c =>
      have hc2 := hc c h
      rw [if_neg (show ¬ oI (some c) = -1 from fun h => (nI_m1 (by omega)).mp h), show oI (some c) = nI c from rfl, A.hM.place A.k hk (by omega), bd_some]
      by_cases e : L.K.plM k c = nI z
      · rw [if_pos e]
        show _ = some (Sum.inl (nI (if decide (L.K.plM k c = nI z) = true then x + 1 else x), nI (k + 1)))
        rw [decide_eq_true e]; rfl
      · rw [if_neg e]
        show _ = some (Sum.inl (nI (if decide (L.K.plM k c = nI z) = true then x + 1 else x), nI (k + 1)))
        rw [decide_eq_false e]; rfl
  · show M_sore_l39 μ' a b (nI z) (nI x) (nI L.K.np) = _
    have ex : x = cnt (L.K.cz z) L.K.np := hx
    unfold M_sore_l39
    rw [A.hM.pieces_e, bd_some, if_pos (by rw [le_I (by omega) (by omega)]; omega), ex, er]; rfl
def mostO (n : Nat → Nat) (a : Option Nat) : Nat := match a with
  | none => 0
  | some b => n b
theorem q_sore (H : L.X σ) (G : Lh.M 0 L μ) (O : L.Ok) : Ag σ μ (X_sore σ) (M_sore μ) := by
  obtain ⟨σ', μ', μ2, A⟩ := asked_e H G O
  have hn : L.K.np ≤ 6 := A.k.np
  have hz := O.zones
  have zM : gI μ' 25 = nI L.zones := A.hM.nz
  unfold X_sore M_sore
  simp only [A.lehr, A.mLehr, A.now, bd_some, nm_eq]
  by_cases c0 : 0 < L.lines
  · simp only [decide_eq_true c0, bIt, if_false]
    have hl : ∀ z, cnt (L.K.cz z) L.K.np ≤ 6 := fun z => Nat.le_trans (cnt_le _ _) hn
    have key : ∃ r1 r2, loop (X_sore_B14 σ') fu ((-1), 0) = some r1 ∧ loop (M_sore_B25 μ') fu ((-1), 0, 0) = some r2 ∧ (r1.1 = r2.1 ∧ r1.2 = σ' ∧ r2.2 = μ') := by
      refine loop_lock L.zones (fun k s1 s2 => ∃ a, s1 = (oI a, nI k) ∧ s2 = (oI a, nI (mostO (fun z => cnt (L.K.cz z) L.K.np) a), nI k) ∧ ∀ b, a = some b → b < k) _ (fun k s1 s2 hk hI => Or.inl ?_) (fun s1 s2 hI => ?_) ⟨none, rfl, rfl, fun b h => (by cases h)⟩ (by omega)
      · obtain ⟨a, rfl, rfl, hb⟩ := hI
        have hm : mostO (fun z => cnt (L.K.cz z) L.K.np) a ≤ 6 := by
          cases a with
          | none => exact Nat.zero_le _
          | some b => exact hl b
        have hk6 := hl k
        have e1 : X_sore_B14 σ' (oI a, nI k) = some (.inl (if mostO (fun z => cnt (L.K.cz z) L.K.np) a < cnt (L.K.cz k) L.K.np then nI k else oI a, nI (k + 1))) := by
          show X_sore_l14 σ' (oI a) (nI k) = _
          unfold X_sore_l14 X_sore_j44 X_sore_j49
          rw [A.lX.zones, if_neg (by rw [le_I (by omega) (by omega)]; omega), cracksAt_e A, bd_some]
          simp only [nm_eq, nI_1]
          cases a with
          | none =>
            rw [if_pos (show oI none = -1 from rfl)]
            by_cases c : 0 < cnt (L.K.cz k) L.K.np
            · rw [if_neg (nI_nle c (by omega)), if_pos (show mostO (fun z => cnt (L.K.cz z) L.K.np) none < cnt (L.K.cz k) L.K.np from c)]
            · rw [if_pos (by rw [show cnt (L.K.cz k) L.K.np = 0 by omega]; decide), if_neg (show ¬ mostO (fun z => cnt (L.K.cz z) L.K.np) none < cnt (L.K.cz k) L.K.np from c)]
          | some b =>
            have hb2 := hb b rfl
            have hlb := hl b
            rw [if_neg (show ¬ oI (some b) = -1 from fun h => (nI_m1 (by omega)).mp h), show oI (some b) = nI b from rfl, cracksAt_e A, bd_some]
            by_cases c : cnt (L.K.cz b) L.K.np < cnt (L.K.cz k) L.K.np
            · rw [if_neg (by rw [le_I (by omega) (by omega)]; omega), if_pos (show mostO (fun z => cnt (L.K.cz z) L.K.np) (some b) < cnt (L.K.cz k) L.K.np from c)]
            · rw [if_pos (by rw [le_I (by omega) (by omega)]; omega), if_neg (show ¬ mostO (fun z => cnt (L.K.cz z) L.K.np) (some b) < cnt (L.K.cz k) L.K.np from c)]
        have e2 : M_sore_B25 μ' (oI a, nI (mostO (fun z => cnt (L.K.cz z) L.K.np) a), nI k) = some (.inl (if mostO (fun z => cnt (L.K.cz z) L.K.np) a < cnt (L.K.cz k) L.K.np then (nI k, nI (cnt (L.K.cz k) L.K.np), nI (k + 1)) else (oI a, nI (mostO (fun z => cnt (L.K.cz z) L.K.np) a), nI (k + 1)))) := by
          show M_sore_l25 μ' (oI a) (nI (mostO (fun z => cnt (L.K.cz z) L.K.np) a)) (nI k) = _
          unfold M_sore_l25
          rw [zM, if_neg (by rw [le_I (by omega) (by omega)]; omega), sore_in A]
          unfold M_sore_j92 M_sore_j106
          simp only [nm_eq, nI_1]
          by_cases c : mostO (fun z => cnt (L.K.cz z) L.K.np) a < cnt (L.K.cz k) L.K.np
          · rw [if_pos ((lt_I (by omega) (by omega)).mpr c), if_pos c]
          · rw [if_neg (by rw [lt_I (by omega) (by omega)]; exact c), if_neg c]
        refine ⟨_, _, e1, e2, ?_⟩
        by_cases c : mostO (fun z => cnt (L.K.cz z) L.K.np) a < cnt (L.K.cz k) L.K.np
        · rw [if_pos c, if_pos c]
          exact ⟨some k, rfl, rfl, fun b h => (by cases h; omega)⟩
        · rw [if_neg c, if_neg c]
          exact ⟨a, rfl, rfl, fun b h => Nat.lt_succ_of_lt (hb b h)⟩
      · obtain ⟨a, rfl, rfl, hb⟩ := hI
        refine ⟨(oI a, σ'), (oI a, μ'), ?_, ?_, rfl, rfl, rfl⟩
        · show X_sore_l14 σ' (oI a) (nI L.zones) = _
          unfold X_sore_l14 X_sore_j55
          rw [A.lX.zones, if_pos (by rw [le_I (by omega) (by omega)]; omega)]; rfl
        · show M_sore_l25 μ' (oI a) (nI (mostO (fun z => cnt (L.K.cz z) L.K.np) a)) (nI L.zones) = _
          unfold M_sore_l25 M_sore_j112
          rw [zM, if_pos (by rw [le_I (by omega) (by omega)]; omega)]; rfl
    exact Ag.of key A.fX A.fM
  · simp only [decide_eq_false c0, bIf, if_true]
    exact ⟨-2, σ', _, rfl, rfl, A.fX, A.fM0⟩
