set_option maxRecDepth 100000
/-! stage 2: LehrBelt's run -/
def FX (σ σ' : PS) : Prop := σ'.1 = σ.1 ∧ σ'.2.1 = σ.2.1 ∧ σ'.2.2.2 = σ.2.2.2 ∧ ∀ k, k < 14 ∨ 23 < k → gA σ' k = gA σ k
theorem FX.refl (σ : PS) : FX σ σ := ⟨rfl, rfl, rfl, fun _ _ => rfl⟩
theorem FX.trans {a b c : PS} (h : FX a b) (g : FX b c) : FX a c := ⟨g.1.trans h.1, g.2.1.trans h.2.1, g.2.2.1.trans h.2.2.1, fun k hk => (g.2.2.2 k hk).trans (h.2.2.2 k hk)⟩
theorem FX.sA (σ : PS) {k : Nat} (f : Nat → Int32) (h1 : 14 ≤ k) (h2 : k ≤ 23) : FX σ (sA σ k f) := ⟨rfl, rfl, rfl, fun j hj => by rw [gA_sA, if_neg (by omega)]⟩
theorem FX.gI {σ σ' : PS} (h : FX σ σ') (k : Nat) : gI σ' k = gI σ k := congrFun h.1 k
variable {K : Kf} {σ μ : PS}
theorem Kf.X.fr {σ' : PS} (H : K.X σ) (F : FX σ σ') : K.X σ' := by
  have a5 := F.2.2.2 5 (by omega); have a6 := F.2.2.2 6 (by omega); have a7 := F.2.2.2 7 (by omega); have a8 := F.2.2.2 8 (by omega); have a9 := F.2.2.2 9 (by omega)
  have a113 := F.2.2.2 113 (by omega); have a110 := F.2.2.2 110 (by omega); have a114 := F.2.2.2 114 (by omega)
  unfold Kf.X
  rw [a5, a6, a7, a8, a9, a113, a110, a114, F.gI 107, F.gI 100, F.gI 10, F.gI 108, F.gI 104, F.gI 13, F.gI 11, F.gI 12]
  exact H
theorem Kf.plX_out {p t : Nat} (O : K.Ok) : K.plX p t = 10 ↔ K.isOut p t := by
  unfold Kf.plX
  by_cases h : K.inZ p t
  · have hi := O.ord _ h.2
    have hi2 := h.2
    rw [if_pos h, eq_L (b := 10) (by omega) (by omega)]
    exact ⟨fun c => by omega, fun c => absurd c.2 (by omega)⟩
  · rw [if_neg h]
    by_cases c : K.comes p ≤ t
    · rw [if_pos c]
      exact ⟨fun _ => ⟨c, Nat.le_of_not_lt (fun h2 => h ⟨c, h2⟩)⟩, fun _ => rfl⟩
    · rw [if_neg c]
      exact ⟨fun h2 => absurd h2 (by decide), fun h2 => absurd h2.1 c⟩
theorem Kf.plX_in {p t : Nat} (O : K.Ok) : (¬ K.plX p t = -1 ∧ ¬ K.plX p t = 10) ↔ K.inZ p t := by
  unfold Kf.plX
  by_cases h : K.inZ p t
  · have hi := O.ord _ h.2
    rw [if_pos h, eq_L (b := 10) (by omega) (by omega), nI_m1 (by omega)]
    exact ⟨fun _ => h, fun _ => ⟨id, by omega⟩⟩
  · rw [if_neg h]
    refine ⟨fun c => ?_, fun c => absurd c h⟩
    by_cases c2 : K.comes p ≤ t
    · rw [if_pos c2] at c; exact absurd rfl c.2
    · rw [if_neg c2] at c; exact absurd rfl c.1
theorem X_strain_e {a b p : Nat} (ha : a ≤ 10000) (hb : b ≤ 10000) (hp : p < 6) (h14 : gA σ 14 p = nI a) (h15 : gA σ 15 p = nI b) : X_strainNow σ (nI p) = some (nI (dist a b)) := by
  unfold X_strainNow
  simp (disch := omega) only [ix_nI, rA_nI, h14, h15, apart_e, bd_some]
theorem Kf.Ok.lgd {α : Type} {x : Option α} (O : K.Ok) : lgd K.law x = x := if_pos O.law
def Kf.coolIf (K : Kf) (s : Nat → Nat) (p t : Nat) (x : Pc) : Pc := if K.inZ p t ∧ x.crack = none then K.cool s p t x else x
theorem same_at {f : Nat → Int32} {i : Nat} {v : Int32} (h : f i = v) (j : Nat) : f j = if j = i then v else f j := by
  split
  · next e => rw [e, h]
  · rfl
theorem Kf.X.cools_e (H : K.X σ) (O : K.Ok) {s : Nat → Nat} (hs : ∀ o, o < K.np → s o ≤ 10000) (h16 : ∀ o, o < K.np → gA σ 16 o = nI (s o)) {p t : Nat} {x : Pc} (hp : p < K.np) (ht : t ≤ 13) (hxs : x.skin ≤ 10000) (hxc : x.core ≤ 10000) (hxk : ∀ n, x.crack = some n → n ≤ 100000)
    (h14 : gA σ 14 p = nI x.skin) (h15 : gA σ 15 p = nI x.core) (h20 : gA σ 20 p = oI x.crack) (h22 : gA σ 22 p = oI x.fz) (h23 : gA σ 23 p = oI x.st) :
    ∃ σ', X_cools σ (nI p) (nI t) = some σ' ∧ FX σ σ' ∧ (∀ j, gA σ' 14 j = if j = p then nI (K.coolIf s p t x).skin else gA σ 14 j) ∧ (∀ j, gA σ' 15 j = if j = p then nI (K.coolIf s p t x).core else gA σ 15 j) ∧
      (∀ j, gA σ' 22 j = if j = p then oI (K.coolIf s p t x).fz else gA σ 22 j) ∧ (∀ j, gA σ' 23 j = if j = p then oI (K.coolIf s p t x).st else gA σ 23 j) ∧ gA σ' 16 = gA σ 16 ∧ gA σ' 18 = gA σ 18 ∧ gA σ' 19 = gA σ 19 ∧ gA σ' 20 = gA σ 20 ∧ gA σ' 21 = gA σ 21 := by
  have hn := O.np
  unfold X_cools X_cools_j28
  rw [H.place O hp (by omega), bd_some]
  by_cases hin : K.inZ p t
  · have hz := (Kf.plX_in O).mpr hin
    have epl : K.plX p t = nI (K.ord (K.idx p t)) := if_pos hin
    rw [if_neg hz.1, if_neg hz.2, ix_nI (by omega) (by omega), rA_nI (by omega), h20]
    by_cases hc : x.crack = none
    · rw [if_pos (by rw [hc]; rfl), H.law, O.lgd, O.lgd, epl, H.goal_e O hs h16 hp (by omega) hin.2]
      have hg := O.goal hs (p := p) (t := t) hin.2
      have ha : K.skinTo (K.goal s p t) x.skin ≤ 10000 := Kf.skinTo_le hg hxs
      have hb : coreTo (K.skinTo (K.goal s p t) x.skin) x.core (K.thick p) ≤ 10000 := coreTo_le ha hxc
      have t1 := O.thick1 p hp; have t9 := O.thick p hp; have hset := O.set
      obtain ⟨w, ew, hw⟩ := H.goes_e O hg hxs
      simp (disch := omega) only [ix_nI, rA_nI, wA_nI, h14, bd_some, ew, nm_eq, hw, gA_ne, gA_eq, upd_eq, h15, H.thick p hp, nz_nI, core_e, gI_sA', H.set, lt_I, nI_1]
      have eS : K.coolIf s p t x = K.cool s p t x := if_pos ⟨hin, hc⟩
      rw [eS]
      unfold Kf.cool X_cools_j123
      generalize K.skinTo (K.goal s p t) x.skin = a at ha hb ⊢
      generalize coreTo a x.core (K.thick p) = b at hb ⊢
      have hd := dist_le ha hb
      have F2 : FX σ (sA (sA σ 14 (upd (gA σ 14) p (nI a))) 15 (upd (gA σ 15) p (nI b))) := (FX.sA σ _ (by omega) (by omega)).trans (FX.sA _ _ (by omega) (by omega))
      rw [X_strain_e ha hb (by omega) (by rw [gA_ne (by omega), gA_eq, upd_eq]) (by rw [gA_eq, upd_eq]), bd_some]
      by_cases c : K.set ≤ x.core ∧ b < K.set
      · rw [if_neg (by omega), if_pos c.2, if_pos c, if_pos c]
        refine ⟨_, rfl, F2.trans ((FX.sA _ _ (by omega) (by omega)).trans (FX.sA _ _ (by omega) (by omega))), fun j => ?_, fun j => ?_, fun j => ?_, fun j => ?_, rfl, rfl, rfl, rfl, rfl⟩
        · exact upd_at _ _ _ _
        · exact upd_at _ _ _ _
        · exact upd_at _ _ _ _
        · exact upd_at _ _ _ _
      · rw [if_neg c, if_neg c]
        have e5 : (if x.core < K.set then some (sA (sA σ 14 (upd (gA σ 14) p (nI a))) 15 (upd (gA σ 15) p (nI b))) else if b < K.set then some (sA (sA (sA (sA σ 14 (upd (gA σ 14) p (nI a))) 15 (upd (gA σ 15) p (nI b))) 22 (upd (gA σ 22) p (nI (dist a b)))) 23 (upd (gA σ 23) p (nI (t + 1)))) else some (sA (sA σ 14 (upd (gA σ 14) p (nI a))) 15 (upd (gA σ 15) p (nI b)))) = some (sA (sA σ 14 (upd (gA σ 14) p (nI a))) 15 (upd (gA σ 15) p (nI b))) := by
          by_cases c1 : x.core < K.set
          · rw [if_pos c1]
          · rw [if_neg c1, if_neg (by omega)]
        refine ⟨_, e5, F2, fun j => upd_at _ _ _ _, fun j => upd_at _ _ _ _, same_at h22, same_at h23, rfl, rfl, rfl, rfl, rfl⟩
    · rw [if_neg (by rw [oI_m1 hxk]; exact hc)]
      have eS : K.coolIf s p t x = x := if_neg (fun h => hc h.2)
      rw [eS]
      exact ⟨_, rfl, FX.refl _, same_at h14, same_at h15, same_at h22, same_at h23, rfl, rfl, rfl, rfl, rfl⟩
  · have eS : K.coolIf s p t x = x := if_neg (fun h => hin h.1)
    rw [eS]
    refine ⟨σ, ?_, FX.refl _, same_at h14, same_at h15, same_at h22, same_at h23, rfl, rfl, rfl, rfl, rfl⟩
    by_cases c1 : K.plX p t = -1
    · rw [if_pos c1]
    · rw [if_neg c1]
      by_cases c2 : K.plX p t = 10
      · rw [if_pos c2]
      · exact absurd ((Kf.plX_in O).mp ⟨c1, c2⟩) hin
abbrev Kf.isFirst (K : Kf) (p t : Nat) : Prop := K.isOut p t ∧ (t = K.comes p ∨ ¬ K.isOut p (t - 1))
def Kf.mc (K : Kf) (p t : Nat) (x : Pc) : Pc :=
  if x.crack = none ∧ K.comes p ≤ t then if K.bears p < dist x.skin x.core then Pc.mk x.skin x.core (some t) 1 x.fz x.st else if K.isFirst p t ∧ K.broken p x.fz = true then Pc.mk x.skin x.core (some t) 2 x.fz x.st else Pc.mk x.skin x.core none 0 x.fz x.st else x
theorem Kf.X.mayCrack_e (H : K.X σ) (O : K.Ok) {p t : Nat} {x : Pc} (hp : p < K.np) (ht : t ≤ 14) (hxs : x.skin ≤ 10000) (hxc : x.core ≤ 10000) (hxk : ∀ n, x.crack = some n → n ≤ 100000) (hxf : ∀ n, x.fz = some n → n ≤ 100000)
    (h14 : gA σ 14 p = nI x.skin) (h15 : gA σ 15 p = nI x.core) (h20 : gA σ 20 p = oI x.crack) (h21 : gA σ 21 p = nI x.why) (h22 : gA σ 22 p = oI x.fz) :
    ∃ σ', X_mayCrack σ (nI p) (nI t) = some σ' ∧ FX σ σ' ∧ (∀ j, gA σ' 20 j = if j = p then oI (K.mc p t x).crack else gA σ 20 j) ∧ (∀ j, gA σ' 21 j = if j = p then nI (K.mc p t x).why else gA σ 21 j) ∧
      gA σ' 14 = gA σ 14 ∧ gA σ' 15 = gA σ 15 ∧ gA σ' 16 = gA σ 16 ∧ gA σ' 18 = gA σ 18 ∧ gA σ' 19 = gA σ 19 ∧ gA σ' 22 = gA σ 22 ∧ gA σ' 23 = gA σ 23 := by
  have hn := O.np; have hbe := O.bears p hp; have hcm := O.comes p hp
  have hd := dist_le hxs hxc
  have es := X_strain_e (p := p) hxs hxc (by omega) h14 h15
  have e116 : ∀ w : Int32, X_mayCrack_j116 σ (nI p) (nI t) w (nI p) = some (if w ≤ 0 then sA σ 21 (upd (gA σ 21) p w) else sA (sA σ 21 (upd (gA σ 21) p w)) 20 (upd (gA σ 20) p (nI t))) := by
    intro w
    unfold X_mayCrack_j116 X_mayCrack_j133
    simp (disch := omega) only [ix_nI, wA_nI, rA_nI, nm_eq, gA_eq, upd_eq, gA_ne]
    split <;> rfl
  have e66 : ∀ (v : Int32) (b : Bool), v = bI b → X_mayCrack_j66 σ (nI p) (nI t) v = some (if K.bears p < dist x.skin x.core then sA (sA σ 21 (upd (gA σ 21) p 1)) 20 (upd (gA σ 20) p (nI t)) else if b = true ∧ K.broken p x.fz = true then sA (sA σ 21 (upd (gA σ 21) p 2)) 20 (upd (gA σ 20) p (nI t)) else sA σ 21 (upd (gA σ 21) p 0)) := by
    intro v b hv
    unfold X_mayCrack_j66 X_mayCrack_j115
    simp (disch := omega) only [es, bd_some, ix_nI, rA_nI, H.bears p hp, le_I, e116, h22, half_I]
    rw [if_pos (show (0 : Int32) ≤ 0 by decide), if_neg (show ¬ (2 : Int32) ≤ 0 by decide), if_neg (show ¬ (1 : Int32) ≤ 0 by decide), hv]
    by_cases c : K.bears p < dist x.skin x.core
    · rw [if_neg (by omega), if_pos c]
    · rw [if_pos (by omega), if_neg c]
      cases b with
      | false => rw [if_pos (show bI false = 0 by decide), if_neg (fun h => by cases h.1)]
      | true =>
        rw [if_neg (show ¬ bI true = 0 by decide)]
        cases hf : x.fz with
        | none =>
          rw [if_pos, if_neg (fun h => by cases h.2)]
          show (-1 : Int32) ≤ nI (K.bears p / 2)
          have := nI_toInt (n := K.bears p / 2) (by omega)
          have m1 : (-1 : Int32).toInt = -1 := by decide
          exact Int32.le_iff_toInt_le.mpr (by omega)
        | some n =>
          have hn9 := hxf n hf
          have eb : K.broken p (some n) = true ↔ K.bears p / 2 < n := decide_eq_true_iff
          show (if nI n ≤ nI (K.bears p / 2) then _ else _) = _
          by_cases c2 : K.bears p / 2 < n
          · rw [if_neg (by rw [le_I (by omega) (by omega)]; omega), if_pos ⟨rfl, eb.mpr c2⟩]
          · rw [if_pos (by rw [le_I (by omega) (by omega)]; omega), if_neg (fun h => c2 (eb.mp h.2))]
  have fin : ∀ b : Bool, x.crack = none → K.comes p ≤ t → (b = true ↔ K.isFirst p t) → ∃ σ', X_mayCrack_j66 σ (nI p) (nI t) (bI b) = some σ' ∧ FX σ σ' ∧ (∀ j, gA σ' 20 j = if j = p then oI (K.mc p t x).crack else gA σ 20 j) ∧ (∀ j, gA σ' 21 j = if j = p then nI (K.mc p t x).why else gA σ 21 j) ∧
      gA σ' 14 = gA σ 14 ∧ gA σ' 15 = gA σ 15 ∧ gA σ' 16 = gA σ 16 ∧ gA σ' 18 = gA σ 18 ∧ gA σ' 19 = gA σ 19 ∧ gA σ' 22 = gA σ 22 ∧ gA σ' 23 = gA σ 23 := by
    intro b hc hcome hb
    rw [e66 _ b rfl]
    have eM : K.mc p t x = if K.bears p < dist x.skin x.core then Pc.mk x.skin x.core (some t) 1 x.fz x.st else if K.isFirst p t ∧ K.broken p x.fz = true then Pc.mk x.skin x.core (some t) 2 x.fz x.st else Pc.mk x.skin x.core none 0 x.fz x.st := if_pos ⟨hc, hcome⟩
    rw [eM]
    refine ⟨_, rfl, ?_⟩
    have FF : ∀ w : Int32, FX σ (sA (sA σ 21 (upd (gA σ 21) p w)) 20 (upd (gA σ 20) p (nI t))) := fun w => (FX.sA σ _ (by omega) (by omega)).trans (FX.sA _ _ (by omega) (by omega))
    by_cases c : K.bears p < dist x.skin x.core
    · rw [if_pos c, if_pos c]
      exact ⟨FF _, fun j => upd_at _ _ _ _, fun j => upd_at _ _ _ _, rfl, rfl, rfl, rfl, rfl, rfl, rfl⟩
    · rw [if_neg c, if_neg c]
      by_cases c2 : K.isFirst p t ∧ K.broken p x.fz = true
      · rw [if_pos c2, if_pos ⟨hb.mpr c2.1, c2.2⟩]
        exact ⟨FF _, fun j => upd_at _ _ _ _, fun j => upd_at _ _ _ _, rfl, rfl, rfl, rfl, rfl, rfl, rfl⟩
      · rw [if_neg c2, if_neg (fun h => c2 ⟨hb.mp h.1, h.2⟩)]
        exact ⟨FX.sA σ _ (by omega) (by omega), same_at (f := gA σ 20) (by rw [h20, hc]; rfl), fun j => upd_at _ _ _ _, rfl, rfl, rfl, rfl, rfl, rfl, rfl⟩
  have nofin : ¬ (x.crack = none ∧ K.comes p ≤ t) → ∃ σ', some σ = some σ' ∧ FX σ σ' ∧ (∀ j, gA σ' 20 j = if j = p then oI (K.mc p t x).crack else gA σ 20 j) ∧ (∀ j, gA σ' 21 j = if j = p then nI (K.mc p t x).why else gA σ 21 j) ∧
      gA σ' 14 = gA σ 14 ∧ gA σ' 15 = gA σ 15 ∧ gA σ' 16 = gA σ 16 ∧ gA σ' 18 = gA σ 18 ∧ gA σ' 19 = gA σ 19 ∧ gA σ' 22 = gA σ 22 ∧ gA σ' 23 = gA σ 23 := by
    intro h
    have eM : K.mc p t x = x := if_neg h
    rw [eM]
    exact ⟨σ, rfl, FX.refl _, same_at h20, same_at h21, rfl, rfl, rfl, rfl, rfl, rfl, rfl⟩
  unfold X_mayCrack X_mayCrack_j23 X_mayCrack_j61 X_mayCrack_j65
  simp (disch := omega) only [ix_nI, rA_nI, h20, H.comes p hp, le_I]
  by_cases hc : x.crack = none
  · rw [if_pos (by rw [hc]; rfl)]
    by_cases hcome : K.comes p ≤ t
    · rw [if_pos hcome, H.place O hp (by omega), bd_some]
      by_cases ho : K.isOut p t
      · rw [if_pos ((Kf.plX_out O).mpr ho)]
        by_cases h1 : t = K.comes p
        · rw [if_pos (by rw [h1])]
          exact fin true hc hcome ⟨fun _ => ⟨ho, Or.inl h1⟩, fun _ => rfl⟩
        · rw [if_neg (by rw [eq_I (by omega) (by omega)]; exact h1), show nI t - 1 = nI (t - 1) from pk_sub (b := 1) (by omega), H.place O hp (by omega), bd_some]
          by_cases h2 : K.isOut p (t - 1)
          · rw [if_pos ((Kf.plX_out O).mpr h2)]
            exact fin false hc hcome ⟨fun h => (by cases h), fun h => h.2.elim (fun h3 => absurd h3 h1) (fun h3 => absurd h2 h3)⟩
          · rw [if_neg (fun h => h2 ((Kf.plX_out O).mp h))]
            exact fin true hc hcome ⟨fun _ => ⟨ho, Or.inr h2⟩, fun _ => rfl⟩
      · rw [if_neg (fun h => ho ((Kf.plX_out O).mp h))]
        exact fin false hc hcome ⟨fun h => (by cases h), fun h => absurd h.1 ho⟩
    · rw [if_neg hcome]
      exact nofin (fun h => hcome h.2)
  · rw [if_neg (by rw [oI_m1 hxk]; exact hc)]
    exact nofin (fun h => hc h.1)
/-- the two ways meet -/
theorem Kf.R_come (O : K.Ok) : ∀ t p, t ≤ K.comes p → K.R t p = K.R 0 p
  | 0, p, _ => rfl
  | t + 1, p, h => by
    have ih := Kf.R_come O t p (by omega)
    show K.stepP _ p t (K.R t p) = _
    unfold Kf.stepP
    rw [if_neg (fun c => by have := c.1.1; omega), ih]
def Kf.Y (K : Kf) : Nat → Nat → Pc
  | 0, p => K.R 0 p
  | t + 1, p => K.coolIf (fun q => (K.R t q).skin) p t (K.R t p)
theorem Kf.mc_R (O : K.Ok) {p : Nat} (hp : p < K.np) : ∀ t, K.mc p t (K.Y t p) = K.R t p
  | 0 => by
    show K.mc p 0 (K.R 0 p) = K.R 0 p
    have B := O.R 0 p hp
    have e : (K.R 0 p).crack = none := rfl
    unfold Kf.mc
    by_cases c : (K.R 0 p).crack = none ∧ K.comes p ≤ 0
    · rw [if_pos c, if_neg (by have := (B.whole e).2; omega), if_neg (fun h => by cases h.2)]; rfl
    · rw [if_neg c]
  | t + 1 => by
    show K.mc p (t + 1) (K.coolIf (fun q => (K.R t q).skin) p t (K.R t p)) = K.stepP (fun q => (K.R t q).skin) p t (K.R t p)
    have B := O.R t p hp
    have hcm : t < K.comes p → (K.R t p).fz = none := fun h => by rw [Kf.R_come O t p (by omega)]; rfl
    generalize K.R t p = x at B hcm ⊢
    generalize (fun q => (K.R t q).skin) = s
    unfold Kf.coolIf Kf.stepP
    by_cases c : K.inZ p t ∧ x.crack = none
    · rw [if_pos c, if_pos c]
      have hw := (B.whole c.2).1
      have hin := c.1
      have ef : K.isFirst p (t + 1) ↔ K.isOut p (t + 1) := ⟨fun h => h.1, fun h => ⟨h, Or.inr (fun h2 => by have h3 : K.isOut p t := h2; have := h3.2; have := hin.2; omega)⟩⟩
      unfold Kf.mc Kf.breaks
      rw [if_pos (show (K.cool s p t x).crack = none ∧ K.comes p ≤ t + 1 from ⟨rfl, by have := hin.1; omega⟩)]
      by_cases c1 : K.bears p < dist (K.cool s p t x).skin (K.cool s p t x).core
      · rw [if_pos c1, if_pos c1]
      · rw [if_neg c1, if_neg c1]
        by_cases c2 : K.isOut p (t + 1) ∧ K.broken p (K.cool s p t x).fz = true
        · rw [if_pos c2, if_pos ⟨ef.mpr c2.1, c2.2⟩]
        · rw [if_neg c2, if_neg (fun h => c2 ⟨ef.mp h.1, h.2⟩)]
          show Pc.mk (K.cool s p t x).skin (K.cool s p t x).core none 0 (K.cool s p t x).fz (K.cool s p t x).st = Pc.mk (K.cool s p t x).skin (K.cool s p t x).core none x.why (K.cool s p t x).fz (K.cool s p t x).st
          rw [hw]
    · rw [if_neg c, if_neg c]
      unfold Kf.mc
      by_cases c0 : x.crack = none ∧ K.comes p ≤ t + 1
      · have hw := B.whole c0.1
        have hni : ¬ K.inZ p t := fun h => c ⟨h, c0.1⟩
        have nb : ¬ (K.isFirst p (t + 1) ∧ K.broken p x.fz = true) := by
          intro h
          by_cases e : t < K.comes p
          · rw [hcm e] at h; cases h.2
          · rcases h.1.2 with h2 | h2
            · omega
            · have hle : K.comes p ≤ t := by omega
              have h3 : K.isOut p t := ⟨hle, Nat.le_of_not_lt (fun h4 => hni ⟨hle, h4⟩)⟩
              exact h2 h3
        rw [if_pos c0, if_neg (by have := hw.2; omega), if_neg nb]
        have ex : x = Pc.mk x.skin x.core x.crack x.why x.fz x.st := rfl
        have e2 := hw.1
        have e3 := c0.1
        calc Pc.mk x.skin x.core none 0 x.fz x.st = Pc.mk x.skin x.core x.crack x.why x.fz x.st := by rw [e2, e3]
          _ = x := rfl
      · rw [if_neg c0]
