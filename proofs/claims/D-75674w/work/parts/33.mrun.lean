set_option maxRecDepth 100000
/-! stage 2: the model's run -/
/-- nothing but what a run writes -/
def FM (μ μ' : PS) : Prop := μ'.1 = μ.1 ∧ μ'.2.1 = μ.2.1 ∧ μ'.2.2.2 = μ.2.2.2 ∧ ∀ k, k < 30 ∨ 35 < k → gA μ' k = gA μ k
theorem FM.refl (μ : PS) : FM μ μ := ⟨rfl, rfl, rfl, fun _ _ => rfl⟩
theorem FM.trans {a b c : PS} (h : FM a b) (g : FM b c) : FM a c := ⟨g.1.trans h.1, g.2.1.trans h.2.1, g.2.2.1.trans h.2.2.1, fun k hk => (g.2.2.2 k hk).trans (h.2.2.2 k hk)⟩
theorem FM.sA (μ : PS) {k : Nat} (f : Nat → Int32) (h1 : 30 ≤ k) (h2 : k ≤ 35) : FM μ (sA μ k f) := ⟨rfl, rfl, rfl, fun j hj => by rw [gA_sA, if_neg (by omega)]⟩
theorem FM.gI {μ μ' : PS} (h : FM μ μ') (k : Nat) : gI μ' k = gI μ k := congrFun h.1 k
theorem half_I {a : Nat} (h : a < 2147483648) : nI a / 2 = nI (a / 2) := pk_div (d := 2) h (by omega) (by omega)
variable {K : Kf} {σ μ : PS}
theorem Kf.M.fr {μ' : PS} (H : K.M μ) (F : FM μ μ') : K.M μ' := by
  have a17 := F.2.2.2 17 (by omega); have a19 := F.2.2.2 19 (by omega); have a20 := F.2.2.2 20 (by omega)
  have a27 := F.2.2.2 27 (by omega); have a28 := F.2.2.2 28 (by omega); have a29 := F.2.2.2 29 (by omega)
  unfold Kf.M
  rw [a17, a19, a20, a27, a28, a29, F.gI 25, F.gI 22, F.gI 23, F.gI 24, F.gI 26]
  exact H
theorem Kf.plM_out {p t : Nat} (O : K.Ok) : K.plM p t = 10 ↔ K.isOut p t := by
  have hz := O.nz
  unfold Kf.plM
  by_cases h : K.inZ p t
  · have hi := h.2
    rw [if_pos h, eq_L (b := 10) (by omega) (by omega)]
    exact ⟨fun c => by omega, fun c => absurd c.2 (by omega)⟩
  · rw [if_neg h]
    by_cases c : K.comes p ≤ t
    · rw [if_pos c]
      exact ⟨fun _ => ⟨c, Nat.le_of_not_lt (fun h2 => h ⟨c, h2⟩)⟩, fun _ => rfl⟩
    · rw [if_neg c]
      exact ⟨fun h2 => absurd h2 (by decide), fun h2 => absurd h2.1 c⟩
theorem Kf.plM_in {p t : Nat} (O : K.Ok) : (¬ K.plM p t = -1 ∧ ¬ K.plM p t = 10) ↔ K.inZ p t := by
  have hz := O.nz
  unfold Kf.plM
  by_cases h : K.inZ p t
  · have hi := h.2
    rw [if_pos h, eq_L (b := 10) (by omega) (by omega), nI_m1 (by omega)]
    exact ⟨fun _ => h, fun _ => ⟨id, by omega⟩⟩
  · rw [if_neg h]
    refine ⟨fun c => ?_, fun c => absurd c h⟩
    by_cases c2 : K.comes p ≤ t
    · rw [if_pos c2] at c; exact absurd rfl c.2
    · rw [if_neg c2] at c; exact absurd rfl c.1
theorem oI_m1 {f : Option Nat} (h : ∀ n, f = some n → n ≤ 100000) : oI f = -1 ↔ f = none := by
  cases f with
  | none => exact ⟨fun _ => rfl, fun _ => rfl⟩
  | some n => exact ⟨fun c => ((nI_m1 (by have := h n rfl; omega)).mp c).elim, fun c => by cases c⟩
theorem Kf.M.strain_e {a b p t : Nat} (ha : a ≤ 10000) (hb : b ≤ 10000) (hp : p < 6) (ht : t ≤ 14) (h30 : gA μ 30 (6 * t + p) = nI a) (h31 : gA μ 31 (6 * t + p) = nI b) : M_strainOf μ (nI p) (nI t) = some (nI (dist a b)) := by
  unfold M_strainOf
  rw [M_skin_e hp ht, M_core_e hp ht, h30, h31, bd_some, bd_some, M_apart_e (by omega) (by omega), bd_some]
theorem Kf.M.j165_e (H : K.M μ) (O : K.Ok) {p t a b : Nat} {f : Option Nat} (hp : p < K.np) (ht : t ≤ 13) (ha : a ≤ 10000) (hb : b ≤ 10000) (hf : ∀ n, f = some n → n ≤ 100000)
    (h30 : gA μ 30 (6 * (t + 1) + p) = nI a) (h31 : gA μ 31 (6 * (t + 1) + p) = nI b) (h32 : gA μ 32 p = oI f) :
    M_goesOn_j165 μ (nI p) (nI t) = some (if K.bears p < dist a b then sA (sA μ 34 (upd (gA μ 34) p (nI (t + 1)))) 35 (upd (gA μ 35) p 1) else if K.isOut p (t + 1) ∧ K.broken p f = true then sA (sA μ 34 (upd (gA μ 34) p (nI (t + 1)))) 35 (upd (gA μ 35) p 2) else μ) := by
  have hn := O.np
  have hbe := O.bears p hp
  have hd := dist_le ha hb
  have es := Kf.M.strain_e (p := p) (t := t + 1) ha hb (by omega) (by omega) h30 h31
  have e247 : ∀ w : Int32, M_goesOn_j247 μ (nI p) (nI t) w = some (if w = 0 then sA (sA μ 34 (upd (gA μ 34) p (nI (t + 1)))) 35 (upd (gA μ 35) p 2) else sA (sA μ 34 (upd (gA μ 34) p (nI (t + 1)))) 35 (upd (gA μ 35) p 1)) := by
    intro w
    unfold M_goesOn_j247 M_goesOn_j271
    simp (disch := omega) only [ix_nI, wA_nI, nm_eq, nI_1]
    split <;> rfl
  have e210 : ∀ v : Int32, M_goesOn_j210 μ (nI p) (nI t) v = some (if K.bears p < dist a b then sA (sA μ 34 (upd (gA μ 34) p (nI (t + 1)))) 35 (upd (gA μ 35) p 1) else if v = 0 then μ else sA (sA μ 34 (upd (gA μ 34) p (nI (t + 1)))) 35 (upd (gA μ 35) p 2)) := by
    intro v
    unfold M_goesOn_j210 M_goesOn_j234
    simp (disch := omega) only [nI_1, es, bd_some, ix_nI, rA_nI, H.bears p hp, le_I, e247, if_true]
    by_cases c : K.bears p < dist a b
    · rw [if_neg (by omega), if_pos c, if_neg (show ¬ (1 : Int32) = 0 by decide), if_neg (show ¬ (1 : Int32) = 0 by decide)]
    · rw [if_pos (by omega), if_neg c]
      split <;> rfl
  unfold M_goesOn_j165 M_goesOn_j209
  simp (disch := omega) only [nI_1, H.place O hp, bd_some, ix_nI, rA_nI, h32, H.bears p hp, e210, half_I, if_true]
  by_cases c : K.isOut p (t + 1)
  · rw [if_pos ((Kf.plM_out O).mpr c)]
    cases f with
    | none =>
      rw [if_pos (show oI none = -1 from rfl), if_neg (show ¬ (K.isOut p (t + 1) ∧ K.broken p none = true) from fun h => by cases h.2)]
    | some n =>
      have hn9 := hf n rfl
      rw [if_neg (by rw [oI_m1 hf]; intro h; cases h)]
      show (if nI n ≤ nI (K.bears p / 2) then _ else _) = _
      have eb : K.broken p (some n) = true ↔ K.bears p / 2 < n := decide_eq_true_iff
      by_cases c2 : K.bears p / 2 < n
      · rw [if_neg (by rw [le_I (by omega) (by omega)]; omega), if_neg (show ¬ (1 : Int32) = 0 by decide), if_pos (show K.isOut p (t + 1) ∧ K.broken p (some n) = true from ⟨c, eb.mpr c2⟩)]
      · rw [if_pos (by rw [le_I (by omega) (by omega)]; omega), if_neg (show ¬ (K.isOut p (t + 1) ∧ K.broken p (some n) = true) from fun h => c2 (eb.mp h.2))]
  · rw [if_neg (fun h => c ((Kf.plM_out O).mp h)), if_neg (show ¬ (K.isOut p (t + 1) ∧ K.broken p f = true) from fun h => c h.1)]
theorem gA_ne {μ : PS} {k j : Nat} {f : Nat → Int32} (h : j ≠ k) : gA (sA μ k f) j = gA μ j := if_neg h
theorem gA_eq {μ : PS} {k : Nat} {f : Nat → Int32} : gA (sA μ k f) k = f := if_pos rfl
theorem upd_ne {f : Nat → Int32} {k j : Nat} {v : Int32} (h : j ≠ k) : upd f k v j = f j := if_neg h
theorem upd_eq {f : Nat → Int32} {k : Nat} {v : Int32} : upd f k v k = v := if_pos rfl
theorem gI_sA' {μ : PS} {k j : Nat} {f : Nat → Int32} : gI (sA μ k f) j = gI μ j := rfl
theorem Kf.M.goesOn_e (H : K.M μ) (O : K.Ok) {s : Nat → Nat} (hs : ∀ o, o < K.np → s o ≤ 10000) {p t : Nat} {x : Pc} (hp : p < K.np) (ht : t ≤ 13) (hsx : s p = x.skin) (hxc : x.core ≤ 10000) (hxf : ∀ n, x.fz = some n → n ≤ 100000) (hxk : ∀ n, x.crack = some n → n ≤ 100000)
    (h30 : ∀ o, o < K.np → gA μ 30 (6 * t + o) = nI (s o)) (h31 : gA μ 31 (6 * t + p) = nI x.core) (h32 : gA μ 32 p = oI x.fz) (h33 : gA μ 33 p = oI x.st) (h34 : gA μ 34 p = oI x.crack) (h35 : gA μ 35 p = nI x.why) :
    ∃ μ', M_goesOn μ (nI p) (nI t) = some μ' ∧ FM μ μ' ∧ (∀ j, gA μ' 30 j = if j = 6 * t + 6 + p then nI (K.stepP s p t x).skin else gA μ 30 j) ∧ (∀ j, gA μ' 31 j = if j = 6 * t + 6 + p then nI (K.stepP s p t x).core else gA μ 31 j) ∧
      (∀ j, gA μ' 32 j = if j = p then oI (K.stepP s p t x).fz else gA μ 32 j) ∧ (∀ j, gA μ' 33 j = if j = p then oI (K.stepP s p t x).st else gA μ 33 j) ∧ (∀ j, gA μ' 34 j = if j = p then oI (K.stepP s p t x).crack else gA μ 34 j) ∧ (∀ j, gA μ' 35 j = if j = p then nI (K.stepP s p t x).why else gA μ 35 j) := by
  have hn := O.np
  have hsp := hs p hp
  have same : ∀ {f : Nat → Int32} {i : Nat} {v : Int32}, f i = v → ∀ j, f j = if j = i then v else f j := by
    intro f i v h j
    split
    · next e => rw [e, h]
    · rfl
  have F2 : FM μ (sA (sA μ 30 (upd (gA μ 30) (6 * t + 6 + p) (nI (s p)))) 31 (upd (gA μ 31) (6 * t + 6 + p) (nI x.core))) := (FM.sA μ _ (by omega) (by omega)).trans (FM.sA _ _ (by omega) (by omega))
  have H2 := H.fr F2
  unfold M_goesOn M_goesOn_j65
  simp (disch := omega) only [mul_L, add_L, nI_add, nm_eq, M_skin_e, h30 p hp, bd_some, ix_nI, wA_nI, rA_nI, M_core_e, gA_ne, h31]
  rw [H2.place O hp (by omega), bd_some]
  by_cases hin : K.inZ p t
  · have hz := (Kf.plM_in O).mpr hin
    have epl : K.plM p t = nI (K.idx p t) := if_pos hin
    rw [if_neg hz.1, if_neg hz.2, h34, epl]
    by_cases hc : x.crack = none
    · rw [if_pos (by rw [hc]; rfl)]
      have eS : K.stepP s p t x = K.breaks p (t + 1) (K.cool s p t x) := if_pos ⟨hin, hc⟩
      obtain ⟨w, ew, hw⟩ := H2.pull_e O hs (p := p) (t := t) (fun o ho => by rw [gA_ne (by omega), gA_eq, upd_ne (by omega), h30 o ho]) hp (by omega) hin.2
      rw [ew, bd_some]
      have hg := O.goal hs (p := p) (t := t) hin.2
      have ha : K.skinTo (K.goal s p t) (s p) ≤ 10000 := Kf.skinTo_le hg hsp
      have hb : coreTo (K.skinTo (K.goal s p t) (s p)) x.core (K.thick p) ≤ 10000 := coreTo_le ha hxc
      have t1 := O.thick1 p hp; have t9 := O.thick p hp; have hset := O.set
      simp (disch := omega) only [gA_ne, gA_eq, upd_eq, hw, H.thick p hp, nz_nI, core_e, bd_some, M_core_e, upd_ne, h31, ix40_4, r17_4, H.set, lt_I, le_I]
      have ey1 : (K.cool s p t x).skin = K.skinTo (K.goal s p t) (s p) := by
        rw [hsx]; rfl
      have ey2 : (K.cool s p t x).core = coreTo (K.skinTo (K.goal s p t) (s p)) x.core (K.thick p) := by
        rw [hsx]; rfl
      have ey3 : (K.cool s p t x).fz = if K.set ≤ x.core ∧ coreTo (K.skinTo (K.goal s p t) (s p)) x.core (K.thick p) < K.set then some (dist (K.skinTo (K.goal s p t) (s p)) (coreTo (K.skinTo (K.goal s p t) (s p)) x.core (K.thick p))) else x.fz := by
        rw [hsx]; rfl
      have ey4 : (K.cool s p t x).st = if K.set ≤ x.core ∧ coreTo (K.skinTo (K.goal s p t) (s p)) x.core (K.thick p) < K.set then some (t + 1) else x.st := by
        rw [hsx]; rfl
      have ey5 : (K.cool s p t x).crack = none := rfl
      have ey6 : (K.cool s p t x).why = x.why := rfl
      rw [eS]
      generalize K.cool s p t x = y at ey1 ey2 ey3 ey4 ey5 ey6 ⊢
      generalize K.skinTo (K.goal s p t) (s p) = a at ey1 ey2 ey3 ey4 ha hb ⊢
      generalize coreTo a x.core (K.thick p) = b at ey2 ey3 ey4 hb ⊢
      have hd := dist_le ha hb
      have key5 : ∀ μ5 : PS, FM μ μ5 → (∀ j, gA μ5 30 j = if j = 6 * t + 6 + p then nI a else gA μ 30 j) → (∀ j, gA μ5 31 j = if j = 6 * t + 6 + p then nI b else gA μ 31 j) → (∀ j, gA μ5 32 j = if j = p then oI y.fz else gA μ 32 j) → (∀ j, gA μ5 33 j = if j = p then oI y.st else gA μ 33 j) → gA μ5 34 = gA μ 34 → gA μ5 35 = gA μ 35 → (∀ n, y.fz = some n → n ≤ 100000) →
          ∃ μ', M_goesOn_j165 μ5 (nI p) (nI t) = some μ' ∧ FM μ μ' ∧ (∀ j, gA μ' 30 j = if j = 6 * t + 6 + p then nI (K.breaks p (t + 1) y).skin else gA μ 30 j) ∧ (∀ j, gA μ' 31 j = if j = 6 * t + 6 + p then nI (K.breaks p (t + 1) y).core else gA μ 31 j) ∧
          (∀ j, gA μ' 32 j = if j = p then oI (K.breaks p (t + 1) y).fz else gA μ 32 j) ∧ (∀ j, gA μ' 33 j = if j = p then oI (K.breaks p (t + 1) y).st else gA μ 33 j) ∧ (∀ j, gA μ' 34 j = if j = p then oI (K.breaks p (t + 1) y).crack else gA μ 34 j) ∧ (∀ j, gA μ' 35 j = if j = p then nI (K.breaks p (t + 1) y).why else gA μ 35 j) := by
        intro μ5 F5 g30 g31 g32 g33 g34 g35 hyf
        have ev : 6 * (t + 1) + p = 6 * t + 6 + p := by omega
        rw [(H.fr F5).j165_e O hp ht ha hb hyf (by rw [g30, if_pos ev]) (by rw [g31, if_pos ev]) (by rw [g32, if_pos rfl])]
        unfold Kf.breaks
        rw [ey1, ey2]
        refine ⟨_, rfl, ?_⟩
        by_cases c1 : K.bears p < dist a b
        · rw [if_pos c1, if_pos c1]
          refine ⟨F5.trans ((FM.sA μ5 _ (by omega) (by omega)).trans (FM.sA _ _ (by omega) (by omega))), fun j => ?_, fun j => ?_, fun j => ?_, fun j => ?_, fun j => ?_, fun j => ?_⟩
          · exact g30 j
          · exact g31 j
          · exact g32 j
          · exact g33 j
          · rw [gA_ne (by omega), gA_eq, upd_at, g34]; rfl
          · rw [gA_eq, upd_at, g35]; rfl
        · rw [if_neg c1, if_neg c1]
          by_cases c2 : K.isOut p (t + 1) ∧ K.broken p y.fz = true
          · rw [if_pos c2, if_pos c2]
            refine ⟨F5.trans ((FM.sA μ5 _ (by omega) (by omega)).trans (FM.sA _ _ (by omega) (by omega))), fun j => ?_, fun j => ?_, fun j => ?_, fun j => ?_, fun j => ?_, fun j => ?_⟩
            · exact g30 j
            · exact g31 j
            · exact g32 j
            · exact g33 j
            · rw [gA_ne (by omega), gA_eq, upd_at, g34]; rfl
            · rw [gA_eq, upd_at, g35]; rfl
          · rw [if_neg c2, if_neg c2]
            refine ⟨F5, fun j => by rw [ey1]; exact g30 j, fun j => by rw [ey2]; exact g31 j, g32, g33, fun j => ?_, fun j => ?_⟩
            · rw [g34, ey5]; exact same (by rw [h34, hc]) j
            · rw [g35, ey6]; exact same h35 j
      have key4 : ∀ μ4 : PS, FM μ μ4 → (∀ j, gA μ4 30 j = if j = 6 * t + 6 + p then nI a else gA μ 30 j) → (∀ j, gA μ4 31 j = if j = 6 * t + 6 + p then nI b else gA μ 31 j) → gA μ4 32 = gA μ 32 → gA μ4 33 = gA μ 33 → gA μ4 34 = gA μ 34 → gA μ4 35 = gA μ 35 →
          ∃ μ', (if x.core < K.set then M_goesOn_j165 μ4 (nI p) (nI t) else if K.set ≤ b then M_goesOn_j165 μ4 (nI p) (nI t) else bd (M_strainOf μ4 (nI p) (nI (t + 1))) (fun q => M_goesOn_j165 (sA (sA μ4 32 (upd (gA μ 32) p q)) 33 (upd (gA μ 33) p (nI (t + 1)))) (nI p) (nI t))) = some μ' ∧ FM μ μ' ∧ (∀ j, gA μ' 30 j = if j = 6 * t + 6 + p then nI (K.breaks p (t + 1) y).skin else gA μ 30 j) ∧ (∀ j, gA μ' 31 j = if j = 6 * t + 6 + p then nI (K.breaks p (t + 1) y).core else gA μ 31 j) ∧
          (∀ j, gA μ' 32 j = if j = p then oI (K.breaks p (t + 1) y).fz else gA μ 32 j) ∧ (∀ j, gA μ' 33 j = if j = p then oI (K.breaks p (t + 1) y).st else gA μ 33 j) ∧ (∀ j, gA μ' 34 j = if j = p then oI (K.breaks p (t + 1) y).crack else gA μ 34 j) ∧ (∀ j, gA μ' 35 j = if j = p then nI (K.breaks p (t + 1) y).why else gA μ 35 j) := by
        intro μ4 F4 g30 g31 g32 g33 g34 g35
        have ev : 6 * (t + 1) + p = 6 * t + 6 + p := by omega
        by_cases c : K.set ≤ x.core ∧ b < K.set
        · rw [if_neg (by omega), if_neg (by omega), Kf.M.strain_e (t := t + 1) ha hb (by omega) (by omega) (by rw [g30, if_pos ev]) (by rw [g31, if_pos ev]), bd_some]
          rw [if_pos c] at ey3 ey4
          refine key5 _ (F4.trans ((FM.sA μ4 _ (by omega) (by omega)).trans (FM.sA _ _ (by omega) (by omega)))) g30 g31 (fun j => ?_) (fun j => ?_) g34 g35 (fun n hn => ?_)
          · rw [gA_ne (by omega), gA_eq, upd_at, ey3]; rfl
          · rw [gA_eq, upd_at, ey4]; rfl
          · rw [ey3] at hn; cases hn; omega
        · rw [if_neg c] at ey3 ey4
          have e5 := key5 μ4 F4 g30 g31 (fun j => by rw [g32, ey3]; exact same h32 j) (fun j => by rw [g33, ey4]; exact same h33 j) g34 g35 (fun n hn => hxf n (by rw [← ey3]; exact hn))
          by_cases c1 : x.core < K.set
          · rw [if_pos c1]; exact e5
          · rw [if_neg c1, if_pos (by omega)]; exact e5
      refine key4 _ (F2.trans ((FM.sA _ _ (by omega) (by omega)).trans (FM.sA _ _ (by omega) (by omega)))) (fun j => ?_) (fun j => ?_) rfl rfl rfl rfl
      · rw [gA_ne (by omega), gA_eq, upd_at, upd_at]
        split <;> rfl
      · rw [gA_eq, upd_at, upd_at]
        split <;> rfl
    · rw [if_neg (by rw [oI_m1 hxk]; exact hc)]
      have eS : K.stepP s p t x = x := if_neg (fun h => hc h.2)
      rw [eS]
      refine ⟨_, rfl, F2, fun j => ?_, fun j => ?_, same h32, same h33, same h34, same h35⟩
      · rw [gA_ne (by omega), gA_eq, upd_at, hsx]
      · rw [gA_eq, upd_at]
  · have eS : K.stepP s p t x = x := if_neg (fun h => hin h.1)
    rw [eS]
    refine ⟨sA (sA μ 30 (upd (gA μ 30) (6 * t + 6 + p) (nI (s p)))) 31 (upd (gA μ 31) (6 * t + 6 + p) (nI x.core)), ?_, F2, fun j => ?_, fun j => ?_, same h32, same h33, same h34, same h35⟩
    · by_cases c1 : K.plM p t = -1
      · rw [if_pos c1]
      · rw [if_neg c1]
        by_cases c2 : K.plM p t = 10
        · rw [if_pos c2]
        · exact absurd ((Kf.plM_in O).mp ⟨c1, c2⟩) hin
    · rw [gA_ne (by omega), gA_eq, upd_at, hsx]
    · rw [gA_eq, upd_at]
