set_option maxRecDepth 100000
/-! stage 2: what a run computes, plainly -/
def bI (b : Bool) : Int32 := if b then 1 else 0
def oI : Option Nat → Int32
  | none => -1
  | some n => nI n
/-- what a run goes by: zones by their places (k-th place: zone ord k) -/
def Kf : Type := (Nat) × (Nat) × (Nat) × (Nat) × (Nat) × (Nat) × (Int32) × (Int32) × (Nat) × (Nat → Nat) × (Nat → Nat) × (Nat → Nat) × (Nat → Nat) × (Nat → Nat) × (Nat → Nat × Nat × Nat × Nat)
def Kf.np (K : Kf) : Nat := K.1
def Kf.ns (K : Kf) : Nat := K.2.1
def Kf.nz (K : Kf) : Nat := K.2.2.1
def Kf.na (K : Kf) : Nat := K.2.2.2.1
def Kf.pc (K : Kf) : Nat := K.2.2.2.2.1
def Kf.sk (K : Kf) : Nat := K.2.2.2.2.2.1
def Kf.law (K : Kf) : Int32 := K.2.2.2.2.2.2.1
def Kf.gust (K : Kf) : Int32 := K.2.2.2.2.2.2.2.1
def Kf.set (K : Kf) : Nat := K.2.2.2.2.2.2.2.2.1
def Kf.heat (K : Kf) : Nat → Nat := K.2.2.2.2.2.2.2.2.2.1
def Kf.thick (K : Kf) : Nat → Nat := K.2.2.2.2.2.2.2.2.2.2.1
def Kf.bears (K : Kf) : Nat → Nat := K.2.2.2.2.2.2.2.2.2.2.2.1
def Kf.comes (K : Kf) : Nat → Nat := K.2.2.2.2.2.2.2.2.2.2.2.2.1
def Kf.air (K : Kf) : Nat → Nat := K.2.2.2.2.2.2.2.2.2.2.2.2.2.1
def Kf.act (K : Kf) : Nat → Nat × Nat × Nat × Nat := K.2.2.2.2.2.2.2.2.2.2.2.2.2.2
def Kf.mk (np : Nat) (ns : Nat) (nz : Nat) (na : Nat) (pc : Nat) (sk : Nat) (law : Int32) (gust : Int32) (set : Nat) (heat : Nat → Nat) (thick : Nat → Nat) (bears : Nat → Nat) (comes : Nat → Nat) (air : Nat → Nat) (act : Nat → Nat × Nat × Nat × Nat) : Kf := (np, ns, nz, na, pc, sk, law, gust, set, heat, thick, bears, comes, air, act)
def Kf.ord (K : Kf) (k : Nat) : Nat := if k < K.sk then k else k + 1
def Kf.idx (K : Kf) (p t : Nat) : Nat := (t - K.comes p) / K.pc
abbrev Kf.inZ (K : Kf) (p t : Nat) : Prop := K.comes p ≤ t ∧ K.idx p t < K.nz
abbrev Kf.isOut (K : Kf) (p t : Nat) : Prop := K.comes p ≤ t ∧ K.nz ≤ K.idx p t
abbrev Kf.fired (K : Kf) (k t i : Nat) : Prop := (K.act i).1 = 0 ∧ (K.act i).2.1 = K.ord k ∧ (K.act i).2.2.2 ≤ t
def Kf.airN (K : Kf) (k t : Nat) (j : Nat) : Nat := itr (fun i a => if K.fired k t i then a + (K.act i).2.2.1 else a) (K.air k) j
def Kf.gb (K : Kf) (t : Nat) (j : Nat) : Bool := itr (fun i b => b || (decide ((K.act i).1 = 1) && decide ((K.act i).2.2.2 = t))) (decide (((K.gust >>> (nI t &&& 31)) &&& 1) = 1)) j
def Kf.airOf (K : Kf) (k t : Nat) : Nat := if K.gb t K.na then K.airN k t K.na - 80 else K.airN k t K.na
def Kf.near (K : Kf) (s : Nat → Nat) (p k t : Nat) (j : Nat) : Nat × Nat := itr (fun o a => if o ≠ p ∧ K.inZ o t ∧ K.idx o t = k then (a.1 + s o, a.2 + 1) else a) (K.airOf k t, 1) j
def Kf.goal (K : Kf) (s : Nat → Nat) (p t : Nat) : Nat := if K.law = 2 then (K.near s p (K.idx p t) t K.np).1 / (K.near s p (K.idx p t) t K.np).2 else K.airOf (K.idx p t) t
/-- how far of a way -/
def Kf.far (K : Kf) (w : Nat) : Nat := if K.law = 3 then w / 3 else if K.law = 1 then min 60 (w / 2) else w / 2
def Kf.skinTo (K : Kf) (g s : Nat) : Nat := if s ≤ g then s + K.far (g - s) else s - K.far (s - g)
def coreTo (a c d : Nat) : Nat := if c ≤ a then c + (a - c) / d else c - (c - a) / d
def dist (a b : Nat) : Nat := if a ≤ b then b - a else a - b
def Pc : Type := (Nat) × (Nat) × (Option Nat) × (Nat) × (Option Nat) × (Option Nat)
def Pc.skin (K : Pc) : Nat := K.1
def Pc.core (K : Pc) : Nat := K.2.1
def Pc.crack (K : Pc) : Option Nat := K.2.2.1
def Pc.why (K : Pc) : Nat := K.2.2.2.1
def Pc.fz (K : Pc) : Option Nat := K.2.2.2.2.1
def Pc.st (K : Pc) : Option Nat := K.2.2.2.2.2
def Pc.mk (skin : Nat) (core : Nat) (crack : Option Nat) (why : Nat) (fz : Option Nat) (st : Option Nat) : Pc := (skin, core, crack, why, fz, st)
/-- one step of a piece that lies in a zone and is whole -/
def Kf.cool (K : Kf) (s : Nat → Nat) (p t : Nat) (x : Pc) : Pc :=
  Pc.mk (K.skinTo (K.goal s p t) x.skin) (coreTo (K.skinTo (K.goal s p t) x.skin) x.core (K.thick p)) none x.why
    (if K.set ≤ x.core ∧ coreTo (K.skinTo (K.goal s p t) x.skin) x.core (K.thick p) < K.set then some (dist (K.skinTo (K.goal s p t) x.skin) (coreTo (K.skinTo (K.goal s p t) x.skin) x.core (K.thick p))) else x.fz)
    (if K.set ≤ x.core ∧ coreTo (K.skinTo (K.goal s p t) x.skin) x.core (K.thick p) < K.set then some (t + 1) else x.st)
def Kf.broken (K : Kf) (p : Nat) (f : Option Nat) : Bool := match f with
  | none => false
  | some n => decide (K.bears p / 2 < n)
/-- whether it cracks in step t -/
def Kf.breaks (K : Kf) (p t : Nat) (x : Pc) : Pc :=
  if K.bears p < dist x.skin x.core then Pc.mk x.skin x.core (some t) 1 x.fz x.st else if K.isOut p t ∧ K.broken p x.fz = true then Pc.mk x.skin x.core (some t) 2 x.fz x.st else x
def Kf.stepP (K : Kf) (s : Nat → Nat) (p t : Nat) (x : Pc) : Pc := if K.inZ p t ∧ x.crack = none then K.breaks p (t + 1) (K.cool s p t x) else x
def Kf.R (K : Kf) : Nat → Nat → Pc
  | 0, p => Pc.mk (K.heat p) (K.heat p) none 0 none none
  | t + 1, p => K.stepP (fun q => (K.R t q).skin) p t (K.R t p)
/-- what K may hold -/
def Kf.Ok (K : Kf) : Prop := (K.np ≤ 6) ∧ (K.ns ≤ 14) ∧ (K.nz ≤ 7) ∧ (K.na ≤ 30) ∧ (0 < K.np → 1 ≤ K.pc) ∧ (K.pc ≤ 6) ∧ (K.sk ≤ 7) ∧ (∀ k, k < K.nz → K.ord k ≤ 6) ∧ (K.law = 0 ∨ K.law = 1 ∨ K.law = 2 ∨ K.law = 3) ∧ (K.set ≤ 600) ∧ (∀ p, p < K.np → K.heat p ≤ 600) ∧ (∀ p, p < K.np → 1 ≤ K.thick p) ∧ (∀ p, p < K.np → K.thick p ≤ 9) ∧ (∀ p, p < K.np → K.bears p ≤ 300) ∧ (∀ p, p < K.np → K.comes p ≤ 14) ∧ (∀ k, k < K.nz → K.air k ≤ 900) ∧ (∀ i, i < K.na → (K.act i).1 = 0 ∨ (K.act i).1 = 1) ∧ (∀ i, i < K.na → (K.act i).2.1 ≤ 6) ∧ (∀ i, i < K.na → (K.act i).2.2.1 ≤ 200) ∧ (∀ i, i < K.na → (K.act i).1 = 0 → 1 ≤ (K.act i).2.2.1) ∧ (∀ i, i < K.na → (K.act i).2.2.2 ≤ 14)
theorem Kf.Ok.np {K : Kf} (H : Kf.Ok K) : K.np ≤ 6 := H.1
theorem Kf.Ok.ns {K : Kf} (H : Kf.Ok K) : K.ns ≤ 14 := H.2.1
theorem Kf.Ok.nz {K : Kf} (H : Kf.Ok K) : K.nz ≤ 7 := H.2.2.1
theorem Kf.Ok.na {K : Kf} (H : Kf.Ok K) : K.na ≤ 30 := H.2.2.2.1
theorem Kf.Ok.pc1 {K : Kf} (H : Kf.Ok K) : 0 < K.np → 1 ≤ K.pc := H.2.2.2.2.1
theorem Kf.Ok.pc {K : Kf} (H : Kf.Ok K) : K.pc ≤ 6 := H.2.2.2.2.2.1
theorem Kf.Ok.sk {K : Kf} (H : Kf.Ok K) : K.sk ≤ 7 := H.2.2.2.2.2.2.1
theorem Kf.Ok.ord {K : Kf} (H : Kf.Ok K) : ∀ k, k < K.nz → K.ord k ≤ 6 := H.2.2.2.2.2.2.2.1
theorem Kf.Ok.law {K : Kf} (H : Kf.Ok K) : K.law = 0 ∨ K.law = 1 ∨ K.law = 2 ∨ K.law = 3 := H.2.2.2.2.2.2.2.2.1
theorem Kf.Ok.set {K : Kf} (H : Kf.Ok K) : K.set ≤ 600 := H.2.2.2.2.2.2.2.2.2.1
theorem Kf.Ok.heat {K : Kf} (H : Kf.Ok K) : ∀ p, p < K.np → K.heat p ≤ 600 := H.2.2.2.2.2.2.2.2.2.2.1
theorem Kf.Ok.thick1 {K : Kf} (H : Kf.Ok K) : ∀ p, p < K.np → 1 ≤ K.thick p := H.2.2.2.2.2.2.2.2.2.2.2.1
theorem Kf.Ok.thick {K : Kf} (H : Kf.Ok K) : ∀ p, p < K.np → K.thick p ≤ 9 := H.2.2.2.2.2.2.2.2.2.2.2.2.1
theorem Kf.Ok.bears {K : Kf} (H : Kf.Ok K) : ∀ p, p < K.np → K.bears p ≤ 300 := H.2.2.2.2.2.2.2.2.2.2.2.2.2.1
theorem Kf.Ok.comes {K : Kf} (H : Kf.Ok K) : ∀ p, p < K.np → K.comes p ≤ 14 := H.2.2.2.2.2.2.2.2.2.2.2.2.2.2.1
theorem Kf.Ok.air {K : Kf} (H : Kf.Ok K) : ∀ k, k < K.nz → K.air k ≤ 900 := H.2.2.2.2.2.2.2.2.2.2.2.2.2.2.2.1
theorem Kf.Ok.kind {K : Kf} (H : Kf.Ok K) : ∀ i, i < K.na → (K.act i).1 = 0 ∨ (K.act i).1 = 1 := H.2.2.2.2.2.2.2.2.2.2.2.2.2.2.2.2.1
theorem Kf.Ok.zone {K : Kf} (H : Kf.Ok K) : ∀ i, i < K.na → (K.act i).2.1 ≤ 6 := H.2.2.2.2.2.2.2.2.2.2.2.2.2.2.2.2.2.1
theorem Kf.Ok.much {K : Kf} (H : Kf.Ok K) : ∀ i, i < K.na → (K.act i).2.2.1 ≤ 200 := H.2.2.2.2.2.2.2.2.2.2.2.2.2.2.2.2.2.2.1
theorem Kf.Ok.much1 {K : Kf} (H : Kf.Ok K) : ∀ i, i < K.na → (K.act i).1 = 0 → 1 ≤ (K.act i).2.2.1 := H.2.2.2.2.2.2.2.2.2.2.2.2.2.2.2.2.2.2.2.1
theorem Kf.Ok.step {K : Kf} (H : Kf.Ok K) : ∀ i, i < K.na → (K.act i).2.2.2 ≤ 14 := H.2.2.2.2.2.2.2.2.2.2.2.2.2.2.2.2.2.2.2.2
/-- LehrBelt holds it -/
def Kf.X (K : Kf) (σ : PS) : Prop := (gI σ 107 = nI K.np) ∧ (gI σ 100 = nI K.ns) ∧ (gI σ 10 = nI K.nz) ∧ (gI σ 108 = nI K.na) ∧ (gI σ 104 = nI K.set) ∧ (gI σ 13 = K.law) ∧ (gI σ 11 = nI K.pc) ∧ (gI σ 12 = K.gust) ∧ (∀ p, p < K.np → gA σ 113 p = nI (K.comes p)) ∧ (∀ p, p < K.np → gA σ 110 p = nI (K.heat p)) ∧ (∀ p, p < K.np → gA σ 8 p = nI (K.thick p)) ∧ (∀ p, p < K.np → gA σ 9 p = nI (K.bears p)) ∧ (∀ k, k < K.nz → gA σ 7 k = nI (K.ord k)) ∧ (∀ k, k < K.nz → gA σ 5 (K.ord k) + gA σ 6 (K.ord k) = nI (K.air k)) ∧ (∀ i, i < K.na → gA σ 114 i = nI (if (K.act i).1 = 0 then 100000 * (K.act i).2.2.1 + 100 * (K.act i).2.1 + (K.act i).2.2.2 else (K.act i).2.2.2))
theorem Kf.X.np {K : Kf} {σ : PS} (H : Kf.X K σ) : gI σ 107 = nI K.np := H.1
theorem Kf.X.ns {K : Kf} {σ : PS} (H : Kf.X K σ) : gI σ 100 = nI K.ns := H.2.1
theorem Kf.X.nz {K : Kf} {σ : PS} (H : Kf.X K σ) : gI σ 10 = nI K.nz := H.2.2.1
theorem Kf.X.na {K : Kf} {σ : PS} (H : Kf.X K σ) : gI σ 108 = nI K.na := H.2.2.2.1
theorem Kf.X.set {K : Kf} {σ : PS} (H : Kf.X K σ) : gI σ 104 = nI K.set := H.2.2.2.2.1
theorem Kf.X.law {K : Kf} {σ : PS} (H : Kf.X K σ) : gI σ 13 = K.law := H.2.2.2.2.2.1
theorem Kf.X.pc {K : Kf} {σ : PS} (H : Kf.X K σ) : gI σ 11 = nI K.pc := H.2.2.2.2.2.2.1
theorem Kf.X.gust {K : Kf} {σ : PS} (H : Kf.X K σ) : gI σ 12 = K.gust := H.2.2.2.2.2.2.2.1
theorem Kf.X.comes {K : Kf} {σ : PS} (H : Kf.X K σ) : ∀ p, p < K.np → gA σ 113 p = nI (K.comes p) := H.2.2.2.2.2.2.2.2.1
theorem Kf.X.heat {K : Kf} {σ : PS} (H : Kf.X K σ) : ∀ p, p < K.np → gA σ 110 p = nI (K.heat p) := H.2.2.2.2.2.2.2.2.2.1
theorem Kf.X.thick {K : Kf} {σ : PS} (H : Kf.X K σ) : ∀ p, p < K.np → gA σ 8 p = nI (K.thick p) := H.2.2.2.2.2.2.2.2.2.2.1
theorem Kf.X.bears {K : Kf} {σ : PS} (H : Kf.X K σ) : ∀ p, p < K.np → gA σ 9 p = nI (K.bears p) := H.2.2.2.2.2.2.2.2.2.2.2.1
theorem Kf.X.ord {K : Kf} {σ : PS} (H : Kf.X K σ) : ∀ k, k < K.nz → gA σ 7 k = nI (K.ord k) := H.2.2.2.2.2.2.2.2.2.2.2.2.1
theorem Kf.X.air {K : Kf} {σ : PS} (H : Kf.X K σ) : ∀ k, k < K.nz → gA σ 5 (K.ord k) + gA σ 6 (K.ord k) = nI (K.air k) := H.2.2.2.2.2.2.2.2.2.2.2.2.2.1
theorem Kf.X.act {K : Kf} {σ : PS} (H : Kf.X K σ) : ∀ i, i < K.na → gA σ 114 i = nI (if (K.act i).1 = 0 then 100000 * (K.act i).2.2.1 + 100 * (K.act i).2.1 + (K.act i).2.2.2 else (K.act i).2.2.2) := H.2.2.2.2.2.2.2.2.2.2.2.2.2.2
/-- LehrBeltModel holds it -/
def Kf.M (K : Kf) (μ : PS) : Prop := (gA μ 17 6 = nI K.np) ∧ (gA μ 17 0 = nI K.ns) ∧ (gI μ 25 = nI K.nz) ∧ (gA μ 17 7 = nI K.na) ∧ (gA μ 17 4 = nI K.set) ∧ (gI μ 22 = K.law) ∧ (gI μ 23 = nI K.pc) ∧ (gI μ 24 = K.gust) ∧ (gI μ 26 = nI K.sk) ∧ (∀ p, p < K.np → gA μ 19 (4 * p + 3) = nI (K.comes p)) ∧ (∀ p, p < K.np → gA μ 19 (4 * p) = nI (K.heat p)) ∧ (∀ p, p < K.np → gA μ 28 p = nI (K.thick p)) ∧ (∀ p, p < K.np → gA μ 29 p = nI (K.bears p)) ∧ (∀ k, k < K.nz → gA μ 27 k = nI (K.air k)) ∧ (∀ i, i < K.na → gA μ 20 (4 * i) = nI (K.act i).1) ∧ (∀ i, i < K.na → (K.act i).1 = 0 → gA μ 20 (4 * i + 1) = nI (K.act i).2.1) ∧ (∀ i, i < K.na → (K.act i).1 = 0 → gA μ 20 (4 * i + 2) = nI (K.act i).2.2.1) ∧ (∀ i, i < K.na → gA μ 20 (4 * i + 3) = nI (K.act i).2.2.2)
theorem Kf.M.np {K : Kf} {μ : PS} (H : Kf.M K μ) : gA μ 17 6 = nI K.np := H.1
theorem Kf.M.ns {K : Kf} {μ : PS} (H : Kf.M K μ) : gA μ 17 0 = nI K.ns := H.2.1
theorem Kf.M.nz {K : Kf} {μ : PS} (H : Kf.M K μ) : gI μ 25 = nI K.nz := H.2.2.1
theorem Kf.M.na {K : Kf} {μ : PS} (H : Kf.M K μ) : gA μ 17 7 = nI K.na := H.2.2.2.1
theorem Kf.M.set {K : Kf} {μ : PS} (H : Kf.M K μ) : gA μ 17 4 = nI K.set := H.2.2.2.2.1
theorem Kf.M.law {K : Kf} {μ : PS} (H : Kf.M K μ) : gI μ 22 = K.law := H.2.2.2.2.2.1
theorem Kf.M.pc {K : Kf} {μ : PS} (H : Kf.M K μ) : gI μ 23 = nI K.pc := H.2.2.2.2.2.2.1
theorem Kf.M.gust {K : Kf} {μ : PS} (H : Kf.M K μ) : gI μ 24 = K.gust := H.2.2.2.2.2.2.2.1
theorem Kf.M.sk {K : Kf} {μ : PS} (H : Kf.M K μ) : gI μ 26 = nI K.sk := H.2.2.2.2.2.2.2.2.1
theorem Kf.M.comes {K : Kf} {μ : PS} (H : Kf.M K μ) : ∀ p, p < K.np → gA μ 19 (4 * p + 3) = nI (K.comes p) := H.2.2.2.2.2.2.2.2.2.1
theorem Kf.M.heat {K : Kf} {μ : PS} (H : Kf.M K μ) : ∀ p, p < K.np → gA μ 19 (4 * p) = nI (K.heat p) := H.2.2.2.2.2.2.2.2.2.2.1
theorem Kf.M.thick {K : Kf} {μ : PS} (H : Kf.M K μ) : ∀ p, p < K.np → gA μ 28 p = nI (K.thick p) := H.2.2.2.2.2.2.2.2.2.2.2.1
theorem Kf.M.bears {K : Kf} {μ : PS} (H : Kf.M K μ) : ∀ p, p < K.np → gA μ 29 p = nI (K.bears p) := H.2.2.2.2.2.2.2.2.2.2.2.2.1
theorem Kf.M.air {K : Kf} {μ : PS} (H : Kf.M K μ) : ∀ k, k < K.nz → gA μ 27 k = nI (K.air k) := H.2.2.2.2.2.2.2.2.2.2.2.2.2.1
theorem Kf.M.kind {K : Kf} {μ : PS} (H : Kf.M K μ) : ∀ i, i < K.na → gA μ 20 (4 * i) = nI (K.act i).1 := H.2.2.2.2.2.2.2.2.2.2.2.2.2.2.1
theorem Kf.M.zone {K : Kf} {μ : PS} (H : Kf.M K μ) : ∀ i, i < K.na → (K.act i).1 = 0 → gA μ 20 (4 * i + 1) = nI (K.act i).2.1 := H.2.2.2.2.2.2.2.2.2.2.2.2.2.2.2.1
theorem Kf.M.much {K : Kf} {μ : PS} (H : Kf.M K μ) : ∀ i, i < K.na → (K.act i).1 = 0 → gA μ 20 (4 * i + 2) = nI (K.act i).2.2.1 := H.2.2.2.2.2.2.2.2.2.2.2.2.2.2.2.2.1
theorem Kf.M.step {K : Kf} {μ : PS} (H : Kf.M K μ) : ∀ i, i < K.na → gA μ 20 (4 * i + 3) = nI (K.act i).2.2.2 := H.2.2.2.2.2.2.2.2.2.2.2.2.2.2.2.2.2
variable {K : Kf} {σ μ : PS}
theorem Kf.Ok.idx (O : K.Ok) {p t : Nat} (ht : t ≤ 15) : K.idx p t ≤ 15 := Nat.le_trans (Nat.div_le_self _ _) (by omega)
theorem Kf.ord_inj {i k : Nat} : K.ord i = K.ord k ↔ i = k := by
  unfold Kf.ord
  split <;> split <;> omega
theorem Kf.Ok.airN (O : K.Ok) {k t : Nat} (hk : k < K.nz) : ∀ j, j ≤ K.na → K.airN k t j ≤ 900 + 200 * j
  | 0, _ => O.air k hk
  | j + 1, hj => by
    have h := Kf.Ok.airN O (t := t) hk j (by omega)
    have h2 := O.much j (by omega)
    show (if K.fired k t j then K.airN k t j + (K.act j).2.2.1 else K.airN k t j) ≤ _
    split <;> omega
theorem Kf.Ok.airOf (O : K.Ok) {k t : Nat} (hk : k < K.nz) : K.airOf k t ≤ 6900 := by
  have h := O.airN (t := t) hk K.na (Nat.le_refl _)
  have h2 := O.na
  unfold Kf.airOf
  split <;> omega
/-! where a piece is -/
def Kf.plX (K : Kf) (p t : Nat) : Int32 := if K.inZ p t then nI (K.ord (K.idx p t)) else if K.comes p ≤ t then 10 else -1
def Kf.plM (K : Kf) (p t : Nat) : Int32 := if K.inZ p t then nI (K.idx p t) else if K.comes p ≤ t then 10 else -1
theorem Kf.X.place (H : K.X σ) (O : K.Ok) {p t : Nat} (hp : p < K.np) (ht : t ≤ 15) : X_placeOf σ (nI p) (nI t) = some (K.plX p t) := by
  have h1 := O.np; have h2 := O.comes p hp; have h3 := O.pc1 (by omega); have h4 := O.pc; have h5 := O.nz; have h6 := O.idx (p := p) ht
  have e1 : gA σ 113 p = nI (K.comes p) := H.comes p hp
  unfold X_placeOf X_placeOf_j51
  simp (disch := omega) only [ix_nI, rA_nI, e1, le_I, H.pc, nz_nI, nm_eq, H.nz]
  by_cases h : K.comes p ≤ t
  · simp (disch := omega) only [h, if_true, sub_I, div_I]
    have e2 : (t - K.comes p) / K.pc = K.idx p t := rfl
    simp (disch := omega) only [e2, le_I]
    by_cases hz : K.idx p t < K.nz
    · rw [if_neg (by omega)]
      simp (disch := omega) only [ix_nI, rA_nI, H.ord _ hz]
      unfold Kf.plX; rw [if_pos ⟨h, hz⟩]
    · rw [if_pos (by omega)]
      unfold Kf.plX; rw [if_neg (fun c => hz c.2), if_pos h]
  · rw [if_neg h]
    unfold Kf.plX; rw [if_neg (fun c => h c.1), if_neg h]
theorem Kf.M.comes_e (H : K.M μ) (O : K.Ok) {p : Nat} (hp : p < K.np) : M_comes μ (nI p) = some (nI (K.comes p)) := by
  have h1 := O.np
  unfold M_comes
  simp (disch := omega) only [mul_L, add_L, ix_nI, rA_nI, H.comes p hp]
theorem Kf.M.place (H : K.M μ) (O : K.Ok) {p t : Nat} (hp : p < K.np) (ht : t ≤ 15) : M_whereOf μ (nI p) (nI t) = some (K.plM p t) := by
  have h1 := O.np; have h2 := O.comes p hp; have h3 := O.pc1 (by omega); have h4 := O.pc; have h5 := O.nz; have h6 := O.idx (p := p) ht
  unfold M_whereOf M_whereOf_j38
  simp (disch := omega) only [H.comes_e O hp, bd_some, le_I, H.pc, nz_nI, nm_eq, H.nz]
  by_cases h : K.comes p ≤ t
  · simp (disch := omega) only [h, if_true, sub_I, div_I]
    have e2 : (t - K.comes p) / K.pc = K.idx p t := rfl
    simp (disch := omega) only [e2, le_I]
    by_cases hz : K.idx p t < K.nz
    · rw [if_neg (by omega)]
      unfold Kf.plM; rw [if_pos ⟨h, hz⟩]
    · rw [if_pos (by omega)]
      unfold Kf.plM; rw [if_neg (fun c => hz c.2), if_pos h]
  · rw [if_neg h]
    unfold Kf.plM; rw [if_neg (fun c => h c.1), if_neg h]
theorem ix40_0 {α : Type} {x : Option α} : ix 0 40 x = x := if_neg (by decide)
theorem r17_0 (μ : PS) : rA μ 17 0 = gA μ 17 0 := rfl
theorem ix40_1 {α : Type} {x : Option α} : ix 1 40 x = x := if_neg (by decide)
theorem r17_1 (μ : PS) : rA μ 17 1 = gA μ 17 1 := rfl
theorem ix40_2 {α : Type} {x : Option α} : ix 2 40 x = x := if_neg (by decide)
theorem r17_2 (μ : PS) : rA μ 17 2 = gA μ 17 2 := rfl
theorem ix40_3 {α : Type} {x : Option α} : ix 3 40 x = x := if_neg (by decide)
theorem r17_3 (μ : PS) : rA μ 17 3 = gA μ 17 3 := rfl
theorem ix40_4 {α : Type} {x : Option α} : ix 4 40 x = x := if_neg (by decide)
theorem r17_4 (μ : PS) : rA μ 17 4 = gA μ 17 4 := rfl
theorem ix40_5 {α : Type} {x : Option α} : ix 5 40 x = x := if_neg (by decide)
theorem r17_5 (μ : PS) : rA μ 17 5 = gA μ 17 5 := rfl
theorem ix40_6 {α : Type} {x : Option α} : ix 6 40 x = x := if_neg (by decide)
theorem r17_6 (μ : PS) : rA μ 17 6 = gA μ 17 6 := rfl
theorem ix40_7 {α : Type} {x : Option α} : ix 7 40 x = x := if_neg (by decide)
theorem r17_7 (μ : PS) : rA μ 17 7 = gA μ 17 7 := rfl
/-! air -/
theorem bI_or (a b : Bool) : bI a ||| bI b = bI (a || b) := by cases a <;> cases b <;> decide
theorem bI_0 {a : Bool} : bI a = 0 ↔ a = false := by cases a <;> decide
theorem bI_tz {α : Type} {a : Bool} {x : Option α} : tz (bI a) x = x := by cases a <;> rfl
theorem isOf_e (x : Int32) (t : Nat) : X_isOf x (nI t) = some (bI (decide (((x >>> (nI t &&& 31)) &&& 1) = 1))) := by
  unfold X_isOf X_isOf_j14
  by_cases h : ((x >>> (nI t &&& 31)) &&& 1) = 1
  · rw [if_pos h, decide_eq_true h]; rfl
  · rw [if_neg h, decide_eq_false h]; rfl
theorem isBit_e (x : Int32) (t : Nat) : M_isBit x (nI t) = some (bI (decide (((x >>> (nI t &&& 31)) &&& 1) = 1))) := by
  unfold M_isBit M_isBit_j14
  by_cases h : ((x >>> (nI t &&& 31)) &&& 1) = 1
  · rw [if_pos h, decide_eq_true h]; rfl
  · rw [if_neg h, decide_eq_false h]; rfl
theorem Kf.X.gust_e (H : K.X σ) (O : K.Ok) {t : Nat} (ht : t ≤ 15) : X_isGust σ (nI t) = some (bI (K.gb t K.na)) := by
  have h1 := O.na
  unfold X_isGust
  rw [isOf_e, H.gust, bd_some]
  refine loop_seq (fun i => (bI (K.gb t i), nI i)) K.na (fun i hi => ?_) ?_ (by omega)
  · have h2 := O.kind i hi; have h3 := O.zone i hi; have h4 := O.much i hi; have h5 := O.much1 i hi; have h6 := O.step i hi
    show X_isGust_l11 σ (nI t) (bI (K.gb t i)) (nI i) = _
    unfold X_isGust_l11 X_isGust_j39 X_isGust_j44
    rw [H.na, if_neg (by rw [le_I (by omega) (by omega)]; omega)]
    have ea := H.act i hi
    show _ = some (Sum.inl (bI (K.gb t i || (decide ((K.act i).1 = 1) && decide ((K.act i).2.2.2 = t))), nI (i + 1)))
    by_cases hb : K.gb t i = true
    · rw [hb, if_neg (by decide), nm_eq, nI_1]; rfl
    · have hb : K.gb t i = false := by simpa using hb
      rw [hb, if_pos (by decide), ix_nI (by omega) (by omega), rA_nI (by omega)]
      rcases h2 with h2 | h2
      · rw [if_pos h2] at ea
        rw [ea, if_neg (by rw [eq_I (by omega) (by omega)]; have := h5 h2; omega), nm_eq, nI_1, h2]; rfl
      · rw [if_neg (by omega)] at ea
        rw [ea, h2]
        by_cases hs : (K.act i).2.2.2 = t
        · rw [hs, if_pos rfl, decide_eq_true (rfl : t = t), nm_eq, nI_1]; rfl
        · rw [if_neg (by rw [eq_I (by omega) (by omega)]; exact hs), decide_eq_false hs, nm_eq, nI_1]; rfl
  · show X_isGust_l11 σ (nI t) (bI (K.gb t K.na)) (nI K.na) = _
    unfold X_isGust_l11 X_isGust_j51
    rw [H.na, if_pos (by rw [le_I (by omega) (by omega)]; omega), bI_tz]; rfl
theorem mx_gust {a : Nat} (h : a ≤ 100000) : mx 0 (nI a - 80) = nI (a - 80) := by
  unfold mx
  by_cases c : a ≤ 80
  · rw [if_neg (fun h2 => ?_), show a - 80 = 0 by omega]
    · rfl
    · have h3 := pk_sub_toInt (a := a) (b := 80) (by omega) (by omega)
      have h4 := Int32.lt_iff_toInt_lt.mp h2
      have h5 : (0 : Int32).toInt = 0 := by decide
      have h6 : nI a - 80 = nI a - nI 80 := rfl
      rw [h6, h3, h5] at h4
      omega
  · rw [show nI a - 80 = nI (a - 80) from pk_sub (b := 80) (by omega), if_pos]
    exact (L_lt (a := 0) (by omega) (by omega)).mpr (by omega)
theorem M_more_gust {a : Nat} (h : a ≤ 100000) : M_moreOf 0 (nI a - 80) = some (nI (a - 80)) := by
  rw [← mx_gust h]
  unfold M_moreOf M_moreOf_j10 mx
  by_cases c : 0 < nI a - 80
  · rw [if_pos c, if_pos (Int32.le_of_lt c)]
  · rw [if_neg c]
    by_cases c2 : 0 ≤ nI a - 80
    · rw [if_pos c2, Int32.le_antisymm (Int32.not_lt.mp c) c2]
    · rw [if_neg c2]
theorem Kf.X.air_e (H : K.X σ) (O : K.Ok) {k t : Nat} (hk : k < K.nz) (ht : t ≤ 15) : X_airOf σ (nI (K.ord k)) (nI t) = some (nI (K.airOf k t)) := by
  have h1 := O.na; have ho := O.ord k hk
  unfold X_airOf
  simp (disch := omega) only [ix_nI, rA_nI, H.air k hk, nm_eq]
  refine loop_seq (fun i => (nI (K.airN k t i), nI i)) K.na (fun i hi => ?_) ?_ (by omega)
  · have h2 := O.kind i hi; have h3 := O.zone i hi; have h4 := O.much i hi; have h5 := O.much1 i hi; have h6 := O.step i hi; have h7 := O.airN (t := t) hk i (by omega)
    show X_airOf_l17 σ (nI (K.ord k)) (nI t) (nI (K.airN k t i)) (nI i) = _
    unfold X_airOf_l17 X_airOf_j78
    rw [H.na, if_neg (by rw [le_I (by omega) (by omega)]; omega)]
    have ea := H.act i hi
    rw [ix_nI (by omega) (by omega), rA_nI (by omega)]
    show _ = some (Sum.inl (nI (if K.fired k t i then K.airN k t i + (K.act i).2.2.1 else K.airN k t i), nI (i + 1)))
    rcases h2 with h2 | h2
    · have h8 := h5 h2
      rw [if_pos h2] at ea
      rw [ea]
      simp only [nm_eq, nI_1]
      generalize hx : 100000 * (K.act i).2.2.1 + 100 * (K.act i).2.1 + (K.act i).2.2.2 = x
      have e1 : x / 100 % 1000 = (K.act i).2.1 := by omega
      have e2 : x % 100 = (K.act i).2.2.2 := by omega
      have e3 : x / 100000 = (K.act i).2.2.1 := by omega
      rw [if_neg (fun c => by have := (lt_L (b := 100000) (by omega) (by omega)).mp c; omega)]
      rw [show nI x - nI x / 100 * 100 = nI (x % 100) from pk_rem (d := 100) (by omega) (by omega) (by omega), show nI x / 100000 = nI (x / 100000) from pk_div (d := 100000) (by omega) (by omega) (by omega)]
      rw [show nI x / 100 = nI (x / 100) from pk_div (d := 100) (by omega) (by omega) (by omega), show nI (x / 100) - nI (x / 100) / 1000 * 1000 = nI (x / 100 % 1000) from pk_rem (d := 1000) (by omega) (by omega) (by omega), e1, e2, e3, nI_add]
      by_cases c1 : (K.act i).2.1 = K.ord k
      · rw [if_pos (by rw [c1])]
        by_cases c2 : t < (K.act i).2.2.2
        · rw [if_pos ((lt_I (by omega) (by omega)).mpr c2), if_neg (fun c => by have := c.2.2; omega)]
        · rw [if_neg (by rw [lt_I (by omega) (by omega)]; exact c2), if_pos ⟨h2, c1, by omega⟩]
      · rw [if_neg (by rw [eq_I (by omega) (by omega)]; exact c1), if_neg (fun c => c1 c.2.1)]
    · rw [if_neg (by omega)] at ea
      rw [ea]
      simp only [nm_eq, nI_1]
      rw [if_pos ((lt_L (b := 100000) (by omega) (by omega)).mpr (by omega)), if_neg (fun c => by have := c.1; omega)]
  · show X_airOf_l17 σ (nI (K.ord k)) (nI t) (nI (K.airN k t K.na)) (nI K.na) = _
    have h7 := O.airN (t := t) hk K.na (Nat.le_refl _)
    unfold X_airOf_l17 X_airOf_j84 X_airOf_j104
    rw [H.na, if_pos (by rw [le_I (by omega) (by omega)]; omega), H.gust_e O ht, bd_some, mx_gust (by omega)]
    unfold Kf.airOf
    cases K.gb t K.na
    · rw [if_pos (by decide)]; rfl
    · rw [if_neg (by decide)]; rfl
theorem Kf.M.air_e (H : K.M μ) (O : K.Ok) {k t : Nat} (hk : k < K.nz) (ht : t ≤ 15) : M_airOf μ (nI k) (nI t) = some (nI (K.airOf k t)) := by
  have h1 := O.na; have hz := O.nz; have hsk := O.sk
  unfold M_airOf
  simp (disch := omega) only [ix_nI, rA_nI, H.air k hk, nm_eq, isBit_e, bd_some, H.gust]
  refine loop_seq (fun i => (nI (K.airN k t i), bI (K.gb t i), nI i)) K.na (fun i hi => ?_) ?_ (by omega)
  · have h2 := O.kind i hi; have h3 := O.zone i hi; have h4 := O.much i hi; have h5 := O.much1 i hi; have h6 := O.step i hi; have h7 := O.airN (t := t) hk i (by omega)
    show M_airOf_l20 μ (nI k) (nI t) (nI (K.airN k t i)) (bI (K.gb t i)) (nI i) = _
    have ho := O.ord k hk
    have e114 : ∀ n : Int32, M_airOf_j114 μ (nI k) (nI t) n (bI (K.gb t i)) (nI i) = some (Sum.inl (n, bI (K.gb t i || (decide ((K.act i).1 = 1) && decide ((K.act i).2.2.2 = t))), nI (i + 1))) := by
      intro n
      unfold M_airOf_j114 M_airOf_j148 M_airOf_j149
      simp (disch := omega) only [mul_L, add_L, ix_nI, rA_nI, nm_eq, nI_1, H.kind i hi, H.step i hi]
      rcases h2 with h2 | h2
      · rw [h2, if_neg (by decide)]
        cases K.gb t i <;> rfl
      · rw [h2, if_pos (by decide)]
        by_cases c : (K.act i).2.2.2 = t
        · rw [c, if_pos rfl, decide_eq_true (rfl : t = t)]
          cases K.gb t i <;> rfl
        · rw [if_neg (by rw [eq_I (by omega) (by omega)]; exact c), decide_eq_false c]
          cases K.gb t i <;> rfl
    have e58 : ∀ w : Int32, w = nI (K.ord k) → M_airOf_j58 μ (nI k) (nI t) (nI (K.airN k t i)) (bI (K.gb t i)) (nI i) w (gA μ 20 (4 * i + 1)) = some (Sum.inl (nI (if K.fired k t i then K.airN k t i + (K.act i).2.2.1 else K.airN k t i), bI (K.gb t i || (decide ((K.act i).1 = 1) && decide ((K.act i).2.2.2 = t))), nI (i + 1))) := by
      intro w hw
      unfold M_airOf_j58 M_airOf_j66
      simp (disch := omega) only [mul_L, add_L, ix_nI, rA_nI, nm_eq, H.kind i hi, H.step i hi, e114]
      rcases h2 with h2 | h2
      · rw [H.zone i hi h2, H.much i hi h2, hw, nI_add]
        have n0 : nI (K.act i).1 = 0 := by rw [h2]; decide
        by_cases c1 : (K.act i).2.1 = K.ord k
        · rw [if_pos (by rw [c1]), if_pos n0, if_neg (show ¬ (1 : Int32) = 0 by decide)]
          by_cases c2 : t < (K.act i).2.2.2
          · rw [if_pos ((lt_I (by omega) (by omega)).mpr c2), if_neg (fun c => by have := c.2.2; omega)]
          · rw [if_neg (by rw [lt_I (by omega) (by omega)]; exact c2), if_pos ⟨h2, c1, by omega⟩]
        · rw [if_neg (by rw [eq_I (by omega) (by omega)]; exact c1), if_pos n0, if_pos trivial, if_neg (fun c => c1 c.2.1)]
      · have n0 : ¬ nI (K.act i).1 = 0 := by rw [h2]; decide
        rw [if_neg n0, if_neg n0, ite_self, if_neg (fun c => by have := c.1; omega)]
    unfold M_airOf_l20
    rw [ix40_7, r17_7, H.na, if_neg (by rw [le_I (by omega) (by omega)]; omega)]
    simp (disch := omega) only [mul_L, add_L, ix_nI, rA_nI]
    rw [H.sk]
    show _ = some (Sum.inl (nI (if K.fired k t i then K.airN k t i + (K.act i).2.2.1 else K.airN k t i), bI (K.gb t i || (decide ((K.act i).1 = 1) && decide ((K.act i).2.2.2 = t))), nI (i + 1)))
    by_cases c : k < K.sk
    · rw [if_neg (by rw [le_I (by omega) (by omega)]; omega)]
      exact e58 _ (by unfold Kf.ord; rw [if_pos c])
    · rw [if_pos ((le_I (by omega) (by omega)).mpr (by omega))]
      exact e58 _ (by unfold Kf.ord; rw [if_neg c])
  · show M_airOf_l20 μ (nI k) (nI t) (nI (K.airN k t K.na)) (bI (K.gb t K.na)) (nI K.na) = _
    have h7 := O.airN (t := t) hk K.na (Nat.le_refl _)
    unfold M_airOf_l20 M_airOf_j158 M_airOf_j175
    rw [ix40_7, r17_7, H.na]
    rw [if_pos (by rw [le_I (by omega) (by omega)]; omega), M_more_gust (by omega), bd_some]
    unfold Kf.airOf
    cases K.gb t K.na
    · rw [if_pos (by decide)]; rfl
    · rw [if_neg (by decide)]; rfl
