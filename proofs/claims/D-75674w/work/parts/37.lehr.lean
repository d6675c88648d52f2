set_option maxRecDepth 100000
/-! stage 2: a lehr, on both sides; what it is by acts -/
def Lh : Type := (Nat) × (Nat) × (Nat) × (Nat) × (Nat) × (Nat) × (Nat) × (Nat) × (Nat) × (Nat → Nat) × (Nat → Nat) × (Nat → Nat) × (Nat → Nat) × (Nat → Nat) × (Nat → Nat × Nat × Nat × Nat)
def Lh.steps (K : Lh) : Nat := K.1
def Lh.law (K : Lh) : Nat := K.2.1
def Lh.odds (K : Lh) : Nat := K.2.2.1
def Lh.pace (K : Lh) : Nat := K.2.2.2.1
def Lh.set (K : Lh) : Nat := K.2.2.2.2.1
def Lh.lines (K : Lh) : Nat := K.2.2.2.2.2.1
def Lh.zones (K : Lh) : Nat := K.2.2.2.2.2.2.1
def Lh.pieces (K : Lh) : Nat := K.2.2.2.2.2.2.2.1
def Lh.acts (K : Lh) : Nat := K.2.2.2.2.2.2.2.2.1
def Lh.air (K : Lh) : Nat → Nat := K.2.2.2.2.2.2.2.2.2.1
def Lh.heat (K : Lh) : Nat → Nat := K.2.2.2.2.2.2.2.2.2.2.1
def Lh.thick (K : Lh) : Nat → Nat := K.2.2.2.2.2.2.2.2.2.2.2.1
def Lh.bears (K : Lh) : Nat → Nat := K.2.2.2.2.2.2.2.2.2.2.2.2.1
def Lh.comes (K : Lh) : Nat → Nat := K.2.2.2.2.2.2.2.2.2.2.2.2.2.1
def Lh.act (K : Lh) : Nat → Nat × Nat × Nat × Nat := K.2.2.2.2.2.2.2.2.2.2.2.2.2.2
def Lh.mk (steps : Nat) (law : Nat) (odds : Nat) (pace : Nat) (set : Nat) (lines : Nat) (zones : Nat) (pieces : Nat) (acts : Nat) (air : Nat → Nat) (heat : Nat → Nat) (thick : Nat → Nat) (bears : Nat → Nat) (comes : Nat → Nat) (act : Nat → Nat × Nat × Nat × Nat) : Lh := (steps, law, odds, pace, set, lines, zones, pieces, acts, air, heat, thick, bears, comes, act)
def Lh.Ok (L : Lh) : Prop := (L.steps ≤ 14) ∧ (L.law ≤ 3) ∧ (L.odds ≤ 10) ∧ (L.pace ≤ 4) ∧ (L.set ≤ 600) ∧ (L.lines ≤ 100000) ∧ (L.zones ≤ 7) ∧ (L.pieces ≤ 6) ∧ (L.acts ≤ 30) ∧ (L.lines = 0 → L.steps = 0 ∧ L.law = 0 ∧ L.odds = 0 ∧ L.pace = 0 ∧ L.set = 0 ∧ L.zones = 0 ∧ L.pieces = 0 ∧ L.acts = 0) ∧ (0 < L.lines → 1 ≤ L.steps ∧ 1 ≤ L.pace) ∧ (∀ z, z < L.zones → L.air z ≤ 600) ∧ (∀ p, p < L.pieces → L.heat p ≤ 600) ∧ (∀ p, p < L.pieces → 1 ≤ L.thick p) ∧ (∀ p, p < L.pieces → L.thick p ≤ 9) ∧ (∀ p, p < L.pieces → L.bears p ≤ 300) ∧ (∀ p, p < L.pieces → L.comes p ≤ 14) ∧ (∀ i, i < L.acts → (L.act i).1 = 0 ∨ (L.act i).1 = 1) ∧ (∀ i, i < L.acts → (L.act i).2.1 ≤ 6) ∧ (∀ i, i < L.acts → (L.act i).2.2.1 ≤ 200) ∧ (∀ i, i < L.acts → (L.act i).1 = 0 → 1 ≤ (L.act i).2.2.1) ∧ (∀ i, i < L.acts → (L.act i).2.2.2 ≤ 14)
theorem Lh.Ok.steps {L : Lh} (H : Lh.Ok L) : L.steps ≤ 14 := H.1
theorem Lh.Ok.law {L : Lh} (H : Lh.Ok L) : L.law ≤ 3 := H.2.1
theorem Lh.Ok.odds {L : Lh} (H : Lh.Ok L) : L.odds ≤ 10 := H.2.2.1
theorem Lh.Ok.pace {L : Lh} (H : Lh.Ok L) : L.pace ≤ 4 := H.2.2.2.1
theorem Lh.Ok.set {L : Lh} (H : Lh.Ok L) : L.set ≤ 600 := H.2.2.2.2.1
theorem Lh.Ok.lines {L : Lh} (H : Lh.Ok L) : L.lines ≤ 100000 := H.2.2.2.2.2.1
theorem Lh.Ok.zones {L : Lh} (H : Lh.Ok L) : L.zones ≤ 7 := H.2.2.2.2.2.2.1
theorem Lh.Ok.pieces {L : Lh} (H : Lh.Ok L) : L.pieces ≤ 6 := H.2.2.2.2.2.2.2.1
theorem Lh.Ok.acts {L : Lh} (H : Lh.Ok L) : L.acts ≤ 30 := H.2.2.2.2.2.2.2.2.1
theorem Lh.Ok.none {L : Lh} (H : Lh.Ok L) : L.lines = 0 → L.steps = 0 ∧ L.law = 0 ∧ L.odds = 0 ∧ L.pace = 0 ∧ L.set = 0 ∧ L.zones = 0 ∧ L.pieces = 0 ∧ L.acts = 0 := H.2.2.2.2.2.2.2.2.2.1
theorem Lh.Ok.some {L : Lh} (H : Lh.Ok L) : 0 < L.lines → 1 ≤ L.steps ∧ 1 ≤ L.pace := H.2.2.2.2.2.2.2.2.2.2.1
theorem Lh.Ok.air {L : Lh} (H : Lh.Ok L) : ∀ z, z < L.zones → L.air z ≤ 600 := H.2.2.2.2.2.2.2.2.2.2.2.1
theorem Lh.Ok.heat {L : Lh} (H : Lh.Ok L) : ∀ p, p < L.pieces → L.heat p ≤ 600 := H.2.2.2.2.2.2.2.2.2.2.2.2.1
theorem Lh.Ok.thick1 {L : Lh} (H : Lh.Ok L) : ∀ p, p < L.pieces → 1 ≤ L.thick p := H.2.2.2.2.2.2.2.2.2.2.2.2.2.1
theorem Lh.Ok.thick {L : Lh} (H : Lh.Ok L) : ∀ p, p < L.pieces → L.thick p ≤ 9 := H.2.2.2.2.2.2.2.2.2.2.2.2.2.2.1
theorem Lh.Ok.bears {L : Lh} (H : Lh.Ok L) : ∀ p, p < L.pieces → L.bears p ≤ 300 := H.2.2.2.2.2.2.2.2.2.2.2.2.2.2.2.1
theorem Lh.Ok.comes {L : Lh} (H : Lh.Ok L) : ∀ p, p < L.pieces → L.comes p ≤ 14 := H.2.2.2.2.2.2.2.2.2.2.2.2.2.2.2.2.1
theorem Lh.Ok.kind {L : Lh} (H : Lh.Ok L) : ∀ i, i < L.acts → (L.act i).1 = 0 ∨ (L.act i).1 = 1 := H.2.2.2.2.2.2.2.2.2.2.2.2.2.2.2.2.2.1
theorem Lh.Ok.zone {L : Lh} (H : Lh.Ok L) : ∀ i, i < L.acts → (L.act i).2.1 ≤ 6 := H.2.2.2.2.2.2.2.2.2.2.2.2.2.2.2.2.2.2.1
theorem Lh.Ok.much {L : Lh} (H : Lh.Ok L) : ∀ i, i < L.acts → (L.act i).2.2.1 ≤ 200 := H.2.2.2.2.2.2.2.2.2.2.2.2.2.2.2.2.2.2.2.1
theorem Lh.Ok.much1 {L : Lh} (H : Lh.Ok L) : ∀ i, i < L.acts → (L.act i).1 = 0 → 1 ≤ (L.act i).2.2.1 := H.2.2.2.2.2.2.2.2.2.2.2.2.2.2.2.2.2.2.2.2.1
theorem Lh.Ok.step {L : Lh} (H : Lh.Ok L) : ∀ i, i < L.acts → (L.act i).2.2.2 ≤ 14 := H.2.2.2.2.2.2.2.2.2.2.2.2.2.2.2.2.2.2.2.2.2
def Lh.X (L : Lh) (σ : PS) : Prop := (gI σ 100 = nI L.steps) ∧ (gI σ 101 = nI L.law) ∧ (gI σ 102 = nI L.odds) ∧ (gI σ 103 = nI L.pace) ∧ (gI σ 104 = nI L.set) ∧ (gI σ 105 = nI L.lines) ∧ (gI σ 106 = nI L.zones) ∧ (gI σ 107 = nI L.pieces) ∧ (gI σ 108 = nI L.acts) ∧ (∀ z, z < L.zones → gA σ 109 z = nI (L.air z)) ∧ (∀ p, p < L.pieces → gA σ 110 p = nI (L.heat p)) ∧ (∀ p, p < L.pieces → gA σ 111 p = nI (L.thick p)) ∧ (∀ p, p < L.pieces → gA σ 112 p = nI (L.bears p)) ∧ (∀ p, p < L.pieces → gA σ 113 p = nI (L.comes p)) ∧ (∀ i, i < L.acts → gA σ 114 i = nI (if (L.act i).1 = 0 then 100000 * (L.act i).2.2.1 + 100 * (L.act i).2.1 + (L.act i).2.2.2 else (L.act i).2.2.2))
theorem Lh.X.steps {L : Lh} {σ : PS} (H : Lh.X L σ) : gI σ 100 = nI L.steps := H.1
theorem Lh.X.law {L : Lh} {σ : PS} (H : Lh.X L σ) : gI σ 101 = nI L.law := H.2.1
theorem Lh.X.odds {L : Lh} {σ : PS} (H : Lh.X L σ) : gI σ 102 = nI L.odds := H.2.2.1
theorem Lh.X.pace {L : Lh} {σ : PS} (H : Lh.X L σ) : gI σ 103 = nI L.pace := H.2.2.2.1
theorem Lh.X.set {L : Lh} {σ : PS} (H : Lh.X L σ) : gI σ 104 = nI L.set := H.2.2.2.2.1
theorem Lh.X.lines {L : Lh} {σ : PS} (H : Lh.X L σ) : gI σ 105 = nI L.lines := H.2.2.2.2.2.1
theorem Lh.X.zones {L : Lh} {σ : PS} (H : Lh.X L σ) : gI σ 106 = nI L.zones := H.2.2.2.2.2.2.1
theorem Lh.X.pieces {L : Lh} {σ : PS} (H : Lh.X L σ) : gI σ 107 = nI L.pieces := H.2.2.2.2.2.2.2.1
theorem Lh.X.acts {L : Lh} {σ : PS} (H : Lh.X L σ) : gI σ 108 = nI L.acts := H.2.2.2.2.2.2.2.2.1
theorem Lh.X.air {L : Lh} {σ : PS} (H : Lh.X L σ) : ∀ z, z < L.zones → gA σ 109 z = nI (L.air z) := H.2.2.2.2.2.2.2.2.2.1
theorem Lh.X.heat {L : Lh} {σ : PS} (H : Lh.X L σ) : ∀ p, p < L.pieces → gA σ 110 p = nI (L.heat p) := H.2.2.2.2.2.2.2.2.2.2.1
theorem Lh.X.thick {L : Lh} {σ : PS} (H : Lh.X L σ) : ∀ p, p < L.pieces → gA σ 111 p = nI (L.thick p) := H.2.2.2.2.2.2.2.2.2.2.2.1
theorem Lh.X.bears {L : Lh} {σ : PS} (H : Lh.X L σ) : ∀ p, p < L.pieces → gA σ 112 p = nI (L.bears p) := H.2.2.2.2.2.2.2.2.2.2.2.2.1
theorem Lh.X.comes {L : Lh} {σ : PS} (H : Lh.X L σ) : ∀ p, p < L.pieces → gA σ 113 p = nI (L.comes p) := H.2.2.2.2.2.2.2.2.2.2.2.2.2.1
theorem Lh.X.act {L : Lh} {σ : PS} (H : Lh.X L σ) : ∀ i, i < L.acts → gA σ 114 i = nI (if (L.act i).1 = 0 then 100000 * (L.act i).2.2.1 + 100 * (L.act i).2.1 + (L.act i).2.2.2 else (L.act i).2.2.2) := H.2.2.2.2.2.2.2.2.2.2.2.2.2.2
/-- the model's j-th lehr -/
def Lh.M (j : Nat) (L : Lh) (μ : PS) : Prop := (gA μ 17 (8 * j) = nI L.steps) ∧ (gA μ 17 (8 * j + 1) = nI L.law) ∧ (gA μ 17 (8 * j + 2) = nI L.odds) ∧ (gA μ 17 (8 * j + 3) = nI L.pace) ∧ (gA μ 17 (8 * j + 4) = nI L.set) ∧ (gA μ 16 j = nI L.lines) ∧ (gA μ 17 (8 * j + 5) = nI L.zones) ∧ (gA μ 17 (8 * j + 6) = nI L.pieces) ∧ (gA μ 17 (8 * j + 7) = nI L.acts) ∧ (∀ z, z < L.zones → gA μ 18 (7 * j + z) = nI (L.air z)) ∧ (∀ p, p < L.pieces → gA μ 19 (24 * j + 4 * p) = nI (L.heat p)) ∧ (∀ p, p < L.pieces → gA μ 19 (24 * j + 4 * p + 1) = nI (L.thick p)) ∧ (∀ p, p < L.pieces → gA μ 19 (24 * j + 4 * p + 2) = nI (L.bears p)) ∧ (∀ p, p < L.pieces → gA μ 19 (24 * j + 4 * p + 3) = nI (L.comes p)) ∧ (∀ i, i < L.acts → gA μ 20 (120 * j + 4 * i) = nI (L.act i).1) ∧ (∀ i, i < L.acts → (L.act i).1 = 0 → gA μ 20 (120 * j + 4 * i + 1) = nI (L.act i).2.1) ∧ (∀ i, i < L.acts → (L.act i).1 = 0 → gA μ 20 (120 * j + 4 * i + 2) = nI (L.act i).2.2.1) ∧ (∀ i, i < L.acts → gA μ 20 (120 * j + 4 * i + 3) = nI (L.act i).2.2.2)
theorem Lh.M.steps {j : Nat} {L : Lh} {μ : PS} (H : Lh.M j L μ) : gA μ 17 (8 * j) = nI L.steps := H.1
theorem Lh.M.law {j : Nat} {L : Lh} {μ : PS} (H : Lh.M j L μ) : gA μ 17 (8 * j + 1) = nI L.law := H.2.1
theorem Lh.M.odds {j : Nat} {L : Lh} {μ : PS} (H : Lh.M j L μ) : gA μ 17 (8 * j + 2) = nI L.odds := H.2.2.1
theorem Lh.M.pace {j : Nat} {L : Lh} {μ : PS} (H : Lh.M j L μ) : gA μ 17 (8 * j + 3) = nI L.pace := H.2.2.2.1
theorem Lh.M.set {j : Nat} {L : Lh} {μ : PS} (H : Lh.M j L μ) : gA μ 17 (8 * j + 4) = nI L.set := H.2.2.2.2.1
theorem Lh.M.lines {j : Nat} {L : Lh} {μ : PS} (H : Lh.M j L μ) : gA μ 16 j = nI L.lines := H.2.2.2.2.2.1
theorem Lh.M.zones {j : Nat} {L : Lh} {μ : PS} (H : Lh.M j L μ) : gA μ 17 (8 * j + 5) = nI L.zones := H.2.2.2.2.2.2.1
theorem Lh.M.pieces {j : Nat} {L : Lh} {μ : PS} (H : Lh.M j L μ) : gA μ 17 (8 * j + 6) = nI L.pieces := H.2.2.2.2.2.2.2.1
theorem Lh.M.acts {j : Nat} {L : Lh} {μ : PS} (H : Lh.M j L μ) : gA μ 17 (8 * j + 7) = nI L.acts := H.2.2.2.2.2.2.2.2.1
theorem Lh.M.air {j : Nat} {L : Lh} {μ : PS} (H : Lh.M j L μ) : ∀ z, z < L.zones → gA μ 18 (7 * j + z) = nI (L.air z) := H.2.2.2.2.2.2.2.2.2.1
theorem Lh.M.heat {j : Nat} {L : Lh} {μ : PS} (H : Lh.M j L μ) : ∀ p, p < L.pieces → gA μ 19 (24 * j + 4 * p) = nI (L.heat p) := H.2.2.2.2.2.2.2.2.2.2.1
theorem Lh.M.thick {j : Nat} {L : Lh} {μ : PS} (H : Lh.M j L μ) : ∀ p, p < L.pieces → gA μ 19 (24 * j + 4 * p + 1) = nI (L.thick p) := H.2.2.2.2.2.2.2.2.2.2.2.1
theorem Lh.M.bears {j : Nat} {L : Lh} {μ : PS} (H : Lh.M j L μ) : ∀ p, p < L.pieces → gA μ 19 (24 * j + 4 * p + 2) = nI (L.bears p) := H.2.2.2.2.2.2.2.2.2.2.2.2.1
theorem Lh.M.comes {j : Nat} {L : Lh} {μ : PS} (H : Lh.M j L μ) : ∀ p, p < L.pieces → gA μ 19 (24 * j + 4 * p + 3) = nI (L.comes p) := H.2.2.2.2.2.2.2.2.2.2.2.2.2.1
theorem Lh.M.kind {j : Nat} {L : Lh} {μ : PS} (H : Lh.M j L μ) : ∀ i, i < L.acts → gA μ 20 (120 * j + 4 * i) = nI (L.act i).1 := H.2.2.2.2.2.2.2.2.2.2.2.2.2.2.1
theorem Lh.M.zone {j : Nat} {L : Lh} {μ : PS} (H : Lh.M j L μ) : ∀ i, i < L.acts → (L.act i).1 = 0 → gA μ 20 (120 * j + 4 * i + 1) = nI (L.act i).2.1 := H.2.2.2.2.2.2.2.2.2.2.2.2.2.2.2.1
theorem Lh.M.much {j : Nat} {L : Lh} {μ : PS} (H : Lh.M j L μ) : ∀ i, i < L.acts → (L.act i).1 = 0 → gA μ 20 (120 * j + 4 * i + 2) = nI (L.act i).2.2.1 := H.2.2.2.2.2.2.2.2.2.2.2.2.2.2.2.2.1
theorem Lh.M.step {j : Nat} {L : Lh} {μ : PS} (H : Lh.M j L μ) : ∀ i, i < L.acts → gA μ 20 (120 * j + 4 * i + 3) = nI (L.act i).2.2.2 := H.2.2.2.2.2.2.2.2.2.2.2.2.2.2.2.2.2
def Lh.K (L : Lh) : Kf := Kf.mk L.pieces L.steps L.zones L.acts L.pace L.zones (nI L.law) 0 L.set L.heat L.thick L.bears L.comes L.air L.act
/-! what questions leave -/
def PX (σ σ' : PS) : Prop := (∀ k, k < 5 ∨ 100 ≤ k → gI σ' k = gI σ k) ∧ ∀ k, k < 5 ∨ 100 ≤ k → gA σ' k = gA σ k
def PM (μ μ' : PS) : Prop := (∀ k, 1 ≤ k ∧ k ≤ 21 → gI μ' k = gI μ k) ∧ (∀ k, k ≤ 21 → gA μ' k = gA μ k) ∧ gB μ' 3 = gB μ 3
theorem PX.refl (σ : PS) : PX σ σ := ⟨fun _ _ => rfl, fun _ _ => rfl⟩
theorem PX.trans {a b c : PS} (h : PX a b) (g : PX b c) : PX a c := ⟨fun k hk => (g.1 k hk).trans (h.1 k hk), fun k hk => (g.2 k hk).trans (h.2 k hk)⟩
theorem PM.refl (σ : PS) : PM σ σ := ⟨fun _ _ => rfl, fun _ _ => rfl, rfl⟩
theorem PM.trans {a b c : PS} (h : PM a b) (g : PM b c) : PM a c := ⟨fun k hk => (g.1 k hk).trans (h.1 k hk), fun k hk => (g.2.1 k hk).trans (h.2.1 k hk), g.2.2.trans h.2.2⟩
theorem FX.P {a b : PS} (h : FX a b) : PX a b := ⟨fun k _ => h.gI k, fun k hk => h.2.2.2 k (by omega)⟩
theorem FM.P {a b : PS} (h : FM a b) : PM a b := ⟨fun k _ => h.gI k, fun k hk => h.2.2.2 k (by omega), congrFun h.2.2.1 3⟩
theorem PX.sI (σ : PS) {k : Nat} (v : Int32) (h : 5 ≤ k ∧ k < 100) : PX σ (sI σ k v) := ⟨fun j hj => by rw [gI_sI, if_neg (by omega)], fun _ _ => rfl⟩
theorem PX.sA (σ : PS) {k : Nat} (f : Nat → Int32) (h : 5 ≤ k ∧ k < 100) : PX σ (sA σ k f) := ⟨fun _ _ => rfl, fun j hj => by rw [gA_sA, if_neg (by omega)]⟩
theorem PX.sL (σ : PS) {k : Nat} (v : Int64) : PX σ (sL σ k v) := ⟨fun _ _ => rfl, fun _ _ => rfl⟩
theorem PM.sI (σ : PS) {k : Nat} (v : Int32) (h : k = 0 ∨ 22 ≤ k) : PM σ (sI σ k v) := ⟨fun j hj => by rw [gI_sI, if_neg (by omega)], fun _ _ => rfl, rfl⟩
theorem PM.sA (σ : PS) {k : Nat} (f : Nat → Int32) (h : 22 ≤ k) : PM σ (sA σ k f) := ⟨fun _ _ => rfl, fun j hj => by rw [gA_sA, if_neg (by omega)], rfl⟩
variable {L : Lh} {σ μ : PS}
theorem Lh.X.fr {σ' : PS} (H : L.X σ) (F : PX σ σ') : L.X σ' := by
  have i0 := F.1 100 (by omega); have i1 := F.1 101 (by omega); have i2 := F.1 102 (by omega); have i3 := F.1 103 (by omega); have i4 := F.1 104 (by omega)
  have i5 := F.1 105 (by omega); have i6 := F.1 106 (by omega); have i7 := F.1 107 (by omega); have i8 := F.1 108 (by omega)
  have a9 := F.2 109 (by omega); have a10 := F.2 110 (by omega); have a11 := F.2 111 (by omega); have a12 := F.2 112 (by omega); have a13 := F.2 113 (by omega); have a14 := F.2 114 (by omega)
  unfold Lh.X
  rw [i0, i1, i2, i3, i4, i5, i6, i7, i8, a9, a10, a11, a12, a13, a14]
  exact H
theorem Lh.M.fr {j : Nat} {μ' : PS} (H : Lh.M j L μ) (F : PM μ μ') : Lh.M j L μ' := by
  have a16 := F.2.1 16 (by omega); have a17 := F.2.1 17 (by omega); have a18 := F.2.1 18 (by omega); have a19 := F.2.1 19 (by omega); have a20 := F.2.1 20 (by omega)
  unfold Lh.M
  rw [a16, a17, a18, a19, a20]
  exact H
theorem Lh.Ok.K (O : L.Ok) : L.K.Ok := by
  have h1 := O.steps; have h2 := O.law; have h3 := O.pace; have h4 := O.zones; have h5 := O.pieces; have h6 := O.acts
  refine ⟨h5, h1, h4, h6, fun h => ?_, by show L.pace ≤ 6; omega, by show L.zones ≤ 7; omega, fun k hk => ?_, ?_, O.set, O.heat, O.thick1, O.thick, O.bears, O.comes, fun k hk => ?_, O.kind, O.zone, O.much, O.much1, O.step⟩
  · have h : 0 < L.pieces := h
    show 1 ≤ L.pace
    by_cases c : L.lines = 0
    · have := (O.none c).2.2.2.2.2.2.1; omega
    · exact (O.some (by omega)).2
  · have hk : k < L.zones := hk
    show (if k < L.zones then k else k + 1) ≤ 6
    rw [if_pos hk]; omega
  · show nI L.law = 0 ∨ nI L.law = 1 ∨ nI L.law = 2 ∨ nI L.law = 3
    have : L.law = 0 ∨ L.law = 1 ∨ L.law = 2 ∨ L.law = 3 := by omega
    rcases this with h | h | h | h <;> rw [h]
    · exact Or.inl rfl
    · exact Or.inr (Or.inl rfl)
    · exact Or.inr (Or.inr (Or.inl rfl))
    · exact Or.inr (Or.inr (Or.inr rfl))
  · have := O.air k hk
    show L.air k ≤ 900
    omega
/-! within -/
theorem X_isIn_b (a b c : Int64) : X_isIn a b c = some (bI (decide (b.toInt ≤ a.toInt ∧ a.toInt ≤ c.toInt))) := by
  unfold X_isIn X_isIn_j17 X_isIn_j18
  by_cases h1 : lg_cmp a b < 0
  · have := (lc_lt a b).mp h1
    rw [if_pos h1, decide_eq_false (by omega)]; rfl
  · have g1 : ¬ a.toInt < b.toInt := fun h => h1 ((lc_lt a b).mpr h)
    rw [if_neg h1]
    by_cases h2 : 0 < lg_cmp a c
    · have := (lc_gt a c).mp h2
      rw [if_pos h2, decide_eq_false (by omega)]; rfl
    · have g2 : ¬ c.toInt < a.toInt := fun h => h2 ((lc_gt a c).mpr h)
      rw [if_neg h2, decide_eq_true (by omega)]; rfl
theorem M_in_b (a b c : Int64) : M_in a b c = some (bI (decide (b.toInt ≤ a.toInt ∧ a.toInt ≤ c.toInt))) := X_isIn_b a b c
theorem l0 : (0 : Int64).toInt = 0 := by decide
theorem nIl {n : Nat} (h : n < 2147483648) : (nI n).toInt64.toInt = (n : Int) := by rw [Int32.toInt_toInt64, nI_toInt (by omega)]
theorem nIm1 {n : Nat} (h : n < 2147483648) : (nI n - 1).toInt64.toInt = (n : Int) - 1 := by
  rw [Int32.toInt_toInt64]
  cases n with
  | zero => decide
  | succ n => rw [nI_pred, nI_toInt (by omega)]; omega
theorem lNm1 {n : Nat} (h : n < 2147483648) : ((nI n).toInt64 - 1).toInt = (n : Int) - 1 := by
  rw [Int64.toInt_sub, nIl h, show (1 : Int64).toInt = 1 by decide]
  exact Int.bmod_eq_of_le (by omega) (by omega)
theorem in_nI {v : Int32} {n : Nat} (h0 : 0 ≤ v.toInt) (h1 : v.toInt < n) (hn : n < 2147483648) : ∃ p, p < n ∧ v = nI p := ⟨v.toInt.toNat, by omega, Int32.toInt_inj.mp (by rw [nI_toInt (by omega)]; omega)⟩
theorem Lh.X.isLehr_e (H : L.X σ) (O : L.Ok) : X_isLehr σ = some (bI (decide (0 < L.lines))) := by
  have := O.lines
  unfold X_isLehr X_isLehr_j15
  rw [H.lines]
  by_cases c : 0 < L.lines
  · rw [if_neg (nI_nle c (by omega)), decide_eq_true c]; rfl
  · rw [if_pos (by rw [show L.lines = 0 by omega]; decide), decide_eq_false c]; rfl
theorem Lh.M.isLehr_e (H : Lh.M 0 L μ) (O : L.Ok) : M_isLehr μ = some (bI (decide (0 < L.lines))) := by
  have := O.lines
  unfold M_isLehr M_isLehr_j14
  rw [show ix 0 5 _ = _ from if_neg (by decide), show rA μ 16 0 = gA μ 16 0 from rfl, H.lines]
  by_cases c : 0 < L.lines
  · rw [if_neg (nI_nle c (by omega)), decide_eq_true c]; rfl
  · rw [if_pos (by rw [show L.lines = 0 by omega]; decide), decide_eq_false c]; rfl
theorem dec_cong {a b : Prop} {da : Decidable a} {db : Decidable b} (h : a ↔ b) : @decide a da = @decide b db := by
  by_cases c : a
  · rw [decide_eq_true c, decide_eq_true (h.mp c)]
  · rw [decide_eq_false c, decide_eq_false (fun x => c (h.mpr x))]
theorem Lh.X.isPiece_e (H : L.X σ) (O : L.Ok) (v : Int64) : X_isPiece σ v = some (bI (decide (0 ≤ v.toInt ∧ v.toInt < L.pieces))) := by
  have := O.pieces
  unfold X_isPiece
  rw [X_isIn_b, bd_some, bI_tz, H.pieces, l0, nIm1 (by omega)]
  exact congrArg (fun b => some (bI b)) (dec_cong (by omega))
theorem Lh.M.isPiece_e (H : Lh.M 0 L μ) (O : L.Ok) (v : Int64) : M_isPiece μ v = some (bI (decide (0 ≤ v.toInt ∧ v.toInt < L.pieces))) := by
  have := O.pieces
  unfold M_isPiece M_pieces
  rw [ix40_6, r17_6, show gA μ 17 6 = nI L.pieces from H.pieces, bd_some, M_in_b, bd_some, bI_tz, l0, lNm1 (by omega)]
  exact congrArg (fun b => some (bI b)) (dec_cong (by omega))
theorem Lh.X.isZone_e (H : L.X σ) (O : L.Ok) (v : Int32) : X_isZone σ v = some (bI (decide (0 ≤ v.toInt ∧ v.toInt < L.zones))) := by
  have := O.zones
  unfold X_isZone
  rw [X_isIn_b, bd_some, bI_tz, H.zones, l0, nIm1 (by omega), Int32.toInt_toInt64]
  exact congrArg (fun b => some (bI b)) (dec_cong (by omega))
theorem Lh.M.isZone_e (H : Lh.M 0 L μ) (O : L.Ok) (v : Int32) : M_isZone μ v = some (bI (decide (0 ≤ v.toInt ∧ v.toInt < L.zones))) := by
  have := O.zones
  unfold M_isZone
  rw [ix40_5, r17_5, show gA μ 17 5 = nI L.zones from H.zones, M_in_b, bd_some, bI_tz, l0, lNm1 (by omega), Int32.toInt_toInt64]
  exact congrArg (fun b => some (bI b)) (dec_cong (by omega))
theorem Lh.X.isStep_e (H : L.X σ) (O : L.Ok) (v : Int64) : X_isStep σ v = some (bI (decide (0 < L.lines ∧ 0 ≤ v.toInt ∧ v.toInt ≤ L.steps))) := by
  have := O.steps
  unfold X_isStep X_isStep_j27 X_isStep_j28
  rw [H.isLehr_e O, bd_some]
  by_cases c : 0 < L.lines
  · rw [decide_eq_true c, if_neg (by decide), X_isIn_b, bd_some, H.steps, l0, nIl (by omega)]
    by_cases c2 : (0 : Int) ≤ v.toInt ∧ v.toInt ≤ L.steps
    · rw [decide_eq_true c2, if_neg (by decide), decide_eq_true (show 0 < L.lines ∧ 0 ≤ v.toInt ∧ v.toInt ≤ L.steps from ⟨c, c2⟩)]; rfl
    · rw [decide_eq_false c2, if_pos (by decide), decide_eq_false (fun h => c2 h.2)]; rfl
  · rw [decide_eq_false c, if_pos (by decide), decide_eq_false (fun h => c h.1)]; rfl
theorem Lh.M.isStep_e (H : Lh.M 0 L μ) (O : L.Ok) (v : Int64) : M_isStep μ v = some (bI (decide (0 < L.lines ∧ 0 ≤ v.toInt ∧ v.toInt ≤ L.steps))) := by
  have := O.steps
  unfold M_isStep M_isStep_j24 M_isStep_j25 M_steps
  rw [H.isLehr_e O, bd_some]
  by_cases c : 0 < L.lines
  · rw [decide_eq_true c, if_neg (by decide), ix40_0, r17_0, show gA μ 17 0 = nI L.steps from H.steps, bd_some, M_in_b, bd_some, l0, nIl (by omega)]
    by_cases c2 : (0 : Int) ≤ v.toInt ∧ v.toInt ≤ L.steps
    · rw [decide_eq_true c2, if_neg (by decide), decide_eq_true (show 0 < L.lines ∧ 0 ≤ v.toInt ∧ v.toInt ≤ L.steps from ⟨c, c2⟩)]; rfl
    · rw [decide_eq_false c2, if_pos (by decide), decide_eq_false (fun h => c2 h.2)]; rfl
  · rw [decide_eq_false c, if_pos (by decide), decide_eq_false (fun h => c h.1)]; rfl
/-! as it is -/
theorem Lh.X.asItIs_e (H : L.X σ) (O : L.Ok) : ∃ σ', X_asItIs σ = some σ' ∧ PX σ σ' ∧ L.K.X σ' ∧ (∀ z, z < 7 → gA σ' 5 z = gA σ 109 z ∧ gA σ' 6 z = 0 ∧ gA σ' 7 z = nI z) := by
  have hl := O.law; have hz := O.zones; have hp := O.pieces
  have main : ∀ ρ, PX σ ρ → gI ρ 13 = nI L.law → (∀ j, gA ρ 5 j = if j < 7 then gA σ 109 j else gA σ 5 j) → (∀ j, gA ρ 8 j = if j < 6 then gA σ 111 j else gA σ 8 j) → (∀ j, gA ρ 9 j = if j < 6 then gA σ 112 j else gA σ 9 j) →
      ∃ r, loop X_asItIs_B72 fu (0, ρ) = some r ∧ PX σ r ∧ L.K.X r ∧ (∀ z, z < 7 → gA r 5 z = gA σ 109 z ∧ gA r 6 z = 0 ∧ gA r 7 z = nI z) := by
    intro ρ F e13 g5 g8 g9
    refine loop_one 7 (fun j z => z.1 = nI j ∧ PX σ z.2 ∧ gI z.2 13 = nI L.law ∧ gA z.2 5 = gA ρ 5 ∧ gA z.2 8 = gA ρ 8 ∧ gA z.2 9 = gA ρ 9 ∧ ∀ k, k < j → gA z.2 6 k = 0 ∧ gA z.2 7 k = nI k) _ (fun j z hj hz => Or.inl ?_) (fun z hz => ?_) ⟨rfl, F, e13, rfl, rfl, rfl, fun k hk => absurd hk (by omega)⟩ (by omega)
    · obtain ⟨v, z⟩ := z
      obtain ⟨rfl, F1, k13, k5, k8, k9, m⟩ := hz
      dsimp only at F1 k13 k5 k8 k9 m
      refine ⟨(nI (j + 1), sA (sA z 6 (upd (gA z 6) j 0)) 7 (upd (gA z 7) j (nI j))), ?_, rfl, ?_, k13, k5, k8, k9, fun k hk => ?_⟩
      · show X_asItIs_l72 (nI j) z = _
        unfold X_asItIs_l72
        rw [if_neg (fun h => by have := (L_le (a := 7) (by omega) (by omega)).mp h; omega)]
        simp (disch := omega) only [ix_nI, wA_nI, nm_eq, gA_ne, nI_1]
      · exact F1.trans ((PX.sA _ _ (by omega)).trans (PX.sA _ _ (by omega)))
      · simp (disch := omega) only [gA_ne, gA_eq, upd_at]
        by_cases c : k = j
        · simp only [c, if_true]
          exact ⟨trivial, trivial⟩
        · simp only [c, if_false]
          exact m k (by omega)
    · obtain ⟨v, z⟩ := z
      obtain ⟨rfl, F1, k13, k5, k8, k9, m⟩ := hz
      dsimp only at F1 k13 k5 k8 k9 m
      have H1 := H.fr F1
      refine ⟨sI (sI (sI z 10 (gI z 106)) 11 (gI z 103)) 12 0, ?_, F1.trans ((PX.sI _ _ (by omega)).trans ((PX.sI _ _ (by omega)).trans (PX.sI _ _ (by omega)))), ?_, fun k hk => ⟨?_, (m k hk).1, (m k hk).2⟩⟩
      · show X_asItIs_l72 (nI 7) z = _
        unfold X_asItIs_l72 X_asItIs_j98
        rw [if_pos (by decide)]; rfl
      · refine ⟨H1.pieces, H1.steps, H1.zones, H1.acts, H1.set, k13, H1.pace, rfl, H1.comes, H1.heat, fun p hp9 => ?_, fun p hp9 => ?_, fun k hk => ?_, fun k hk => ?_, H1.act⟩
        · have hp9 : p < L.pieces := hp9
          show gA z 8 p = nI (L.thick p)
          rw [k8, g8, if_pos (by omega)]; exact H.thick p hp9
        · have hp9 : p < L.pieces := hp9
          show gA z 9 p = nI (L.bears p)
          rw [k9, g9, if_pos (by omega)]; exact H.bears p hp9
        · have hk : k < L.zones := hk
          have eo : L.K.ord k = k := if_pos hk
          rw [eo]
          exact (m k (by omega)).2
        · have hk : k < L.zones := hk
          have eo : L.K.ord k = k := if_pos hk
          rw [eo]
          show gA z 5 k + gA z 6 k = nI (L.air k)
          rw [(m k (by omega)).1, k5, g5, if_pos (by omega), H.air k hk]
          exact Int32.add_zero _
      · show gA z 5 k = _
        rw [k5, g5, if_pos hk]
  unfold X_asItIs
  rw [H.law, ix_nI (by omega) (by omega)]
  show ∃ σ', cpg (nI 0) 7 (nI 0) 7 (nI 7) (cpg (nI 0) 6 (nI 0) 6 (nI 6) (cpg (nI 0) 6 (nI 0) 6 (nI 6) (loop X_asItIs_B72 fu (0, cpA (cpA (cpA (sI σ 13 (nI L.law)) 109 (nI 0) 5 (nI 0) (nI 7)) 111 (nI 0) 8 (nI 0) (nI 6)) 112 (nI 0) 9 (nI 0) (nI 6))))) = some σ' ∧ _
  rw [cpg_e (by omega) (by omega) (by omega) (by omega), cpg_e (by omega) (by omega) (by omega) (by omega), cpg_e (by omega) (by omega) (by omega) (by omega), cpA_e (by omega) (by omega) (by omega), cpA_e (by omega) (by omega) (by omega), cpA_e (by omega) (by omega) (by omega)]
  refine main _ ((PX.sI _ _ (by omega)).trans ((PX.sA _ _ (by omega)).trans ((PX.sA _ _ (by omega)).trans (PX.sA _ _ (by omega))))) rfl (fun j => ?_) (fun j => ?_) (fun j => ?_)
  · show va_cpy (gA σ 109) (gA σ 5) 0 0 7 j = _
    rw [cpy_at, show 0 + (j - 0) = j by omega]
    by_cases c : j < 7
    · rw [if_pos (by omega), if_pos c]
    · rw [if_neg (by omega), if_neg c]
  · show va_cpy (gA σ 111) (gA σ 8) 0 0 6 j = _
    rw [cpy_at, show 0 + (j - 0) = j by omega]
    by_cases c : j < 6
    · rw [if_pos (by omega), if_pos c]
    · rw [if_neg (by omega), if_neg c]
  · show va_cpy (gA σ 112) (gA σ 9) 0 0 6 j = _
    rw [cpy_at, show 0 + (j - 0) = j by omega]
    by_cases c : j < 6
    · rw [if_pos (by omega), if_pos c]
    · rw [if_neg (by omega), if_neg c]
/-- what the model's lays leaves -/
def FL (μ μ' : PS) : Prop := (∀ k, k < 22 ∨ 26 < k → gI μ' k = gI μ k) ∧ (∀ k, k < 27 ∨ 29 < k → gA μ' k = gA μ k) ∧ μ'.2.1 = μ.2.1 ∧ μ'.2.2.2 = μ.2.2.2
theorem FL.refl (μ : PS) : FL μ μ := ⟨fun _ _ => rfl, fun _ _ => rfl, rfl, rfl⟩
theorem FL.trans {a b c : PS} (h : FL a b) (g : FL b c) : FL a c := ⟨fun k hk => (g.1 k hk).trans (h.1 k hk), fun k hk => (g.2.1 k hk).trans (h.2.1 k hk), g.2.2.1.trans h.2.2.1, g.2.2.2.trans h.2.2.2⟩
theorem FL.P {a b : PS} (h : FL a b) : PM a b := ⟨fun k hk => h.1 k (by omega), fun k hk => h.2.1 k (by omega), congrFun h.2.2.2 3⟩
theorem FL.sI (σ : PS) {k : Nat} (v : Int32) (h : 22 ≤ k ∧ k ≤ 26) : FL σ (sI σ k v) := ⟨fun j hj => by rw [gI_sI, if_neg (by omega)], fun _ _ => rfl, rfl, rfl⟩
theorem FL.sA (σ : PS) {k : Nat} (f : Nat → Int32) (h : 27 ≤ k ∧ k ≤ 29) : FL σ (sA σ k f) := ⟨fun _ _ => rfl, fun j hj => by rw [gA_sA, if_neg (by omega)], rfl, rfl⟩
theorem Lh.M.lays_e (H : Lh.M 0 L μ) (O : L.Ok) : ∃ μ', M_lays μ = some μ' ∧ FL μ μ' ∧ L.K.M μ' := by
  have hz := O.zones; have hp := O.pieces
  have e71 : ∀ ρ, FL μ ρ → gI ρ 22 = nI L.law → gI ρ 23 = nI L.pace → gI ρ 24 = 0 → gI ρ 25 = nI L.zones → gI ρ 26 = nI L.zones → (∀ k, k < L.zones → gA ρ 27 k = nI (L.air k)) → ∃ r, M_lays_j71 ρ = some r ∧ FL μ r ∧ L.K.M r := by
    intro ρ F i22 i23 i24 i25 i26 g27
    unfold M_lays_j71
    refine loop_one L.pieces (fun j z => z.1 = nI j ∧ FL μ z.2 ∧ z.2.1 = ρ.1 ∧ gA z.2 27 = gA ρ 27 ∧ ∀ k, k < j → gA z.2 28 k = nI (L.thick k) ∧ gA z.2 29 k = nI (L.bears k)) _ (fun j z hj hz => Or.inl ?_) (fun z hz => ?_) ⟨rfl, F, rfl, rfl, fun k hk => absurd hk (by omega)⟩ (by omega)
    · obtain ⟨v, z⟩ := z
      obtain ⟨rfl, F1, hi, k27, m⟩ := hz
      dsimp only at F1 hi k27 m
      have H1 := H.fr F1.P
      have t1 : gA z 19 (4 * j + 1) = nI (L.thick j) := by have := H1.thick j hj; rw [show 24 * 0 + 4 * j + 1 = 4 * j + 1 by omega] at this; exact this
      have t2 : gA z 19 (4 * j + 2) = nI (L.bears j) := by have := H1.bears j hj; rw [show 24 * 0 + 4 * j + 2 = 4 * j + 2 by omega] at this; exact this
      refine ⟨(nI (j + 1), sA (sA z 28 (upd (gA z 28) j (nI (L.thick j)))) 29 (upd (gA z 29) j (nI (L.bears j)))), ?_, rfl, F1.trans ((FL.sA _ _ (by omega)).trans (FL.sA _ _ (by omega))), hi, k27, fun k hk => ?_⟩
      · show M_lays_l73 (nI j) z = _
        unfold M_lays_l73 M_pieces
        rw [ix40_6, r17_6, show gA z 17 6 = nI L.pieces from H1.pieces, bd_some, if_neg (by rw [le_I (by omega) (by omega)]; omega)]
        simp (disch := omega) only [mul_L, add_L, ix_nI, rA_nI, wA_nI, nm_eq, gA_ne, t1, t2, nI_1]
      · simp (disch := omega) only [gA_ne, gA_eq, upd_at]
        by_cases c : k = j
        · simp only [c, if_true]
          exact ⟨trivial, trivial⟩
        · simp only [c, if_false]
          exact m k (by omega)
    · obtain ⟨v, z⟩ := z
      obtain ⟨rfl, F1, hi, k27, m⟩ := hz
      dsimp only at F1 hi k27 m
      have H1 := H.fr F1.P
      refine ⟨z, ?_, F1, ?_⟩
      · show M_lays_l73 (nI L.pieces) z = _
        unfold M_lays_l73 M_pieces M_lays_j119
        rw [ix40_6, r17_6, show gA z 17 6 = nI L.pieces from H1.pieces, bd_some, if_pos (by rw [le_I (by omega) (by omega)]; omega)]; rfl
      · refine ⟨H1.pieces, H1.steps, (congrFun hi 25).trans i25, H1.acts, H1.set, (congrFun hi 22).trans i22, (congrFun hi 23).trans i23, (congrFun hi 24).trans i24, (congrFun hi 26).trans i26, fun p hp9 => ?_, fun p hp9 => ?_, fun p hp9 => (m p hp9).1, fun p hp9 => (m p hp9).2, fun k hk => by rw [k27]; exact g27 k hk, fun i hi9 => ?_, fun i hi9 h0 => ?_, fun i hi9 h0 => ?_, fun i hi9 => ?_⟩
        · have := H1.comes p hp9; rw [show 24 * 0 + 4 * p + 3 = 4 * p + 3 by omega] at this; exact this
        · have := H1.heat p hp9; rw [show 24 * 0 + 4 * p = 4 * p by omega] at this; exact this
        · have := H1.kind i hi9; rw [show 120 * 0 + 4 * i = 4 * i by omega] at this; exact this
        · have := H1.zone i hi9 h0; rw [show 120 * 0 + 4 * i + 1 = 4 * i + 1 by omega] at this; exact this
        · have := H1.much i hi9 h0; rw [show 120 * 0 + 4 * i + 2 = 4 * i + 2 by omega] at this; exact this
        · have := H1.step i hi9; rw [show 120 * 0 + 4 * i + 3 = 4 * i + 3 by omega] at this; exact this
  unfold M_lays
  rw [ix40_1, r17_1, show gA μ 17 1 = nI L.law from H.law]
  simp only [nm_eq, ix40_3, ix40_5, r17_3, r17_5]
  show ∃ μ', loop M_lays_B45 fu (0, sI (sI (sI (sI (sI μ 22 (nI L.law)) 23 (gA μ 17 3)) 24 0) 25 (gA μ 17 5)) 26 (gA μ 17 5)) = some μ' ∧ _
  rw [show gA μ 17 3 = nI L.pace from H.pace, show gA μ 17 5 = nI L.zones from H.zones]
  have F0 : FL μ (sI (sI (sI (sI (sI μ 22 (nI L.law)) 23 (nI L.pace)) 24 0) 25 (nI L.zones)) 26 (nI L.zones)) := (FL.sI _ _ (by omega)).trans ((FL.sI _ _ (by omega)).trans ((FL.sI _ _ (by omega)).trans ((FL.sI _ _ (by omega)).trans (FL.sI _ _ (by omega)))))
  refine loop_one L.zones (fun j z => z.1 = nI j ∧ FL μ z.2 ∧ gI z.2 22 = nI L.law ∧ gI z.2 23 = nI L.pace ∧ gI z.2 24 = 0 ∧ gI z.2 25 = nI L.zones ∧ gI z.2 26 = nI L.zones ∧ ∀ k, k < j → gA z.2 27 k = nI (L.air k)) _ (fun j z hj hz => Or.inl ?_) (fun z hz => ?_) ⟨rfl, F0, rfl, rfl, rfl, rfl, rfl, fun k hk => absurd hk (by omega)⟩ (by omega)
  · obtain ⟨v, z⟩ := z
    obtain ⟨rfl, F1, i22, i23, i24, i25, i26, m⟩ := hz
    dsimp only at F1 i22 i23 i24 i25 i26 m
    have H1 := H.fr F1.P
    have t1 : gA z 18 j = nI (L.air j) := by have := H1.air j hj; rw [show 7 * 0 + j = j by omega] at this; exact this
    refine ⟨(nI (j + 1), sA z 27 (upd (gA z 27) j (nI (L.air j)))), ?_, rfl, F1.trans (FL.sA _ _ (by omega)), i22, i23, i24, i25, i26, fun k hk => ?_⟩
    · show M_lays_l45 (nI j) z = _
      unfold M_lays_l45
      rw [i25, if_neg (by rw [le_I (by omega) (by omega)]; omega)]
      simp (disch := omega) only [ix_nI, rA_nI, wA_nI, nm_eq, t1, nI_1]
    · rw [gA_eq, upd_at]
      by_cases c : k = j
      · rw [if_pos c, c]
      · rw [if_neg c]; exact m k (by omega)
  · obtain ⟨v, z⟩ := z
    obtain ⟨rfl, F1, i22, i23, i24, i25, i26, m⟩ := hz
    dsimp only at F1 i22 i23 i24 i25 i26 m
    obtain ⟨r, e, h⟩ := e71 z F1 i22 i23 i24 i25 i26 m
    refine ⟨r, ?_, h⟩
    show M_lays_l45 (nI L.zones) z = _
    unfold M_lays_l45
    rw [i25, if_pos (by rw [le_I (by omega) (by omega)]; omega), e]; rfl
/-! asked -/
theorem Lh.X.asksLehr_e (H : L.X σ) (O : L.Ok) : ∃ σ', X_asksLehr σ = some (bI (decide (0 < L.lines)), σ') ∧ PX σ σ' ∧ L.K.X σ' ∧ L.K.RX σ' := by
  obtain ⟨s1, e1, F1, h1, -⟩ := H.asItIs_e O
  obtain ⟨s2, e2, F2, h2⟩ := h1.lays_e O.K
  have F := F1.trans F2.P
  refine ⟨s2, ?_, F, h1.fr F2, h2⟩
  unfold X_asksLehr
  rw [e1, bd_some, e2, bd_some, (H.fr F).isLehr_e O, bd_some, bI_tz]
theorem Lh.M.laysNow_e (H : Lh.M 0 L μ) (O : L.Ok) : ∃ μ', M_laysNow μ = some μ' ∧ PM μ μ' ∧ L.K.M μ' ∧ L.K.RM μ' := by
  obtain ⟨s1, e1, F1, h1⟩ := H.lays_e O
  obtain ⟨s2, e2, F2, h2⟩ := h1.runs_e O.K
  refine ⟨s2, ?_, F1.P.trans F2.P, h1.fr F2, h2⟩
  unfold M_laysNow
  rw [e1, bd_some, e2, bd_some]
