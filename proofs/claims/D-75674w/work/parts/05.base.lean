set_option maxRecDepth 100000
/-! the pure words: a picture of a class's cells: ints, longs, rows of ints, rows of longs, by the field's number -/
abbrev PS : Type := (Nat → Int32) × (Nat → Int64) × (Nat → Nat → Int32) × (Nat → Nat → Int64)
def gI (σ : PS) (k : Nat) : Int32 := σ.1 k
def gL (σ : PS) (k : Nat) : Int64 := σ.2.1 k
def gA (σ : PS) (k : Nat) : Nat → Int32 := σ.2.2.1 k
def gB (σ : PS) (k : Nat) : Nat → Int64 := σ.2.2.2 k
def sI (σ : PS) (k : Nat) (v : Int32) : PS := (va_up σ.1 k v, σ.2)
def sL (σ : PS) (k : Nat) (v : Int64) : PS := (σ.1, va_up σ.2.1 k v, σ.2.2)
def sA (σ : PS) (k : Nat) (f : Nat → Int32) : PS := (σ.1, σ.2.1, va_up σ.2.2.1 k f, σ.2.2.2)
def sB (σ : PS) (k : Nat) (f : Nat → Int64) : PS := (σ.1, σ.2.1, σ.2.2.1, va_up σ.2.2.2 k f)
/-- one place of a row written -/
def wA (σ : PS) (k : Nat) (i : Int32) (v : Int32) : PS := sA σ k (upd (gA σ k) i.toNatClampNeg v)
def wB (σ : PS) (k : Nat) (i : Int32) (v : Int64) : PS := sB σ k (vp_updL (gB σ k) i.toNatClampNeg v)
def rA (σ : PS) (k : Nat) (i : Int32) : Int32 := gA σ k i.toNatClampNeg
def rB (σ : PS) (k : Nat) (i : Int32) : Int64 := gB σ k i.toNatClampNeg
/-- a place of a row of n is used -/
def ix {α : Type} (i : Int32) (n : Nat) (x : Option α) : Option α := if i < 0 ∨ n ≤ i.toNatClampNeg then none else x
def nz {α : Type} (y : Int32) (x : Option α) : Option α := if y = 0 then none else x
def nzl {α : Type} (y : Int64) (x : Option α) : Option α := if y = 0 then none else x
/-- a truth that is answered -/
def tz {α : Type} (y : Int32) (x : Option α) : Option α := if y = 0 ∨ y = 1 then x else none
def bd {α β : Type} (x : Option α) (f : α → Option β) : Option β := match x with
  | none => none
  | some a => f a
def loop {S R : Type} (b : S → Option (S ⊕ R)) : Nat → S → Option R
  | 0, _ => none
  | n + 1, s => match b s with
    | none => none
    | some (.inl s') => loop b n s'
    | some (.inr r) => some r
def bl {S R : Type} (b : S → Option (S ⊕ R)) (n : Nat) (x : Option (S ⊕ R)) : Option R := match x with
  | none => none
  | some (.inl s') => loop b n s'
  | some (.inr r) => some r
def up {S R : Type} (x : Option R) : Option (S ⊕ R) := match x with
  | none => none
  | some r => some (.inr r)
def fu : Nat := 4096
theorem bl_up {S R : Type} {b : S → Option (S ⊕ R)} {n : Nat} {x : Option R} : bl b n (up x) = x := by
  cases x <;> rfl
theorem ix_k {α β : Type} {K : Option α → Option β} {i : Int32} {n : Nat} {x : Option α} {f : β} (hK : K none = none) (h : K (ix i n x) = some f) : vp_in i n ∧ K x = some f := by
  unfold ix at h
  by_cases c : i < 0 ∨ n ≤ i.toNatClampNeg
  · rw [if_pos c, hK] at h; cases h
  · rw [if_neg c] at h; exact ⟨c, h⟩
theorem nz_k {α β : Type} {K : Option α → Option β} {y : Int32} {x : Option α} {f : β} (hK : K none = none) (h : K (nz y x) = some f) : (¬ y = 0) ∧ K x = some f := by
  unfold nz at h
  by_cases c : y = 0
  · rw [if_pos c, hK] at h; cases h
  · rw [if_neg c] at h; exact ⟨c, h⟩
theorem nzl_k {α β : Type} {K : Option α → Option β} {y : Int64} {x : Option α} {f : β} (hK : K none = none) (h : K (nzl y x) = some f) : (¬ y = 0) ∧ K x = some f := by
  unfold nzl at h
  by_cases c : y = 0
  · rw [if_pos c, hK] at h; cases h
  · rw [if_neg c] at h; exact ⟨c, h⟩
theorem tz_k {α β : Type} {K : Option α → Option β} {y : Int32} {x : Option α} {f : β} (hK : K none = none) (h : K (tz y x) = some f) : narrow .boolean (.int y) = .int y ∧ K x = some f := by
  unfold tz at h
  by_cases c : y = 0 ∨ y = 1
  · rw [if_pos c] at h
    refine ⟨?_, h⟩
    rcases c with c | c <;> (rw [c]; decide)
  · rw [if_neg c, hK] at h; cases h
theorem bd_k {α β γ : Type} {K : Option γ → Option β} {x : Option α} {g : α → Option γ} {f : β} (hK : K none = none) (h : K (bd x g) = some f) : ∃ a, x = some a ∧ K (g a) = some f := by
  cases x with
  | none => rw [show bd none g = none from rfl, hK] at h; cases h
  | some a => exact ⟨a, rfl, h⟩
theorem if_t {α β : Type} {K : Option α → Option β} {c : Prop} {hd : Decidable c} {x y : Option α} {f : β} (hc : c) (h : K (@ite _ c hd x y) = some f) : K x = some f := by rwa [if_pos hc] at h
theorem if_f {α β : Type} {K : Option α → Option β} {c : Prop} {hd : Decidable c} {x y : Option α} {f : β} (hc : ¬ c) (h : K (@ite _ c hd x y) = some f) : K y = some f := by rwa [if_neg hc] at h
theorem bl_upK {S R β : Type} {K : Option R → Option β} {b : S → Option (S ⊕ R)} {n : Nat} {x : Option R} {f : β} (h : K (bl b n (up x)) = some f) : K x = some f := by rwa [bl_up] at h
theorem some_k {α : Type} {x y : α} (h : some x = some y) : x = y := Option.some.inj h
/-! the machine's words: every class of the claim, every kind of row -/
abbrev vwCl : List vw_C := [(RX0, TX0, 32), (RX1, TX1, 15), (RX2, TX2, 1), (RX3, TX3, 2), (RX4, TX4, 2), (RX5, TX5, 2), (RX6, TX6, 1), (RX7, TX7, 39), (RX8, TX8, 7), (RX9, TX9, 8), (RJ2, TJ2, 3)]
def tys (ty : Nat → ClassId) : List (ClassId × FieldType) := [(ty 0, .int), (ty 1, .byte), (ty 2, .short), (ty 3, .long), (ty 4, .boolean), (ty 5, .object "LehrBelt$Cooling"), (ty 6, .object "LehrBelt$Slot"), (ty 7, .object "java/lang/Object")]
def Hw (D : va_G) (A : Nat → Prop) (s : State) (H : Heap) (locs : List Loc) (ws : va_W) : Prop := va_P D vwCl ws H ∧ va_D A ws ∧ va_S A s.heap H locs
/-- words of the tables that don't ride in the lists, and are kept all the same -/
def nwGood : Cond → Bool
  | .fieldLinkNest _ _ _ _ _ _ => true
  | .methodLinkNest _ _ _ _ => true
  | .castable _ _ => true
  | .declares _ => true
  | _ => false
def NW (U : State) : Prop := (∀ w ∈ lw_tbl, nwGood w = true → va_Nw w U) ∧ va_AO "LehrBelt$Cooling" U ∧ va_AO "LehrBelt$Slot" U ∧ va_AO "java/lang/Object" U
theorem nw_tab {w : Cond} (h : nwGood w = true) : w.onTables = true := by
  cases w <;> first | rfl | (exact absurd h (by simp [nwGood]))
theorem nw_warm {w : Cond} (h : nwGood w = true) {s U : State} (hW : s.WarmedH U.vm) (hZ : va_Nw w s) : va_Nw w U := by
  cases w <;> first | exact hZ.warmF hW | exact hZ.warmM hW | exact hZ.warmC hW | exact hZ.warmD hW | (exact absurd h (by simp [nwGood]))
theorem NW.warm {s U : State} (hW : s.WarmedH U.vm) (h : NW s) : NW U := ⟨fun w hw hg => nw_warm hg hW (h.1 w hw hg), h.2.1.moved hW.alike, h.2.2.1.moved hW.alike, h.2.2.2.moved hW.alike⟩
theorem NW.same {u U : State} (hv : u.vm = U.vm) (h : NW u) : NW U := ⟨fun w hw hg => (h.1 w hw hg).same (nw_tab hg) hv, h.2.1.moved (by rw [hv]; exact Vm.Alike.refl _), h.2.2.1.moved (by rw [hv]; exact Vm.Alike.refl _), h.2.2.2.moved (by rw [hv]; exact Vm.Alike.refl _)⟩
theorem NW.use {s : State} {args : Array Value} {w : Cond} (h : NW s) (hw : w ∈ lw_tbl) (hg : nwGood w = true) : w.before args s = true := (h.1 w hw hg).use (nw_tab hg)
/-- classes that aren't castable -/
def ncList : List (String × String) := [("[S", "[B"), ("[I", "[B"), ("[I", "[S"), ("[J", "[B"), ("[J", "[S"), ("[J", "[I"), ("java/lang/ArrayIndexOutOfBoundsException", "java/lang/NullPointerException"), ("java/lang/ArrayIndexOutOfBoundsException", "java/lang/ArrayStoreException"), ("java/lang/ArrayStoreException", "java/lang/NullPointerException")]
def tokNm (i : Nat) : String := ["END", "WORD", "NUMBER", "STOP", "NONE"].getD i ""
def strIx (i : Nat) : Nat := [114, 115, 123, 127, 131, 135, 165, 174, 152, 156, 160, 164].getD i 0
def strTx (i : Nat) : String := ["lehr", "steps", "law", "odds", "pace", "set", "zone", "piece", "heat", "thick", "bears", "at"].getD i ""
def strLen : List Nat := [4, 5, 3, 4, 4, 3, 4, 5, 4, 5, 5, 2]
def strByt : List (List Int32) := [[108, 101, 104, 114], [115, 116, 101, 112, 115], [108, 97, 119], [111, 100, 100, 115], [112, 97, 99, 101], [115, 101, 116], [122, 111, 110, 101], [112, 105, 101, 99, 101], [104, 101, 97, 116], [116, 104, 105, 99, 107], [98, 101, 97, 114, 115], [97, 116]]
/-- what is known of statics and literals (cells that no method of ours changes): ty 100.. the tokens, ty 200.. the texts, ty 300.. their bytes, ty 400 the empty row of lists -/
def EX (ty : Nat → Nat) (A : Nat → Prop) (U : State) (H : Heap) : Prop :=
  (∀ p ∈ ncList, va_Nc p.1 p.2 U) ∧ (vx_Zq Bundle.tN "UNASSIGNED_STACK" Bundle.steD A U H ∧ vx_Zq Bundle.tN "SUPPRESSED_SENTINEL" Bundle.listD A U H) ∧
  (∀ i : Nat, i < 5 → va_Z "LehrBelt$Token" (tokNm i) "LLehrBelt$Token;" (.ref (ty (100 + i))) A U H) ∧ (∀ i j : Nat, i < 5 → j < 5 → ty (100 + i) = ty (100 + j) → i = j) ∧
  vk_S 12 strLen strByt (fun i => ty (200 + i)) (fun i => ty (300 + i)) A U H ∧ (∀ i : Nat, i < 12 → vk_R "LehrBelt$Reader" (strIx i) (strTx i) (ty (200 + i)) U) ∧
  va_Z "java/lang/String" "COMPACT_STRINGS" "Z" (.int 1) A U H ∧ va_Zq "jdk/internal/util/Preconditions" "SIOOBE_FORMATTER" "Ljava/util/function/BiFunction;" A U H ∧
  va_Z "java/util/ArrayList" "DEFAULTCAPACITY_EMPTY_ELEMENTDATA" "[Ljava/lang/Object;" (.ref (ty 400)) A U H ∧ va_T (.object "java/lang/Object") (ty 400) 0 (fun _ => .null) A U H
theorem EX.warm {ty : Nat → Nat} {A : Nat → Prop} {u U : State} {H : Heap} (hW : u.WarmedH U.vm) (h : EX ty A u H) : EX ty A U H :=
  ⟨fun p hp => (h.1 p hp).moved hW.alike, ⟨h.2.1.1.moved hW.alike, h.2.1.2.moved hW.alike⟩, fun i hi => (h.2.2.1 i hi).moved hW.alike, h.2.2.2.1, h.2.2.2.2.1.moved hW.alike, fun i hi => (h.2.2.2.2.2.1 i hi).warm hW, h.2.2.2.2.2.2.1.moved hW.alike, h.2.2.2.2.2.2.2.1.moved hW.alike, h.2.2.2.2.2.2.2.2.1.moved hW.alike, h.2.2.2.2.2.2.2.2.2.moved hW.alike⟩
theorem EX.same {ty : Nat → Nat} {A : Nat → Prop} {u U : State} {H : Heap} (hv : u.vm = U.vm) (h : EX ty A u H) : EX ty A U H :=
  have hW : u.vm.Alike U.vm := by rw [hv]; exact Vm.Alike.refl _
  ⟨fun p hp => (h.1 p hp).moved hW, ⟨h.2.1.1.moved hW, h.2.1.2.moved hW⟩, fun i hi => (h.2.2.1 i hi).moved hW, h.2.2.2.1, h.2.2.2.2.1.moved hW, fun i hi => (h.2.2.2.2.2.1 i hi).same hv.symm, h.2.2.2.2.2.2.1.moved hW, h.2.2.2.2.2.2.2.1.moved hW, h.2.2.2.2.2.2.2.2.1.moved hW, h.2.2.2.2.2.2.2.2.2.moved hW⟩
theorem EX.kept {ty : Nat → Nat} {A : Nat → Prop} {U : State} {H H1 : Heap} (hq : ∀ a : Nat, a < H.size → ¬ A a → H1[a]? = H[a]?) (h : EX ty A U H) : EX ty A U H1 :=
  ⟨h.1, ⟨h.2.1.1.kept hq, h.2.1.2.kept hq⟩, fun i hi => (h.2.2.1 i hi).kept hq, h.2.2.2.1, h.2.2.2.2.1.kept hq, h.2.2.2.2.2.1, h.2.2.2.2.2.2.1.kept hq, h.2.2.2.2.2.2.2.1.kept hq, h.2.2.2.2.2.2.2.2.1.kept hq, h.2.2.2.2.2.2.2.2.2.kept hq⟩
theorem EX.narrow {ty : Nat → Nat} {A B : Nat → Prop} {U : State} {H : Heap} (hAB : ∀ q, B q → A q) (h : EX ty A U H) : EX ty B U H :=
  ⟨h.1, ⟨h.2.1.1.narrow hAB, h.2.1.2.narrow hAB⟩, fun i hi => (h.2.2.1 i hi).narrow hAB, h.2.2.2.1, h.2.2.2.2.1.narrow hAB, h.2.2.2.2.2.1, h.2.2.2.2.2.2.1.narrow hAB, h.2.2.2.2.2.2.2.1.narrow hAB, h.2.2.2.2.2.2.2.2.1.narrow hAB, h.2.2.2.2.2.2.2.2.2.narrow hAB⟩
def KK (D : va_G) (ty : Nat → ClassId) (A : Nat → Prop) (U : State) : Prop := va_K D vwCl (tys ty) U ∧ NW U ∧ EX ty A U U.heap
def Cx (p : Program) (R : Room) (s : State) (m : MethodId) (args : Array Value) (c : Code) (cc : ByteArray) (nL : Nat) (own : String) (D : va_G) (ty : Nat → ClassId) (A : Nat → Prop) (d : Nat) : Prop :=
  CallFix p m c cc nL s args lw_all own ∧ KK D ty A s ∧ (∀ q : Nat, s.heap.size ≤ q → A q) ∧ d ≤ R.frames ∧ 40 * d ≤ R.locals
section CX
variable {p : Program} {R : Room} {s : State} {m : MethodId} {args : Array Value} {c : Code} {cc : ByteArray} {nL : Nat} {ow : String} {D : va_G} {ty : Nat → ClassId} {A : Nat → Prop} {d : Nat}
theorem Cx.x (C : Cx p R s m args c cc nL ow D ty A d) : p.tables.exec = Jvm.exec := C.1.1
theorem Cx.b (C : Cx p R s m args c cc nL ow D ty A d) : c.code = cc := C.1.2.1
theorem Cx.own (C : Cx p R s m args c cc nL ow D ty A d) : s.vm.findClass ow = some m.cls := C.1.2.2.2.1
theorem Cx.ts (C : Cx p R s m args c cc nL ow D ty A d) : ∀ w ∈ lw_all, w.before args s = true := C.1.2.2.2.2
theorem Cx.K (C : Cx p R s m args c cc nL ow D ty A d) : va_K D vwCl (tys ty) s := C.2.1.1
theorem Cx.N (C : Cx p R s m args c cc nL ow D ty A d) : NW s := C.2.1.2.1
theorem Cx.nw (C : Cx p R s m args c cc nL ow D ty A d) {w : Cond} (hw : w ∈ lw_tbl) (hg : nwGood w = true) : w.before args s = true := C.2.1.2.1.use hw hg
theorem Cx.E (C : Cx p R s m args c cc nL ow D ty A d) : EX ty A s s.heap := C.2.1.2.2
end CX
def rmD (d : Nat) : Room := { frames := d, cells := 0, slots := 0, locals := 40 * d }
/-- a contract's start: the cells ws, and the tables -/
abbrev KP (D : va_G) (ty : Nat → ClassId) (A : Nat → Prop) (sz : Nat) (ws : va_W) (As : List Value) : Array Value → State → Prop := va_Pc As (fun U => U.heap.size = sz ∧ va_P D vwCl ws U.heap ∧ KK D ty A U ∧ va_D A ws)
/-- a method that answers an int r, and leaves the cells ws' -/
def KI (l : Launch) (y : MethodName) (cc : ByteArray) (nL : Nat) (rt : FieldType) (d : Nat) (D : va_G) (ty : Nat → ClassId) (A : Nat → Prop) (ws ws' : va_W) (As : List Value) (r : Int32) : Prop :=
  ∀ sz : Nat, (∀ q : Nat, sz ≤ q → A q) → Met l y (ws_ y cc nL (some rt)) (rmD d) (KP D ty A sz ws As) (va_Qi (fun r' (_ : Unit) => r' = r) (fun _ t => va_P D vwCl ws' t.heap ∧ va_D A ws') A) 0 0 A
def KL (l : Launch) (y : MethodName) (cc : ByteArray) (nL : Nat) (d : Nat) (D : va_G) (ty : Nat → ClassId) (A : Nat → Prop) (ws ws' : va_W) (As : List Value) (r : Int64) : Prop :=
  ∀ sz : Nat, (∀ q : Nat, sz ≤ q → A q) → Met l y (ws_ y cc nL (some .long)) (rmD d) (KP D ty A sz ws As) (va_Ql (fun r' (_ : Unit) => r' = r) (fun _ t => va_P D vwCl ws' t.heap ∧ va_D A ws') A) 0 0 A
def KV (l : Launch) (y : MethodName) (cc : ByteArray) (nL : Nat) (d : Nat) (D : va_G) (ty : Nat → ClassId) (A : Nat → Prop) (ws ws' : va_W) (As : List Value) : Prop :=
  ∀ sz : Nat, (∀ q : Nat, sz ≤ q → A q) → Met l y (ws_ y cc nL none) (rmD d) (KP D ty A sz ws As) (va_Qv (fun (_ : Unit) => True) (fun _ t => va_P D vwCl ws' t.heap ∧ va_D A ws') A) 0 0 A
section KOF
variable {l : Launch} {y : MethodName} {cc : ByteArray} {nL d : Nat} {rt : FieldType} {D : va_G} {ty : Nat → ClassId} {A : Nat → Prop} {ws ws' : va_W} {As : List Value}
theorem KI.of {r : Int32} (hy : plainName y.cls = true) (hn : (lg_sl As).length ≤ nL)
    (body : ∀ (p : Program) (e : Env) (R : Room) (s : State) (m : MethodId) (args : Array Value) (below : List Frame) (meth : Method) (c : Code) (Q : State → Prop), Cx p R s m args c cc nL y.cls D ty A d →
      (∀ (H : Heap) (locs : List Loc) (pc : Nat) (ls : Array Slot), Hw D A s H locs ws' → narrow rt (.int r) = .int r → decode cc pc = .ok (.ireturn, 1) → W p l e R s m args below meth c H locs 0 0 Q (F0 m pc ls [.int r])) →
      ∀ (H : Heap) (locs : List Loc) (ls : Array Slot), Hw D A s H locs ws → lv_has ls nL (lv_args 0 As) → W p l e R s m args below meth c H locs 0 0 Q (F0 m 0 ls [])) : KI l y cc nL rt d D ty A ws ws' As r := by
  intro sz hA
  refine Met.ofW (cc := cc) (maxL := nL) (ret := some rt) hy rfl ?_
  intro p e s m args below meth c s₁ B hml hv
  obtain ⟨rfl, hsz, hP, hK, hD⟩ := hv
  subst hsz
  have hts := atoms_spec (ws := ws_ y cc nL (some rt)) B.pre
  have hts : ∀ w ∈ lw_all, w.before _ s = true := fun w h => hts w (List.mem_cons_of_mem _ h)
  have hlocks := B.notSynchronized
  rw [lg_entry_eq]
  refine body p e _ s m As.toArray below meth c _ ⟨⟨B.exec, B.bytes, hml, findClass_of_methodNamed B.named, hts⟩, hK, hA, Nat.le_refl _, Nat.le_refl _⟩ ?_ s.heap [] _ ⟨hP, hD, va_S.rf⟩ (lv_entry As hn)
  intro H locs pc ls h hnr hd
  exact W.zret (v := r) B.exec B.bytes B.returns hnr (fun t ht hW => ⟨⟨r, (), rfl, rfl, by rw [ht]; exact h.1, h.2.1⟩, h.2.2.F ht⟩) h.2.2.2.2 hd
theorem KL.of {r : Int64} (hy : plainName y.cls = true) (hn : (lg_sl As).length ≤ nL)
    (body : ∀ (p : Program) (e : Env) (R : Room) (s : State) (m : MethodId) (args : Array Value) (below : List Frame) (meth : Method) (c : Code) (Q : State → Prop), Cx p R s m args c cc nL y.cls D ty A d →
      (∀ (H : Heap) (locs : List Loc) (pc : Nat) (ls : Array Slot), Hw D A s H locs ws' → decode cc pc = .ok (.lreturn, 1) → W p l e R s m args below meth c H locs 0 0 Q (F0 m pc ls [.long r])) →
      ∀ (H : Heap) (locs : List Loc) (ls : Array Slot), Hw D A s H locs ws → lv_has ls nL (lv_args 0 As) → W p l e R s m args below meth c H locs 0 0 Q (F0 m 0 ls [])) : KL l y cc nL d D ty A ws ws' As r := by
  intro sz hA
  refine Met.ofW (cc := cc) (maxL := nL) (ret := some .long) hy rfl ?_
  intro p e s m args below meth c s₁ B hml hv
  obtain ⟨rfl, hsz, hP, hK, hD⟩ := hv
  subst hsz
  have hts := atoms_spec (ws := ws_ y cc nL (some .long)) B.pre
  have hts : ∀ w ∈ lw_all, w.before _ s = true := fun w h => hts w (List.mem_cons_of_mem _ h)
  have hlocks := B.notSynchronized
  rw [lg_entry_eq]
  refine body p e _ s m As.toArray below meth c _ ⟨⟨B.exec, B.bytes, hml, findClass_of_methodNamed B.named, hts⟩, hK, hA, Nat.le_refl _, Nat.le_refl _⟩ ?_ s.heap [] _ ⟨hP, hD, va_S.rf⟩ (lv_entry As hn)
  intro H locs pc ls h hd
  exact W.lret (v := r) B.exec B.bytes B.returns (fun t ht hW => ⟨⟨r, (), rfl, rfl, by rw [ht]; exact h.1, h.2.1⟩, h.2.2.F ht⟩) h.2.2.2.2 hd
theorem KV.of (hy : plainName y.cls = true) (hn : (lg_sl As).length ≤ nL)
    (body : ∀ (p : Program) (e : Env) (R : Room) (s : State) (m : MethodId) (args : Array Value) (below : List Frame) (meth : Method) (c : Code) (Q : State → Prop), Cx p R s m args c cc nL y.cls D ty A d →
      (∀ (H : Heap) (locs : List Loc) (pc : Nat) (ls : Array Slot), Hw D A s H locs ws' → decode cc pc = .ok (.return_, 1) → W p l e R s m args below meth c H locs 0 0 Q (F0 m pc ls [])) →
      ∀ (H : Heap) (locs : List Loc) (ls : Array Slot), Hw D A s H locs ws → lv_has ls nL (lv_args 0 As) → W p l e R s m args below meth c H locs 0 0 Q (F0 m 0 ls [])) : KV l y cc nL d D ty A ws ws' As := by
  intro sz hA
  refine Met.ofW (cc := cc) (maxL := nL) (ret := none) hy rfl ?_
  intro p e s m args below meth c s₁ B hml hv
  obtain ⟨rfl, hsz, hP, hK, hD⟩ := hv
  subst hsz
  have hts := atoms_spec (ws := ws_ y cc nL none) B.pre
  have hts : ∀ w ∈ lw_all, w.before _ s = true := fun w h => hts w (List.mem_cons_of_mem _ h)
  have hlocks := B.notSynchronized
  rw [lg_entry_eq]
  refine body p e _ s m As.toArray below meth c _ ⟨⟨B.exec, B.bytes, hml, findClass_of_methodNamed B.named, hts⟩, hK, hA, Nat.le_refl _, Nat.le_refl _⟩ ?_ s.heap [] _ ⟨hP, hD, va_S.rf⟩ (lv_entry As hn)
  intro H locs pc ls h hd
  exact W.vret B.exec B.bytes B.returns (fun t ht hW => ⟨⟨(), rfl, trivial, by rw [ht]; exact h.1, h.2.1⟩, h.2.2.F ht⟩) h.2.2.2.2 hd
end KOF
section KCALL
variable {p : Program} {l : Launch} {e : Env} {R : Room} {s : State} {m : MethodId} {args : Array Value} {below : List Frame} {meth : Method} {c : Code} {H : Heap} {locs : List Loc} {cells slots : Nat} {Q : State → Prop} {cc : ByteArray} {pc : Nat} {ls : Array Slot} {st rest : List Value} {nL d : Nat} {own : String} {D : va_G} {ty : Nat → ClassId} {A : Nat → Prop}
variable {y : MethodName} {bytes : ByteArray} {nL' d' index : Nat} {rt : FieldType} {ws ws' : va_W} {As : List Value} {o : Nat} {Cn : String}
theorem KP.blind {sz : Nat} : FrameBlind (KP D ty A sz ws As) := fun a U g mk q => by
  obtain ⟨q0, q1, qP, qK, qD⟩ := q
  exact ⟨q0, q1, qP, ⟨va_K.moved (u := U) (U := U.calling g mk a) (Vm.Alike.refl U.vm) qK.1, NW.same (u := U) (U := U.calling g mk a) rfl qK.2.1, EX.same (u := U) (U := U.calling g mk a) rfl qK.2.2⟩, qD⟩
theorem KP.here (C : Cx p R s m args c cc nL own D ty A d) (h : Hw D A s H locs ws) : ∀ U : State, U.heap = H → s.WarmedH U.vm → KP D ty A H.size ws As As.toArray U := fun U hU hW => ⟨rfl, by rw [hU], by rw [hU]; exact h.1, ⟨va_K.moved hW.alike C.K, C.N.warm hW, EX.warm hW (by rw [hU]; exact EX.kept h.2.2.2.1 C.2.1.2.2)⟩, h.2.1⟩
theorem Cx.room (C : Cx p R s m args c cc nL own D ty A d) (hd : d' + 1 ≤ d) (hn : nL' ≤ 21) : (rmD d').frames + 1 ≤ R.frames ∧ 8 + (nL' + 11) + (rmD d').locals ≤ R.locals := by
  have h1 := C.2.2.2.1
  have h2 := C.2.2.2.2
  constructor
  · show d' + 1 ≤ R.frames
    omega
  · show 8 + (nL' + 11) + 40 * d' ≤ R.locals
    omega
/-- a call by the object, in class Cn, of a method that answers an int -/
theorem KI.callV {r : Int32} (C : Cx p R s m args c cc nL own D ty A d) (hM : KI l y bytes nL' rt d' D ty A ws ws' (.ref o :: As) r)
    (hT : GoodIn lw_all (wsV own index Cn y (ws_ y bytes nL' (some rt)))) (hy : y.cls = Cn ∧ y.cls ≠ "java/lang/invoke/MethodHandle" ∧ y.cls ≠ "java/lang/invoke/VarHandle" ∧ (parseMethodDescriptor y.desc).map (fun d => d.parameters.length) = some As.length)
    (q0 ci : Nat) {fs : List Value} {qq : vw_C} (he : ws[q0]? = some (o, .inr (ci, fs))) (hc : vwCl[ci]? = some qq) (hq : qq.1 = Cn) (hd : d' + 1 ≤ d) (hn : nL' ≤ 21) (hcs : cells ≤ R.cells) (hss : slots ≤ R.slots)
    (h : Hw D A s H locs ws) (hls : ls.size = nL) (hst : st = As.reverse ++ .ref o :: rest) (hcat : (rest.map fun v => v.category).sum ≤ 8) (dec : decode cc pc = .ok (.invokevirtual index, 3))
    (kk : ∀ (H : Heap) (locs : List Loc), Hw D A s H locs ws' → W p l e R s m args below meth c H locs cells slots Q (F0 m (pc + 3) ls (.int r :: rest))) : W p l e R s m args below meth c H locs cells slots Q (F0 m pc ls st) := by
  have hA1 : ∀ q : Nat, H.size ≤ q → A q := fun q hq => C.2.2.1 q (Nat.le_trans h.2.2.1 hq)
  have hrv := va_recv C.K h.1 hc he
  rw [hq] at hrv
  subst hst
  refine va_calli (va_runV (As := As) (rest := rest) C.1 (hM H.size hA1) (cwV As.length C.ts hT rfl rfl rfl hy (C.room hd hn)) ⟨KP.blind, hrv, KP.here C h⟩ rfl rfl hls rfl (lv_room hcat) dec ⟨hcs, hss⟩) h.2.2 (fun q _ h => h) (fun q h => h) (fun r' u t H1 locs1 ht hvm hr hB hz1 hk1 hS => ?_)
  subst hr
  exact kk H1 locs1 ⟨by rw [← ht]; exact hB.1, hB.2, hS⟩
theorem KL.callV {r : Int64} (C : Cx p R s m args c cc nL own D ty A d) (hM : KL l y bytes nL' d' D ty A ws ws' (.ref o :: As) r)
    (hT : GoodIn lw_all (wsV own index Cn y (ws_ y bytes nL' (some .long)))) (hy : y.cls = Cn ∧ y.cls ≠ "java/lang/invoke/MethodHandle" ∧ y.cls ≠ "java/lang/invoke/VarHandle" ∧ (parseMethodDescriptor y.desc).map (fun d => d.parameters.length) = some As.length)
    (q0 ci : Nat) {fs : List Value} {qq : vw_C} (he : ws[q0]? = some (o, .inr (ci, fs))) (hc : vwCl[ci]? = some qq) (hq : qq.1 = Cn) (hd : d' + 1 ≤ d) (hn : nL' ≤ 21) (hcs : cells ≤ R.cells) (hss : slots ≤ R.slots)
    (h : Hw D A s H locs ws) (hls : ls.size = nL) (hst : st = As.reverse ++ .ref o :: rest) (hcat : (rest.map fun v => v.category).sum ≤ 8) (dec : decode cc pc = .ok (.invokevirtual index, 3))
    (kk : ∀ (H : Heap) (locs : List Loc), Hw D A s H locs ws' → W p l e R s m args below meth c H locs cells slots Q (F0 m (pc + 3) ls (.long r :: rest))) : W p l e R s m args below meth c H locs cells slots Q (F0 m pc ls st) := by
  have hA1 : ∀ q : Nat, H.size ≤ q → A q := fun q hq => C.2.2.1 q (Nat.le_trans h.2.2.1 hq)
  have hrv := va_recv C.K h.1 hc he
  rw [hq] at hrv
  subst hst
  refine va_calll (va_runV (As := As) (rest := rest) C.1 (hM H.size hA1) (cwV As.length C.ts hT rfl rfl rfl hy (C.room hd hn)) ⟨KP.blind, hrv, KP.here C h⟩ rfl rfl hls rfl (lv_room hcat) dec ⟨hcs, hss⟩) h.2.2 (fun q _ h => h) (fun q h => h) (fun r' u t H1 locs1 ht hvm hr hB hz1 hk1 hS => ?_)
  subst hr
  exact kk H1 locs1 ⟨by rw [← ht]; exact hB.1, hB.2, hS⟩
theorem KV.callV (C : Cx p R s m args c cc nL own D ty A d) (hM : KV l y bytes nL' d' D ty A ws ws' (.ref o :: As))
    (hT : GoodIn lw_all (wsV own index Cn y (ws_ y bytes nL' none))) (hy : y.cls = Cn ∧ y.cls ≠ "java/lang/invoke/MethodHandle" ∧ y.cls ≠ "java/lang/invoke/VarHandle" ∧ (parseMethodDescriptor y.desc).map (fun d => d.parameters.length) = some As.length)
    (q0 ci : Nat) {fs : List Value} {qq : vw_C} (he : ws[q0]? = some (o, .inr (ci, fs))) (hc : vwCl[ci]? = some qq) (hq : qq.1 = Cn) (hd : d' + 1 ≤ d) (hn : nL' ≤ 21) (hcs : cells ≤ R.cells) (hss : slots ≤ R.slots)
    (h : Hw D A s H locs ws) (hls : ls.size = nL) (hst : st = As.reverse ++ .ref o :: rest) (hcat : (rest.map fun v => v.category).sum ≤ 8) (dec : decode cc pc = .ok (.invokevirtual index, 3))
    (kk : ∀ (H : Heap) (locs : List Loc), Hw D A s H locs ws' → W p l e R s m args below meth c H locs cells slots Q (F0 m (pc + 3) ls rest)) : W p l e R s m args below meth c H locs cells slots Q (F0 m pc ls st) := by
  have hA1 : ∀ q : Nat, H.size ≤ q → A q := fun q hq => C.2.2.1 q (Nat.le_trans h.2.2.1 hq)
  have hrv := va_recv C.K h.1 hc he
  rw [hq] at hrv
  subst hst
  refine va_callv (va_runV (As := As) (rest := rest) C.1 (hM H.size hA1) (cwV As.length C.ts hT rfl rfl rfl hy (C.room hd hn)) ⟨KP.blind, hrv, KP.here C h⟩ rfl rfl hls rfl (lv_room hcat) dec ⟨hcs, hss⟩) h.2.2 (fun q _ h => h) (fun q h => h) (fun u t H1 locs1 ht hvm hr hB hz1 hk1 hS => ?_)
  exact kk H1 locs1 ⟨by rw [← ht]; exact hB.1, hB.2, hS⟩
/-- a static call -/
theorem KI.callS {r : Int32} (C : Cx p R s m args c cc nL own D ty A d) (hM : KI l y bytes nL' rt d' D ty A ws ws' As r)
    (hT : GoodIn lw_all (va_wsS own index y (ws_ y bytes nL' (some rt)))) (hy : y.cls ≠ "java/lang/invoke/MethodHandle" ∧ y.cls ≠ "java/lang/invoke/VarHandle" ∧ (parseMethodDescriptor y.desc).map (fun d => d.parameters.length) = some As.length)
    (hd : d' + 1 ≤ d) (hn : nL' ≤ 21) (hcs : cells ≤ R.cells) (hss : slots ≤ R.slots)
    (h : Hw D A s H locs ws) (hls : ls.size = nL) (hst : st = As.reverse ++ rest) (hcat : (rest.map fun v => v.category).sum ≤ 8) (dec : decode cc pc = .ok (.invokestatic index, 3))
    (kk : ∀ (H : Heap) (locs : List Loc), Hw D A s H locs ws' → W p l e R s m args below meth c H locs cells slots Q (F0 m (pc + 3) ls (.int r :: rest))) : W p l e R s m args below meth c H locs cells slots Q (F0 m pc ls st) := by
  have hA1 : ∀ q : Nat, H.size ≤ q → A q := fun q hq => C.2.2.1 q (Nat.le_trans h.2.2.1 hq)
  subst hst
  refine va_calli (va_runS (As := As) (rest := rest) C.1 (hM H.size hA1) (va_cwS As.length C.ts hT rfl rfl rfl hy (C.room hd hn)) ⟨KP.blind, KP.here C h⟩ rfl rfl hls rfl (lv_room hcat) dec ⟨hcs, hss⟩) h.2.2 (fun q _ h => h) (fun q h => h) (fun r' u t H1 locs1 ht hvm hr hB hz1 hk1 hS => ?_)
  subst hr
  exact kk H1 locs1 ⟨by rw [← ht]; exact hB.1, hB.2, hS⟩
theorem KL.callS {r : Int64} (C : Cx p R s m args c cc nL own D ty A d) (hM : KL l y bytes nL' d' D ty A ws ws' As r)
    (hT : GoodIn lw_all (va_wsS own index y (ws_ y bytes nL' (some .long)))) (hy : y.cls ≠ "java/lang/invoke/MethodHandle" ∧ y.cls ≠ "java/lang/invoke/VarHandle" ∧ (parseMethodDescriptor y.desc).map (fun d => d.parameters.length) = some As.length)
    (hd : d' + 1 ≤ d) (hn : nL' ≤ 21) (hcs : cells ≤ R.cells) (hss : slots ≤ R.slots)
    (h : Hw D A s H locs ws) (hls : ls.size = nL) (hst : st = As.reverse ++ rest) (hcat : (rest.map fun v => v.category).sum ≤ 8) (dec : decode cc pc = .ok (.invokestatic index, 3))
    (kk : ∀ (H : Heap) (locs : List Loc), Hw D A s H locs ws' → W p l e R s m args below meth c H locs cells slots Q (F0 m (pc + 3) ls (.long r :: rest))) : W p l e R s m args below meth c H locs cells slots Q (F0 m pc ls st) := by
  have hA1 : ∀ q : Nat, H.size ≤ q → A q := fun q hq => C.2.2.1 q (Nat.le_trans h.2.2.1 hq)
  subst hst
  refine va_calll (va_runS (As := As) (rest := rest) C.1 (hM H.size hA1) (va_cwS As.length C.ts hT rfl rfl rfl hy (C.room hd hn)) ⟨KP.blind, KP.here C h⟩ rfl rfl hls rfl (lv_room hcat) dec ⟨hcs, hss⟩) h.2.2 (fun q _ h => h) (fun q h => h) (fun r' u t H1 locs1 ht hvm hr hB hz1 hk1 hS => ?_)
  subst hr
  exact kk H1 locs1 ⟨by rw [← ht]; exact hB.1, hB.2, hS⟩
theorem KV.callS (C : Cx p R s m args c cc nL own D ty A d) (hM : KV l y bytes nL' d' D ty A ws ws' As)
    (hT : GoodIn lw_all (va_wsS own index y (ws_ y bytes nL' none))) (hy : y.cls ≠ "java/lang/invoke/MethodHandle" ∧ y.cls ≠ "java/lang/invoke/VarHandle" ∧ (parseMethodDescriptor y.desc).map (fun d => d.parameters.length) = some As.length)
    (hd : d' + 1 ≤ d) (hn : nL' ≤ 21) (hcs : cells ≤ R.cells) (hss : slots ≤ R.slots)
    (h : Hw D A s H locs ws) (hls : ls.size = nL) (hst : st = As.reverse ++ rest) (hcat : (rest.map fun v => v.category).sum ≤ 8) (dec : decode cc pc = .ok (.invokestatic index, 3))
    (kk : ∀ (H : Heap) (locs : List Loc), Hw D A s H locs ws' → W p l e R s m args below meth c H locs cells slots Q (F0 m (pc + 3) ls rest)) : W p l e R s m args below meth c H locs cells slots Q (F0 m pc ls st) := by
  have hA1 : ∀ q : Nat, H.size ≤ q → A q := fun q hq => C.2.2.1 q (Nat.le_trans h.2.2.1 hq)
  subst hst
  refine va_callv (va_runS (As := As) (rest := rest) C.1 (hM H.size hA1) (va_cwS As.length C.ts hT rfl rfl rfl hy (C.room hd hn)) ⟨KP.blind, KP.here C h⟩ rfl rfl hls rfl (lv_room hcat) dec ⟨hcs, hss⟩) h.2.2 (fun q _ h => h) (fun q h => h) (fun u t H1 locs1 ht hvm hr hB hz1 hk1 hS => ?_)
  exact kk H1 locs1 ⟨by rw [← ht]; exact hB.1, hB.2, hS⟩
/-- a nest mate's method -/
theorem KI.callVN {r : Int32} {host : String} (C : Cx p R s m args c cc nL own D ty A d) (hM : KI l y bytes nL' rt d' D ty A ws ws' (.ref o :: As) r)
    (hG : GoodIn lw_all (ws_ y bytes nL' (some rt))) (hl : Cond.methodLinkNest own index y host ∈ lw_tbl) (hini : Cond.initialized y.cls ∈ lw_all) (hin : Cond.instanceMethod y ∈ lw_all) (hsel : Cond.selects Cn y y ∈ lw_all) (hy : y.cls ≠ "java/lang/invoke/MethodHandle" ∧ y.cls ≠ "java/lang/invoke/VarHandle" ∧ (parseMethodDescriptor y.desc).map (fun d => d.parameters.length) = some As.length)
    (q0 ci : Nat) {fs : List Value} {qq : vw_C} (he : ws[q0]? = some (o, .inr (ci, fs))) (hc : vwCl[ci]? = some qq) (hq : qq.1 = Cn) (hd : d' + 1 ≤ d) (hn : nL' ≤ 21) (hcs : cells ≤ R.cells) (hss : slots ≤ R.slots)
    (h : Hw D A s H locs ws) (hls : ls.size = nL) (hst : st = As.reverse ++ .ref o :: rest) (hcat : (rest.map fun v => v.category).sum ≤ 8) (dec : decode cc pc = .ok (.invokevirtual index, 3))
    (kk : ∀ (H : Heap) (locs : List Loc), Hw D A s H locs ws' → W p l e R s m args below meth c H locs cells slots Q (F0 m (pc + 3) ls (.int r :: rest))) : W p l e R s m args below meth c H locs cells slots Q (F0 m pc ls st) := by
  have hA1 : ∀ q : Nat, H.size ≤ q → A q := fun q hq => C.2.2.1 q (Nat.le_trans h.2.2.1 hq)
  have hrv := va_recv C.K h.1 hc he
  rw [hq] at hrv
  subst hst
  refine va_calli (va_runVN (As := As) (rest := rest) C.1 (hM H.size hA1) ⟨va_cnB As.length C.ts hG rfl rfl rfl (C.N.1 _ hl rfl) (C.ts _ hini) hy (C.room hd hn), C.ts _ hin, C.ts _ hsel⟩ ⟨KP.blind, hrv, KP.here C h⟩ rfl rfl hls rfl (lv_room hcat) dec ⟨hcs, hss⟩) h.2.2 (fun q _ h => h) (fun q h => h) (fun r' u t H1 locs1 ht hvm hr hB hz1 hk1 hS => ?_)
  subst hr
  exact kk H1 locs1 ⟨by rw [← ht]; exact hB.1, hB.2, hS⟩
/-- a method found by the object's own class -/
theorem KI.callU {r : Int32} {owner : String} {x : MethodName} (C : Cx p R s m args c cc nL own D ty A d) (hM : KI l y bytes nL' rt d' D ty A ws ws' (.ref o :: As) r)
    (cw : va_CU R s args own Cn owner index x y bytes nL' (some rt) (ws_ y bytes nL' (some rt)) (rmD d') 0 0 As.length)
    (q0 ci : Nat) {fs : List Value} {qq : vw_C} (he : ws[q0]? = some (o, .inr (ci, fs))) (hc : vwCl[ci]? = some qq) (hq : qq.1 = Cn) (hcs : cells ≤ R.cells) (hss : slots ≤ R.slots)
    (h : Hw D A s H locs ws) (hls : ls.size = nL) (hst : st = As.reverse ++ .ref o :: rest) (hcat : (rest.map fun v => v.category).sum ≤ 8) (dec : decode cc pc = .ok (.invokevirtual index, 3))
    (kk : ∀ (H : Heap) (locs : List Loc), Hw D A s H locs ws' → W p l e R s m args below meth c H locs cells slots Q (F0 m (pc + 3) ls (.int r :: rest))) : W p l e R s m args below meth c H locs cells slots Q (F0 m pc ls st) := by
  have hA1 : ∀ q : Nat, H.size ≤ q → A q := fun q hq => C.2.2.1 q (Nat.le_trans h.2.2.1 hq)
  have hrv := va_recv C.K h.1 hc he
  rw [hq] at hrv
  subst hst
  refine va_calli (va_runU (As := As) (rest := rest) C.1 (hM H.size hA1) cw ⟨KP.blind, hrv, KP.here C h⟩ rfl rfl hls rfl (lv_room hcat) dec ⟨hcs, hss⟩) h.2.2 (fun q _ h => h) (fun q h => h) (fun r' u t H1 locs1 ht hvm hr hB hz1 hk1 hS => ?_)
  subst hr
  exact kk H1 locs1 ⟨by rw [← ht]; exact hB.1, hB.2, hS⟩
/-- the super class's method -/
theorem KI.callSU {r : Int32} (C : Cx p R s m args c cc nL own D ty A d) (hM : KI l y bytes nL' rt d' D ty A ws ws' (.ref o :: As) r)
    (hT : GoodIn lw_all (va_wsSU own index y (ws_ y bytes nL' (some rt)))) (hy : y.name ≠ "<init>" ∧ (parseMethodDescriptor y.desc).map (fun d => d.parameters.length) = some As.length)
    (q0 ci : Nat) {fs : List Value} {qq : vw_C} (he : ws[q0]? = some (o, .inr (ci, fs))) (hc : vwCl[ci]? = some qq) (hd : d' + 1 ≤ d) (hn : nL' ≤ 21) (hcs : cells ≤ R.cells) (hss : slots ≤ R.slots)
    (h : Hw D A s H locs ws) (hls : ls.size = nL) (hst : st = As.reverse ++ .ref o :: rest) (hcat : (rest.map fun v => v.category).sum ≤ 8) (dec : decode cc pc = .ok (.invokespecial index, 3))
    (kk : ∀ (H : Heap) (locs : List Loc), Hw D A s H locs ws' → W p l e R s m args below meth c H locs cells slots Q (F0 m (pc + 3) ls (.int r :: rest))) : W p l e R s m args below meth c H locs cells slots Q (F0 m pc ls st) := by
  have hA1 : ∀ q : Nat, H.size ≤ q → A q := fun q hq => C.2.2.1 q (Nat.le_trans h.2.2.1 hq)
  have hrv := va_recv C.K h.1 hc he
  subst hst
  refine va_calli (va_runSU (As := As) (rest := rest) (C.K.1 ci _ hc).2 C.1 (hM H.size hA1) (va_cwSU As.length C.ts hT rfl rfl rfl hy (C.room hd hn)) ⟨KP.blind, hrv, KP.here C h⟩ rfl rfl hls rfl (lv_room hcat) dec ⟨hcs, hss⟩) h.2.2 (fun q _ h => h) (fun q h => h) (fun r' u t H1 locs1 ht hvm hr hB hz1 hk1 hS => ?_)
  subst hr
  exact kk H1 locs1 ⟨by rw [← ht]; exact hB.1, hB.2, hS⟩
end KCALL
