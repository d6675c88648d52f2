set_option maxRecDepth 100000
/-! contracts of methods that make cells -/
def rmG (d mc ms : Nat) : Room := { frames := d, cells := mc, slots := ms, locals := 40 * d }
/-- a method without an answer: it leaves the cells ws' u for some u with P u -/
def KVx {T : Type} (l : Launch) (y : MethodName) (cc : ByteArray) (nL d mc ms : Nat) (D : va_G) (ty : Nat → ClassId) (A : Nat → Prop) (ws : va_W) (As : List Value) (P : T → Prop) (ws' : T → va_W) : Prop :=
  ∀ sz : Nat, (∀ q : Nat, sz ≤ q → A q) → Met l y (ws_ y cc nL none) (rmG d mc ms) (KP D ty A sz ws As) (va_Qv P (fun u t => va_P D vwCl (ws' u) t.heap ∧ va_D A (ws' u)) A) mc ms A
def KIx {T : Type} (l : Launch) (y : MethodName) (cc : ByteArray) (nL : Nat) (rt : FieldType) (d mc ms : Nat) (D : va_G) (ty : Nat → ClassId) (A : Nat → Prop) (ws : va_W) (As : List Value) (P : Int32 → T → Prop) (ws' : T → va_W) : Prop :=
  ∀ sz : Nat, (∀ q : Nat, sz ≤ q → A q) → Met l y (ws_ y cc nL (some rt)) (rmG d mc ms) (KP D ty A sz ws As) (va_Qi P (fun u t => va_P D vwCl (ws' u) t.heap ∧ va_D A (ws' u)) A) mc ms A
/-- a method that answers a cell -/
def KRx {T : Type} (l : Launch) (y : MethodName) (cc : ByteArray) (nL : Nat) (rt : FieldType) (d mc ms : Nat) (D : va_G) (ty : Nat → ClassId) (A : Nat → Prop) (ws : va_W) (As : List Value) (P : T → Prop) (ws' : T → Nat → va_W) : Prop :=
  ∀ sz : Nat, (∀ q : Nat, sz ≤ q → A q) → Met l y (ws_ y cc nL (some rt)) (rmG d mc ms) (KP D ty A sz ws As) (va_Qr P (fun u a t => va_P D vwCl (ws' u a) t.heap ∧ va_D A (ws' u a)) A) mc ms A
section KOFX
variable {T : Type} {l : Launch} {y : MethodName} {cc : ByteArray} {nL d mc ms : Nat} {rt : FieldType} {D : va_G} {ty : Nat → ClassId} {A : Nat → Prop} {ws : va_W} {As : List Value}
theorem KVx.of {P : T → Prop} {ws' : T → va_W} (hy : plainName y.cls = true) (hn : (lg_sl As).length ≤ nL)
    (body : ∀ (p : Program) (e : Env) (R : Room) (s : State) (m : MethodId) (args : Array Value) (below : List Frame) (meth : Method) (c : Code) (Q : State → Prop), Cx p R s m args c cc nL y.cls D ty A d → meth.name = y.name → mc ≤ R.cells → ms ≤ R.slots →
      (∀ (u : T) (H : Heap) (locs : List Loc) (pc : Nat) (ls : Array Slot), P u → Hw D A s H locs (ws' u) → decode cc pc = .ok (.return_, 1) → W p l e R s m args below meth c H locs mc ms Q (F0 m pc ls [])) →
      ∀ (H : Heap) (locs : List Loc) (ls : Array Slot), Hw D A s H locs ws → lv_has ls nL (lv_args 0 As) → W p l e R s m args below meth c H locs 0 0 Q (F0 m 0 ls [])) : KVx l y cc nL d mc ms D ty A ws As P ws' := by
  intro sz hA
  refine Met.ofW (cc := cc) (maxL := nL) (ret := none) hy rfl ?_
  intro p e s m args below meth c s₁ B hml hv
  obtain ⟨rfl, hsz, hP, hK, hD⟩ := hv
  subst hsz
  have hts := atoms_spec (ws := ws_ y cc nL none) B.pre
  have hts : ∀ w ∈ lw_all, w.before _ s = true := fun w h => hts w (List.mem_cons_of_mem _ h)
  have hlocks := B.notSynchronized
  rw [lg_entry_eq]
  refine body p e _ s m As.toArray below meth c _ ⟨⟨B.exec, B.bytes, hml, findClass_of_methodNamed B.named, hts⟩, hK, hA, Nat.le_refl _, Nat.le_refl _⟩ (name_of_methodNamed B.named B.method).1 (Nat.le_refl _) (Nat.le_refl _) ?_ s.heap [] _ ⟨hP, hD, va_S.rf⟩ (lv_entry As hn)
  intro u H locs pc ls hu h hd
  exact W.vret B.exec B.bytes B.returns (fun t ht hW => ⟨⟨u, rfl, hu, by rw [ht]; exact h.1, h.2.1⟩, h.2.2.F ht⟩) h.2.2.2.2 hd
theorem KIx.of {P : Int32 → T → Prop} {ws' : T → va_W} (hy : plainName y.cls = true) (hn : (lg_sl As).length ≤ nL)
    (body : ∀ (p : Program) (e : Env) (R : Room) (s : State) (m : MethodId) (args : Array Value) (below : List Frame) (meth : Method) (c : Code) (Q : State → Prop), Cx p R s m args c cc nL y.cls D ty A d → mc ≤ R.cells → ms ≤ R.slots →
      (∀ (r : Int32) (u : T) (H : Heap) (locs : List Loc) (pc : Nat) (ls : Array Slot), P r u → Hw D A s H locs (ws' u) → narrow rt (.int r) = .int r → decode cc pc = .ok (.ireturn, 1) → W p l e R s m args below meth c H locs mc ms Q (F0 m pc ls [.int r])) →
      ∀ (H : Heap) (locs : List Loc) (ls : Array Slot), Hw D A s H locs ws → lv_has ls nL (lv_args 0 As) → W p l e R s m args below meth c H locs 0 0 Q (F0 m 0 ls [])) : KIx l y cc nL rt d mc ms D ty A ws As P ws' := by
  intro sz hA
  refine Met.ofW (cc := cc) (maxL := nL) (ret := some rt) hy rfl ?_
  intro p e s m args below meth c s₁ B hml hv
  obtain ⟨rfl, hsz, hP, hK, hD⟩ := hv
  subst hsz
  have hts := atoms_spec (ws := ws_ y cc nL (some rt)) B.pre
  have hts : ∀ w ∈ lw_all, w.before _ s = true := fun w h => hts w (List.mem_cons_of_mem _ h)
  have hlocks := B.notSynchronized
  rw [lg_entry_eq]
  refine body p e _ s m As.toArray below meth c _ ⟨⟨B.exec, B.bytes, hml, findClass_of_methodNamed B.named, hts⟩, hK, hA, Nat.le_refl _, Nat.le_refl _⟩ (Nat.le_refl _) (Nat.le_refl _) ?_ s.heap [] _ ⟨hP, hD, va_S.rf⟩ (lv_entry As hn)
  intro r u H locs pc ls hu h hnr hd
  exact W.zret (v := r) B.exec B.bytes B.returns hnr (fun t ht hW => ⟨⟨r, u, rfl, hu, by rw [ht]; exact h.1, h.2.1⟩, h.2.2.F ht⟩) h.2.2.2.2 hd
theorem KRx.of {P : T → Prop} {ws' : T → Nat → va_W} (hy : plainName y.cls = true) (hrt : (∃ n, rt = .object n) ∨ ∃ t, rt = .array t) (hn : (lg_sl As).length ≤ nL)
    (body : ∀ (p : Program) (e : Env) (R : Room) (s : State) (m : MethodId) (args : Array Value) (below : List Frame) (meth : Method) (c : Code) (Q : State → Prop), Cx p R s m args c cc nL y.cls D ty A d → mc ≤ R.cells → ms ≤ R.slots →
      (∀ (u : T) (a : Nat) (H : Heap) (locs : List Loc) (pc : Nat) (ls : Array Slot), P u → Hw D A s H locs (ws' u a) → decode cc pc = .ok (.areturn, 1) → W p l e R s m args below meth c H locs mc ms Q (F0 m pc ls [.ref a])) →
      ∀ (H : Heap) (locs : List Loc) (ls : Array Slot), Hw D A s H locs ws → lv_has ls nL (lv_args 0 As) → W p l e R s m args below meth c H locs 0 0 Q (F0 m 0 ls [])) : KRx l y cc nL rt d mc ms D ty A ws As P ws' := by
  intro sz hA
  refine Met.ofW (cc := cc) (maxL := nL) (ret := some rt) hy rfl ?_
  intro p e s m args below meth c s₁ B hml hv
  obtain ⟨rfl, hsz, hP, hK, hD⟩ := hv
  subst hsz
  have hts := atoms_spec (ws := ws_ y cc nL (some rt)) B.pre
  have hts : ∀ w ∈ lw_all, w.before _ s = true := fun w h => hts w (List.mem_cons_of_mem _ h)
  have hlocks := B.notSynchronized
  rw [lg_entry_eq]
  refine body p e _ s m As.toArray below meth c _ ⟨⟨B.exec, B.bytes, hml, findClass_of_methodNamed B.named, hts⟩, hK, hA, Nat.le_refl _, Nat.le_refl _⟩ (Nat.le_refl _) (Nat.le_refl _) ?_ s.heap [] _ ⟨hP, hD, va_S.rf⟩ (lv_entry As hn)
  intro u a H locs pc ls hu h hd
  exact W.aret (v := .ref a) B.exec B.bytes B.returns hrt (Or.inr ⟨a, rfl⟩) (fun t ht hW => ⟨⟨u, a, rfl, hu, by rw [ht]; exact h.1, h.2.1⟩, h.2.2.F ht⟩) h.2.2.2.2 hd
end KOFX
/-- the cells of ws and all from sz on -/
def cA (ws : va_W) (sz : Nat) : Nat → Prop := va_A ws sz
theorem va_D.appL {A : Nat → Prop} {w1 w2 : va_W} (h : va_D A (w1 ++ w2)) : va_D A w1 := by
  refine ⟨fun i j x y hi hj e => ?_, fun k q hk => ?_⟩
  · exact h.1 i j x y (by rw [List.getElem?_append_left (List.getElem?_eq_some_iff.mp hi).1]; exact hi) (by rw [List.getElem?_append_left (List.getElem?_eq_some_iff.mp hj).1]; exact hj) e
  · exact h.2 k q (by rw [List.getElem?_append_left (List.getElem?_eq_some_iff.mp hk).1]; exact hk)
theorem va_D.appR {A : Nat → Prop} {w1 w2 : va_W} (h : va_D A (w1 ++ w2)) : va_D A w2 := by
  have e : ∀ (k : Nat), (w1 ++ w2)[w1.length + k]? = w2[k]? := fun k => by rw [List.getElem?_append_right (by omega)]; congr 1; omega
  refine ⟨fun i j x y hi hj e1 => ?_, fun k q hk => ?_⟩
  · have := h.1 (w1.length + i) (w1.length + j) x y (by rw [e]; exact hi) (by rw [e]; exact hj) e1
    omega
  · exact h.2 (w1.length + k) q (by rw [e]; exact hk)
theorem va_P.appL {D : va_G} {cl : List vw_C} {w1 w2 : va_W} {H : Heap} (h : va_P D cl (w1 ++ w2) H) : va_P D cl w1 H := fun k q hk => h k q (by rw [List.getElem?_append_left (List.getElem?_eq_some_iff.mp hk).1]; exact hk)
theorem va_P.appR {D : va_G} {cl : List vw_C} {w1 w2 : va_W} {H : Heap} (h : va_P D cl (w1 ++ w2) H) : va_P D cl w2 H := fun k q hk => h (w1.length + k) q (by rw [List.getElem?_append_right (by omega)]; rw [show w1.length + k - w1.length = k by omega]; exact hk)
theorem va_P.ofMem {D : va_G} {cl : List vw_C} {w1 w2 : va_W} {H : Heap} (hm : ∀ q, q ∈ w2 → q ∈ w1) (h : va_P D cl w1 H) : va_P D cl w2 H := fun k q hk => by
  obtain ⟨i, hi⟩ := List.getElem?_of_mem (hm q (List.mem_of_getElem? hk))
  exact h i q hi
theorem va_D.nodup {A : Nat → Prop} {ws : va_W} : va_D A ws ↔ (ws.map Prod.fst).Nodup ∧ ∀ q ∈ ws, A q.1 := by
  unfold List.Nodup
  rw [List.pairwise_iff_getElem]
  constructor
  · intro h
    refine ⟨fun i j hi hj hij e => ?_, fun q hq => ?_⟩
    · have hj' : j < ws.length := by simpa using hj
      have hi' : i < ws.length := by simpa using hi
      have := h.1 i j ws[i] ws[j] (List.getElem?_eq_getElem hi') (List.getElem?_eq_getElem hj') (by simpa using e)
      omega
    · obtain ⟨i, hi⟩ := List.getElem?_of_mem hq
      exact h.2 i q hi
  · rintro ⟨h1, h2⟩
    refine ⟨fun i j x y hi hj e => ?_, fun k q hk => h2 q (List.mem_of_getElem? hk)⟩
    obtain ⟨hi', ei⟩ := List.getElem?_eq_some_iff.mp hi
    obtain ⟨hj', ej⟩ := List.getElem?_eq_some_iff.mp hj
    rcases Nat.lt_trichotomy i j with hh | hh | hh
    · exact (h1 i j (by simpa using hi') (by simpa using hj') hh (by simp [ei, ej, e])).elim
    · exact hh
    · exact (h1 j i (by simpa using hj') (by simpa using hi') hh (by simp [ei, ej, e])).elim
theorem Hw.perm {D : va_G} {A : Nat → Prop} {s : State} {H : Heap} {locs : List Loc} {w1 w2 : va_W} (hp : w1.Perm w2) (h : Hw D A s H locs w1) : Hw D A s H locs w2 := by
  refine ⟨h.1.ofMem (fun q hq => hp.mem_iff.mpr hq), ?_, h.2.2⟩
  have h2 := va_D.nodup.mp h.2.1
  exact va_D.nodup.mpr ⟨(hp.map Prod.fst).nodup_iff.mp h2.1, fun q hq => h2.2 q (hp.mem_iff.mpr hq)⟩
theorem Hw.swap {D : va_G} {A : Nat → Prop} {s : State} {H : Heap} {locs : List Loc} {w1 w2 : va_W} (h : Hw D A s H locs (w1 ++ w2)) : Hw D A s H locs (w2 ++ w1) := h.perm List.perm_append_comm
theorem Hw.left {D : va_G} {A : Nat → Prop} {s : State} {H : Heap} {locs : List Loc} {w1 w2 : va_W} (h : Hw D A s H locs (w1 ++ w2)) : Hw D A s H locs w1 := ⟨h.1.appL, h.2.1.appL, h.2.2⟩
theorem Hw.right {D : va_G} {A : Nat → Prop} {s : State} {H : Heap} {locs : List Loc} {w1 w2 : va_W} (h : Hw D A s H locs (w1 ++ w2)) : Hw D A s H locs w2 := ⟨h.1.appR, h.2.1.appR, h.2.2⟩
theorem Hw.free {D : va_G} {A : Nat → Prop} {s : State} {H : Heap} {locs : List Loc} {wr wc : va_W} (h : Hw D A s H locs (wr ++ wc)) (hA : ∀ q : Nat, s.heap.size ≤ q → A q) : ∀ q, va_A wc H.size q → A q := by
  intro q hq
  rcases hq with ⟨k, e, hk⟩ | hq
  · exact h.2.1.appR.2 k (q, e) hk
  · exact hA q (Nat.le_trans h.2.2.1 hq)
theorem Hw.join {D : va_G} {A : Nat → Prop} {s : State} {H H1 : Heap} {locs locs1 : List Loc} {wr wc w1 : va_W} (h : Hw D A s H locs (wr ++ wc)) (hk : ∀ q : Nat, q < H.size → ¬ va_A wc H.size q → H1[q]? = H[q]?) (hF : ∀ q, va_A wc H.size q → A q) (hP1 : va_P D vwCl w1 H1) (hD1 : va_D (va_A wc H.size) w1) (hS : va_S A s.heap H1 locs1) : Hw D A s H1 locs1 (wr ++ w1) := by
  have apart : ∀ (k : Nat) (q : Nat × va_E), wr[k]? = some q → q.1 < H.size ∧ ¬ va_A wc H.size q.1 := by
    intro k q hq
    have hl := (h.1.appL k q hq).lt
    refine ⟨hl, fun hh => ?_⟩
    rcases hh with ⟨k2, e, h2⟩ | hh
    · have hk' := (List.getElem?_eq_some_iff.mp hq).1
      have := h.2.1.1 k (wr.length + k2) q (q.1, e) (by rw [List.getElem?_append_left hk']; exact hq) (by rw [List.getElem?_append_right (by omega)]; rw [show wr.length + k2 - wr.length = k2 by omega]; exact h2) rfl
      omega
    · omega
  refine ⟨va_P.app (fun k q hq => ?_) hP1, va_D.app h.2.1.appL (hD1.weaken (fun k q _ hh => hF q.1 hh)) (fun i j x y hx hy hxy => ?_), hS⟩
  · obtain ⟨g1, g2⟩ := apart k q hq
    exact (h.1.appL k q hq).kept (hk q.1 g1 g2)
  · exact (apart i x hx).2 (by rw [hxy]; exact hD1.2 j y hy)
section KGO
variable {T : Type} {p : Program} {l : Launch} {e : Env} {R : Room} {s : State} {m : MethodId} {args : Array Value} {below : List Frame} {meth : Method} {c : Code} {H : Heap} {locs : List Loc} {cells slots : Nat} {Q : State → Prop} {cc : ByteArray} {pc : Nat} {ls : Array Slot} {st rest : List Value} {nL d mc ms : Nat} {ow : String} {D : va_G} {ty : Nat → ClassId} {A : Nat → Prop} {wr wc : va_W} {a : Array Value} {As : List Value}
theorem KP.part (C : Cx p R s m args c cc nL ow D ty A d) (h : Hw D A s H locs (wr ++ wc)) : ∀ U : State, U.heap = H → s.WarmedH U.vm → KP D ty (va_A wc H.size) H.size wc As As.toArray U := fun U hU hW => ⟨rfl, by rw [hU], by rw [hU]; exact h.1.appR, ⟨va_K.moved hW.alike C.K, C.N.warm hW, EX.warm hW (EX.narrow (h.free C.2.2.1) (by rw [hU]; exact EX.kept h.2.2.2.1 C.2.1.2.2))⟩, h.2.1.appR.self⟩
theorem Cx.roomG {nL' d' : Nat} (C : Cx p R s m args c cc nL ow D ty A d) (hd : d' + 1 ≤ d) (hn : nL' ≤ 21) : (rmG d' mc ms).frames + 1 ≤ R.frames ∧ 8 + (nL' + 11) + (rmG d' mc ms).locals ≤ R.locals := by
  have h1 := C.2.2.2.1
  have h2 := C.2.2.2.2
  constructor
  · show d' + 1 ≤ R.frames
    omega
  · show 8 + (nL' + 11) + 40 * d' ≤ R.locals
    omega
theorem KVx.go {P : T → Prop} {ws' : T → va_W} (C : Cx p R s m args c cc nL ow D ty A d) (h : Hw D A s H locs (wr ++ wc)) (hr : va_Run p l e R s m args below meth c H locs cells slots mc ms (F0 m pc ls st) rest (va_Qv P (fun u t => va_P D vwCl (ws' u) t.heap ∧ va_D (va_A wc H.size) (ws' u)) (va_A wc H.size) a) (va_A wc H.size))
    (kk : ∀ (u : T) (H : Heap) (locs : List Loc), P u → Hw D A s H locs (wr ++ ws' u) → W p l e R s m args below meth c H locs (cells + mc) (slots + ms) Q (F0 m (pc + 3) ls rest)) : W p l e R s m args below meth c H locs cells slots Q (F0 m pc ls st) :=
  va_callv hr h.2.2 (fun q _ hq => h.free C.2.2.1 q hq) (h.free C.2.2.1) (fun u t H1 locs1 ht hvm hu hB hz1 hk1 hS => kk u H1 locs1 hu (h.join hk1 (h.free C.2.2.1) (by rw [← ht]; exact hB.1) hB.2 hS))
theorem KIx.go {P : Int32 → T → Prop} {ws' : T → va_W} (C : Cx p R s m args c cc nL ow D ty A d) (h : Hw D A s H locs (wr ++ wc)) (hr : va_Run p l e R s m args below meth c H locs cells slots mc ms (F0 m pc ls st) rest (va_Qi P (fun u t => va_P D vwCl (ws' u) t.heap ∧ va_D (va_A wc H.size) (ws' u)) (va_A wc H.size) a) (va_A wc H.size))
    (kk : ∀ (r : Int32) (u : T) (H : Heap) (locs : List Loc), P r u → Hw D A s H locs (wr ++ ws' u) → W p l e R s m args below meth c H locs (cells + mc) (slots + ms) Q (F0 m (pc + 3) ls (.int r :: rest))) : W p l e R s m args below meth c H locs cells slots Q (F0 m pc ls st) :=
  va_calli hr h.2.2 (fun q _ hq => h.free C.2.2.1 q hq) (h.free C.2.2.1) (fun r u t H1 locs1 ht hvm hu hB hz1 hk1 hS => kk r u H1 locs1 hu (h.join hk1 (h.free C.2.2.1) (by rw [← ht]; exact hB.1) hB.2 hS))
theorem KRx.go {P : T → Prop} {ws' : T → Nat → va_W} (C : Cx p R s m args c cc nL ow D ty A d) (h : Hw D A s H locs (wr ++ wc)) (hr : va_Run p l e R s m args below meth c H locs cells slots mc ms (F0 m pc ls st) rest (va_Qr P (fun u a t => va_P D vwCl (ws' u a) t.heap ∧ va_D (va_A wc H.size) (ws' u a)) (va_A wc H.size) a) (va_A wc H.size))
    (kk : ∀ (u : T) (ra : Nat) (H : Heap) (locs : List Loc), P u → Hw D A s H locs (wr ++ ws' u ra) → W p l e R s m args below meth c H locs (cells + mc) (slots + ms) Q (F0 m (pc + 3) ls (.ref ra :: rest))) : W p l e R s m args below meth c H locs cells slots Q (F0 m pc ls st) :=
  va_callr hr h.2.2 (fun q _ hq => h.free C.2.2.1 q hq) (h.free C.2.2.1) (fun u ra t H1 locs1 ht hvm hu hB hz1 hk1 hS => kk u ra H1 locs1 hu (h.join hk1 (h.free C.2.2.1) (by rw [← ht]; exact hB.1) hB.2 hS))
/-- a constructor's call: what is behind the new object's cells wc stays -/
theorem KVx.callI {y : MethodName} {bytes : ByteArray} {nL' d' index b : Nat} {P : T → Prop} {ws' : T → va_W} (C : Cx p R s m args c cc nL ow D ty A d) (hM : ∀ A : Nat → Prop, KVx l y bytes nL' d' mc ms D ty A wc (.ref b :: As) P ws')
    (hG : Cond.code y bytes nL' none ∈ lw_all) (hini : Cond.initialized y.cls ∈ lw_all) (hl : Cond.methodLink ow index y ∈ lw_all) (hin : Cond.instanceMethod y ∈ lw_all) (hyn : y.name = "<init>") (hy : y.cls ≠ "java/lang/invoke/MethodHandle" ∧ y.cls ≠ "java/lang/invoke/VarHandle" ∧ (parseMethodDescriptor y.desc).map (fun d => d.parameters.length) = some As.length)
    (hd : d' + 1 ≤ d) (hn : nL' ≤ 21) (hcs : cells + mc ≤ R.cells) (hss : slots + ms ≤ R.slots)
    (h : Hw D A s H locs (wr ++ wc)) (hls : ls.size = nL) (hst : st = As.reverse ++ .ref b :: rest) (hcat : (rest.map fun v => v.category).sum ≤ 8) (dec : decode cc pc = .ok (.invokespecial index, 3))
    (kk : ∀ (u : T) (H : Heap) (locs : List Loc), P u → Hw D A s H locs (wr ++ ws' u) → W p l e R s m args below meth c H locs (cells + mc) (slots + ms) Q (F0 m (pc + 3) ls rest)) : W p l e R s m args below meth c H locs cells slots Q (F0 m pc ls st) := by
  subst hst
  exact KVx.go C h (va_runI (As := As) (rest := rest) C.1 (hM _ H.size (fun q hq => Or.inr hq)) (cwI As.length C.ts (lw_meth hG) rfl rfl rfl (C.ts _ hini) (C.ts _ hl) (C.ts _ hin) hyn hy (C.roomG hd hn)) ⟨KP.blind, KP.part C h⟩ rfl rfl hls rfl (lv_room hcat) dec ⟨hcs, hss⟩) kk
theorem KVx.callIN {host : String} {y : MethodName} {bytes : ByteArray} {nL' d' index b : Nat} {P : T → Prop} {ws' : T → va_W} (C : Cx p R s m args c cc nL ow D ty A d) (hM : ∀ A : Nat → Prop, KVx l y bytes nL' d' mc ms D ty A wc (.ref b :: As) P ws')
    (hG : Cond.code y bytes nL' none ∈ lw_all) (hini : Cond.initialized y.cls ∈ lw_all) (hl : Cond.methodLinkNest ow index y host ∈ lw_tbl) (hin : Cond.instanceMethod y ∈ lw_all) (hyn : y.name = "<init>") (hy : y.cls ≠ "java/lang/invoke/MethodHandle" ∧ y.cls ≠ "java/lang/invoke/VarHandle" ∧ (parseMethodDescriptor y.desc).map (fun d => d.parameters.length) = some As.length)
    (hd : d' + 1 ≤ d) (hn : nL' ≤ 21) (hcs : cells + mc ≤ R.cells) (hss : slots + ms ≤ R.slots)
    (h : Hw D A s H locs (wr ++ wc)) (hls : ls.size = nL) (hst : st = As.reverse ++ .ref b :: rest) (hcat : (rest.map fun v => v.category).sum ≤ 8) (dec : decode cc pc = .ok (.invokespecial index, 3))
    (kk : ∀ (u : T) (H : Heap) (locs : List Loc), P u → Hw D A s H locs (wr ++ ws' u) → W p l e R s m args below meth c H locs (cells + mc) (slots + ms) Q (F0 m (pc + 3) ls rest)) : W p l e R s m args below meth c H locs cells slots Q (F0 m pc ls st) := by
  subst hst
  exact KVx.go C h (va_runIN (As := As) (rest := rest) C.1 (hM _ H.size (fun q hq => Or.inr hq)) ⟨va_cnB As.length C.ts (lw_meth hG) rfl rfl rfl (C.N.1 _ hl rfl) (C.ts _ hini) hy (C.roomG hd hn), hyn, C.ts _ hin⟩ ⟨KP.blind, KP.part C h⟩ rfl rfl hls rfl (lv_room hcat) dec ⟨hcs, hss⟩) kk
end KGO
/-! rows that make cells -/
def adL (l : List (Nat × Nat)) (k : Nat) : Nat := match l with
  | [] => 0
  | (a, b) :: t => if k = a then b else adL t k
section NEWS
variable {p : Program} {l : Launch} {e : Env} {R : Room} {s : State} {m : MethodId} {args : Array Value} {below : List Frame} {meth : Method} {c : Code} {H : Heap} {locs : List Loc} {cells slots : Nat} {Q : State → Prop} {cc : ByteArray} {pc : Nat} {ls : Array Slot} {st : List Value} {nL d : Nat} {ow : String} {D : va_G} {ty : Nat → ClassId} {A : Nat → Prop} {ws : va_W}
theorem n_arr_int (C : Cx p R s m args c cc nL ow D ty A d) (h : Hw D A s H locs ws) {n : Int32} {N : Nat} (hn : ¬ n < 0) (hN : n.toNatClampNeg = N) (hb : N * componentBytes .int ≤ 536870912) (hcs : cells + 1 ≤ R.cells) (hss : slots + N ≤ R.slots) (dec : decode cc pc = .ok (.newarray .int, 2)) (kk : ∀ (q : Nat) (H : Heap), Hw D A s H locs (ws ++ [(q, .inl (ty 0, N, .inl (fun _ => 0)))]) → W p l e R s m args below meth c H locs (cells + 1) (slots + N) Q (F0 m (pc + 2) ls (.ref q :: st))) : W p l e R s m args below meth c H locs cells slots Q (F0 m pc ls (.int n :: st)) := by
  refine va_newa (atype := .int) (a0 := (N, .inl (fun _ => 0))) C.x C.b (C.ts _ q259) rfl C.K h.1 h.2.1 h.2.2 C.2.2.1 (fun _ => rfl) hn hN hb hcs hss dec (fun q cA H1 hK hP hD hS => ?_)
  have e9 : cA = ty 0 := Option.some.inj ((hK.2 8 (cA, .int) rfl).2.symm.trans (C.K.2 0 (ty 0, .int) rfl).2)
  subst e9
  exact kk q H1 ⟨hP, hD, hS⟩
theorem n_arr_byte (C : Cx p R s m args c cc nL ow D ty A d) (h : Hw D A s H locs ws) {n : Int32} {N : Nat} (hn : ¬ n < 0) (hN : n.toNatClampNeg = N) (hb : N * componentBytes .byte ≤ 536870912) (hcs : cells + 1 ≤ R.cells) (hss : slots + N ≤ R.slots) (dec : decode cc pc = .ok (.newarray .byte, 2)) (kk : ∀ (q : Nat) (H : Heap), Hw D A s H locs (ws ++ [(q, .inl (ty 1, N, .inl (fun _ => 0)))]) → W p l e R s m args below meth c H locs (cells + 1) (slots + N) Q (F0 m (pc + 2) ls (.ref q :: st))) : W p l e R s m args below meth c H locs cells slots Q (F0 m pc ls (.int n :: st)) := by
  refine va_newa (atype := .byte) (a0 := (N, .inl (fun _ => 0))) C.x C.b (C.ts _ q271) rfl C.K h.1 h.2.1 h.2.2 C.2.2.1 (fun _ => rfl) hn hN hb hcs hss dec (fun q cA H1 hK hP hD hS => ?_)
  have e9 : cA = ty 1 := Option.some.inj ((hK.2 8 (cA, .byte) rfl).2.symm.trans (C.K.2 1 (ty 1, .byte) rfl).2)
  subst e9
  exact kk q H1 ⟨hP, hD, hS⟩
theorem n_arr_short (C : Cx p R s m args c cc nL ow D ty A d) (h : Hw D A s H locs ws) {n : Int32} {N : Nat} (hn : ¬ n < 0) (hN : n.toNatClampNeg = N) (hb : N * componentBytes .short ≤ 536870912) (hcs : cells + 1 ≤ R.cells) (hss : slots + N ≤ R.slots) (dec : decode cc pc = .ok (.newarray .short, 2)) (kk : ∀ (q : Nat) (H : Heap), Hw D A s H locs (ws ++ [(q, .inl (ty 2, N, .inl (fun _ => 0)))]) → W p l e R s m args below meth c H locs (cells + 1) (slots + N) Q (F0 m (pc + 2) ls (.ref q :: st))) : W p l e R s m args below meth c H locs cells slots Q (F0 m pc ls (.int n :: st)) := by
  refine va_newa (atype := .short) (a0 := (N, .inl (fun _ => 0))) C.x C.b (C.ts _ q1484) rfl C.K h.1 h.2.1 h.2.2 C.2.2.1 (fun _ => rfl) hn hN hb hcs hss dec (fun q cA H1 hK hP hD hS => ?_)
  have e9 : cA = ty 2 := Option.some.inj ((hK.2 8 (cA, .short) rfl).2.symm.trans (C.K.2 2 (ty 2, .short) rfl).2)
  subst e9
  exact kk q H1 ⟨hP, hD, hS⟩
theorem n_arr_long (C : Cx p R s m args c cc nL ow D ty A d) (h : Hw D A s H locs ws) {n : Int32} {N : Nat} (hn : ¬ n < 0) (hN : n.toNatClampNeg = N) (hb : N * componentBytes .long ≤ 536870912) (hcs : cells + 1 ≤ R.cells) (hss : slots + N ≤ R.slots) (dec : decode cc pc = .ok (.newarray .long, 2)) (kk : ∀ (q : Nat) (H : Heap), Hw D A s H locs (ws ++ [(q, .inl (ty 3, N, .inr (.inl (fun _ => 0))))]) → W p l e R s m args below meth c H locs (cells + 1) (slots + N) Q (F0 m (pc + 2) ls (.ref q :: st))) : W p l e R s m args below meth c H locs cells slots Q (F0 m pc ls (.int n :: st)) := by
  refine va_newa (atype := .long) (a0 := (N, .inr (.inl (fun _ => 0)))) C.x C.b (C.ts _ q1485) rfl C.K h.1 h.2.1 h.2.2 C.2.2.1 (fun _ => rfl) hn hN hb hcs hss dec (fun q cA H1 hK hP hD hS => ?_)
  have e9 : cA = ty 3 := Option.some.inj ((hK.2 8 (cA, .long) rfl).2.symm.trans (C.K.2 3 (ty 3, .long) rfl).2)
  subst e9
  exact kk q H1 ⟨hP, hD, hS⟩
theorem n_arr_boolean (C : Cx p R s m args c cc nL ow D ty A d) (h : Hw D A s H locs ws) {n : Int32} {N : Nat} (hn : ¬ n < 0) (hN : n.toNatClampNeg = N) (hb : N * componentBytes .boolean ≤ 536870912) (hcs : cells + 1 ≤ R.cells) (hss : slots + N ≤ R.slots) (dec : decode cc pc = .ok (.newarray .boolean, 2)) (kk : ∀ (q : Nat) (H : Heap), Hw D A s H locs (ws ++ [(q, .inl (ty 4, N, .inl (fun _ => 0)))]) → W p l e R s m args below meth c H locs (cells + 1) (slots + N) Q (F0 m (pc + 2) ls (.ref q :: st))) : W p l e R s m args below meth c H locs cells slots Q (F0 m pc ls (.int n :: st)) := by
  refine va_newa (atype := .boolean) (a0 := (N, .inl (fun _ => 0))) C.x C.b (C.ts _ q1656) rfl C.K h.1 h.2.1 h.2.2 C.2.2.1 (fun _ => rfl) hn hN hb hcs hss dec (fun q cA H1 hK hP hD hS => ?_)
  have e9 : cA = ty 4 := Option.some.inj ((hK.2 8 (cA, .boolean) rfl).2.symm.trans (C.K.2 4 (ty 4, .boolean) rfl).2)
  subst e9
  exact kk q H1 ⟨hP, hD, hS⟩
end NEWS
