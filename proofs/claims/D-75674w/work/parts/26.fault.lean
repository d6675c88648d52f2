set_option maxRecDepth 100000
/-! contracts of methods that answer or throw a Fault: what they do is known ahead (res) -/
def cmc {α β : Type} : α ⊕ β → Nat
  | .inl _ => 0
  | .inr _ => 1
def cms {α β : Type} : α ⊕ β → Nat
  | .inl _ => 0
  | .inr _ => 8
theorem fault_cell {D : va_G} {ty : Nat → ClassId} {A : Nat → Prop} {s : State} {H : Heap} {locs : List Loc} {w : va_W} {q9 : Nat} {k pl : Int32} (hK : va_K D vwCl (tys ty) s) (h : Hw D A s H locs (w ++ [cFault q9 k pl])) : ∃ ce : Cell, H[q9]? = some ce ∧ ce.vm = .none ∧ s.vm.findClass "LehrBelt$Fault" = some ce.cls := by
  have he : (w ++ [cFault q9 k pl])[w.length]? = some (cFault q9 k pl) := by rw [List.getElem?_append_right (Nat.le_refl _)]; simp
  obtain ⟨q', h1, cell, g1, g2, g3, -⟩ := h.1 w.length _ he
  refine ⟨cell, g1, g3, ?_⟩
  have := (hK.1 9 _ rfl).2.1
  rw [g2]; exact this
def KFi (l : Launch) (y : MethodName) (cc : ByteArray) (nL : Nat) (rt : FieldType) (d : Nat) (D : va_G) (ty : Nat → ClassId) (A : Nat → Prop) (ws : va_W) (As : List Value) (wf : PS → va_W) (res : ((Int32 × PS) ⊕ (Int32 × Int32 × PS))) : Prop :=
  ∀ sz : Nat, (∀ q : Nat, sz ≤ q → A q) → vy_Met l y (ws_ y cc nL (some rt)) (rmG d (cmc res) (cms res)) (KP D ty A sz ws As) (va_Qi (fun r (x : PS) => res = .inl (r, x)) (fun x t => va_P D vwCl (wf x) t.heap ∧ va_D A (wf x)) A) (vy_X (fun (u : Int32 × Int32 × PS) => res = .inr u) (fun E q u t => E = "LehrBelt$Fault" ∧ va_P D vwCl (wf u.2.2 ++ [cFault q u.1 u.2.1]) t.heap ∧ va_D A (wf u.2.2 ++ [cFault q u.1 u.2.1])) A) (cmc res) (cms res) A
theorem KFi.of {l : Launch} {y : MethodName} {cc : ByteArray} {nL d : Nat} {rt : FieldType} {D : va_G} {ty : Nat → ClassId} {A : Nat → Prop} {ws : va_W} {As : List Value} {wf : PS → va_W} {res : ((Int32 × PS) ⊕ (Int32 × Int32 × PS))} (hy : plainName y.cls = true) (hn : (lg_sl As).length ≤ nL)
    (body : ∀ (p : Program) (e : Env) (R : Room) (s : State) (m : MethodId) (args : Array Value) (below : List Frame) (meth : Method) (c : Code) (Q : State → Prop), Cx p R s m args c cc nL y.cls D ty A d → cmc res ≤ R.cells → cms res ≤ R.slots →
      (∀ (r : Int32) (x : PS) (H : Heap) (locs : List Loc) (pc : Nat) (ls : Array Slot), res = .inl (r, x) → Hw D A s H locs (wf x) → narrow rt (.int r) = .int r → decode cc pc = .ok (.ireturn, 1) → W p l e R s m args below meth c H locs (cmc res) (cms res) Q (F0 m pc ls [.int r])) → (∀ (u : Int32 × Int32 × PS) (H : Heap) (locs : List Loc) (pc : Nat) (ls : Array Slot) (rest : List Value) (q9 : Nat), res = .inr u → Hw D A s H locs (wf u.2.2 ++ [cFault q9 u.1 u.2.1]) → vx_W p l e R s m args below meth c H locs (cmc res) (cms res) Q (F0 m pc ls rest) q9) →
      ∀ (H : Heap) (locs : List Loc) (ls : Array Slot), Hw D A s H locs ws → lv_has ls nL (lv_args 0 As) → W p l e R s m args below meth c H locs 0 0 Q (F0 m 0 ls [])) : KFi l y cc nL rt d D ty A ws As wf res := by
  intro sz hA
  refine vy_ofW (cc := cc) (maxL := nL) (ret := (some rt)) hy rfl ?_
  intro p e s m args below meth c s₁ B hml htab hv
  obtain ⟨rfl, hsz, hP, hK, hD⟩ := hv
  subst hsz
  have hts := atoms_spec (ws := ws_ y cc nL (some rt)) B.pre
  have hts : ∀ w ∈ lw_all, w.before _ s = true := fun w h => hts w (List.mem_cons_of_mem _ h)
  rw [lg_entry_eq]
  refine body p e _ s m As.toArray below meth c _ ⟨⟨B.exec, B.bytes, hml, findClass_of_methodNamed B.named, hts⟩, hK, hA, Nat.le_refl _, Nat.le_refl _⟩ (Nat.le_refl _) (Nat.le_refl _) ?_ ?_ s.heap [] _ ⟨hP, hD, va_S.rf⟩ (lv_entry As hn)
  · intro r x H locs pc ls hx h hnr hd
    exact vy_ret (W.zret (v := r) B.exec B.bytes B.returns hnr (fun t ht hW => ⟨⟨r, x, rfl, hx, by rw [ht]; exact h.1, h.2.1⟩, h.2.2.F ht⟩) h.2.2.2.2 hd)
  · intro u H locs pc ls rest q9 hu h
    obtain ⟨cell, g1, g2, g3⟩ := fault_cell hK.1 h
    exact vy_out (fun x hx => (htab x hx).elim) B.notSynchronized g1 g2 g3 (fun t ht hW => ⟨u, hu, ⟨rfl, by rw [ht]; exact h.1, h.2.1⟩, h.2.2.F ht⟩) h.2.2.2.2 (Nat.le_refl _) (Nat.le_refl _)
theorem KFi.callOk {p : Program} {l : Launch} {e : Env} {R : Room} {s : State} {m : MethodId} {args : Array Value} {below : List Frame} {meth : Method} {c : Code} {H : Heap} {locs : List Loc} {cells slots : Nat} {Q : State → Prop} {cc : ByteArray} {pc : Nat} {ls : Array Slot} {st rest : List Value} {nL d : Nat} {ow : String} {D : va_G} {ty : Nat → ClassId} {A : Nat → Prop} {y : MethodName} {bytes : ByteArray} {nL' d' index : Nat} {rt : FieldType} {ws : va_W} {As : List Value} {o : Nat} {Cn : String} {wf : PS → va_W} {r : Int32} {x : PS} (C : Cx p R s m args c cc nL ow D ty A d) (hM : KFi l y bytes nL' rt d' D ty A ws (.ref o :: As) wf (.inl (r, x)))
    (hT : GoodIn lw_all (wsV ow index Cn y (ws_ y bytes nL' (some rt)))) (hy : y.cls = Cn ∧ y.cls ≠ "java/lang/invoke/MethodHandle" ∧ y.cls ≠ "java/lang/invoke/VarHandle" ∧ (parseMethodDescriptor y.desc).map (fun d => d.parameters.length) = some As.length)
    (q0 ci : Nat) {fs : List Value} {qq : vw_C} (he : ws[q0]? = some (o, .inr (ci, fs))) (hc : vwCl[ci]? = some qq) (hq : qq.1 = Cn) (hd : d' + 1 ≤ d) (hn : nL' ≤ 21) (hcs : cells + 0 ≤ R.cells) (hss : slots + 0 ≤ R.slots)
    (h : Hw D A s H locs ws) (hls : ls.size = nL) (hst : st = As.reverse ++ .ref o :: rest) (hcat : (rest.map fun v => v.category).sum ≤ 8) (dec : decode cc pc = .ok (.invokevirtual index, 3))
    (kk : ∀ (H : Heap) (locs : List Loc), Hw D A s H locs (wf x) → W p l e R s m args below meth c H locs cells slots Q (F0 m (pc + 3) ls ((.int r :: rest)))) : W p l e R s m args below meth c H locs cells slots Q (F0 m pc ls st) := by
  have hA1 : ∀ q : Nat, H.size ≤ q → A q := fun q hq => C.2.2.1 q (Nat.le_trans h.2.2.1 hq)
  have hrv := va_recv C.K h.1 hc he
  rw [hq] at hrv
  subst hst
  exact vy_calli (vy_runV (As := As) (rest := rest) C.1 (hM H.size hA1) (cwV As.length C.ts hT rfl rfl rfl hy (C.roomG hd hn)) ⟨KP.blind, hrv, KP.here C h⟩ rfl rfl hls rfl (lv_room hcat) dec ⟨hcs, hss⟩) h.2.2 (fun q _ h => h) (fun q h => h) (fun q _ h => h) (fun E ce q9 u t H1 locs1 ht hvm hu hB hz1 hk1 hS h1 h2 h3 => nomatch hu) (fun r' x' t H1 locs1 ht hvm hr hB hz1 hk1 hS => by cases hr; exact kk H1 locs1 ⟨by rw [← ht]; exact hB.1, hB.2, hS⟩)
theorem KFi.callX {p : Program} {l : Launch} {e : Env} {R : Room} {s : State} {m : MethodId} {args : Array Value} {below : List Frame} {meth : Method} {c : Code} {H : Heap} {locs : List Loc} {cells slots : Nat} {Q : State → Prop} {cc : ByteArray} {pc : Nat} {ls : Array Slot} {st rest : List Value} {nL d : Nat} {ow : String} {D : va_G} {ty : Nat → ClassId} {A : Nat → Prop} {y : MethodName} {bytes : ByteArray} {nL' d' index : Nat} {rt : FieldType} {ws : va_W} {As : List Value} {o : Nat} {Cn : String} {wf : PS → va_W} {u : Int32 × Int32 × PS} (C : Cx p R s m args c cc nL ow D ty A d) (hM : KFi l y bytes nL' rt d' D ty A ws (.ref o :: As) wf (.inr u))
    (hT : GoodIn lw_all (wsV ow index Cn y (ws_ y bytes nL' (some rt)))) (hy : y.cls = Cn ∧ y.cls ≠ "java/lang/invoke/MethodHandle" ∧ y.cls ≠ "java/lang/invoke/VarHandle" ∧ (parseMethodDescriptor y.desc).map (fun d => d.parameters.length) = some As.length)
    (q0 ci : Nat) {fs : List Value} {qq : vw_C} (he : ws[q0]? = some (o, .inr (ci, fs))) (hc : vwCl[ci]? = some qq) (hq : qq.1 = Cn) (hd : d' + 1 ≤ d) (hn : nL' ≤ 21) (hcs : cells + 1 ≤ R.cells) (hss : slots + 8 ≤ R.slots)
    (h : Hw D A s H locs ws) (hls : ls.size = nL) (hst : st = As.reverse ++ .ref o :: rest) (hcat : (rest.map fun v => v.category).sum ≤ 8) (dec : decode cc pc = .ok (.invokevirtual index, 3))
    (kx : ∀ (H : Heap) (locs : List Loc) (q9 : Nat), Hw D A s H locs (wf u.2.2 ++ [cFault q9 u.1 u.2.1]) → vx_W p l e R s m args below meth c H locs (cells + 1) (slots + 8) Q (F0 m pc ls rest) q9) : W p l e R s m args below meth c H locs cells slots Q (F0 m pc ls st) := by
  have hA1 : ∀ q : Nat, H.size ≤ q → A q := fun q hq => C.2.2.1 q (Nat.le_trans h.2.2.1 hq)
  have hrv := va_recv C.K h.1 hc he
  rw [hq] at hrv
  subst hst
  exact vy_calli (vy_runV (As := As) (rest := rest) C.1 (hM H.size hA1) (cwV As.length C.ts hT rfl rfl rfl hy (C.roomG hd hn)) ⟨KP.blind, hrv, KP.here C h⟩ rfl rfl hls rfl (lv_room hcat) dec ⟨hcs, hss⟩) h.2.2 (fun q _ h => h) (fun q h => h) (fun q _ h => h) (fun E ce q9 u t H1 locs1 ht hvm hu hB hz1 hk1 hS h1 h2 h3 => by cases hu; exact kx H1 locs1 q9 ⟨by rw [← ht]; exact hB.2.1, hB.2.2, hS⟩) (fun r' x' t H1 locs1 ht hvm hr hB hz1 hk1 hS => nomatch hr)
def KFv (l : Launch) (y : MethodName) (cc : ByteArray) (nL : Nat) (d : Nat) (D : va_G) (ty : Nat → ClassId) (A : Nat → Prop) (ws : va_W) (As : List Value) (wf : PS → va_W) (res : (PS ⊕ (Int32 × Int32 × PS))) : Prop :=
  ∀ sz : Nat, (∀ q : Nat, sz ≤ q → A q) → vy_Met l y (ws_ y cc nL none) (rmG d (cmc res) (cms res)) (KP D ty A sz ws As) (va_Qv (fun (x : PS) => res = .inl x) (fun x t => va_P D vwCl (wf x) t.heap ∧ va_D A (wf x)) A) (vy_X (fun (u : Int32 × Int32 × PS) => res = .inr u) (fun E q u t => E = "LehrBelt$Fault" ∧ va_P D vwCl (wf u.2.2 ++ [cFault q u.1 u.2.1]) t.heap ∧ va_D A (wf u.2.2 ++ [cFault q u.1 u.2.1])) A) (cmc res) (cms res) A
theorem KFv.of {l : Launch} {y : MethodName} {cc : ByteArray} {nL d : Nat} {D : va_G} {ty : Nat → ClassId} {A : Nat → Prop} {ws : va_W} {As : List Value} {wf : PS → va_W} {res : (PS ⊕ (Int32 × Int32 × PS))} (hy : plainName y.cls = true) (hn : (lg_sl As).length ≤ nL)
    (body : ∀ (p : Program) (e : Env) (R : Room) (s : State) (m : MethodId) (args : Array Value) (below : List Frame) (meth : Method) (c : Code) (Q : State → Prop), Cx p R s m args c cc nL y.cls D ty A d → cmc res ≤ R.cells → cms res ≤ R.slots →
      (∀ (x : PS) (H : Heap) (locs : List Loc) (pc : Nat) (ls : Array Slot), res = .inl x → Hw D A s H locs (wf x) → decode cc pc = .ok (.return_, 1) → W p l e R s m args below meth c H locs (cmc res) (cms res) Q (F0 m pc ls [])) → (∀ (u : Int32 × Int32 × PS) (H : Heap) (locs : List Loc) (pc : Nat) (ls : Array Slot) (rest : List Value) (q9 : Nat), res = .inr u → Hw D A s H locs (wf u.2.2 ++ [cFault q9 u.1 u.2.1]) → vx_W p l e R s m args below meth c H locs (cmc res) (cms res) Q (F0 m pc ls rest) q9) →
      ∀ (H : Heap) (locs : List Loc) (ls : Array Slot), Hw D A s H locs ws → lv_has ls nL (lv_args 0 As) → W p l e R s m args below meth c H locs 0 0 Q (F0 m 0 ls [])) : KFv l y cc nL d D ty A ws As wf res := by
  intro sz hA
  refine vy_ofW (cc := cc) (maxL := nL) (ret := none) hy rfl ?_
  intro p e s m args below meth c s₁ B hml htab hv
  obtain ⟨rfl, hsz, hP, hK, hD⟩ := hv
  subst hsz
  have hts := atoms_spec (ws := ws_ y cc nL none) B.pre
  have hts : ∀ w ∈ lw_all, w.before _ s = true := fun w h => hts w (List.mem_cons_of_mem _ h)
  rw [lg_entry_eq]
  refine body p e _ s m As.toArray below meth c _ ⟨⟨B.exec, B.bytes, hml, findClass_of_methodNamed B.named, hts⟩, hK, hA, Nat.le_refl _, Nat.le_refl _⟩ (Nat.le_refl _) (Nat.le_refl _) ?_ ?_ s.heap [] _ ⟨hP, hD, va_S.rf⟩ (lv_entry As hn)
  · intro x H locs pc ls hx h hd
    exact vy_ret (W.vret B.exec B.bytes B.returns (fun t ht hW => ⟨⟨x, rfl, hx, by rw [ht]; exact h.1, h.2.1⟩, h.2.2.F ht⟩) h.2.2.2.2 hd)
  · intro u H locs pc ls rest q9 hu h
    obtain ⟨cell, g1, g2, g3⟩ := fault_cell hK.1 h
    exact vy_out (fun x hx => (htab x hx).elim) B.notSynchronized g1 g2 g3 (fun t ht hW => ⟨u, hu, ⟨rfl, by rw [ht]; exact h.1, h.2.1⟩, h.2.2.F ht⟩) h.2.2.2.2 (Nat.le_refl _) (Nat.le_refl _)
theorem KFv.callOk {p : Program} {l : Launch} {e : Env} {R : Room} {s : State} {m : MethodId} {args : Array Value} {below : List Frame} {meth : Method} {c : Code} {H : Heap} {locs : List Loc} {cells slots : Nat} {Q : State → Prop} {cc : ByteArray} {pc : Nat} {ls : Array Slot} {st rest : List Value} {nL d : Nat} {ow : String} {D : va_G} {ty : Nat → ClassId} {A : Nat → Prop} {y : MethodName} {bytes : ByteArray} {nL' d' index : Nat} {ws : va_W} {As : List Value} {o : Nat} {Cn : String} {wf : PS → va_W} {x : PS} (C : Cx p R s m args c cc nL ow D ty A d) (hM : KFv l y bytes nL' d' D ty A ws (.ref o :: As) wf (.inl x))
    (hT : GoodIn lw_all (wsV ow index Cn y (ws_ y bytes nL' none))) (hy : y.cls = Cn ∧ y.cls ≠ "java/lang/invoke/MethodHandle" ∧ y.cls ≠ "java/lang/invoke/VarHandle" ∧ (parseMethodDescriptor y.desc).map (fun d => d.parameters.length) = some As.length)
    (q0 ci : Nat) {fs : List Value} {qq : vw_C} (he : ws[q0]? = some (o, .inr (ci, fs))) (hc : vwCl[ci]? = some qq) (hq : qq.1 = Cn) (hd : d' + 1 ≤ d) (hn : nL' ≤ 21) (hcs : cells + 0 ≤ R.cells) (hss : slots + 0 ≤ R.slots)
    (h : Hw D A s H locs ws) (hls : ls.size = nL) (hst : st = As.reverse ++ .ref o :: rest) (hcat : (rest.map fun v => v.category).sum ≤ 8) (dec : decode cc pc = .ok (.invokevirtual index, 3))
    (kk : ∀ (H : Heap) (locs : List Loc), Hw D A s H locs (wf x) → W p l e R s m args below meth c H locs cells slots Q (F0 m (pc + 3) ls (rest))) : W p l e R s m args below meth c H locs cells slots Q (F0 m pc ls st) := by
  have hA1 : ∀ q : Nat, H.size ≤ q → A q := fun q hq => C.2.2.1 q (Nat.le_trans h.2.2.1 hq)
  have hrv := va_recv C.K h.1 hc he
  rw [hq] at hrv
  subst hst
  exact vy_callv (vy_runV (As := As) (rest := rest) C.1 (hM H.size hA1) (cwV As.length C.ts hT rfl rfl rfl hy (C.roomG hd hn)) ⟨KP.blind, hrv, KP.here C h⟩ rfl rfl hls rfl (lv_room hcat) dec ⟨hcs, hss⟩) h.2.2 (fun q _ h => h) (fun q h => h) (fun q _ h => h) (fun E ce q9 u t H1 locs1 ht hvm hu hB hz1 hk1 hS h1 h2 h3 => nomatch hu) (fun x' t H1 locs1 ht hvm hr hB hz1 hk1 hS => by cases hr; exact kk H1 locs1 ⟨by rw [← ht]; exact hB.1, hB.2, hS⟩)
theorem KFv.callX {p : Program} {l : Launch} {e : Env} {R : Room} {s : State} {m : MethodId} {args : Array Value} {below : List Frame} {meth : Method} {c : Code} {H : Heap} {locs : List Loc} {cells slots : Nat} {Q : State → Prop} {cc : ByteArray} {pc : Nat} {ls : Array Slot} {st rest : List Value} {nL d : Nat} {ow : String} {D : va_G} {ty : Nat → ClassId} {A : Nat → Prop} {y : MethodName} {bytes : ByteArray} {nL' d' index : Nat} {ws : va_W} {As : List Value} {o : Nat} {Cn : String} {wf : PS → va_W} {u : Int32 × Int32 × PS} (C : Cx p R s m args c cc nL ow D ty A d) (hM : KFv l y bytes nL' d' D ty A ws (.ref o :: As) wf (.inr u))
    (hT : GoodIn lw_all (wsV ow index Cn y (ws_ y bytes nL' none))) (hy : y.cls = Cn ∧ y.cls ≠ "java/lang/invoke/MethodHandle" ∧ y.cls ≠ "java/lang/invoke/VarHandle" ∧ (parseMethodDescriptor y.desc).map (fun d => d.parameters.length) = some As.length)
    (q0 ci : Nat) {fs : List Value} {qq : vw_C} (he : ws[q0]? = some (o, .inr (ci, fs))) (hc : vwCl[ci]? = some qq) (hq : qq.1 = Cn) (hd : d' + 1 ≤ d) (hn : nL' ≤ 21) (hcs : cells + 1 ≤ R.cells) (hss : slots + 8 ≤ R.slots)
    (h : Hw D A s H locs ws) (hls : ls.size = nL) (hst : st = As.reverse ++ .ref o :: rest) (hcat : (rest.map fun v => v.category).sum ≤ 8) (dec : decode cc pc = .ok (.invokevirtual index, 3))
    (kx : ∀ (H : Heap) (locs : List Loc) (q9 : Nat), Hw D A s H locs (wf u.2.2 ++ [cFault q9 u.1 u.2.1]) → vx_W p l e R s m args below meth c H locs (cells + 1) (slots + 8) Q (F0 m pc ls rest) q9) : W p l e R s m args below meth c H locs cells slots Q (F0 m pc ls st) := by
  have hA1 : ∀ q : Nat, H.size ≤ q → A q := fun q hq => C.2.2.1 q (Nat.le_trans h.2.2.1 hq)
  have hrv := va_recv C.K h.1 hc he
  rw [hq] at hrv
  subst hst
  exact vy_callv (vy_runV (As := As) (rest := rest) C.1 (hM H.size hA1) (cwV As.length C.ts hT rfl rfl rfl hy (C.roomG hd hn)) ⟨KP.blind, hrv, KP.here C h⟩ rfl rfl hls rfl (lv_room hcat) dec ⟨hcs, hss⟩) h.2.2 (fun q _ h => h) (fun q h => h) (fun q _ h => h) (fun E ce q9 u t H1 locs1 ht hvm hu hB hz1 hk1 hS h1 h2 h3 => by cases hu; exact kx H1 locs1 q9 ⟨by rw [← ht]; exact hB.2.1, hB.2.2, hS⟩) (fun x' t H1 locs1 ht hvm hr hB hz1 hk1 hS => nomatch hr)
