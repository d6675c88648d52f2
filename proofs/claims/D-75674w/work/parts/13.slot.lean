set_option maxRecDepth 100000
/-! contracts that throw -/
def KTv (l : Launch) (y : MethodName) (cc : ByteArray) (nL d mc ms : Nat) (D : va_G) (ty : Nat → ClassId) (A : Nat → Prop) (ws : va_W) (As : List Value) (E : String) : Prop :=
  ∀ sz : Nat, (∀ q : Nat, sz ≤ q → A q) → vx_Met l y (ws_ y cc nL none) (rmG d mc ms) (KP D ty A sz ws As) (va_Qv (fun (_ : Unit) => False) (fun _ _ => True) A) (vx_X (fun (_ : Unit) => True) (fun E' _ t => E' = E ∧ va_P D vwCl ws t.heap ∧ va_D A ws) A) mc ms A
def KTi (l : Launch) (y : MethodName) (cc : ByteArray) (nL : Nat) (rt : FieldType) (d mc ms : Nat) (D : va_G) (ty : Nat → ClassId) (A : Nat → Prop) (ws : va_W) (As : List Value) (E : String) : Prop :=
  ∀ sz : Nat, (∀ q : Nat, sz ≤ q → A q) → vx_Met l y (ws_ y cc nL (some rt)) (rmG d mc ms) (KP D ty A sz ws As) (va_Qi (fun _ (_ : Unit) => False) (fun _ _ => True) A) (vx_X (fun (_ : Unit) => True) (fun E' _ t => E' = E ∧ va_P D vwCl ws t.heap ∧ va_D A ws) A) mc ms A
section KTOF
variable {l : Launch} {y : MethodName} {cc : ByteArray} {nL d mc ms : Nat} {rt : FieldType} {D : va_G} {ty : Nat → ClassId} {A : Nat → Prop} {ws : va_W} {As : List Value} {E : String}
theorem KTv.of (hy : plainName y.cls = true) (hn : (lg_sl As).length ≤ nL)
    (body : ∀ (p : Program) (e : Env) (R : Room) (s : State) (m : MethodId) (args : Array Value) (below : List Frame) (meth : Method) (c : Code) (Q : State → Prop), Cx p R s m args c cc nL y.cls D ty A d → meth.locks = false → mc ≤ R.cells → ms ≤ R.slots →
      (∀ (H : Heap) (locs : List Loc) (pc : Nat) (ls : Array Slot) (rest : List Value) (q9 : Addr) (ce : Cell), Hw D A s H locs ws → H[q9]? = some ce → ce.vm = .none → s.vm.findClass E = some ce.cls → vx_W p l e R s m args below meth c H locs mc ms Q (F0 m pc ls rest) q9) →
      ∀ (H : Heap) (locs : List Loc) (ls : Array Slot), Hw D A s H locs ws → lv_has ls nL (lv_args 0 As) → W p l e R s m args below meth c H locs 0 0 Q (F0 m 0 ls [])) : KTv l y cc nL d mc ms D ty A ws As E := by
  intro sz hA
  refine vx_ofW (cc := cc) (maxL := nL) (ret := none) hy rfl ?_
  intro p e s m args below meth c s₁ B hml htab hv
  obtain ⟨rfl, hsz, hP, hK, hD⟩ := hv
  subst hsz
  have hts := atoms_spec (ws := ws_ y cc nL none) B.pre
  have hts : ∀ w ∈ lw_all, w.before _ s = true := fun w h => hts w (List.mem_cons_of_mem _ h)
  rw [lg_entry_eq]
  refine body p e _ s m As.toArray below meth c _ ⟨⟨B.exec, B.bytes, hml, findClass_of_methodNamed B.named, hts⟩, hK, hA, Nat.le_refl _, Nat.le_refl _⟩ B.notSynchronized (Nat.le_refl _) (Nat.le_refl _) ?_ s.heap [] _ ⟨hP, hD, va_S.rf⟩ (lv_entry As hn)
  intro H locs pc ls rest q9 ce h h1 h2 h3
  exact vx_out (fun x hx => (htab x hx).elim) B.notSynchronized h1 h2 h3 (fun t ht hW => ⟨(), trivial, ⟨rfl, by rw [ht]; exact h.1, h.2.1⟩, h.2.2.F ht⟩) h.2.2.2.2 (Nat.le_refl _) (Nat.le_refl _)
theorem KTi.of (hy : plainName y.cls = true) (hn : (lg_sl As).length ≤ nL)
    (body : ∀ (p : Program) (e : Env) (R : Room) (s : State) (m : MethodId) (args : Array Value) (below : List Frame) (meth : Method) (c : Code) (Q : State → Prop), Cx p R s m args c cc nL y.cls D ty A d → meth.locks = false → mc ≤ R.cells → ms ≤ R.slots →
      (∀ (H : Heap) (locs : List Loc) (pc : Nat) (ls : Array Slot) (rest : List Value) (q9 : Addr) (ce : Cell), Hw D A s H locs ws → H[q9]? = some ce → ce.vm = .none → s.vm.findClass E = some ce.cls → vx_W p l e R s m args below meth c H locs mc ms Q (F0 m pc ls rest) q9) →
      ∀ (H : Heap) (locs : List Loc) (ls : Array Slot), Hw D A s H locs ws → lv_has ls nL (lv_args 0 As) → W p l e R s m args below meth c H locs 0 0 Q (F0 m 0 ls [])) : KTi l y cc nL rt d mc ms D ty A ws As E := by
  intro sz hA
  refine vx_ofW (cc := cc) (maxL := nL) (ret := some rt) hy rfl ?_
  intro p e s m args below meth c s₁ B hml htab hv
  obtain ⟨rfl, hsz, hP, hK, hD⟩ := hv
  subst hsz
  have hts := atoms_spec (ws := ws_ y cc nL (some rt)) B.pre
  have hts : ∀ w ∈ lw_all, w.before _ s = true := fun w h => hts w (List.mem_cons_of_mem _ h)
  rw [lg_entry_eq]
  refine body p e _ s m As.toArray below meth c _ ⟨⟨B.exec, B.bytes, hml, findClass_of_methodNamed B.named, hts⟩, hK, hA, Nat.le_refl _, Nat.le_refl _⟩ B.notSynchronized (Nat.le_refl _) (Nat.le_refl _) ?_ s.heap [] _ ⟨hP, hD, va_S.rf⟩ (lv_entry As hn)
  intro H locs pc ls rest q9 ce h h1 h2 h3
  exact vx_out (fun x hx => (htab x hx).elim) B.notSynchronized h1 h2 h3 (fun t ht hW => ⟨(), trivial, ⟨rfl, by rw [ht]; exact h.1, h.2.1⟩, h.2.2.F ht⟩) h.2.2.2.2 (Nat.le_refl _) (Nat.le_refl _)
end KTOF
section SLROWS
variable {p : Program} {l : Launch} {e : Env} {R : Room} {s : State} {m : MethodId} {args : Array Value} {below : List Frame} {meth : Method} {c : Code} {H : Heap} {locs : List Loc} {cells slots : Nat} {Q : State → Prop} {cc : ByteArray} {pc : Nat} {ls : Array Slot} {st : List Value} {nL d : Nat} {D : va_G} {ty : Nat → ClassId} {A : Nat → Prop} {ws : va_W} {so a : Nat} {v : Value}
theorem sl_g (C : Cx p R s m args c cc nL RX6 D ty A d) (h : Hw D A s H locs ((so, .inr (6, [v])) :: ws)) (dec : decode cc pc = .ok (.getfield 7, 3)) (kk : W p l e R s m args below meth c H locs cells slots Q (F0 m (pc + 3) ls (v :: st))) : W p l e R s m args below meth c H locs cells slots Q (F0 m pc ls (.ref so :: st)) := va_get (D := D) (ci := 6) (v := v) C.x C.b C.ts in_X6 C.own C.K h.1 0 rfl rfl 0 (by decide) (C.ts _ q312) (fun _ h9 => h9) rfl dec kk
theorem arr_cell {x : vp_A} {cA : ClassId} {q0 : Nat} (hP : va_P D vwCl ws H) (ha : ws[q0]? = some (a, .inl (cA, x))) : ∃ cell : Cell, H[a]? = some cell ∧ cell.vm.isStatics = false ∧ cell.cls = cA := by
  refine ⟨_, hP q0 _ ha, ?_, ?_⟩ <;> (obtain ⟨n, f | f | f | f | f⟩ := x <;> rfl)
theorem sl_yb (C : Cx p R s m args c cc nL RX6 D ty A d) {x : vp_A} (h : Hw D A s H locs ws) (ha : ws[1]? = some (a, .inl (ty 1, x))) (dec : decode cc pc = .ok (.instanceof 13, 3)) (kk : W p l e R s m args below meth c H locs cells slots Q (F0 m (pc + 3) ls (.int 1 :: st))) : W p l e R s m args below meth c H locs cells slots Q (F0 m pc ls (.ref a :: st)) := by
  obtain ⟨cell, h1, h2, h3⟩ := arr_cell h.1 ha
  intro T hT X
  obtain ⟨vm', X', st⟩ := X.instanceofYes C.x C.own (C.ts _ q1189) (by rw [hT]; exact h1) h2 (C.K.2 1 (ty 1, .byte) rfl).2 (by rw [h3]; exact va_asg _ _) (g := F0 m pc ls (.ref a :: st)) rfl rfl (by rw [C.b]; exact dec)
  obtain ⟨t, a1, b1⟩ := kk (T.setVm vm') hT X'
  exact ⟨t, st t a1, b1⟩
theorem sl_cb (C : Cx p R s m args c cc nL RX6 D ty A d) {x : vp_A} (h : Hw D A s H locs ws) (ha : ws[1]? = some (a, .inl (ty 1, x))) (dec : decode cc pc = .ok (.checkcast 13, 3)) (kk : W p l e R s m args below meth c H locs cells slots Q (F0 m (pc + 3) ls (.ref a :: st))) : W p l e R s m args below meth c H locs cells slots Q (F0 m pc ls (.ref a :: st)) := va_castA C.x C.b C.own (C.ts _ q1189) h.1 1 ha (C.K.2 1 (ty 1, .byte) rfl).2 dec kk
theorem sl_ys (C : Cx p R s m args c cc nL RX6 D ty A d) {x : vp_A} (h : Hw D A s H locs ws) (ha : ws[1]? = some (a, .inl (ty 2, x))) (dec : decode cc pc = .ok (.instanceof 15, 3)) (kk : W p l e R s m args below meth c H locs cells slots Q (F0 m (pc + 3) ls (.int 1 :: st))) : W p l e R s m args below meth c H locs cells slots Q (F0 m pc ls (.ref a :: st)) := by
  obtain ⟨cell, h1, h2, h3⟩ := arr_cell h.1 ha
  intro T hT X
  obtain ⟨vm', X', st⟩ := X.instanceofYes C.x C.own (C.ts _ q1190) (by rw [hT]; exact h1) h2 (C.K.2 2 (ty 2, .short) rfl).2 (by rw [h3]; exact va_asg _ _) (g := F0 m pc ls (.ref a :: st)) rfl rfl (by rw [C.b]; exact dec)
  obtain ⟨t, a1, b1⟩ := kk (T.setVm vm') hT X'
  exact ⟨t, st t a1, b1⟩
theorem sl_cs (C : Cx p R s m args c cc nL RX6 D ty A d) {x : vp_A} (h : Hw D A s H locs ws) (ha : ws[1]? = some (a, .inl (ty 2, x))) (dec : decode cc pc = .ok (.checkcast 15, 3)) (kk : W p l e R s m args below meth c H locs cells slots Q (F0 m (pc + 3) ls (.ref a :: st))) : W p l e R s m args below meth c H locs cells slots Q (F0 m pc ls (.ref a :: st)) := va_castA C.x C.b C.own (C.ts _ q1190) h.1 1 ha (C.K.2 2 (ty 2, .short) rfl).2 dec kk
theorem sl_nsb (C : Cx p R s m args c cc nL RX6 D ty A d) {x : vp_A} (h : Hw D A s H locs ws) (ha : ws[1]? = some (a, .inl (ty 2, x))) (dec : decode cc pc = .ok (.instanceof 13, 3)) (kk : W p l e R s m args below meth c H locs cells slots Q (F0 m (pc + 3) ls (.int 0 :: st))) : W p l e R s m args below meth c H locs cells slots Q (F0 m pc ls (.ref a :: st)) := by
  obtain ⟨cell, h1, h2, h3⟩ := arr_cell h.1 ha
  exact va_instNo (C := "[S") (nm := "[B") C.x C.b C.own (C.ts _ q1189) (C.E.1 ("[S", "[B") (by decide)) ⟨cell, h1, h2, by rw [h3]; exact (C.K.2 2 (ty 2, .short) rfl).2⟩ dec kk
theorem sl_yi (C : Cx p R s m args c cc nL RX6 D ty A d) {x : vp_A} (h : Hw D A s H locs ws) (ha : ws[1]? = some (a, .inl (ty 0, x))) (dec : decode cc pc = .ok (.instanceof 17, 3)) (kk : W p l e R s m args below meth c H locs cells slots Q (F0 m (pc + 3) ls (.int 1 :: st))) : W p l e R s m args below meth c H locs cells slots Q (F0 m pc ls (.ref a :: st)) := by
  obtain ⟨cell, h1, h2, h3⟩ := arr_cell h.1 ha
  intro T hT X
  obtain ⟨vm', X', st⟩ := X.instanceofYes C.x C.own (C.ts _ q1191) (by rw [hT]; exact h1) h2 (C.K.2 0 (ty 0, .int) rfl).2 (by rw [h3]; exact va_asg _ _) (g := F0 m pc ls (.ref a :: st)) rfl rfl (by rw [C.b]; exact dec)
  obtain ⟨t, a1, b1⟩ := kk (T.setVm vm') hT X'
  exact ⟨t, st t a1, b1⟩
theorem sl_ci (C : Cx p R s m args c cc nL RX6 D ty A d) {x : vp_A} (h : Hw D A s H locs ws) (ha : ws[1]? = some (a, .inl (ty 0, x))) (dec : decode cc pc = .ok (.checkcast 17, 3)) (kk : W p l e R s m args below meth c H locs cells slots Q (F0 m (pc + 3) ls (.ref a :: st))) : W p l e R s m args below meth c H locs cells slots Q (F0 m pc ls (.ref a :: st)) := va_castA C.x C.b C.own (C.ts _ q1191) h.1 1 ha (C.K.2 0 (ty 0, .int) rfl).2 dec kk
theorem sl_nib (C : Cx p R s m args c cc nL RX6 D ty A d) {x : vp_A} (h : Hw D A s H locs ws) (ha : ws[1]? = some (a, .inl (ty 0, x))) (dec : decode cc pc = .ok (.instanceof 13, 3)) (kk : W p l e R s m args below meth c H locs cells slots Q (F0 m (pc + 3) ls (.int 0 :: st))) : W p l e R s m args below meth c H locs cells slots Q (F0 m pc ls (.ref a :: st)) := by
  obtain ⟨cell, h1, h2, h3⟩ := arr_cell h.1 ha
  exact va_instNo (C := "[I") (nm := "[B") C.x C.b C.own (C.ts _ q1189) (C.E.1 ("[I", "[B") (by decide)) ⟨cell, h1, h2, by rw [h3]; exact (C.K.2 0 (ty 0, .int) rfl).2⟩ dec kk
theorem sl_nis (C : Cx p R s m args c cc nL RX6 D ty A d) {x : vp_A} (h : Hw D A s H locs ws) (ha : ws[1]? = some (a, .inl (ty 0, x))) (dec : decode cc pc = .ok (.instanceof 15, 3)) (kk : W p l e R s m args below meth c H locs cells slots Q (F0 m (pc + 3) ls (.int 0 :: st))) : W p l e R s m args below meth c H locs cells slots Q (F0 m pc ls (.ref a :: st)) := by
  obtain ⟨cell, h1, h2, h3⟩ := arr_cell h.1 ha
  exact va_instNo (C := "[I") (nm := "[S") C.x C.b C.own (C.ts _ q1190) (C.E.1 ("[I", "[S") (by decide)) ⟨cell, h1, h2, by rw [h3]; exact (C.K.2 0 (ty 0, .int) rfl).2⟩ dec kk
theorem sl_yl (C : Cx p R s m args c cc nL RX6 D ty A d) {x : vp_A} (h : Hw D A s H locs ws) (ha : ws[1]? = some (a, .inl (ty 3, x))) (dec : decode cc pc = .ok (.instanceof 19, 3)) (kk : W p l e R s m args below meth c H locs cells slots Q (F0 m (pc + 3) ls (.int 1 :: st))) : W p l e R s m args below meth c H locs cells slots Q (F0 m pc ls (.ref a :: st)) := by
  obtain ⟨cell, h1, h2, h3⟩ := arr_cell h.1 ha
  intro T hT X
  obtain ⟨vm', X', st⟩ := X.instanceofYes C.x C.own (C.ts _ q1192) (by rw [hT]; exact h1) h2 (C.K.2 3 (ty 3, .long) rfl).2 (by rw [h3]; exact va_asg _ _) (g := F0 m pc ls (.ref a :: st)) rfl rfl (by rw [C.b]; exact dec)
  obtain ⟨t, a1, b1⟩ := kk (T.setVm vm') hT X'
  exact ⟨t, st t a1, b1⟩
theorem sl_cl (C : Cx p R s m args c cc nL RX6 D ty A d) {x : vp_A} (h : Hw D A s H locs ws) (ha : ws[1]? = some (a, .inl (ty 3, x))) (dec : decode cc pc = .ok (.checkcast 19, 3)) (kk : W p l e R s m args below meth c H locs cells slots Q (F0 m (pc + 3) ls (.ref a :: st))) : W p l e R s m args below meth c H locs cells slots Q (F0 m pc ls (.ref a :: st)) := va_castA C.x C.b C.own (C.ts _ q1192) h.1 1 ha (C.K.2 3 (ty 3, .long) rfl).2 dec kk
theorem sl_nlb (C : Cx p R s m args c cc nL RX6 D ty A d) {x : vp_A} (h : Hw D A s H locs ws) (ha : ws[1]? = some (a, .inl (ty 3, x))) (dec : decode cc pc = .ok (.instanceof 13, 3)) (kk : W p l e R s m args below meth c H locs cells slots Q (F0 m (pc + 3) ls (.int 0 :: st))) : W p l e R s m args below meth c H locs cells slots Q (F0 m pc ls (.ref a :: st)) := by
  obtain ⟨cell, h1, h2, h3⟩ := arr_cell h.1 ha
  exact va_instNo (C := "[J") (nm := "[B") C.x C.b C.own (C.ts _ q1189) (C.E.1 ("[J", "[B") (by decide)) ⟨cell, h1, h2, by rw [h3]; exact (C.K.2 3 (ty 3, .long) rfl).2⟩ dec kk
theorem sl_nls (C : Cx p R s m args c cc nL RX6 D ty A d) {x : vp_A} (h : Hw D A s H locs ws) (ha : ws[1]? = some (a, .inl (ty 3, x))) (dec : decode cc pc = .ok (.instanceof 15, 3)) (kk : W p l e R s m args below meth c H locs cells slots Q (F0 m (pc + 3) ls (.int 0 :: st))) : W p l e R s m args below meth c H locs cells slots Q (F0 m pc ls (.ref a :: st)) := by
  obtain ⟨cell, h1, h2, h3⟩ := arr_cell h.1 ha
  exact va_instNo (C := "[J") (nm := "[S") C.x C.b C.own (C.ts _ q1190) (C.E.1 ("[J", "[S") (by decide)) ⟨cell, h1, h2, by rw [h3]; exact (C.K.2 3 (ty 3, .long) rfl).2⟩ dec kk
theorem sl_nli (C : Cx p R s m args c cc nL RX6 D ty A d) {x : vp_A} (h : Hw D A s H locs ws) (ha : ws[1]? = some (a, .inl (ty 3, x))) (dec : decode cc pc = .ok (.instanceof 17, 3)) (kk : W p l e R s m args below meth c H locs cells slots Q (F0 m (pc + 3) ls (.int 0 :: st))) : W p l e R s m args below meth c H locs cells slots Q (F0 m pc ls (.ref a :: st)) := by
  obtain ⟨cell, h1, h2, h3⟩ := arr_cell h.1 ha
  exact va_instNo (C := "[J") (nm := "[I") C.x C.b C.own (C.ts _ q1191) (C.E.1 ("[J", "[I") (by decide)) ⟨cell, h1, h2, by rw [h3]; exact (C.K.2 3 (ty 3, .long) rfl).2⟩ dec kk
end SLROWS
set_option maxHeartbeats 4000000 in
theorem kS_size_b (l : Launch) {D : va_G} {ty : Nat → ClassId} {A : Nat → Prop} {so a : Nat} {rs : va_W} {n : Nat} {f : Nat → Int32} : KI l yX6_size cX6_size 1 .int 0 D ty A ((so, .inr (6, [.ref a])) :: (a, .inl (ty 1, n, .inl f)) :: rs) ((so, .inr (6, [.ref a])) :: (a, .inl (ty 1, n, .inl f)) :: rs) [.ref so] (Int32.ofNat n) := by
  refine KI.of (by decide) (Nat.le_of_ble_eq_true rfl) ?_
  intro p e R s m args below meth c Q C hR H locs ls h hl
  have C : Cx p R s m args c cX6_size 1 RX6 D ty A 0 := C
  have hl : lv_has ls 1 [(0, .ref so)] := hl
  refine lv_aload_n C.x C.b dX6_size_0 rfl (lv_at hl 0 rfl) ?_
  refine sl_g C h dX6_size_1 ?_
  refine sl_yb C h rfl dX6_size_4 ?_
  refine lv_if_eq (tgt := 21) C.x C.b dX6_size_7 (by decide) (fun c9 => ?_) (fun c9 => ?_)
  · exact absurd c9 (by decide)
  refine lv_aload_n C.x C.b dX6_size_10 rfl (lv_at hl 0 rfl) ?_
  refine sl_g C h dX6_size_11 ?_
  refine sl_cb C h rfl dX6_size_14 ?_
  refine va_alen (v := Int32.ofNat n) C.x C.b C.K h.1 1 1 rfl rfl rfl dX6_size_17 ?_
  refine lv_goto (tgt := 71) C.x C.b dX6_size_18 (by decide) ?_
  exact hR _ _ _ _ h rfl dX6_size_71
set_option maxHeartbeats 4000000 in
theorem kS_at_b (l : Launch) {D : va_G} {ty : Nat → ClassId} {A : Nat → Prop} {so a : Nat} {rs : va_W} {n : Nat} {f : Nat → Int32} {i : Int32} (hi : vp_in i n) : KL l yX6_at cX6_at 2 0 D ty A ((so, .inr (6, [.ref a])) :: (a, .inl (ty 1, n, .inl f)) :: rs) ((so, .inr (6, [.ref a])) :: (a, .inl (ty 1, n, .inl f)) :: rs) [.ref so, .int i] ((f i.toNatClampNeg).toInt64) := by
  refine KL.of (by decide) (Nat.le_of_ble_eq_true rfl) ?_
  intro p e R s m args below meth c Q C hR H locs ls h hl
  have C : Cx p R s m args c cX6_at 2 RX6 D ty A 0 := C
  have hl : lv_has ls 2 [(0, .ref so), (1, .int i)] := hl
  refine lv_aload_n C.x C.b dX6_at_0 rfl (lv_at hl 0 rfl) ?_
  refine sl_g C h dX6_at_1 ?_
  refine sl_yb C h rfl dX6_at_4 ?_
  refine lv_if_eq (tgt := 23) C.x C.b dX6_at_7 (by decide) (fun c9 => ?_) (fun c9 => ?_)
  · exact absurd c9 (by decide)
  refine lv_aload_n C.x C.b dX6_at_10 rfl (lv_at hl 0 rfl) ?_
  refine sl_g C h dX6_at_11 ?_
  refine sl_cb C h rfl dX6_at_14 ?_
  refine lv_iload_n C.x C.b dX6_at_17 rfl (lv_at hl 1 rfl) ?_
  refine va_bald C.x C.b C.K h.1 1 1 rfl rfl hi dX6_at_18 ?_
  refine lv_i2l C.x C.b dX6_at_19 rfl ?_
  refine lv_goto (tgt := 78) C.x C.b dX6_at_20 (by decide) ?_
  exact hR _ _ _ _ h dX6_at_78
set_option maxHeartbeats 4000000 in
theorem kS_put_b (l : Launch) {D : va_G} {ty : Nat → ClassId} {A : Nat → Prop} {so a : Nat} {rs : va_W} {n : Nat} {f : Nat → Int32} {i : Int32} {x : Int64} (hi : vp_in i n) : KV l yX6_put cX6_put 4 0 D ty A ((so, .inr (6, [.ref a])) :: (a, .inl (ty 1, n, .inl f)) :: rs) ((so, .inr (6, [.ref a])) :: (a, .inl (ty 1, n, .inl (upd f i.toNatClampNeg (vp_nar .byte x.toInt32.toInt8.toInt32)))) :: rs) [.ref so, .int i, .long x] := by
  refine KV.of (by decide) (Nat.le_of_ble_eq_true rfl) ?_
  intro p e R s m args below meth c Q C hR H locs ls h hl
  have C : Cx p R s m args c cX6_put 4 RX6 D ty A 0 := C
  have hl : lv_has ls 4 [(0, .ref so), (1, .int i), (2, .long x)] := hl
  refine lv_aload_n C.x C.b dX6_put_0 rfl (lv_at hl 0 rfl) ?_
  refine sl_g C h dX6_put_1 ?_
  refine sl_yb C h rfl dX6_put_4 ?_
  refine lv_if_eq (tgt := 25) C.x C.b dX6_put_7 (by decide) (fun c9 => ?_) (fun c9 => ?_)
  · exact absurd c9 (by decide)
  refine lv_aload_n C.x C.b dX6_put_10 rfl (lv_at hl 0 rfl) ?_
  refine sl_g C h dX6_put_11 ?_
  refine sl_cb C h rfl dX6_put_14 ?_
  refine lv_iload_n C.x C.b dX6_put_17 rfl (lv_at hl 1 rfl) ?_
  refine lv_lload_n C.x C.b dX6_put_18 rfl (lv_at hl 2 rfl) ?_
  refine lv_l2i C.x C.b dX6_put_19 rfl ?_
  refine lv_i2b C.x C.b dX6_put_20 rfl ?_
  refine va_bast C.x C.b C.K h.1 h.2.1 h.2.2 1 1 rfl rfl hi dX6_put_21 (fun H locs hP hD hS => ?_)
  refine lv_goto (tgt := 84) C.x C.b dX6_put_22 (by decide) ?_
  exact hR _ _ _ _ ⟨hP, hD, hS⟩ dX6_put_84
set_option maxHeartbeats 4000000 in
theorem kS_putZ_b (l : Launch) {D : va_G} {ty : Nat → ClassId} {A : Nat → Prop} {so a : Nat} {rs : va_W} {n : Nat} {f : Nat → Int32} {i : Int32} {x : Int64} (hl9 : l.stackTraces = false) (hn : n < 2 ^ 31) (hi : ¬ vp_in i n) : KTv l yX6_put cX6_put 4 300 3 1010 D ty A ((so, .inr (6, [.ref a])) :: (a, .inl (ty 1, n, .inl f)) :: rs) [.ref so, .int i, .long x] "java/lang/ArrayIndexOutOfBoundsException" := by
  refine KTv.of (by decide) (Nat.le_of_ble_eq_true rfl) ?_
  intro p e R s m args below meth c Q C hlk hmc hms hX H locs ls h hl
  have C : Cx p R s m args c cX6_put 4 RX6 D ty A 300 := C
  have hl : lv_has ls 4 [(0, .ref so), (1, .int i), (2, .long x)] := hl
  refine lv_aload_n C.x C.b dX6_put_0 rfl (lv_at hl 0 rfl) ?_
  refine sl_g C h dX6_put_1 ?_
  refine sl_yb C h rfl dX6_put_4 ?_
  refine lv_if_eq (tgt := 25) C.x C.b dX6_put_7 (by decide) (fun c9 => ?_) (fun c9 => ?_)
  · exact absurd c9 (by decide)
  refine lv_aload_n C.x C.b dX6_put_10 rfl (lv_at hl 0 rfl) ?_
  refine sl_g C h dX6_put_11 ?_
  refine sl_cb C h rfl dX6_put_14 ?_
  refine lv_iload_n C.x C.b dX6_put_17 rfl (lv_at hl 1 rfl) ?_
  refine lv_lload_n C.x C.b dX6_put_18 rfl (lv_at hl 2 rfl) ?_
  refine lv_l2i C.x C.b dX6_put_19 rfl ?_
  refine lv_i2b C.x C.b dX6_put_20 rfl ?_
  refine vx_bastZ C.x C.b C.K h.1 1 1 rfl rfl hi dX6_put_21 (fun tx etx => ?_)
  subst etx
  exact e_ai C hl9 (Nat.le_refl _) h hl.1 (Nat.le_of_ble_eq_true rfl) (by omega) (by omega) hlk (index_text_modelled i n) (Nat.le_trans (index_text_bytes i hn) (by decide)) (fun H q9 ce h h1 h2 h3 => hX _ _ _ _ _ _ _ h h1 h2 h3)
set_option maxHeartbeats 4000000 in
theorem kS_size_s (l : Launch) {D : va_G} {ty : Nat → ClassId} {A : Nat → Prop} {so a : Nat} {rs : va_W} {n : Nat} {f : Nat → Int32} : KI l yX6_size cX6_size 1 .int 0 D ty A ((so, .inr (6, [.ref a])) :: (a, .inl (ty 2, n, .inl f)) :: rs) ((so, .inr (6, [.ref a])) :: (a, .inl (ty 2, n, .inl f)) :: rs) [.ref so] (Int32.ofNat n) := by
  refine KI.of (by decide) (Nat.le_of_ble_eq_true rfl) ?_
  intro p e R s m args below meth c Q C hR H locs ls h hl
  have C : Cx p R s m args c cX6_size 1 RX6 D ty A 0 := C
  have hl : lv_has ls 1 [(0, .ref so)] := hl
  refine lv_aload_n C.x C.b dX6_size_0 rfl (lv_at hl 0 rfl) ?_
  refine sl_g C h dX6_size_1 ?_
  refine sl_nsb C h rfl dX6_size_4 ?_
  refine lv_if_eq (tgt := 21) C.x C.b dX6_size_7 (by decide) (fun c9 => ?_) (fun c9 => ?_)
  rotate_left
  · exact absurd rfl c9
  refine lv_aload_n C.x C.b dX6_size_21 rfl (lv_at hl 0 rfl) ?_
  refine sl_g C h dX6_size_22 ?_
  refine sl_ys C h rfl dX6_size_25 ?_
  refine lv_if_eq (tgt := 42) C.x C.b dX6_size_28 (by decide) (fun c9 => ?_) (fun c9 => ?_)
  · exact absurd c9 (by decide)
  refine lv_aload_n C.x C.b dX6_size_31 rfl (lv_at hl 0 rfl) ?_
  refine sl_g C h dX6_size_32 ?_
  refine sl_cs C h rfl dX6_size_35 ?_
  refine va_alen (v := Int32.ofNat n) C.x C.b C.K h.1 1 2 rfl rfl rfl dX6_size_38 ?_
  refine lv_goto (tgt := 71) C.x C.b dX6_size_39 (by decide) ?_
  exact hR _ _ _ _ h rfl dX6_size_71
set_option maxHeartbeats 4000000 in
theorem kS_at_s (l : Launch) {D : va_G} {ty : Nat → ClassId} {A : Nat → Prop} {so a : Nat} {rs : va_W} {n : Nat} {f : Nat → Int32} {i : Int32} (hi : vp_in i n) : KL l yX6_at cX6_at 2 0 D ty A ((so, .inr (6, [.ref a])) :: (a, .inl (ty 2, n, .inl f)) :: rs) ((so, .inr (6, [.ref a])) :: (a, .inl (ty 2, n, .inl f)) :: rs) [.ref so, .int i] ((f i.toNatClampNeg).toInt64) := by
  refine KL.of (by decide) (Nat.le_of_ble_eq_true rfl) ?_
  intro p e R s m args below meth c Q C hR H locs ls h hl
  have C : Cx p R s m args c cX6_at 2 RX6 D ty A 0 := C
  have hl : lv_has ls 2 [(0, .ref so), (1, .int i)] := hl
  refine lv_aload_n C.x C.b dX6_at_0 rfl (lv_at hl 0 rfl) ?_
  refine sl_g C h dX6_at_1 ?_
  refine sl_nsb C h rfl dX6_at_4 ?_
  refine lv_if_eq (tgt := 23) C.x C.b dX6_at_7 (by decide) (fun c9 => ?_) (fun c9 => ?_)
  rotate_left
  · exact absurd rfl c9
  refine lv_aload_n C.x C.b dX6_at_23 rfl (lv_at hl 0 rfl) ?_
  refine sl_g C h dX6_at_24 ?_
  refine sl_ys C h rfl dX6_at_27 ?_
  refine lv_if_eq (tgt := 46) C.x C.b dX6_at_30 (by decide) (fun c9 => ?_) (fun c9 => ?_)
  · exact absurd c9 (by decide)
  refine lv_aload_n C.x C.b dX6_at_33 rfl (lv_at hl 0 rfl) ?_
  refine sl_g C h dX6_at_34 ?_
  refine sl_cs C h rfl dX6_at_37 ?_
  refine lv_iload_n C.x C.b dX6_at_40 rfl (lv_at hl 1 rfl) ?_
  refine va_sald C.x C.b C.K h.1 1 2 rfl rfl hi dX6_at_41 ?_
  refine lv_i2l C.x C.b dX6_at_42 rfl ?_
  refine lv_goto (tgt := 78) C.x C.b dX6_at_43 (by decide) ?_
  exact hR _ _ _ _ h dX6_at_78
set_option maxHeartbeats 4000000 in
theorem kS_put_s (l : Launch) {D : va_G} {ty : Nat → ClassId} {A : Nat → Prop} {so a : Nat} {rs : va_W} {n : Nat} {f : Nat → Int32} {i : Int32} {x : Int64} (hi : vp_in i n) : KV l yX6_put cX6_put 4 0 D ty A ((so, .inr (6, [.ref a])) :: (a, .inl (ty 2, n, .inl f)) :: rs) ((so, .inr (6, [.ref a])) :: (a, .inl (ty 2, n, .inl (upd f i.toNatClampNeg (vp_nar .short x.toInt32.toInt16.toInt32)))) :: rs) [.ref so, .int i, .long x] := by
  refine KV.of (by decide) (Nat.le_of_ble_eq_true rfl) ?_
  intro p e R s m args below meth c Q C hR H locs ls h hl
  have C : Cx p R s m args c cX6_put 4 RX6 D ty A 0 := C
  have hl : lv_has ls 4 [(0, .ref so), (1, .int i), (2, .long x)] := hl
  refine lv_aload_n C.x C.b dX6_put_0 rfl (lv_at hl 0 rfl) ?_
  refine sl_g C h dX6_put_1 ?_
  refine sl_nsb C h rfl dX6_put_4 ?_
  refine lv_if_eq (tgt := 25) C.x C.b dX6_put_7 (by decide) (fun c9 => ?_) (fun c9 => ?_)
  rotate_left
  · exact absurd rfl c9
  refine lv_aload_n C.x C.b dX6_put_25 rfl (lv_at hl 0 rfl) ?_
  refine sl_g C h dX6_put_26 ?_
  refine sl_ys C h rfl dX6_put_29 ?_
  refine lv_if_eq (tgt := 50) C.x C.b dX6_put_32 (by decide) (fun c9 => ?_) (fun c9 => ?_)
  · exact absurd c9 (by decide)
  refine lv_aload_n C.x C.b dX6_put_35 rfl (lv_at hl 0 rfl) ?_
  refine sl_g C h dX6_put_36 ?_
  refine sl_cs C h rfl dX6_put_39 ?_
  refine lv_iload_n C.x C.b dX6_put_42 rfl (lv_at hl 1 rfl) ?_
  refine lv_lload_n C.x C.b dX6_put_43 rfl (lv_at hl 2 rfl) ?_
  refine lv_l2i C.x C.b dX6_put_44 rfl ?_
  refine lv_i2s C.x C.b dX6_put_45 rfl ?_
  refine va_sast C.x C.b C.K h.1 h.2.1 h.2.2 1 2 rfl rfl hi dX6_put_46 (fun H locs hP hD hS => ?_)
  refine lv_goto (tgt := 84) C.x C.b dX6_put_47 (by decide) ?_
  exact hR _ _ _ _ ⟨hP, hD, hS⟩ dX6_put_84
set_option maxHeartbeats 4000000 in
theorem kS_putZ_s (l : Launch) {D : va_G} {ty : Nat → ClassId} {A : Nat → Prop} {so a : Nat} {rs : va_W} {n : Nat} {f : Nat → Int32} {i : Int32} {x : Int64} (hl9 : l.stackTraces = false) (hn : n < 2 ^ 31) (hi : ¬ vp_in i n) : KTv l yX6_put cX6_put 4 300 3 1010 D ty A ((so, .inr (6, [.ref a])) :: (a, .inl (ty 2, n, .inl f)) :: rs) [.ref so, .int i, .long x] "java/lang/ArrayIndexOutOfBoundsException" := by
  refine KTv.of (by decide) (Nat.le_of_ble_eq_true rfl) ?_
  intro p e R s m args below meth c Q C hlk hmc hms hX H locs ls h hl
  have C : Cx p R s m args c cX6_put 4 RX6 D ty A 300 := C
  have hl : lv_has ls 4 [(0, .ref so), (1, .int i), (2, .long x)] := hl
  refine lv_aload_n C.x C.b dX6_put_0 rfl (lv_at hl 0 rfl) ?_
  refine sl_g C h dX6_put_1 ?_
  refine sl_nsb C h rfl dX6_put_4 ?_
  refine lv_if_eq (tgt := 25) C.x C.b dX6_put_7 (by decide) (fun c9 => ?_) (fun c9 => ?_)
  rotate_left
  · exact absurd rfl c9
  refine lv_aload_n C.x C.b dX6_put_25 rfl (lv_at hl 0 rfl) ?_
  refine sl_g C h dX6_put_26 ?_
  refine sl_ys C h rfl dX6_put_29 ?_
  refine lv_if_eq (tgt := 50) C.x C.b dX6_put_32 (by decide) (fun c9 => ?_) (fun c9 => ?_)
  · exact absurd c9 (by decide)
  refine lv_aload_n C.x C.b dX6_put_35 rfl (lv_at hl 0 rfl) ?_
  refine sl_g C h dX6_put_36 ?_
  refine sl_cs C h rfl dX6_put_39 ?_
  refine lv_iload_n C.x C.b dX6_put_42 rfl (lv_at hl 1 rfl) ?_
  refine lv_lload_n C.x C.b dX6_put_43 rfl (lv_at hl 2 rfl) ?_
  refine lv_l2i C.x C.b dX6_put_44 rfl ?_
  refine lv_i2s C.x C.b dX6_put_45 rfl ?_
  refine vx_sastZ C.x C.b C.K h.1 1 2 rfl rfl hi dX6_put_46 (fun tx etx => ?_)
  subst etx
  exact e_ai C hl9 (Nat.le_refl _) h hl.1 (Nat.le_of_ble_eq_true rfl) (by omega) (by omega) hlk (index_text_modelled i n) (Nat.le_trans (index_text_bytes i hn) (by decide)) (fun H q9 ce h h1 h2 h3 => hX _ _ _ _ _ _ _ h h1 h2 h3)
set_option maxHeartbeats 4000000 in
theorem kS_size_i (l : Launch) {D : va_G} {ty : Nat → ClassId} {A : Nat → Prop} {so a : Nat} {rs : va_W} {n : Nat} {f : Nat → Int32} : KI l yX6_size cX6_size 1 .int 0 D ty A ((so, .inr (6, [.ref a])) :: (a, .inl (ty 0, n, .inl f)) :: rs) ((so, .inr (6, [.ref a])) :: (a, .inl (ty 0, n, .inl f)) :: rs) [.ref so] (Int32.ofNat n) := by
  refine KI.of (by decide) (Nat.le_of_ble_eq_true rfl) ?_
  intro p e R s m args below meth c Q C hR H locs ls h hl
  have C : Cx p R s m args c cX6_size 1 RX6 D ty A 0 := C
  have hl : lv_has ls 1 [(0, .ref so)] := hl
  refine lv_aload_n C.x C.b dX6_size_0 rfl (lv_at hl 0 rfl) ?_
  refine sl_g C h dX6_size_1 ?_
  refine sl_nib C h rfl dX6_size_4 ?_
  refine lv_if_eq (tgt := 21) C.x C.b dX6_size_7 (by decide) (fun c9 => ?_) (fun c9 => ?_)
  rotate_left
  · exact absurd rfl c9
  refine lv_aload_n C.x C.b dX6_size_21 rfl (lv_at hl 0 rfl) ?_
  refine sl_g C h dX6_size_22 ?_
  refine sl_nis C h rfl dX6_size_25 ?_
  refine lv_if_eq (tgt := 42) C.x C.b dX6_size_28 (by decide) (fun c9 => ?_) (fun c9 => ?_)
  rotate_left
  · exact absurd rfl c9
  refine lv_aload_n C.x C.b dX6_size_42 rfl (lv_at hl 0 rfl) ?_
  refine sl_g C h dX6_size_43 ?_
  refine sl_yi C h rfl dX6_size_46 ?_
  refine lv_if_eq (tgt := 63) C.x C.b dX6_size_49 (by decide) (fun c9 => ?_) (fun c9 => ?_)
  · exact absurd c9 (by decide)
  refine lv_aload_n C.x C.b dX6_size_52 rfl (lv_at hl 0 rfl) ?_
  refine sl_g C h dX6_size_53 ?_
  refine sl_ci C h rfl dX6_size_56 ?_
  refine va_alen (v := Int32.ofNat n) C.x C.b C.K h.1 1 0 rfl rfl rfl dX6_size_59 ?_
  refine lv_goto (tgt := 71) C.x C.b dX6_size_60 (by decide) ?_
  exact hR _ _ _ _ h rfl dX6_size_71
set_option maxHeartbeats 4000000 in
theorem kS_at_i (l : Launch) {D : va_G} {ty : Nat → ClassId} {A : Nat → Prop} {so a : Nat} {rs : va_W} {n : Nat} {f : Nat → Int32} {i : Int32} (hi : vp_in i n) : KL l yX6_at cX6_at 2 0 D ty A ((so, .inr (6, [.ref a])) :: (a, .inl (ty 0, n, .inl f)) :: rs) ((so, .inr (6, [.ref a])) :: (a, .inl (ty 0, n, .inl f)) :: rs) [.ref so, .int i] ((f i.toNatClampNeg).toInt64) := by
  refine KL.of (by decide) (Nat.le_of_ble_eq_true rfl) ?_
  intro p e R s m args below meth c Q C hR H locs ls h hl
  have C : Cx p R s m args c cX6_at 2 RX6 D ty A 0 := C
  have hl : lv_has ls 2 [(0, .ref so), (1, .int i)] := hl
  refine lv_aload_n C.x C.b dX6_at_0 rfl (lv_at hl 0 rfl) ?_
  refine sl_g C h dX6_at_1 ?_
  refine sl_nib C h rfl dX6_at_4 ?_
  refine lv_if_eq (tgt := 23) C.x C.b dX6_at_7 (by decide) (fun c9 => ?_) (fun c9 => ?_)
  rotate_left
  · exact absurd rfl c9
  refine lv_aload_n C.x C.b dX6_at_23 rfl (lv_at hl 0 rfl) ?_
  refine sl_g C h dX6_at_24 ?_
  refine sl_nis C h rfl dX6_at_27 ?_
  refine lv_if_eq (tgt := 46) C.x C.b dX6_at_30 (by decide) (fun c9 => ?_) (fun c9 => ?_)
  rotate_left
  · exact absurd rfl c9
  refine lv_aload_n C.x C.b dX6_at_46 rfl (lv_at hl 0 rfl) ?_
  refine sl_g C h dX6_at_47 ?_
  refine sl_yi C h rfl dX6_at_50 ?_
  refine lv_if_eq (tgt := 69) C.x C.b dX6_at_53 (by decide) (fun c9 => ?_) (fun c9 => ?_)
  · exact absurd c9 (by decide)
  refine lv_aload_n C.x C.b dX6_at_56 rfl (lv_at hl 0 rfl) ?_
  refine sl_g C h dX6_at_57 ?_
  refine sl_ci C h rfl dX6_at_60 ?_
  refine lv_iload_n C.x C.b dX6_at_63 rfl (lv_at hl 1 rfl) ?_
  refine va_iald C.x C.b C.K h.1 1 0 rfl rfl hi dX6_at_64 ?_
  refine lv_i2l C.x C.b dX6_at_65 rfl ?_
  refine lv_goto (tgt := 78) C.x C.b dX6_at_66 (by decide) ?_
  exact hR _ _ _ _ h dX6_at_78
set_option maxHeartbeats 4000000 in
theorem kS_put_i (l : Launch) {D : va_G} {ty : Nat → ClassId} {A : Nat → Prop} {so a : Nat} {rs : va_W} {n : Nat} {f : Nat → Int32} {i : Int32} {x : Int64} (hi : vp_in i n) : KV l yX6_put cX6_put 4 0 D ty A ((so, .inr (6, [.ref a])) :: (a, .inl (ty 0, n, .inl f)) :: rs) ((so, .inr (6, [.ref a])) :: (a, .inl (ty 0, n, .inl (upd f i.toNatClampNeg (x.toInt32)))) :: rs) [.ref so, .int i, .long x] := by
  refine KV.of (by decide) (Nat.le_of_ble_eq_true rfl) ?_
  intro p e R s m args below meth c Q C hR H locs ls h hl
  have C : Cx p R s m args c cX6_put 4 RX6 D ty A 0 := C
  have hl : lv_has ls 4 [(0, .ref so), (1, .int i), (2, .long x)] := hl
  refine lv_aload_n C.x C.b dX6_put_0 rfl (lv_at hl 0 rfl) ?_
  refine sl_g C h dX6_put_1 ?_
  refine sl_nib C h rfl dX6_put_4 ?_
  refine lv_if_eq (tgt := 25) C.x C.b dX6_put_7 (by decide) (fun c9 => ?_) (fun c9 => ?_)
  rotate_left
  · exact absurd rfl c9
  refine lv_aload_n C.x C.b dX6_put_25 rfl (lv_at hl 0 rfl) ?_
  refine sl_g C h dX6_put_26 ?_
  refine sl_nis C h rfl dX6_put_29 ?_
  refine lv_if_eq (tgt := 50) C.x C.b dX6_put_32 (by decide) (fun c9 => ?_) (fun c9 => ?_)
  rotate_left
  · exact absurd rfl c9
  refine lv_aload_n C.x C.b dX6_put_50 rfl (lv_at hl 0 rfl) ?_
  refine sl_g C h dX6_put_51 ?_
  refine sl_yi C h rfl dX6_put_54 ?_
  refine lv_if_eq (tgt := 74) C.x C.b dX6_put_57 (by decide) (fun c9 => ?_) (fun c9 => ?_)
  · exact absurd c9 (by decide)
  refine lv_aload_n C.x C.b dX6_put_60 rfl (lv_at hl 0 rfl) ?_
  refine sl_g C h dX6_put_61 ?_
  refine sl_ci C h rfl dX6_put_64 ?_
  refine lv_iload_n C.x C.b dX6_put_67 rfl (lv_at hl 1 rfl) ?_
  refine lv_lload_n C.x C.b dX6_put_68 rfl (lv_at hl 2 rfl) ?_
  refine lv_l2i C.x C.b dX6_put_69 rfl ?_
  refine va_iast C.x C.b C.K h.1 h.2.1 h.2.2 1 0 rfl rfl hi dX6_put_70 (fun H locs hP hD hS => ?_)
  refine lv_goto (tgt := 84) C.x C.b dX6_put_71 (by decide) ?_
  exact hR _ _ _ _ ⟨hP, hD, hS⟩ dX6_put_84
set_option maxHeartbeats 4000000 in
theorem kS_putZ_i (l : Launch) {D : va_G} {ty : Nat → ClassId} {A : Nat → Prop} {so a : Nat} {rs : va_W} {n : Nat} {f : Nat → Int32} {i : Int32} {x : Int64} (hl9 : l.stackTraces = false) (hn : n < 2 ^ 31) (hi : ¬ vp_in i n) : KTv l yX6_put cX6_put 4 300 3 1010 D ty A ((so, .inr (6, [.ref a])) :: (a, .inl (ty 0, n, .inl f)) :: rs) [.ref so, .int i, .long x] "java/lang/ArrayIndexOutOfBoundsException" := by
  refine KTv.of (by decide) (Nat.le_of_ble_eq_true rfl) ?_
  intro p e R s m args below meth c Q C hlk hmc hms hX H locs ls h hl
  have C : Cx p R s m args c cX6_put 4 RX6 D ty A 300 := C
  have hl : lv_has ls 4 [(0, .ref so), (1, .int i), (2, .long x)] := hl
  refine lv_aload_n C.x C.b dX6_put_0 rfl (lv_at hl 0 rfl) ?_
  refine sl_g C h dX6_put_1 ?_
  refine sl_nib C h rfl dX6_put_4 ?_
  refine lv_if_eq (tgt := 25) C.x C.b dX6_put_7 (by decide) (fun c9 => ?_) (fun c9 => ?_)
  rotate_left
  · exact absurd rfl c9
  refine lv_aload_n C.x C.b dX6_put_25 rfl (lv_at hl 0 rfl) ?_
  refine sl_g C h dX6_put_26 ?_
  refine sl_nis C h rfl dX6_put_29 ?_
  refine lv_if_eq (tgt := 50) C.x C.b dX6_put_32 (by decide) (fun c9 => ?_) (fun c9 => ?_)
  rotate_left
  · exact absurd rfl c9
  refine lv_aload_n C.x C.b dX6_put_50 rfl (lv_at hl 0 rfl) ?_
  refine sl_g C h dX6_put_51 ?_
  refine sl_yi C h rfl dX6_put_54 ?_
  refine lv_if_eq (tgt := 74) C.x C.b dX6_put_57 (by decide) (fun c9 => ?_) (fun c9 => ?_)
  · exact absurd c9 (by decide)
  refine lv_aload_n C.x C.b dX6_put_60 rfl (lv_at hl 0 rfl) ?_
  refine sl_g C h dX6_put_61 ?_
  refine sl_ci C h rfl dX6_put_64 ?_
  refine lv_iload_n C.x C.b dX6_put_67 rfl (lv_at hl 1 rfl) ?_
  refine lv_lload_n C.x C.b dX6_put_68 rfl (lv_at hl 2 rfl) ?_
  refine lv_l2i C.x C.b dX6_put_69 rfl ?_
  refine vx_iastZ C.x C.b C.K h.1 1 0 rfl rfl hi dX6_put_70 (fun tx etx => ?_)
  subst etx
  exact e_ai C hl9 (Nat.le_refl _) h hl.1 (Nat.le_of_ble_eq_true rfl) (by omega) (by omega) hlk (index_text_modelled i n) (Nat.le_trans (index_text_bytes i hn) (by decide)) (fun H q9 ce h h1 h2 h3 => hX _ _ _ _ _ _ _ h h1 h2 h3)
set_option maxHeartbeats 4000000 in
theorem kS_size_l (l : Launch) {D : va_G} {ty : Nat → ClassId} {A : Nat → Prop} {so a : Nat} {rs : va_W} {n : Nat} {f : Nat → Int64} : KI l yX6_size cX6_size 1 .int 0 D ty A ((so, .inr (6, [.ref a])) :: (a, .inl (ty 3, n, .inr (.inl f))) :: rs) ((so, .inr (6, [.ref a])) :: (a, .inl (ty 3, n, .inr (.inl f))) :: rs) [.ref so] (Int32.ofNat n) := by
  refine KI.of (by decide) (Nat.le_of_ble_eq_true rfl) ?_
  intro p e R s m args below meth c Q C hR H locs ls h hl
  have C : Cx p R s m args c cX6_size 1 RX6 D ty A 0 := C
  have hl : lv_has ls 1 [(0, .ref so)] := hl
  refine lv_aload_n C.x C.b dX6_size_0 rfl (lv_at hl 0 rfl) ?_
  refine sl_g C h dX6_size_1 ?_
  refine sl_nlb C h rfl dX6_size_4 ?_
  refine lv_if_eq (tgt := 21) C.x C.b dX6_size_7 (by decide) (fun c9 => ?_) (fun c9 => ?_)
  rotate_left
  · exact absurd rfl c9
  refine lv_aload_n C.x C.b dX6_size_21 rfl (lv_at hl 0 rfl) ?_
  refine sl_g C h dX6_size_22 ?_
  refine sl_nls C h rfl dX6_size_25 ?_
  refine lv_if_eq (tgt := 42) C.x C.b dX6_size_28 (by decide) (fun c9 => ?_) (fun c9 => ?_)
  rotate_left
  · exact absurd rfl c9
  refine lv_aload_n C.x C.b dX6_size_42 rfl (lv_at hl 0 rfl) ?_
  refine sl_g C h dX6_size_43 ?_
  refine sl_nli C h rfl dX6_size_46 ?_
  refine lv_if_eq (tgt := 63) C.x C.b dX6_size_49 (by decide) (fun c9 => ?_) (fun c9 => ?_)
  rotate_left
  · exact absurd rfl c9
  refine lv_aload_n C.x C.b dX6_size_63 rfl (lv_at hl 0 rfl) ?_
  refine sl_g C h dX6_size_64 ?_
  refine sl_cl C h rfl dX6_size_67 ?_
  refine va_alen (v := Int32.ofNat n) C.x C.b C.K h.1 1 3 rfl rfl rfl dX6_size_70 ?_
  exact hR _ _ _ _ h rfl dX6_size_71
set_option maxHeartbeats 4000000 in
theorem kS_at_l (l : Launch) {D : va_G} {ty : Nat → ClassId} {A : Nat → Prop} {so a : Nat} {rs : va_W} {n : Nat} {f : Nat → Int64} {i : Int32} (hi : vp_in i n) : KL l yX6_at cX6_at 2 0 D ty A ((so, .inr (6, [.ref a])) :: (a, .inl (ty 3, n, .inr (.inl f))) :: rs) ((so, .inr (6, [.ref a])) :: (a, .inl (ty 3, n, .inr (.inl f))) :: rs) [.ref so, .int i] (f i.toNatClampNeg) := by
  refine KL.of (by decide) (Nat.le_of_ble_eq_true rfl) ?_
  intro p e R s m args below meth c Q C hR H locs ls h hl
  have C : Cx p R s m args c cX6_at 2 RX6 D ty A 0 := C
  have hl : lv_has ls 2 [(0, .ref so), (1, .int i)] := hl
  refine lv_aload_n C.x C.b dX6_at_0 rfl (lv_at hl 0 rfl) ?_
  refine sl_g C h dX6_at_1 ?_
  refine sl_nlb C h rfl dX6_at_4 ?_
  refine lv_if_eq (tgt := 23) C.x C.b dX6_at_7 (by decide) (fun c9 => ?_) (fun c9 => ?_)
  rotate_left
  · exact absurd rfl c9
  refine lv_aload_n C.x C.b dX6_at_23 rfl (lv_at hl 0 rfl) ?_
  refine sl_g C h dX6_at_24 ?_
  refine sl_nls C h rfl dX6_at_27 ?_
  refine lv_if_eq (tgt := 46) C.x C.b dX6_at_30 (by decide) (fun c9 => ?_) (fun c9 => ?_)
  rotate_left
  · exact absurd rfl c9
  refine lv_aload_n C.x C.b dX6_at_46 rfl (lv_at hl 0 rfl) ?_
  refine sl_g C h dX6_at_47 ?_
  refine sl_nli C h rfl dX6_at_50 ?_
  refine lv_if_eq (tgt := 69) C.x C.b dX6_at_53 (by decide) (fun c9 => ?_) (fun c9 => ?_)
  rotate_left
  · exact absurd rfl c9
  refine lv_aload_n C.x C.b dX6_at_69 rfl (lv_at hl 0 rfl) ?_
  refine sl_g C h dX6_at_70 ?_
  refine sl_cl C h rfl dX6_at_73 ?_
  refine lv_iload_n C.x C.b dX6_at_76 rfl (lv_at hl 1 rfl) ?_
  refine va_lald C.x C.b C.K h.1 1 3 rfl rfl hi dX6_at_77 ?_
  exact hR _ _ _ _ h dX6_at_78
set_option maxHeartbeats 4000000 in
theorem kS_put_l (l : Launch) {D : va_G} {ty : Nat → ClassId} {A : Nat → Prop} {so a : Nat} {rs : va_W} {n : Nat} {f : Nat → Int64} {i : Int32} {x : Int64} (hi : vp_in i n) : KV l yX6_put cX6_put 4 0 D ty A ((so, .inr (6, [.ref a])) :: (a, .inl (ty 3, n, .inr (.inl f))) :: rs) ((so, .inr (6, [.ref a])) :: (a, .inl (ty 3, n, .inr (.inl (vp_updL f i.toNatClampNeg x)))) :: rs) [.ref so, .int i, .long x] := by
  refine KV.of (by decide) (Nat.le_of_ble_eq_true rfl) ?_
  intro p e R s m args below meth c Q C hR H locs ls h hl
  have C : Cx p R s m args c cX6_put 4 RX6 D ty A 0 := C
  have hl : lv_has ls 4 [(0, .ref so), (1, .int i), (2, .long x)] := hl
  refine lv_aload_n C.x C.b dX6_put_0 rfl (lv_at hl 0 rfl) ?_
  refine sl_g C h dX6_put_1 ?_
  refine sl_nlb C h rfl dX6_put_4 ?_
  refine lv_if_eq (tgt := 25) C.x C.b dX6_put_7 (by decide) (fun c9 => ?_) (fun c9 => ?_)
  rotate_left
  · exact absurd rfl c9
  refine lv_aload_n C.x C.b dX6_put_25 rfl (lv_at hl 0 rfl) ?_
  refine sl_g C h dX6_put_26 ?_
  refine sl_nls C h rfl dX6_put_29 ?_
  refine lv_if_eq (tgt := 50) C.x C.b dX6_put_32 (by decide) (fun c9 => ?_) (fun c9 => ?_)
  rotate_left
  · exact absurd rfl c9
  refine lv_aload_n C.x C.b dX6_put_50 rfl (lv_at hl 0 rfl) ?_
  refine sl_g C h dX6_put_51 ?_
  refine sl_nli C h rfl dX6_put_54 ?_
  refine lv_if_eq (tgt := 74) C.x C.b dX6_put_57 (by decide) (fun c9 => ?_) (fun c9 => ?_)
  rotate_left
  · exact absurd rfl c9
  refine lv_aload_n C.x C.b dX6_put_74 rfl (lv_at hl 0 rfl) ?_
  refine sl_g C h dX6_put_75 ?_
  refine sl_cl C h rfl dX6_put_78 ?_
  refine lv_iload_n C.x C.b dX6_put_81 rfl (lv_at hl 1 rfl) ?_
  refine lv_lload_n C.x C.b dX6_put_82 rfl (lv_at hl 2 rfl) ?_
  refine va_last C.x C.b C.K h.1 h.2.1 h.2.2 1 3 rfl rfl hi dX6_put_83 (fun H locs hP hD hS => ?_)
  exact hR _ _ _ _ ⟨hP, hD, hS⟩ dX6_put_84
set_option maxHeartbeats 4000000 in
theorem kS_putZ_l (l : Launch) {D : va_G} {ty : Nat → ClassId} {A : Nat → Prop} {so a : Nat} {rs : va_W} {n : Nat} {f : Nat → Int64} {i : Int32} {x : Int64} (hl9 : l.stackTraces = false) (hn : n < 2 ^ 31) (hi : ¬ vp_in i n) : KTv l yX6_put cX6_put 4 300 3 1010 D ty A ((so, .inr (6, [.ref a])) :: (a, .inl (ty 3, n, .inr (.inl f))) :: rs) [.ref so, .int i, .long x] "java/lang/ArrayIndexOutOfBoundsException" := by
  refine KTv.of (by decide) (Nat.le_of_ble_eq_true rfl) ?_
  intro p e R s m args below meth c Q C hlk hmc hms hX H locs ls h hl
  have C : Cx p R s m args c cX6_put 4 RX6 D ty A 300 := C
  have hl : lv_has ls 4 [(0, .ref so), (1, .int i), (2, .long x)] := hl
  refine lv_aload_n C.x C.b dX6_put_0 rfl (lv_at hl 0 rfl) ?_
  refine sl_g C h dX6_put_1 ?_
  refine sl_nlb C h rfl dX6_put_4 ?_
  refine lv_if_eq (tgt := 25) C.x C.b dX6_put_7 (by decide) (fun c9 => ?_) (fun c9 => ?_)
  rotate_left
  · exact absurd rfl c9
  refine lv_aload_n C.x C.b dX6_put_25 rfl (lv_at hl 0 rfl) ?_
  refine sl_g C h dX6_put_26 ?_
  refine sl_nls C h rfl dX6_put_29 ?_
  refine lv_if_eq (tgt := 50) C.x C.b dX6_put_32 (by decide) (fun c9 => ?_) (fun c9 => ?_)
  rotate_left
  · exact absurd rfl c9
  refine lv_aload_n C.x C.b dX6_put_50 rfl (lv_at hl 0 rfl) ?_
  refine sl_g C h dX6_put_51 ?_
  refine sl_nli C h rfl dX6_put_54 ?_
  refine lv_if_eq (tgt := 74) C.x C.b dX6_put_57 (by decide) (fun c9 => ?_) (fun c9 => ?_)
  rotate_left
  · exact absurd rfl c9
  refine lv_aload_n C.x C.b dX6_put_74 rfl (lv_at hl 0 rfl) ?_
  refine sl_g C h dX6_put_75 ?_
  refine sl_cl C h rfl dX6_put_78 ?_
  refine lv_iload_n C.x C.b dX6_put_81 rfl (lv_at hl 1 rfl) ?_
  refine lv_lload_n C.x C.b dX6_put_82 rfl (lv_at hl 2 rfl) ?_
  refine vx_lastZ C.x C.b C.K h.1 1 3 rfl rfl hi dX6_put_83 (fun tx etx => ?_)
  subst etx
  exact e_ai C hl9 (Nat.le_refl _) h hl.1 (Nat.le_of_ble_eq_true rfl) (by omega) (by omega) hlk (index_text_modelled i n) (Nat.le_trans (index_text_bytes i hn) (by decide)) (fun H q9 ce h h1 h2 h3 => hX _ _ _ _ _ _ _ h h1 h2 h3)
set_option maxHeartbeats 4000000 in
theorem kS_size_N (l : Launch) {D : va_G} {ty : Nat → ClassId} {A : Nat → Prop} {so a : Nat} {rs : va_W} (hl9 : l.stackTraces = false) : KTi l yX6_size cX6_size 1 .int 300 1 8 D ty A ((so, .inr (6, [.null])) :: rs) [.ref so] "java/lang/NullPointerException" := by
  refine KTi.of (by decide) (Nat.le_of_ble_eq_true rfl) ?_
  intro p e R s m args below meth c Q C hlk hmc hms hX H locs ls h hl
  have C : Cx p R s m args c cX6_size 1 RX6 D ty A 300 := C
  have hl : lv_has ls 1 [(0, .ref so)] := hl
  refine lv_aload_n C.x C.b dX6_size_0 rfl (lv_at hl 0 rfl) ?_
  refine sl_g C h dX6_size_1 ?_
  refine lv_instN C.x C.b dX6_size_4 ?_
  refine lv_if_eq (tgt := 21) C.x C.b dX6_size_7 (by decide) (fun c9 => ?_) (fun c9 => ?_)
  rotate_left
  · exact absurd rfl c9
  refine lv_aload_n C.x C.b dX6_size_21 rfl (lv_at hl 0 rfl) ?_
  refine sl_g C h dX6_size_22 ?_
  refine lv_instN C.x C.b dX6_size_25 ?_
  refine lv_if_eq (tgt := 42) C.x C.b dX6_size_28 (by decide) (fun c9 => ?_) (fun c9 => ?_)
  rotate_left
  · exact absurd rfl c9
  refine lv_aload_n C.x C.b dX6_size_42 rfl (lv_at hl 0 rfl) ?_
  refine sl_g C h dX6_size_43 ?_
  refine lv_instN C.x C.b dX6_size_46 ?_
  refine lv_if_eq (tgt := 63) C.x C.b dX6_size_49 (by decide) (fun c9 => ?_) (fun c9 => ?_)
  rotate_left
  · exact absurd rfl c9
  refine lv_aload_n C.x C.b dX6_size_63 rfl (lv_at hl 0 rfl) ?_
  refine sl_g C h dX6_size_64 ?_
  refine lv_castN C.x C.b dX6_size_67 ?_
  exact vx_arraylengthN C.x C.b dX6_size_70 (e_npe C hl9 (Nat.le_refl _) h hl.1 (Nat.le_of_ble_eq_true rfl) (by omega) (by omega) hlk (fun H q9 ce h h1 h2 h3 => hX _ _ _ _ _ _ _ h h1 h2 h3))
set_option maxHeartbeats 4000000 in
theorem kS_put_N (l : Launch) {D : va_G} {ty : Nat → ClassId} {A : Nat → Prop} {so a : Nat} {rs : va_W} {i : Int32} {x : Int64} (hl9 : l.stackTraces = false) : KTv l yX6_put cX6_put 4 300 1 8 D ty A ((so, .inr (6, [.null])) :: rs) [.ref so, .int i, .long x] "java/lang/NullPointerException" := by
  refine KTv.of (by decide) (Nat.le_of_ble_eq_true rfl) ?_
  intro p e R s m args below meth c Q C hlk hmc hms hX H locs ls h hl
  have C : Cx p R s m args c cX6_put 4 RX6 D ty A 300 := C
  have hl : lv_has ls 4 [(0, .ref so), (1, .int i), (2, .long x)] := hl
  refine lv_aload_n C.x C.b dX6_put_0 rfl (lv_at hl 0 rfl) ?_
  refine sl_g C h dX6_put_1 ?_
  refine lv_instN C.x C.b dX6_put_4 ?_
  refine lv_if_eq (tgt := 25) C.x C.b dX6_put_7 (by decide) (fun c9 => ?_) (fun c9 => ?_)
  rotate_left
  · exact absurd rfl c9
  refine lv_aload_n C.x C.b dX6_put_25 rfl (lv_at hl 0 rfl) ?_
  refine sl_g C h dX6_put_26 ?_
  refine lv_instN C.x C.b dX6_put_29 ?_
  refine lv_if_eq (tgt := 50) C.x C.b dX6_put_32 (by decide) (fun c9 => ?_) (fun c9 => ?_)
  rotate_left
  · exact absurd rfl c9
  refine lv_aload_n C.x C.b dX6_put_50 rfl (lv_at hl 0 rfl) ?_
  refine sl_g C h dX6_put_51 ?_
  refine lv_instN C.x C.b dX6_put_54 ?_
  refine lv_if_eq (tgt := 74) C.x C.b dX6_put_57 (by decide) (fun c9 => ?_) (fun c9 => ?_)
  rotate_left
  · exact absurd rfl c9
  refine lv_aload_n C.x C.b dX6_put_74 rfl (lv_at hl 0 rfl) ?_
  refine sl_g C h dX6_put_75 ?_
  refine lv_castN C.x C.b dX6_put_78 ?_
  refine lv_iload_n C.x C.b dX6_put_81 rfl (lv_at hl 1 rfl) ?_
  refine lv_lload_n C.x C.b dX6_put_82 rfl (lv_at hl 2 rfl) ?_
  exact vx_lastoreN C.x C.b dX6_put_83 (e_npe C hl9 (Nat.le_refl _) h hl.1 (Nat.le_of_ble_eq_true rfl) (by omega) (by omega) hlk (fun H q9 ce h h1 h2 h3 => hX _ _ _ _ _ _ _ h h1 h2 h3))
set_option maxHeartbeats 4000000 in
theorem kS_make_b (l : Launch) {D : va_G} {ty : Nat → ClassId} {A : Nat → Prop} {so : Nat} {v : Value} {n : Int32} {N : Nat} (hn : ¬ n < 0) (hN : n.toNatClampNeg = N) (hb : N * componentBytes .byte ≤ 536870912) : KVx l yX6_make cX6_make 3 0 1 N D ty A [(so, .inr (6, [v]))] [.ref so, .int 0, .int n] (fun (_ : Nat) => True) (fun a => [(so, .inr (6, [.ref a])), (a, .inl (ty 1, N, .inl (fun _ => 0)))]) := by
  refine KVx.of (by decide) (Nat.le_of_ble_eq_true rfl) ?_
  intro p e R s m args below meth c Q C hin hmc hms hR H locs ls h hl
  have C : Cx p R s m args c cX6_make 3 RX6 D ty A 0 := C
  have hl : lv_has ls 3 [(0, .ref so), (1, .int 0), (2, .int n)] := hl
  refine lv_aload_n C.x C.b dX6_make_0 rfl (lv_at hl 0 rfl) ?_
  refine lv_iload_n C.x C.b dX6_make_1 rfl (lv_at hl 1 rfl) ?_
  refine lv_if_ne (tgt := 11) C.x C.b dX6_make_2 (by decide) (fun c9 => ?_) (fun c9 => ?_)
  · exact absurd rfl c9
  refine lv_iload_n C.x C.b dX6_make_5 rfl (lv_at hl 2 rfl) ?_
  refine n_arr_byte (N := N) C h hn hN hb (by omega) (by omega) dX6_make_6 (fun a H h => ?_)
  refine lv_goto (tgt := 36) C.x C.b dX6_make_8 (by decide) ?_
  refine va_put (D := D) (ci := 6) (ty := .object "java/lang/Object") (v := .ref a) (fs := [v]) C.x C.b C.ts in_X6 tyX6 tyX6_ok nmX6 C.own C.K h.1 h.2.1 h.2.2 0 rfl rfl 0 (by decide) (C.ts _ q312) (fun _ h9 => h9) rfl (by decide +kernel) rfl rfl (Nat.le_of_ble_eq_true rfl) dX6_make_36 (fun H locs hP hD hS => ?_)
  refine W.widen (k := 1) (n := N) (by omega) (by omega) ?_
  exact hR a _ _ _ _ trivial ⟨hP, hD, hS⟩ dX6_make_39
set_option maxHeartbeats 4000000 in
theorem kS_makeZ_b (l : Launch) {D : va_G} {ty : Nat → ClassId} {A : Nat → Prop} {so : Nat} {rs : va_W} {v : Value} {n : Int32} (hl9 : l.stackTraces = false) (hn : n < 0) : KTv l yX6_make cX6_make 3 300 3 1010 D ty A ((so, .inr (6, [v])) :: rs) [.ref so, .int 0, .int n] "java/lang/NegativeArraySizeException" := by
  refine KTv.of (by decide) (Nat.le_of_ble_eq_true rfl) ?_
  intro p e R s m args below meth c Q C hlk hmc hms hX H locs ls h hl
  have C : Cx p R s m args c cX6_make 3 RX6 D ty A 300 := C
  have hl : lv_has ls 3 [(0, .ref so), (1, .int 0), (2, .int n)] := hl
  refine lv_aload_n C.x C.b dX6_make_0 rfl (lv_at hl 0 rfl) ?_
  refine lv_iload_n C.x C.b dX6_make_1 rfl (lv_at hl 1 rfl) ?_
  refine lv_if_ne (tgt := 11) C.x C.b dX6_make_2 (by decide) (fun c9 => ?_) (fun c9 => ?_)
  · exact absurd rfl c9
  refine lv_iload_n C.x C.b dX6_make_5 rfl (lv_at hl 2 rfl) ?_
  refine vx_newarrayZ C.x C.b hn dX6_make_6 (fun tx etx => ?_)
  subst etx
  exact e_na C hl9 (Nat.le_refl _) h hl.1 (Nat.le_of_ble_eq_true rfl) (by omega) (by omega) hlk (negative_text_modelled hn) (Nat.le_trans (negative_text_bytes n) (by decide)) (fun H q9 ce h h1 h2 h3 => hX _ _ _ _ _ _ _ h h1 h2 h3)
set_option maxHeartbeats 4000000 in
theorem kS_make_s (l : Launch) {D : va_G} {ty : Nat → ClassId} {A : Nat → Prop} {so : Nat} {v : Value} {n : Int32} {N : Nat} (hn : ¬ n < 0) (hN : n.toNatClampNeg = N) (hb : N * componentBytes .short ≤ 536870912) : KVx l yX6_make cX6_make 3 0 1 N D ty A [(so, .inr (6, [v]))] [.ref so, .int 1, .int n] (fun (_ : Nat) => True) (fun a => [(so, .inr (6, [.ref a])), (a, .inl (ty 2, N, .inl (fun _ => 0)))]) := by
  refine KVx.of (by decide) (Nat.le_of_ble_eq_true rfl) ?_
  intro p e R s m args below meth c Q C hin hmc hms hR H locs ls h hl
  have C : Cx p R s m args c cX6_make 3 RX6 D ty A 0 := C
  have hl : lv_has ls 3 [(0, .ref so), (1, .int 1), (2, .int n)] := hl
  refine lv_aload_n C.x C.b dX6_make_0 rfl (lv_at hl 0 rfl) ?_
  refine lv_iload_n C.x C.b dX6_make_1 rfl (lv_at hl 1 rfl) ?_
  refine lv_if_ne (tgt := 11) C.x C.b dX6_make_2 (by decide) (fun c9 => ?_) (fun c9 => ?_)
  rotate_left
  · exact absurd c9 (by decide)
  refine lv_iload_n C.x C.b dX6_make_11 rfl (lv_at hl 1 rfl) ?_
  refine lv_iconst (v := 1) C.x C.b dX6_make_12 (by decide) ?_
  refine lv_icmp_ne (tgt := 22) C.x C.b dX6_make_13 (by decide) (fun c9 => ?_) (fun c9 => ?_)
  · exact absurd rfl c9
  refine lv_iload_n C.x C.b dX6_make_16 rfl (lv_at hl 2 rfl) ?_
  refine n_arr_short (N := N) C h hn hN hb (by omega) (by omega) dX6_make_17 (fun a H h => ?_)
  refine lv_goto (tgt := 36) C.x C.b dX6_make_19 (by decide) ?_
  refine va_put (D := D) (ci := 6) (ty := .object "java/lang/Object") (v := .ref a) (fs := [v]) C.x C.b C.ts in_X6 tyX6 tyX6_ok nmX6 C.own C.K h.1 h.2.1 h.2.2 0 rfl rfl 0 (by decide) (C.ts _ q312) (fun _ h9 => h9) rfl (by decide +kernel) rfl rfl (Nat.le_of_ble_eq_true rfl) dX6_make_36 (fun H locs hP hD hS => ?_)
  refine W.widen (k := 1) (n := N) (by omega) (by omega) ?_
  exact hR a _ _ _ _ trivial ⟨hP, hD, hS⟩ dX6_make_39
set_option maxHeartbeats 4000000 in
theorem kS_makeZ_s (l : Launch) {D : va_G} {ty : Nat → ClassId} {A : Nat → Prop} {so : Nat} {rs : va_W} {v : Value} {n : Int32} (hl9 : l.stackTraces = false) (hn : n < 0) : KTv l yX6_make cX6_make 3 300 3 1010 D ty A ((so, .inr (6, [v])) :: rs) [.ref so, .int 1, .int n] "java/lang/NegativeArraySizeException" := by
  refine KTv.of (by decide) (Nat.le_of_ble_eq_true rfl) ?_
  intro p e R s m args below meth c Q C hlk hmc hms hX H locs ls h hl
  have C : Cx p R s m args c cX6_make 3 RX6 D ty A 300 := C
  have hl : lv_has ls 3 [(0, .ref so), (1, .int 1), (2, .int n)] := hl
  refine lv_aload_n C.x C.b dX6_make_0 rfl (lv_at hl 0 rfl) ?_
  refine lv_iload_n C.x C.b dX6_make_1 rfl (lv_at hl 1 rfl) ?_
  refine lv_if_ne (tgt := 11) C.x C.b dX6_make_2 (by decide) (fun c9 => ?_) (fun c9 => ?_)
  rotate_left
  · exact absurd c9 (by decide)
  refine lv_iload_n C.x C.b dX6_make_11 rfl (lv_at hl 1 rfl) ?_
  refine lv_iconst (v := 1) C.x C.b dX6_make_12 (by decide) ?_
  refine lv_icmp_ne (tgt := 22) C.x C.b dX6_make_13 (by decide) (fun c9 => ?_) (fun c9 => ?_)
  · exact absurd rfl c9
  refine lv_iload_n C.x C.b dX6_make_16 rfl (lv_at hl 2 rfl) ?_
  refine vx_newarrayZ C.x C.b hn dX6_make_17 (fun tx etx => ?_)
  subst etx
  exact e_na C hl9 (Nat.le_refl _) h hl.1 (Nat.le_of_ble_eq_true rfl) (by omega) (by omega) hlk (negative_text_modelled hn) (Nat.le_trans (negative_text_bytes n) (by decide)) (fun H q9 ce h h1 h2 h3 => hX _ _ _ _ _ _ _ h h1 h2 h3)
set_option maxHeartbeats 4000000 in
theorem kS_make_i (l : Launch) {D : va_G} {ty : Nat → ClassId} {A : Nat → Prop} {so : Nat} {v : Value} {n : Int32} {N : Nat} (hn : ¬ n < 0) (hN : n.toNatClampNeg = N) (hb : N * componentBytes .int ≤ 536870912) : KVx l yX6_make cX6_make 3 0 1 N D ty A [(so, .inr (6, [v]))] [.ref so, .int 2, .int n] (fun (_ : Nat) => True) (fun a => [(so, .inr (6, [.ref a])), (a, .inl (ty 0, N, .inl (fun _ => 0)))]) := by
  refine KVx.of (by decide) (Nat.le_of_ble_eq_true rfl) ?_
  intro p e R s m args below meth c Q C hin hmc hms hR H locs ls h hl
  have C : Cx p R s m args c cX6_make 3 RX6 D ty A 0 := C
  have hl : lv_has ls 3 [(0, .ref so), (1, .int 2), (2, .int n)] := hl
  refine lv_aload_n C.x C.b dX6_make_0 rfl (lv_at hl 0 rfl) ?_
  refine lv_iload_n C.x C.b dX6_make_1 rfl (lv_at hl 1 rfl) ?_
  refine lv_if_ne (tgt := 11) C.x C.b dX6_make_2 (by decide) (fun c9 => ?_) (fun c9 => ?_)
  rotate_left
  · exact absurd c9 (by decide)
  refine lv_iload_n C.x C.b dX6_make_11 rfl (lv_at hl 1 rfl) ?_
  refine lv_iconst (v := 1) C.x C.b dX6_make_12 (by decide) ?_
  refine lv_icmp_ne (tgt := 22) C.x C.b dX6_make_13 (by decide) (fun c9 => ?_) (fun c9 => ?_)
  rotate_left
  · exact absurd c9 (by decide)
  refine lv_iload_n C.x C.b dX6_make_22 rfl (lv_at hl 1 rfl) ?_
  refine lv_iconst (v := 2) C.x C.b dX6_make_23 (by decide) ?_
  refine lv_icmp_ne (tgt := 33) C.x C.b dX6_make_24 (by decide) (fun c9 => ?_) (fun c9 => ?_)
  · exact absurd rfl c9
  refine lv_iload_n C.x C.b dX6_make_27 rfl (lv_at hl 2 rfl) ?_
  refine n_arr_int (N := N) C h hn hN hb (by omega) (by omega) dX6_make_28 (fun a H h => ?_)
  refine lv_goto (tgt := 36) C.x C.b dX6_make_30 (by decide) ?_
  refine va_put (D := D) (ci := 6) (ty := .object "java/lang/Object") (v := .ref a) (fs := [v]) C.x C.b C.ts in_X6 tyX6 tyX6_ok nmX6 C.own C.K h.1 h.2.1 h.2.2 0 rfl rfl 0 (by decide) (C.ts _ q312) (fun _ h9 => h9) rfl (by decide +kernel) rfl rfl (Nat.le_of_ble_eq_true rfl) dX6_make_36 (fun H locs hP hD hS => ?_)
  refine W.widen (k := 1) (n := N) (by omega) (by omega) ?_
  exact hR a _ _ _ _ trivial ⟨hP, hD, hS⟩ dX6_make_39
set_option maxHeartbeats 4000000 in
theorem kS_makeZ_i (l : Launch) {D : va_G} {ty : Nat → ClassId} {A : Nat → Prop} {so : Nat} {rs : va_W} {v : Value} {n : Int32} (hl9 : l.stackTraces = false) (hn : n < 0) : KTv l yX6_make cX6_make 3 300 3 1010 D ty A ((so, .inr (6, [v])) :: rs) [.ref so, .int 2, .int n] "java/lang/NegativeArraySizeException" := by
  refine KTv.of (by decide) (Nat.le_of_ble_eq_true rfl) ?_
  intro p e R s m args below meth c Q C hlk hmc hms hX H locs ls h hl
  have C : Cx p R s m args c cX6_make 3 RX6 D ty A 300 := C
  have hl : lv_has ls 3 [(0, .ref so), (1, .int 2), (2, .int n)] := hl
  refine lv_aload_n C.x C.b dX6_make_0 rfl (lv_at hl 0 rfl) ?_
  refine lv_iload_n C.x C.b dX6_make_1 rfl (lv_at hl 1 rfl) ?_
  refine lv_if_ne (tgt := 11) C.x C.b dX6_make_2 (by decide) (fun c9 => ?_) (fun c9 => ?_)
  rotate_left
  · exact absurd c9 (by decide)
  refine lv_iload_n C.x C.b dX6_make_11 rfl (lv_at hl 1 rfl) ?_
  refine lv_iconst (v := 1) C.x C.b dX6_make_12 (by decide) ?_
  refine lv_icmp_ne (tgt := 22) C.x C.b dX6_make_13 (by decide) (fun c9 => ?_) (fun c9 => ?_)
  rotate_left
  · exact absurd c9 (by decide)
  refine lv_iload_n C.x C.b dX6_make_22 rfl (lv_at hl 1 rfl) ?_
  refine lv_iconst (v := 2) C.x C.b dX6_make_23 (by decide) ?_
  refine lv_icmp_ne (tgt := 33) C.x C.b dX6_make_24 (by decide) (fun c9 => ?_) (fun c9 => ?_)
  · exact absurd rfl c9
  refine lv_iload_n C.x C.b dX6_make_27 rfl (lv_at hl 2 rfl) ?_
  refine vx_newarrayZ C.x C.b hn dX6_make_28 (fun tx etx => ?_)
  subst etx
  exact e_na C hl9 (Nat.le_refl _) h hl.1 (Nat.le_of_ble_eq_true rfl) (by omega) (by omega) hlk (negative_text_modelled hn) (Nat.le_trans (negative_text_bytes n) (by decide)) (fun H q9 ce h h1 h2 h3 => hX _ _ _ _ _ _ _ h h1 h2 h3)
set_option maxHeartbeats 4000000 in
theorem kS_make_l (l : Launch) {D : va_G} {ty : Nat → ClassId} {A : Nat → Prop} {so : Nat} {v : Value} {n : Int32} {N : Nat} (hn : ¬ n < 0) (hN : n.toNatClampNeg = N) (hb : N * componentBytes .long ≤ 536870912) : KVx l yX6_make cX6_make 3 0 1 N D ty A [(so, .inr (6, [v]))] [.ref so, .int 3, .int n] (fun (_ : Nat) => True) (fun a => [(so, .inr (6, [.ref a])), (a, .inl (ty 3, N, .inr (.inl (fun _ => 0))))]) := by
  refine KVx.of (by decide) (Nat.le_of_ble_eq_true rfl) ?_
  intro p e R s m args below meth c Q C hin hmc hms hR H locs ls h hl
  have C : Cx p R s m args c cX6_make 3 RX6 D ty A 0 := C
  have hl : lv_has ls 3 [(0, .ref so), (1, .int 3), (2, .int n)] := hl
  refine lv_aload_n C.x C.b dX6_make_0 rfl (lv_at hl 0 rfl) ?_
  refine lv_iload_n C.x C.b dX6_make_1 rfl (lv_at hl 1 rfl) ?_
  refine lv_if_ne (tgt := 11) C.x C.b dX6_make_2 (by decide) (fun c9 => ?_) (fun c9 => ?_)
  rotate_left
  · exact absurd c9 (by decide)
  refine lv_iload_n C.x C.b dX6_make_11 rfl (lv_at hl 1 rfl) ?_
  refine lv_iconst (v := 1) C.x C.b dX6_make_12 (by decide) ?_
  refine lv_icmp_ne (tgt := 22) C.x C.b dX6_make_13 (by decide) (fun c9 => ?_) (fun c9 => ?_)
  rotate_left
  · exact absurd c9 (by decide)
  refine lv_iload_n C.x C.b dX6_make_22 rfl (lv_at hl 1 rfl) ?_
  refine lv_iconst (v := 2) C.x C.b dX6_make_23 (by decide) ?_
  refine lv_icmp_ne (tgt := 33) C.x C.b dX6_make_24 (by decide) (fun c9 => ?_) (fun c9 => ?_)
  rotate_left
  · exact absurd c9 (by decide)
  refine lv_iload_n C.x C.b dX6_make_33 rfl (lv_at hl 2 rfl) ?_
  refine n_arr_long (N := N) C h hn hN hb (by omega) (by omega) dX6_make_34 (fun a H h => ?_)
  refine va_put (D := D) (ci := 6) (ty := .object "java/lang/Object") (v := .ref a) (fs := [v]) C.x C.b C.ts in_X6 tyX6 tyX6_ok nmX6 C.own C.K h.1 h.2.1 h.2.2 0 rfl rfl 0 (by decide) (C.ts _ q312) (fun _ h9 => h9) rfl (by decide +kernel) rfl rfl (Nat.le_of_ble_eq_true rfl) dX6_make_36 (fun H locs hP hD hS => ?_)
  refine W.widen (k := 1) (n := N) (by omega) (by omega) ?_
  exact hR a _ _ _ _ trivial ⟨hP, hD, hS⟩ dX6_make_39
set_option maxHeartbeats 4000000 in
theorem kS_makeZ_l (l : Launch) {D : va_G} {ty : Nat → ClassId} {A : Nat → Prop} {so : Nat} {rs : va_W} {v : Value} {n : Int32} (hl9 : l.stackTraces = false) (hn : n < 0) : KTv l yX6_make cX6_make 3 300 3 1010 D ty A ((so, .inr (6, [v])) :: rs) [.ref so, .int 3, .int n] "java/lang/NegativeArraySizeException" := by
  refine KTv.of (by decide) (Nat.le_of_ble_eq_true rfl) ?_
  intro p e R s m args below meth c Q C hlk hmc hms hX H locs ls h hl
  have C : Cx p R s m args c cX6_make 3 RX6 D ty A 300 := C
  have hl : lv_has ls 3 [(0, .ref so), (1, .int 3), (2, .int n)] := hl
  refine lv_aload_n C.x C.b dX6_make_0 rfl (lv_at hl 0 rfl) ?_
  refine lv_iload_n C.x C.b dX6_make_1 rfl (lv_at hl 1 rfl) ?_
  refine lv_if_ne (tgt := 11) C.x C.b dX6_make_2 (by decide) (fun c9 => ?_) (fun c9 => ?_)
  rotate_left
  · exact absurd c9 (by decide)
  refine lv_iload_n C.x C.b dX6_make_11 rfl (lv_at hl 1 rfl) ?_
  refine lv_iconst (v := 1) C.x C.b dX6_make_12 (by decide) ?_
  refine lv_icmp_ne (tgt := 22) C.x C.b dX6_make_13 (by decide) (fun c9 => ?_) (fun c9 => ?_)
  rotate_left
  · exact absurd c9 (by decide)
  refine lv_iload_n C.x C.b dX6_make_22 rfl (lv_at hl 1 rfl) ?_
  refine lv_iconst (v := 2) C.x C.b dX6_make_23 (by decide) ?_
  refine lv_icmp_ne (tgt := 33) C.x C.b dX6_make_24 (by decide) (fun c9 => ?_) (fun c9 => ?_)
  rotate_left
  · exact absurd c9 (by decide)
  refine lv_iload_n C.x C.b dX6_make_33 rfl (lv_at hl 2 rfl) ?_
  refine vx_newarrayZ C.x C.b hn dX6_make_34 (fun tx etx => ?_)
  subst etx
  exact e_na C hl9 (Nat.le_refl _) h hl.1 (Nat.le_of_ble_eq_true rfl) (by omega) (by omega) hlk (negative_text_modelled hn) (Nat.le_trans (negative_text_bytes n) (by decide)) (fun H q9 ce h h1 h2 h3 => hX _ _ _ _ _ _ _ h h1 h2 h3)
