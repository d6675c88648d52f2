set_option maxRecDepth 100000
/-- a method that answers a cell or null -/
def KQx {T : Type} (l : Launch) (y : MethodName) (cc : ByteArray) (nL : Nat) (rt : FieldType) (d mc ms : Nat) (D : va_G) (ty : Nat → ClassId) (A : Nat → Prop) (ws : va_W) (As : List Value) (P : Option Nat → T → Prop) (ws' : T → va_W) : Prop :=
  ∀ sz : Nat, (∀ q : Nat, sz ≤ q → A q) → Met l y (ws_ y cc nL (some rt)) (rmG d mc ms) (KP D ty A sz ws As) (va_Qq P (fun u t => va_P D vwCl (ws' u) t.heap ∧ va_D A (ws' u)) A) mc ms A
section KQOF
variable {T : Type} {l : Launch} {y : MethodName} {cc : ByteArray} {nL d mc ms : Nat} {rt : FieldType} {D : va_G} {ty : Nat → ClassId} {A : Nat → Prop} {ws : va_W} {As : List Value}
theorem KQx.of {P : Option Nat → T → Prop} {ws' : T → va_W} (hy : plainName y.cls = true) (hrt : (∃ n, rt = .object n) ∨ ∃ t, rt = .array t) (hn : (lg_sl As).length ≤ nL)
    (body : ∀ (p : Program) (e : Env) (R : Room) (s : State) (m : MethodId) (args : Array Value) (below : List Frame) (meth : Method) (c : Code) (Q : State → Prop), Cx p R s m args c cc nL y.cls D ty A d → mc ≤ R.cells → ms ≤ R.slots →
      (∀ (r : Option Nat) (u : T) (H : Heap) (locs : List Loc) (pc : Nat) (ls : Array Slot), P r u → Hw D A s H locs (ws' u) → decode cc pc = .ok (.areturn, 1) → W p l e R s m args below meth c H locs mc ms Q (F0 m pc ls [va_rf r])) →
      ∀ (H : Heap) (locs : List Loc) (ls : Array Slot), Hw D A s H locs ws → lv_has ls nL (lv_args 0 As) → W p l e R s m args below meth c H locs 0 0 Q (F0 m 0 ls [])) : KQx l y cc nL rt d mc ms D ty A ws As P ws' := by
  intro sz hA
  refine Met.ofW (cc := cc) (maxL := nL) (ret := some rt) hy rfl ?_
  intro p e s m args below meth c s₁ B hml hv
  obtain ⟨rfl, hsz, hP, hK, hD⟩ := hv
  subst hsz
  have hts := atoms_spec (ws := ws_ y cc nL (some rt)) B.pre
  have hts : ∀ w ∈ lw_all, w.before _ s = true := fun w h => hts w (List.mem_cons_of_mem _ h)
  have hlocks := B.notSynchronized
  rw [lg_entry_eq]
  refine body p e _ s m As.toArray below meth c _ ⟨⟨B.exec, B.bytes, hml, findClass_of_methodNamed B.named, hts⟩, hK, hA, Nat.le_refl _, Nat.le_refl _⟩ (Nat.le_refl _) (Nat.le_refl _) ?_ s.heap [] _ ⟨hP, hD, va_S.rf⟩ (lv_entry As hn)
  intro r u H locs pc ls hu h hd
  exact W.aret (v := va_rf r) B.exec B.bytes B.returns hrt (by cases r with
    | none => exact Or.inl rfl
    | some a => exact Or.inr ⟨a, rfl⟩) (fun t ht hW => ⟨⟨r, u, rfl, hu, by rw [ht]; exact h.1, h.2.1⟩, h.2.2.F ht⟩) h.2.2.2.2 hd
end KQOF
section KFCALL
variable {T : Type} {p : Program} {l : Launch} {e : Env} {R : Room} {s : State} {m : MethodId} {args : Array Value} {below : List Frame} {meth : Method} {c : Code} {H : Heap} {locs : List Loc} {cells slots : Nat} {Q : State → Prop} {cc : ByteArray} {pc : Nat} {ls : Array Slot} {st rest : List Value} {nL d : Nat} {ow : String} {D : va_G} {ty : Nat → ClassId} {A : Nat → Prop}
variable {y : MethodName} {bytes : ByteArray} {nL' d' index mc ms : Nat} {rt : FieldType} {wr wc : va_W} {As : List Value} {o : Nat} {Cn : String}
theorem KQx.callV {P : Option Nat → T → Prop} {wt : T → va_W} (C : Cx p R s m args c cc nL ow D ty A d) (hM : ∀ A : Nat → Prop, KQx l y bytes nL' rt d' mc ms D ty A wc (.ref o :: As) P wt)
    (hT : GoodIn lw_all (wsV ow index Cn y (ws_ y bytes nL' (some rt)))) (hy : y.cls = Cn ∧ y.cls ≠ "java/lang/invoke/MethodHandle" ∧ y.cls ≠ "java/lang/invoke/VarHandle" ∧ (parseMethodDescriptor y.desc).map (fun d => d.parameters.length) = some As.length)
    (q0 ci : Nat) {fs : List Value} {qq : vw_C} (he : wc[q0]? = some (o, .inr (ci, fs))) (hc : vwCl[ci]? = some qq) (hq : qq.1 = Cn) (hd : d' + 1 ≤ d) (hn : nL' ≤ 21) (hcs : cells + mc ≤ R.cells) (hss : slots + ms ≤ R.slots)
    (h : Hw D A s H locs (wr ++ wc)) (hls : ls.size = nL) (hst : st = As.reverse ++ .ref o :: rest) (hcat : (rest.map fun v => v.category).sum ≤ 8) (dec : decode cc pc = .ok (.invokevirtual index, 3))
    (kk : ∀ (r : Option Nat) (u : T) (H : Heap) (locs : List Loc), P r u → Hw D A s H locs (wr ++ wt u) → W p l e R s m args below meth c H locs (cells + mc) (slots + ms) Q (F0 m (pc + 3) ls (va_rf r :: rest))) : W p l e R s m args below meth c H locs cells slots Q (F0 m pc ls st) := by
  have hrv := va_recv C.K h.1.appR hc he
  rw [hq] at hrv
  subst hst
  exact va_callq (va_runV (As := As) (rest := rest) C.1 (hM _ H.size (fun q hq => Or.inr hq)) (cwV As.length C.ts hT rfl rfl rfl hy (C.roomG hd hn)) ⟨KP.blind, hrv, KP.part C h⟩ rfl rfl hls rfl (lv_room hcat) dec ⟨hcs, hss⟩) h.2.2 (fun q _ hq => h.free C.2.2.1 q hq) (h.free C.2.2.1) (fun r u t H1 locs1 ht hvm hu hB hz1 hk1 hS => kk r u H1 locs1 hu (h.join hk1 (h.free C.2.2.1) (by rw [← ht]; exact hB.1) hB.2 hS))
theorem KIx.callVf {P : Int32 → T → Prop} {wt : T → va_W} (C : Cx p R s m args c cc nL ow D ty A d) (hM : ∀ A : Nat → Prop, KIx l y bytes nL' rt d' mc ms D ty A wc (.ref o :: As) P wt)
    (hT : GoodIn lw_all (wsV ow index Cn y (ws_ y bytes nL' (some rt)))) (hy : y.cls = Cn ∧ y.cls ≠ "java/lang/invoke/MethodHandle" ∧ y.cls ≠ "java/lang/invoke/VarHandle" ∧ (parseMethodDescriptor y.desc).map (fun d => d.parameters.length) = some As.length)
    (q0 ci : Nat) {fs : List Value} {qq : vw_C} (he : wc[q0]? = some (o, .inr (ci, fs))) (hc : vwCl[ci]? = some qq) (hq : qq.1 = Cn) (hd : d' + 1 ≤ d) (hn : nL' ≤ 21) (hcs : cells + mc ≤ R.cells) (hss : slots + ms ≤ R.slots)
    (h : Hw D A s H locs (wr ++ wc)) (hls : ls.size = nL) (hst : st = As.reverse ++ .ref o :: rest) (hcat : (rest.map fun v => v.category).sum ≤ 8) (dec : decode cc pc = .ok (.invokevirtual index, 3))
    (kk : ∀ (r : Int32) (u : T) (H : Heap) (locs : List Loc), P r u → Hw D A s H locs (wr ++ wt u) → W p l e R s m args below meth c H locs (cells + mc) (slots + ms) Q (F0 m (pc + 3) ls (.int r :: rest))) : W p l e R s m args below meth c H locs cells slots Q (F0 m pc ls st) := by
  have hrv := va_recv C.K h.1.appR hc he
  rw [hq] at hrv
  subst hst
  exact KIx.go C h (va_runV (As := As) (rest := rest) C.1 (hM _ H.size (fun q hq => Or.inr hq)) (cwV As.length C.ts hT rfl rfl rfl hy (C.roomG hd hn)) ⟨KP.blind, hrv, KP.part C h⟩ rfl rfl hls rfl (lv_room hcat) dec ⟨hcs, hss⟩) kk
theorem KRx.callVf {P : T → Prop} {wt : T → Nat → va_W} (C : Cx p R s m args c cc nL ow D ty A d) (hM : ∀ A : Nat → Prop, KRx l y bytes nL' rt d' mc ms D ty A wc (.ref o :: As) P wt)
    (hT : GoodIn lw_all (wsV ow index Cn y (ws_ y bytes nL' (some rt)))) (hy : y.cls = Cn ∧ y.cls ≠ "java/lang/invoke/MethodHandle" ∧ y.cls ≠ "java/lang/invoke/VarHandle" ∧ (parseMethodDescriptor y.desc).map (fun d => d.parameters.length) = some As.length)
    (q0 ci : Nat) {fs : List Value} {qq : vw_C} (he : wc[q0]? = some (o, .inr (ci, fs))) (hc : vwCl[ci]? = some qq) (hq : qq.1 = Cn) (hd : d' + 1 ≤ d) (hn : nL' ≤ 21) (hcs : cells + mc ≤ R.cells) (hss : slots + ms ≤ R.slots)
    (h : Hw D A s H locs (wr ++ wc)) (hls : ls.size = nL) (hst : st = As.reverse ++ .ref o :: rest) (hcat : (rest.map fun v => v.category).sum ≤ 8) (dec : decode cc pc = .ok (.invokevirtual index, 3))
    (kk : ∀ (u : T) (ra : Nat) (H : Heap) (locs : List Loc), P u → Hw D A s H locs (wr ++ wt u ra) → W p l e R s m args below meth c H locs (cells + mc) (slots + ms) Q (F0 m (pc + 3) ls (.ref ra :: rest))) : W p l e R s m args below meth c H locs cells slots Q (F0 m pc ls st) := by
  have hrv := va_recv C.K h.1.appR hc he
  rw [hq] at hrv
  subst hst
  exact KRx.go C h (va_runV (As := As) (rest := rest) C.1 (hM _ H.size (fun q hq => Or.inr hq)) (cwV As.length C.ts hT rfl rfl rfl hy (C.roomG hd hn)) ⟨KP.blind, hrv, KP.part C h⟩ rfl rfl hls rfl (lv_room hcat) dec ⟨hcs, hss⟩) kk
end KFCALL
theorem kJ_size (l : Launch) {D : va_G} {ty : Nat → ClassId} {A : Nat → Prop} {b : Nat} {mc n : Int32} {v : Value} {rs : va_W} : KI l yJ2_size cJ2_size 1 .int 1 D ty A ((b, .inr (10, [.int mc, v, .int n])) :: rs) ((b, .inr (10, [.int mc, v, .int n])) :: rs) [.ref b] n := by
  refine KI.of (by decide) (Nat.le_of_ble_eq_true rfl) ?_
  intro p e R s m args below meth c Q C hR H locs ls h hl
  have C : Cx p R s m args c cJ2_size 1 RJ2 D ty A 1 := C
  have hl : lv_has ls 1 [(0, .ref b)] := hl
  refine lv_aload_n C.x C.b dJ2_size_0 rfl (lv_at hl 0 rfl) ?_
  refine va_get (D := D) (ci := 10) C.x C.b C.ts in_J2 C.own C.K h.1 0 rfl rfl 2 (by decide) (C.ts _ q332) (fun _ h9 => h9) rfl dJ2_size_1 ?_
  exact hR _ _ _ _ h (vp_nar_int _) dJ2_size_4
theorem kJ_isEmpty0 (l : Launch) {D : va_G} {ty : Nat → ClassId} {A : Nat → Prop} {b : Nat} {mc n : Int32} {v : Value} {rs : va_W} (hn : n = 0) : KI l yJ2_isEmpty cJ2_isEmpty 1 .boolean 1 D ty A ((b, .inr (10, [.int mc, v, .int n])) :: rs) ((b, .inr (10, [.int mc, v, .int n])) :: rs) [.ref b] 1 := by
  refine KI.of (by decide) (Nat.le_of_ble_eq_true rfl) ?_
  intro p e R s m args below meth c Q C hR H locs ls h hl
  have C : Cx p R s m args c cJ2_isEmpty 1 RJ2 D ty A 1 := C
  have hl : lv_has ls 1 [(0, .ref b)] := hl
  refine lv_aload_n C.x C.b dJ2_isEmpty_0 rfl (lv_at hl 0 rfl) ?_
  refine va_get (D := D) (ci := 10) C.x C.b C.ts in_J2 C.own C.K h.1 0 rfl rfl 2 (by decide) (C.ts _ q332) (fun _ h9 => h9) rfl dJ2_isEmpty_1 ?_
  refine lv_if_ne (tgt := 11) C.x C.b dJ2_isEmpty_4 (by decide) (fun c9 => ?_) (fun c9 => ?_)
  · exact absurd hn c9
  refine lv_iconst (v := 1) C.x C.b dJ2_isEmpty_7 (by decide) ?_
  refine lv_goto (tgt := 12) C.x C.b dJ2_isEmpty_8 (by decide) ?_
  exact hR _ _ _ _ h (by decide) dJ2_isEmpty_12
theorem kJ_isEmpty1 (l : Launch) {D : va_G} {ty : Nat → ClassId} {A : Nat → Prop} {b : Nat} {mc n : Int32} {v : Value} {rs : va_W} (hn : ¬ n = 0) : KI l yJ2_isEmpty cJ2_isEmpty 1 .boolean 1 D ty A ((b, .inr (10, [.int mc, v, .int n])) :: rs) ((b, .inr (10, [.int mc, v, .int n])) :: rs) [.ref b] 0 := by
  refine KI.of (by decide) (Nat.le_of_ble_eq_true rfl) ?_
  intro p e R s m args below meth c Q C hR H locs ls h hl
  have C : Cx p R s m args c cJ2_isEmpty 1 RJ2 D ty A 1 := C
  have hl : lv_has ls 1 [(0, .ref b)] := hl
  refine lv_aload_n C.x C.b dJ2_isEmpty_0 rfl (lv_at hl 0 rfl) ?_
  refine va_get (D := D) (ci := 10) C.x C.b C.ts in_J2 C.own C.K h.1 0 rfl rfl 2 (by decide) (C.ts _ q332) (fun _ h9 => h9) rfl dJ2_isEmpty_1 ?_
  refine lv_if_ne (tgt := 11) C.x C.b dJ2_isEmpty_4 (by decide) (fun c9 => ?_) (fun c9 => ?_)
  rotate_left
  · exact absurd c9 hn
  refine lv_iconst (v := 0) C.x C.b dJ2_isEmpty_11 (by decide) ?_
  exact hR _ _ _ _ h (by decide) dJ2_isEmpty_12
theorem kP_check (l : Launch) {D : va_G} {ty : Nat → ClassId} {A : Nat → Prop} {ws : va_W} {i n : Int32} (h0 : ¬ i < 0) (h1 : i < n) : KI l yJ6_checkIndex cJ6_checkIndex 3 .int 1 D ty A ws ws [.int i, .int n, .null] i := by
  refine KI.of (by decide) (Nat.le_of_ble_eq_true rfl) ?_
  intro p e R s m args below meth c Q C hR H locs ls h hl
  have C : Cx p R s m args c cJ6_checkIndex 3 RJ6 D ty A 1 := C
  have hl : lv_has ls 3 [(0, .int i), (1, .int n), (2, .null)] := hl
  refine lv_iload_n C.x C.b dJ6_checkIndex_0 rfl (lv_at hl 0 rfl) ?_
  refine lv_if_lt (tgt := 9) C.x C.b dJ6_checkIndex_1 (by decide) (fun c9 => ?_) (fun c9 => ?_)
  · exact absurd c9 h0
  refine lv_iload_n C.x C.b dJ6_checkIndex_4 rfl (lv_at hl 0 rfl) ?_
  refine lv_iload_n C.x C.b dJ6_checkIndex_5 rfl (lv_at hl 1 rfl) ?_
  refine lv_icmp_lt (tgt := 16) C.x C.b dJ6_checkIndex_6 (by decide) (fun c9 => ?_) (fun c9 => ?_)
  rotate_left
  · exact absurd h1 c9
  refine lv_iload_n C.x C.b dJ6_checkIndex_16 rfl (lv_at hl 0 rfl) ?_
  exact hR _ _ _ _ h (vp_nar_int _) dJ6_checkIndex_17
theorem kO_check (l : Launch) {D : va_G} {ty : Nat → ClassId} {A : Nat → Prop} {ws : va_W} {i n : Int32} (h0 : ¬ i < 0) (h1 : i < n) : KI l yJ15_checkIndex cJ15_checkIndex 2 .int 2 D ty A ws ws [.int i, .int n] i := by
  refine KI.of (by decide) (Nat.le_of_ble_eq_true rfl) ?_
  intro p e R s m args below meth c Q C hR H locs ls h hl
  have C : Cx p R s m args c cJ15_checkIndex 2 RJ15 D ty A 2 := C
  have hl : lv_has ls 2 [(0, .int i), (1, .int n)] := hl
  refine lv_iload_n C.x C.b dJ15_checkIndex_0 rfl (lv_at hl 0 rfl) ?_
  refine lv_iload_n C.x C.b dJ15_checkIndex_1 rfl (lv_at hl 1 rfl) ?_
  refine lv_null C.x C.b dJ15_checkIndex_2 ?_
  refine KI.callS (As := [.int i, .int n, .null]) (rest := []) C (kP_check l h0 h1) (lw_S q1432 q565 q154 q566) ⟨by decide, by decide, by show _ = some 3; decide +kernel⟩ (Nat.le_of_ble_eq_true rfl) (by decide) (Nat.zero_le _) (Nat.zero_le _) h hl.1 rfl (Nat.le_of_ble_eq_true rfl) dJ15_checkIndex_3 (fun H locs h => ?_)
  exact hR _ _ _ _ h (vp_nar_int _) dJ15_checkIndex_6
theorem kJ_elem (l : Launch) {D : va_G} {ty : Nat → ClassId} {A : Nat → Prop} {a b : Nat} {mc n i : Int32} {f : Nat → Option Nat} (hi : vp_in i 10) : KQx l yJ2_elementData cJ2_elementData 2 (.object "java/lang/Object") 1 0 0 D ty A [(b, .inr (10, [.int mc, .ref a, .int n])), (a, .inl (ty 7, 10, .inr (.inr (.inr (.inr f)))))] [.ref b, .int i] (fun r (_ : Unit) => r = f i.toNatClampNeg) (fun _ => [(b, .inr (10, [.int mc, .ref a, .int n])), (a, .inl (ty 7, 10, .inr (.inr (.inr (.inr f)))))]) := by
  refine KQx.of (by decide) (Or.inl ⟨_, rfl⟩) (Nat.le_of_ble_eq_true rfl) ?_
  intro p e R s m args below meth c Q C hmc hms hR H locs ls h hl
  have C : Cx p R s m args c cJ2_elementData 2 RJ2 D ty A 1 := C
  have hl : lv_has ls 2 [(0, .ref b), (1, .int i)] := hl
  refine lv_aload_n C.x C.b dJ2_elementData_0 rfl (lv_at hl 0 rfl) ?_
  refine va_get (D := D) (ci := 10) C.x C.b C.ts in_J2 C.own C.K h.1 0 rfl rfl 1 (by decide) (C.ts _ q331) (fun _ h9 => h9) rfl dJ2_elementData_1 ?_
  refine lv_iload_n C.x C.b dJ2_elementData_4 rfl (lv_at hl 1 rfl) ?_
  refine va_aldq (C := "java/lang/Object") C.x C.b C.K h.1 1 7 rfl rfl hi dJ2_elementData_5 ?_
  exact hR _ () _ _ _ _ rfl h dJ2_elementData_6
theorem kJ_get (l : Launch) {D : va_G} {ty : Nat → ClassId} {A : Nat → Prop} {a b : Nat} {mc n i : Int32} {f : Nat → Option Nat} (h0 : ¬ i < 0) (h1 : i < n) (hi : vp_in i 10) : KQx l yJ2_get cJ2_get 2 (.object "java/lang/Object") 3 0 0 D ty A [(b, .inr (10, [.int mc, .ref a, .int n])), (a, .inl (ty 7, 10, .inr (.inr (.inr (.inr f)))))] [.ref b, .int i] (fun r (_ : Unit) => r = f i.toNatClampNeg) (fun _ => [(b, .inr (10, [.int mc, .ref a, .int n])), (a, .inl (ty 7, 10, .inr (.inr (.inr (.inr f)))))]) := by
  refine KQx.of (by decide) (Or.inl ⟨_, rfl⟩) (Nat.le_of_ble_eq_true rfl) ?_
  intro p e R s m args below meth c Q C hmc hms hR H locs ls h hl
  have C : Cx p R s m args c cJ2_get 2 RJ2 D ty A 3 := C
  have hl : lv_has ls 2 [(0, .ref b), (1, .int i)] := hl
  refine lv_iload_n C.x C.b dJ2_get_0 rfl (lv_at hl 1 rfl) ?_
  refine lv_aload_n C.x C.b dJ2_get_1 rfl (lv_at hl 0 rfl) ?_
  refine va_get (D := D) (ci := 10) C.x C.b C.ts in_J2 C.own C.K h.1 0 rfl rfl 2 (by decide) (C.ts _ q332) (fun _ h9 => h9) rfl dJ2_get_2 ?_
  refine KI.callS (As := [.int i, .int n]) (rest := []) C (kO_check l h0 h1) (lw_S q1429 q1430 q165 q1431) ⟨by decide, by decide, by show _ = some 2; decide +kernel⟩ (Nat.le_of_ble_eq_true rfl) (by decide) (by omega) (by omega) h hl.1 rfl (Nat.le_of_ble_eq_true rfl) dJ2_get_5 (fun H locs h => ?_)
  refine lv_pop C.x C.b dJ2_get_8 rfl ?_
  refine lv_aload_n C.x C.b dJ2_get_9 rfl (lv_at hl 0 rfl) ?_
  refine lv_iload_n C.x C.b dJ2_get_10 rfl (lv_at hl 1 rfl) ?_
  have h : Hw D A s H locs ([] ++ [(b, .inr (10, [.int mc, .ref a, .int n])), (a, .inl (ty 7, 10, .inr (.inr (.inr (.inr f)))))]) := h
  refine KQx.callV (As := [.int i]) (rest := []) C (fun A => kJ_elem l hi) (lw_V q1433 q1434 q1435 q146 q1436) ⟨rfl, by decide, by decide, by show _ = some 1; decide +kernel⟩ 0 10 rfl rfl rfl (Nat.le_of_ble_eq_true rfl) (by decide) (by omega) (by omega) h hl.1 rfl (Nat.le_of_ble_eq_true rfl) dJ2_get_11 (fun r _ H locs hr h => ?_)
  subst hr
  exact hR _ () _ _ _ _ rfl h dJ2_get_14
theorem kJ_set (l : Launch) {D : va_G} {ty : Nat → ClassId} {A : Nat → Prop} {a b v : Nat} {vs : List Value} {mc n i : Int32} {f : Nat → Option Nat} (h0 : ¬ i < 0) (h1 : i < n) (hi : vp_in i 10) : KQx l yJ2_set cJ2_set 4 (.object "java/lang/Object") 3 0 0 D ty A [(b, .inr (10, [.int mc, .ref a, .int n])), (a, .inl (ty 7, 10, .inr (.inr (.inr (.inr f))))), (v, .inr (1, vs))] [.ref b, .int i, .ref v] (fun _ (_ : Unit) => True) (fun _ => [(b, .inr (10, [.int mc, .ref a, .int n])), (a, .inl (ty 7, 10, .inr (.inr (.inr (.inr (va_up f i.toNatClampNeg (some v))))))), (v, .inr (1, vs))]) := by
  refine KQx.of (by decide) (Or.inl ⟨_, rfl⟩) (Nat.le_of_ble_eq_true rfl) ?_
  intro p e R s m args below meth c Q C hmc hms hR H locs ls h hl
  have C : Cx p R s m args c cJ2_set 4 RJ2 D ty A 3 := C
  have hl : lv_has ls 4 [(0, .ref b), (1, .int i), (2, .ref v)] := hl
  refine lv_iload_n C.x C.b dJ2_set_0 rfl (lv_at hl 1 rfl) ?_
  refine lv_aload_n C.x C.b dJ2_set_1 rfl (lv_at hl 0 rfl) ?_
  refine va_get (D := D) (ci := 10) C.x C.b C.ts in_J2 C.own C.K h.1 0 rfl rfl 2 (by decide) (C.ts _ q332) (fun _ h9 => h9) rfl dJ2_set_2 ?_
  refine KI.callS (As := [.int i, .int n]) (rest := []) C (kO_check l h0 h1) (lw_S q1429 q1430 q165 q1431) ⟨by decide, by decide, by show _ = some 2; decide +kernel⟩ (Nat.le_of_ble_eq_true rfl) (by decide) (by omega) (by omega) h hl.1 rfl (Nat.le_of_ble_eq_true rfl) dJ2_set_5 (fun H locs h => ?_)
  refine lv_pop C.x C.b dJ2_set_8 rfl ?_
  refine lv_aload_n C.x C.b dJ2_set_9 rfl (lv_at hl 0 rfl) ?_
  refine lv_iload_n C.x C.b dJ2_set_10 rfl (lv_at hl 1 rfl) ?_
  have h : Hw D A s H locs ([(b, .inr (10, [.int mc, .ref a, .int n])), (a, .inl (ty 7, 10, .inr (.inr (.inr (.inr f)))))] ++ [(v, .inr (1, vs))]) := h
  have h := h.swap
  refine KQx.callV (As := [.int i]) (rest := []) C (fun A => kJ_elem l hi) (lw_V q1433 q1434 q1435 q146 q1436) ⟨rfl, by decide, by decide, by show _ = some 1; decide +kernel⟩ 0 10 rfl rfl rfl (Nat.le_of_ble_eq_true rfl) (by decide) (by omega) (by omega) h hl.1 rfl (Nat.le_of_ble_eq_true rfl) dJ2_set_11 (fun r _ H locs hr h => ?_)
  have h : Hw D A s H locs [(b, .inr (10, [.int mc, .ref a, .int n])), (a, .inl (ty 7, 10, .inr (.inr (.inr (.inr f))))), (v, .inr (1, vs))] := h.swap
  cases r with
  | none =>
    refine lv_astore_nN (lv' := [(3, .null), (0, .ref b), (1, .int i), (2, .ref v)]) C.x C.b dJ2_set_14 rfl hl (by decide) rfl (fun ls hl => ?_)
    refine lv_aload_n C.x C.b dJ2_set_15 rfl (lv_at hl 1 rfl) ?_
    refine va_get (D := D) (ci := 10) C.x C.b C.ts in_J2 C.own C.K h.1 0 rfl rfl 1 (by decide) (C.ts _ q331) (fun _ h9 => h9) rfl dJ2_set_16 ?_
    refine lv_iload_n C.x C.b dJ2_set_19 rfl (lv_at hl 2 rfl) ?_
    refine lv_aload_n C.x C.b dJ2_set_20 rfl (lv_at hl 3 rfl) ?_
    refine va_astqO (E := "java/lang/Object") C.x C.b C.K h.1 h.2.1 h.2.2 1 7 2 1 rfl rfl (C.N.1 _ q2346 rfl) rfl rfl hi dJ2_set_21 (fun H locs hP hD hS => ?_)
    refine lv_aload_nN C.x C.b dJ2_set_22 rfl (lv_at hl 0 rfl) ?_
    exact hR (none) () _ _ _ _ trivial ⟨hP, hD, hS⟩ dJ2_set_23
  | some z =>
    refine lv_astore_n (lv' := [(3, .ref z), (0, .ref b), (1, .int i), (2, .ref v)]) C.x C.b dJ2_set_14 rfl hl (by decide) rfl (fun ls hl => ?_)
    refine lv_aload_n C.x C.b dJ2_set_15 rfl (lv_at hl 1 rfl) ?_
    refine va_get (D := D) (ci := 10) C.x C.b C.ts in_J2 C.own C.K h.1 0 rfl rfl 1 (by decide) (C.ts _ q331) (fun _ h9 => h9) rfl dJ2_set_16 ?_
    refine lv_iload_n C.x C.b dJ2_set_19 rfl (lv_at hl 2 rfl) ?_
    refine lv_aload_n C.x C.b dJ2_set_20 rfl (lv_at hl 3 rfl) ?_
    refine va_astqO (E := "java/lang/Object") C.x C.b C.K h.1 h.2.1 h.2.2 1 7 2 1 rfl rfl (C.N.1 _ q2346 rfl) rfl rfl hi dJ2_set_21 (fun H locs hP hD hS => ?_)
    refine lv_aload_n C.x C.b dJ2_set_22 rfl (lv_at hl 0 rfl) ?_
    exact hR (some z) () _ _ _ _ trivial ⟨hP, hD, hS⟩ dJ2_set_23
theorem kJ_grow1 (l : Launch) {D : va_G} {ty : Nat → ClassId} {A : Nat → Prop} {b : Nat} {mc : Int32} : KRx l yJ2_grow_2 cJ2_grow_2 4 (.array (.object "java/lang/Object")) 2 1 10 D ty A [(b, .inr (10, [.int mc, .ref (ty 400), .int 0]))] [.ref b, .int 1] (fun (_ : Unit) => True) (fun _ a => [(b, .inr (10, [.int mc, .ref a, .int 0])), (a, .inl (ty 7, 10, .inr (.inr (.inr (.inr (fun _ => none))))))]) := by
  refine KRx.of (by decide) (Or.inr ⟨_, rfl⟩) (Nat.le_of_ble_eq_true rfl) ?_
  intro p e R s m args below meth c Q C hmc hms hR H locs ls h hl
  have C : Cx p R s m args c cJ2_grow_2 4 RJ2 D ty A 2 := C
  have hl : lv_has ls 4 [(0, .ref b), (1, .int 1)] := hl
  refine lv_aload_n C.x C.b dJ2_grow_2_0 rfl (lv_at hl 0 rfl) ?_
  refine va_get (D := D) (ci := 10) C.x C.b C.ts in_J2 C.own C.K h.1 0 rfl rfl 1 (by decide) (C.ts _ q331) (fun _ h9 => h9) rfl dJ2_grow_2_1 ?_
  refine va_tlen (N := 0) (v := 0) C.x C.b C.E.2.2.2.2.2.2.2.2.2 h.2.2 rfl dJ2_grow_2_4 ?_
  refine lv_istore_n (lv' := [(2, .int 0), (0, .ref b), (1, .int 1)]) C.x C.b dJ2_grow_2_5 rfl hl (by decide) rfl (fun ls hl => ?_)
  refine lv_iload_n C.x C.b dJ2_grow_2_6 rfl (lv_at hl 0 rfl) ?_
  refine lv_if_gt (tgt := 20) C.x C.b dJ2_grow_2_7 (by decide) (fun c9 => ?_) (fun c9 => ?_)
  · exact absurd c9 (by decide)
  refine lv_aload_n C.x C.b dJ2_grow_2_10 rfl (lv_at hl 1 rfl) ?_
  refine va_get (D := D) (ci := 10) C.x C.b C.ts in_J2 C.own C.K h.1 0 rfl rfl 1 (by decide) (C.ts _ q331) (fun _ h9 => h9) rfl dJ2_grow_2_11 ?_
  refine va_gets C.x C.b C.E.2.2.2.2.2.2.2.2.1 h.2.2 C.own (C.ts _ q329) (fun _ h9 => h9) dJ2_grow_2_14 ?_
  refine lv_acmp_eq (rx := some (ty 400)) (ry := some (ty 400)) (tgt := 45) C.x C.b dJ2_grow_2_17 (by decide) (fun _ => ?_) (fun c9 => absurd rfl c9)
  refine lv_aload_n C.x C.b dJ2_grow_2_45 rfl (lv_at hl 1 rfl) ?_
  refine lv_bipush (v := 10) C.x C.b dJ2_grow_2_46 (by decide) ?_
  refine lv_iload_n C.x C.b dJ2_grow_2_48 rfl (lv_at hl 2 rfl) ?_
  have r1 := C.2.2.2.1
  have r2 := C.2.2.2.2
  refine va_mmax C.x C.b (C.1.2.2.1.trans hl.1.symm) C.own (C.ts _ q1416) (C.ts _ q803) (C.ts _ q151) (C.ts _ q804) (by omega) (by show 1 + 13 ≤ _; omega) (Nat.zero_le _) (Nat.zero_le _) dJ2_grow_2_49 ?_
  refine n_arr_q (n := 10) (N := 10) (t0 := 7) C h q1417 C.N.2.2.2 rfl (by decide) (by decide) (by decide) (by omega) (by omega) dJ2_grow_2_52 (fun a H h => ?_)
  have h : Hw D A s H locs [(b, .inr (10, [.int mc, .ref (ty 400), .int 0])), (a, .inl (ty 7, 10, .inr (.inr (.inr (.inr (fun _ => none))))))] := h
  refine lv_dup_x1 C.x C.b dJ2_grow_2_55 rfl rfl ?_
  refine va_put (D := D) (ci := 10) (ty := .array (.object "java/lang/Object")) (v := .ref a) C.x C.b C.ts in_J2 tyJ2 tyJ2_ok nmJ2 C.own C.K h.1 h.2.1 h.2.2 0 rfl rfl 1 (by decide) (C.ts _ q331) (fun _ h9 => h9) rfl (by decide +kernel) rfl rfl (Nat.le_of_ble_eq_true rfl) dJ2_grow_2_56 (fun H locs hP hD hS => ?_)
  exact hR () a _ _ _ _ trivial ⟨hP, hD, hS⟩ dJ2_grow_2_59
theorem kJ_grow0 (l : Launch) {D : va_G} {ty : Nat → ClassId} {A : Nat → Prop} {b : Nat} {mc : Int32} : KRx l yJ2_grow cJ2_grow 1 (.array (.object "java/lang/Object")) 3 1 10 D ty A [(b, .inr (10, [.int mc, .ref (ty 400), .int 0]))] [.ref b] (fun (_ : Unit) => True) (fun _ a => [(b, .inr (10, [.int mc, .ref a, .int 0])), (a, .inl (ty 7, 10, .inr (.inr (.inr (.inr (fun _ => none))))))]) := by
  refine KRx.of (by decide) (Or.inr ⟨_, rfl⟩) (Nat.le_of_ble_eq_true rfl) ?_
  intro p e R s m args below meth c Q C hmc hms hR H locs ls h hl
  have C : Cx p R s m args c cJ2_grow 1 RJ2 D ty A 3 := C
  have hl : lv_has ls 1 [(0, .ref b)] := hl
  refine lv_aload_n C.x C.b dJ2_grow_0 rfl (lv_at hl 0 rfl) ?_
  refine lv_aload_n C.x C.b dJ2_grow_1 rfl (lv_at hl 0 rfl) ?_
  refine va_get (D := D) (ci := 10) C.x C.b C.ts in_J2 C.own C.K h.1 0 rfl rfl 2 (by decide) (C.ts _ q332) (fun _ h9 => h9) rfl dJ2_grow_2 ?_
  refine lv_iconst (v := 1) C.x C.b dJ2_grow_5 (by decide) ?_
  refine lv_iadd C.x C.b dJ2_grow_6 ?_
  have h : Hw D A s H locs ([] ++ [(b, .inr (10, [.int mc, .ref (ty 400), .int 0]))]) := h
  refine KRx.callVf (As := [.int 1]) (rest := []) C (fun A => kJ_grow1 l) (lw_V q1373 q1375 qs69 q146 q1376) ⟨rfl, by decide, by decide, by show _ = some 1; decide +kernel⟩ 0 10 rfl rfl rfl (Nat.le_of_ble_eq_true rfl) (by decide) (by omega) (by omega) h hl.1 rfl (Nat.le_of_ble_eq_true rfl) dJ2_grow_7 (fun _ a H locs _ h => ?_)
  exact hR () a _ _ _ _ trivial h dJ2_grow_10
theorem kJ_addA (l : Launch) {D : va_G} {ty : Nat → ClassId} {A : Nat → Prop} {b : Nat} {mc : Int32} : KVx l yJ2_add_2 cJ2_add_2 4 4 1 10 D ty A [(b, .inr (10, [.int mc, .ref (ty 400), .int 0]))] [.ref b, .null, .ref (ty 400), .int 0] (fun (_ : Nat) => True) (fun a => [(b, .inr (10, [.int mc, .ref a, .int 1])), (a, .inl (ty 7, 10, .inr (.inr (.inr (.inr (va_up (fun _ => none) 0 none))))))]) := by
  refine KVx.of (by decide) (Nat.le_of_ble_eq_true rfl) ?_
  intro p e R s m args below meth c Q C hin hmc hms hR H locs ls h hl
  have C : Cx p R s m args c cJ2_add_2 4 RJ2 D ty A 4 := C
  have hl : lv_has ls 4 [(0, .ref b), (1, .null), (2, .ref (ty 400)), (3, .int 0)] := hl
  refine lv_iload_n C.x C.b dJ2_add_2_0 rfl (lv_at hl 3 rfl) ?_
  refine lv_aload_n C.x C.b dJ2_add_2_1 rfl (lv_at hl 2 rfl) ?_
  refine va_tlen (N := 0) (v := 0) C.x C.b C.E.2.2.2.2.2.2.2.2.2 h.2.2 rfl dJ2_add_2_2 ?_
  refine lv_icmp_ne (tgt := 11) C.x C.b dJ2_add_2_3 (by decide) (fun c9 => ?_) (fun c9 => ?_)
  · exact absurd rfl c9
  refine lv_aload_n C.x C.b dJ2_add_2_6 rfl (lv_at hl 0 rfl) ?_
  have h : Hw D A s H locs ([] ++ [(b, .inr (10, [.int mc, .ref (ty 400), .int 0]))]) := h
  refine KRx.callVf (As := []) (rest := []) C (fun A => kJ_grow0 l) (lw_V q1369 q1371 qs68 q146 q1372) ⟨rfl, by decide, by decide, by show _ = some 0; decide +kernel⟩ 0 10 rfl rfl rfl (Nat.le_of_ble_eq_true rfl) (by decide) (by omega) (by omega) h hl.1 rfl (Nat.le_of_ble_eq_true rfl) dJ2_add_2_7 (fun _ a H locs _ h => ?_)
  refine lv_astore_n (lv' := [(2, .ref a), (0, .ref b), (1, .null), (3, .int 0)]) C.x C.b dJ2_add_2_10 rfl hl (by decide) rfl (fun ls hl => ?_)
  refine lv_aload_n C.x C.b dJ2_add_2_11 rfl (lv_at hl 0 rfl) ?_
  refine lv_iload_n C.x C.b dJ2_add_2_12 rfl (lv_at hl 3 rfl) ?_
  refine lv_aload_nN C.x C.b dJ2_add_2_13 rfl (lv_at hl 2 rfl) ?_
  refine va_astqN (C := "java/lang/Object") C.x C.b C.K h.1 h.2.1 h.2.2 1 7 rfl rfl (i := 0) (by unfold vp_in; decide) dJ2_add_2_14 (fun H locs hP hD hS => ?_)
  have h : Hw D A s H locs [(b, .inr (10, [.int mc, .ref a, .int 0])), (a, .inl (ty 7, 10, .inr (.inr (.inr (.inr (va_up (fun _ => none) 0 none))))))] := ⟨hP, hD, hS⟩
  refine lv_aload_n C.x C.b dJ2_add_2_15 rfl (lv_at hl 1 rfl) ?_
  refine lv_iload_n C.x C.b dJ2_add_2_16 rfl (lv_at hl 3 rfl) ?_
  refine lv_iconst (v := 1) C.x C.b dJ2_add_2_17 (by decide) ?_
  refine lv_iadd C.x C.b dJ2_add_2_18 ?_
  refine va_put (D := D) (ci := 10) (ty := .int) (v := .int 1) C.x C.b C.ts in_J2 tyJ2 tyJ2_ok nmJ2 C.own C.K h.1 h.2.1 h.2.2 0 rfl rfl 2 (by decide) (C.ts _ q332) (fun _ h9 => h9) rfl (by decide +kernel) rfl rfl (Nat.le_of_ble_eq_true rfl) dJ2_add_2_19 (fun H locs hP hD hS => ?_)
  exact hR a _ _ _ _ trivial ⟨hP, hD, hS⟩ dJ2_add_2_22
theorem kJ_addB (l : Launch) {D : va_G} {ty : Nat → ClassId} {A : Nat → Prop} {a b : Nat} {mc n : Int32} {f : Nat → Option Nat} (hi : vp_in n 10) (hn : ¬ n = 10) : KVx l yJ2_add_2 cJ2_add_2 4 4 0 0 D ty A [(b, .inr (10, [.int mc, .ref a, .int n])), (a, .inl (ty 7, 10, .inr (.inr (.inr (.inr f)))))] [.ref b, .null, .ref a, .int n] (fun (_ : Unit) => True) (fun _ => [(b, .inr (10, [.int mc, .ref a, .int (n + 1)])), (a, .inl (ty 7, 10, .inr (.inr (.inr (.inr (va_up f n.toNatClampNeg none))))))]) := by
  refine KVx.of (by decide) (Nat.le_of_ble_eq_true rfl) ?_
  intro p e R s m args below meth c Q C hin hmc hms hR H locs ls h hl
  have C : Cx p R s m args c cJ2_add_2 4 RJ2 D ty A 4 := C
  have hl : lv_has ls 4 [(0, .ref b), (1, .null), (2, .ref a), (3, .int n)] := hl
  refine lv_iload_n C.x C.b dJ2_add_2_0 rfl (lv_at hl 3 rfl) ?_
  refine lv_aload_n C.x C.b dJ2_add_2_1 rfl (lv_at hl 2 rfl) ?_
  refine va_alen (v := 10) C.x C.b C.K h.1 1 7 rfl rfl rfl dJ2_add_2_2 ?_
  refine lv_icmp_ne (tgt := 11) C.x C.b dJ2_add_2_3 (by decide) (fun c9 => ?_) (fun c9 => ?_)
  rotate_left
  · exact absurd c9 hn
  refine lv_aload_n C.x C.b dJ2_add_2_11 rfl (lv_at hl 2 rfl) ?_
  refine lv_iload_n C.x C.b dJ2_add_2_12 rfl (lv_at hl 3 rfl) ?_
  refine lv_aload_nN C.x C.b dJ2_add_2_13 rfl (lv_at hl 1 rfl) ?_
  refine va_astqN (C := "java/lang/Object") C.x C.b C.K h.1 h.2.1 h.2.2 1 7 rfl rfl (i := n) hi dJ2_add_2_14 (fun H locs hP hD hS => ?_)
  have h : Hw D A s H locs [(b, .inr (10, [.int mc, .ref a, .int n])), (a, .inl (ty 7, 10, .inr (.inr (.inr (.inr (va_up f n.toNatClampNeg none))))))] := ⟨hP, hD, hS⟩
  refine lv_aload_n C.x C.b dJ2_add_2_15 rfl (lv_at hl 0 rfl) ?_
  refine lv_iload_n C.x C.b dJ2_add_2_16 rfl (lv_at hl 3 rfl) ?_
  refine lv_iconst (v := 1) C.x C.b dJ2_add_2_17 (by decide) ?_
  refine lv_iadd C.x C.b dJ2_add_2_18 ?_
  refine va_put (D := D) (ci := 10) (ty := .int) (v := .int (n + 1)) C.x C.b C.ts in_J2 tyJ2 tyJ2_ok nmJ2 C.own C.K h.1 h.2.1 h.2.2 0 rfl rfl 2 (by decide) (C.ts _ q332) (fun _ h9 => h9) rfl (by decide +kernel) rfl rfl (Nat.le_of_ble_eq_true rfl) dJ2_add_2_19 (fun H locs hP hD hS => ?_)
  exact hR () _ _ _ _ trivial ⟨hP, hD, hS⟩ dJ2_add_2_22
theorem kJ_add0 (l : Launch) {D : va_G} {ty : Nat → ClassId} {A : Nat → Prop} {b : Nat} {mc : Int32} : KIx l yJ2_add cJ2_add 2 .boolean 5 1 10 D ty A [(b, .inr (10, [.int mc, .ref (ty 400), .int 0]))] [.ref b, .null] (fun r (_ : Nat) => r = 1) (fun a => [(b, .inr (10, [.int (mc + 1), .ref a, .int 1])), (a, .inl (ty 7, 10, .inr (.inr (.inr (.inr (va_up (fun _ => none) 0 none))))))]) := by
  refine KIx.of (by decide) (Nat.le_of_ble_eq_true rfl) ?_
  intro p e R s m args below meth c Q C hmc hms hR H locs ls h hl
  have C : Cx p R s m args c cJ2_add 2 RJ2 D ty A 5 := C
  have hl : lv_has ls 2 [(0, .ref b), (1, .null)] := hl
  refine lv_aload_n C.x C.b dJ2_add_0 rfl (lv_at hl 0 rfl) ?_
  refine lv_dup C.x C.b dJ2_add_1 rfl ?_
  refine va_get (D := D) (ci := 10) C.x C.b C.ts in_J2 C.own C.K h.1 0 rfl rfl 0 (by decide) (C.ts _ q334) (fun _ h9 => u_same (C.ts _ q335) _ h9) rfl dJ2_add_2 ?_
  refine lv_iconst (v := 1) C.x C.b dJ2_add_5 (by decide) ?_
  refine lv_iadd C.x C.b dJ2_add_6 ?_
  refine va_put (D := D) (ci := 10) (ty := .int) (v := .int (mc + 1)) C.x C.b C.ts in_J2 tyJ2 tyJ2_ok nmJ2 C.own C.K h.1 h.2.1 h.2.2 0 rfl rfl 0 (by decide) (C.ts _ q334) (fun _ h9 => u_same (C.ts _ q335) _ h9) rfl (by decide +kernel) rfl rfl (Nat.le_of_ble_eq_true rfl) dJ2_add_7 (fun H locs hP hD hS => ?_)
  have h : Hw D A s H locs [(b, .inr (10, [.int (mc + 1), .ref (ty 400), .int 0]))] := ⟨hP, hD, hS⟩
  refine lv_aload_n C.x C.b dJ2_add_10 rfl (lv_at hl 0 rfl) ?_
  refine lv_aload_nN C.x C.b dJ2_add_11 rfl (lv_at hl 1 rfl) ?_
  refine lv_aload_n C.x C.b dJ2_add_12 rfl (lv_at hl 0 rfl) ?_
  refine va_get (D := D) (ci := 10) C.x C.b C.ts in_J2 C.own C.K h.1 0 rfl rfl 1 (by decide) (C.ts _ q331) (fun _ h9 => h9) rfl dJ2_add_13 ?_
  refine lv_aload_n C.x C.b dJ2_add_16 rfl (lv_at hl 0 rfl) ?_
  refine va_get (D := D) (ci := 10) C.x C.b C.ts in_J2 C.own C.K h.1 0 rfl rfl 2 (by decide) (C.ts _ q332) (fun _ h9 => h9) rfl dJ2_add_17 ?_
  have h : Hw D A s H locs ([] ++ [(b, .inr (10, [.int (mc + 1), .ref (ty 400), .int 0]))]) := h
  refine KVx.callV (As := [.null, .ref (ty 400), .int 0]) (rest := []) C (fun A => kJ_addA l) (lw_V q1365 q1367 qs67 q146 q1368) ⟨rfl, by decide, by decide, by show _ = some 3; decide +kernel⟩ 0 10 rfl rfl rfl (Nat.le_of_ble_eq_true rfl) (by decide) (by omega) (by omega) h hl.1 rfl (Nat.le_of_ble_eq_true rfl) dJ2_add_20 (fun a H locs _ h => ?_)
  refine lv_iconst (v := 1) C.x C.b dJ2_add_23 (by decide) ?_
  exact hR 1 a _ _ _ _ rfl h (by decide) dJ2_add_24
theorem kJ_add1 (l : Launch) {D : va_G} {ty : Nat → ClassId} {A : Nat → Prop} {a b : Nat} {mc n : Int32} {f : Nat → Option Nat} (hi : vp_in n 10) (hn : ¬ n = 10) : KIx l yJ2_add cJ2_add 2 .boolean 5 0 0 D ty A [(b, .inr (10, [.int mc, .ref a, .int n])), (a, .inl (ty 7, 10, .inr (.inr (.inr (.inr f)))))] [.ref b, .null] (fun r (_ : Unit) => r = 1) (fun _ => [(b, .inr (10, [.int (mc + 1), .ref a, .int (n + 1)])), (a, .inl (ty 7, 10, .inr (.inr (.inr (.inr (va_up f n.toNatClampNeg none))))))]) := by
  refine KIx.of (by decide) (Nat.le_of_ble_eq_true rfl) ?_
  intro p e R s m args below meth c Q C hmc hms hR H locs ls h hl
  have C : Cx p R s m args c cJ2_add 2 RJ2 D ty A 5 := C
  have hl : lv_has ls 2 [(0, .ref b), (1, .null)] := hl
  refine lv_aload_n C.x C.b dJ2_add_0 rfl (lv_at hl 0 rfl) ?_
  refine lv_dup C.x C.b dJ2_add_1 rfl ?_
  refine va_get (D := D) (ci := 10) C.x C.b C.ts in_J2 C.own C.K h.1 0 rfl rfl 0 (by decide) (C.ts _ q334) (fun _ h9 => u_same (C.ts _ q335) _ h9) rfl dJ2_add_2 ?_
  refine lv_iconst (v := 1) C.x C.b dJ2_add_5 (by decide) ?_
  refine lv_iadd C.x C.b dJ2_add_6 ?_
  refine va_put (D := D) (ci := 10) (ty := .int) (v := .int (mc + 1)) C.x C.b C.ts in_J2 tyJ2 tyJ2_ok nmJ2 C.own C.K h.1 h.2.1 h.2.2 0 rfl rfl 0 (by decide) (C.ts _ q334) (fun _ h9 => u_same (C.ts _ q335) _ h9) rfl (by decide +kernel) rfl rfl (Nat.le_of_ble_eq_true rfl) dJ2_add_7 (fun H locs hP hD hS => ?_)
  have h : Hw D A s H locs [(b, .inr (10, [.int (mc + 1), .ref a, .int n])), (a, .inl (ty 7, 10, .inr (.inr (.inr (.inr f)))))] := ⟨hP, hD, hS⟩
  refine lv_aload_n C.x C.b dJ2_add_10 rfl (lv_at hl 0 rfl) ?_
  refine lv_aload_nN C.x C.b dJ2_add_11 rfl (lv_at hl 1 rfl) ?_
  refine lv_aload_n C.x C.b dJ2_add_12 rfl (lv_at hl 0 rfl) ?_
  refine va_get (D := D) (ci := 10) C.x C.b C.ts in_J2 C.own C.K h.1 0 rfl rfl 1 (by decide) (C.ts _ q331) (fun _ h9 => h9) rfl dJ2_add_13 ?_
  refine lv_aload_n C.x C.b dJ2_add_16 rfl (lv_at hl 0 rfl) ?_
  refine va_get (D := D) (ci := 10) C.x C.b C.ts in_J2 C.own C.K h.1 0 rfl rfl 2 (by decide) (C.ts _ q332) (fun _ h9 => h9) rfl dJ2_add_17 ?_
  have h : Hw D A s H locs ([] ++ [(b, .inr (10, [.int (mc + 1), .ref a, .int n])), (a, .inl (ty 7, 10, .inr (.inr (.inr (.inr f)))))]) := h
  refine KVx.callV (As := [.null, .ref a, .int n]) (rest := []) C (fun A => kJ_addB l hi hn) (lw_V q1365 q1367 qs67 q146 q1368) ⟨rfl, by decide, by decide, by show _ = some 3; decide +kernel⟩ 0 10 rfl rfl rfl (Nat.le_of_ble_eq_true rfl) (by decide) (by omega) (by omega) h hl.1 rfl (Nat.le_of_ble_eq_true rfl) dJ2_add_20 (fun _ H locs _ h => ?_)
  refine lv_iconst (v := 1) C.x C.b dJ2_add_23 (by decide) ?_
  exact hR 1 () _ _ _ _ rfl h (by decide) dJ2_add_24
