set_option maxRecDepth 100000

/-! methods with handlers that answer an int -/
def KIh (l : Launch) (y : MethodName) (cc : ByteArray) (nL : Nat) (rt : FieldType) (hh : List (Nat × Nat × Nat × Nat)) (d : Nat) (D : va_G) (ty : Nat → ClassId) (A : Nat → Prop) (ws ws' : va_W) (As : List Value) (r : Int32) : Prop :=
  ∀ sz : Nat, (∀ q : Nat, sz ≤ q → A q) → vx_Met l y (wsW_ y cc nL (some rt) hh) (rmD d) (KP D ty A sz ws As) (va_Qi (fun r' (_ : Unit) => r' = r) (fun _ t => va_P D vwCl ws' t.heap ∧ va_D A ws') A) (vx_X (fun (_ : Unit) => False) (fun _ _ _ => True) A) 0 0 A
/-- the same where cells may be made -/
def KIg {T : Type} (l : Launch) (y : MethodName) (cc : ByteArray) (nL : Nat) (rt : FieldType) (hh : List (Nat × Nat × Nat × Nat)) (d mc ms : Nat) (D : va_G) (ty : Nat → ClassId) (A : Nat → Prop) (ws : va_W) (As : List Value) (P : Int32 → T → Prop) (ws' : T → va_W) : Prop :=
  ∀ sz : Nat, (∀ q : Nat, sz ≤ q → A q) → vx_Met l y (wsW_ y cc nL (some rt) hh) (rmG d mc ms) (KP D ty A sz ws As) (va_Qi P (fun u t => va_P D vwCl (ws' u) t.heap ∧ va_D A (ws' u)) A) (vx_X (fun (_ : Unit) => False) (fun _ _ _ => True) A) mc ms A
section KHOF
variable {T : Type} {l : Launch} {y : MethodName} {cc : ByteArray} {nL d mc ms : Nat} {rt : FieldType} {hh : List (Nat × Nat × Nat × Nat)} {D : va_G} {ty : Nat → ClassId} {A : Nat → Prop} {ws ws' : va_W} {As : List Value}
theorem KIg.of {P : Int32 → T → Prop} {wt : T → va_W} (hy : plainName y.cls = true) (hn : (lg_sl As).length ≤ nL)
    (body : ∀ (p : Program) (e : Env) (R : Room) (s : State) (m : MethodId) (args : Array Value) (below : List Frame) (meth : Method) (c : Code) (Q : State → Prop), Cx p R s m args c cc nL y.cls D ty A d → meth.locks = false → c.exceptionTable.toList = tableOf hh → mc ≤ R.cells → ms ≤ R.slots →
      (∀ (r : Int32) (u : T) (H : Heap) (locs : List Loc) (pc : Nat) (ls : Array Slot), P r u → Hw D A s H locs (wt u) → narrow rt (.int r) = .int r → decode cc pc = .ok (.ireturn, 1) → W p l e R s m args below meth c H locs mc ms Q (F0 m pc ls [.int r])) →
      ∀ (H : Heap) (locs : List Loc) (ls : Array Slot), Hw D A s H locs ws → lv_has ls nL (lv_args 0 As) → W p l e R s m args below meth c H locs 0 0 Q (F0 m 0 ls [])) : KIg l y cc nL rt hh d mc ms D ty A ws As P wt := by
  intro sz hA
  refine vx_ofWH (cc := cc) (maxL := nL) (ret := some rt) (hh := hh) hy rfl ?_
  intro p e s m args below meth c s₁ B hml hv
  obtain ⟨rfl, hsz, hP, hK, hD⟩ := hv
  subst hsz
  have hts := atoms_spec (ws := wsW_ y cc nL (some rt) hh) B.pre
  have htab := vx_table (x := y) B (hts _ List.mem_cons_self)
  have hts : ∀ w ∈ lw_all, w.before _ s = true := fun w h => hts w (List.mem_cons_of_mem _ h)
  have hlocks := B.notSynchronized
  rw [lg_entry_eq]
  refine body p e _ s m As.toArray below meth c _ ⟨⟨B.exec, B.bytes, hml, findClass_of_methodNamed B.named, hts⟩, hK, hA, Nat.le_refl _, Nat.le_refl _⟩ hlocks htab (Nat.le_refl _) (Nat.le_refl _) ?_ s.heap [] _ ⟨hP, hD, va_S.rf⟩ (lv_entry As hn)
  intro r u H locs pc ls hu h hnr hd
  exact vx_ret (W.zret (v := r) B.exec B.bytes B.returns hnr (fun t ht hW => ⟨⟨r, u, rfl, hu, by rw [ht]; exact h.1, h.2.1⟩, h.2.2.F ht⟩) h.2.2.2.2 hd)
theorem KIh.of {r : Int32} (hy : plainName y.cls = true) (hn : (lg_sl As).length ≤ nL)
    (body : ∀ (p : Program) (e : Env) (R : Room) (s : State) (m : MethodId) (args : Array Value) (below : List Frame) (meth : Method) (c : Code) (Q : State → Prop), Cx p R s m args c cc nL y.cls D ty A d →
      (∀ (H : Heap) (locs : List Loc) (pc : Nat) (ls : Array Slot), Hw D A s H locs ws' → narrow rt (.int r) = .int r → decode cc pc = .ok (.ireturn, 1) → W p l e R s m args below meth c H locs 0 0 Q (F0 m pc ls [.int r])) →
      ∀ (H : Heap) (locs : List Loc) (ls : Array Slot), Hw D A s H locs ws → lv_has ls nL (lv_args 0 As) → W p l e R s m args below meth c H locs 0 0 Q (F0 m 0 ls [])) : KIh l y cc nL rt hh d D ty A ws ws' As r :=
  KIg.of (mc := 0) (ms := 0) (wt := fun (_ : Unit) => ws') (P := fun r' _ => r' = r) hy hn (fun p e R s m args below meth c Q C _ _ _ _ hR => body p e R s m args below meth c Q C (fun H locs pc ls h hnr hd => hR r () H locs pc ls rfl h hnr hd))
end KHOF
section KHCALL
variable {T : Type} {p : Program} {l : Launch} {e : Env} {R : Room} {s : State} {m : MethodId} {args : Array Value} {below : List Frame} {meth : Method} {c : Code} {H : Heap} {locs : List Loc} {cells slots : Nat} {Q : State → Prop} {cc : ByteArray} {pc : Nat} {ls : Array Slot} {st rest : List Value} {nL d : Nat} {ow : String} {D : va_G} {ty : Nat → ClassId} {A : Nat → Prop}
variable {y : MethodName} {bytes : ByteArray} {nL' d' index mc ms : Nat} {rt : FieldType} {hh : List (Nat × Nat × Nat × Nat)} {ws ws' : va_W} {As : List Value} {o : Nat} {Cn : String}
theorem KIg.callV {P : Int32 → T → Prop} {wt : T → va_W} (C : Cx p R s m args c cc nL ow D ty A d) (hM : KIg l y bytes nL' rt hh d' mc ms D ty A ws (.ref o :: As) P wt)
    (hT : GoodIn lw_all (wsV ow index Cn y (wsW_ y bytes nL' (some rt) hh))) (hy : y.cls = Cn ∧ y.cls ≠ "java/lang/invoke/MethodHandle" ∧ y.cls ≠ "java/lang/invoke/VarHandle" ∧ (parseMethodDescriptor y.desc).map (fun d => d.parameters.length) = some As.length)
    (q0 ci : Nat) {fs : List Value} {qq : vw_C} (he : ws[q0]? = some (o, .inr (ci, fs))) (hc : vwCl[ci]? = some qq) (hq : qq.1 = Cn) (hd : d' + 1 ≤ d) (hn : nL' ≤ 21) (hcs : cells + mc ≤ R.cells) (hss : slots + ms ≤ R.slots)
    (h : Hw D A s H locs ws) (hls : ls.size = nL) (hst : st = As.reverse ++ .ref o :: rest) (hcat : (rest.map fun v => v.category).sum ≤ 8) (dec : decode cc pc = .ok (.invokevirtual index, 3))
    (kk : ∀ (r : Int32) (u : T) (H : Heap) (locs : List Loc), P r u → Hw D A s H locs (wt u) → W p l e R s m args below meth c H locs (cells + mc) (slots + ms) Q (F0 m (pc + 3) ls (.int r :: rest))) : W p l e R s m args below meth c H locs cells slots Q (F0 m pc ls st) := by
  have hA1 : ∀ q : Nat, H.size ≤ q → A q := fun q hq => C.2.2.1 q (Nat.le_trans h.2.2.1 hq)
  have hrv := va_recv C.K h.1 hc he
  rw [hq] at hrv
  subst hst
  refine vx_calli (vx_runVX (hh := hh) (As := As) (rest := rest) C.1 (hM H.size hA1) (vx_cwVW As.length C.ts hT rfl rfl rfl hy (C.roomG hd hn)) ⟨KP.blind, hrv, KP.here C h⟩ rfl rfl hls rfl (lv_room hcat) dec ⟨hcs, hss⟩) h.2.2 (fun q _ h => h) (fun q h => h) (fun q _ h => h) (fun _ _ _ _ _ _ _ _ _ hx => hx.elim) (fun r' u t H1 locs1 ht hvm hr hB hz1 hk1 hS => ?_)
  exact kk r' u H1 locs1 hr ⟨by rw [← ht]; exact hB.1, hB.2, hS⟩
theorem KIh.callV {r : Int32} (C : Cx p R s m args c cc nL ow D ty A d) (hM : KIh l y bytes nL' rt hh d' D ty A ws ws' (.ref o :: As) r)
    (hT : GoodIn lw_all (wsV ow index Cn y (wsW_ y bytes nL' (some rt) hh))) (hy : y.cls = Cn ∧ y.cls ≠ "java/lang/invoke/MethodHandle" ∧ y.cls ≠ "java/lang/invoke/VarHandle" ∧ (parseMethodDescriptor y.desc).map (fun d => d.parameters.length) = some As.length)
    (q0 ci : Nat) {fs : List Value} {qq : vw_C} (he : ws[q0]? = some (o, .inr (ci, fs))) (hc : vwCl[ci]? = some qq) (hq : qq.1 = Cn) (hd : d' + 1 ≤ d) (hn : nL' ≤ 21) (hcs : cells ≤ R.cells) (hss : slots ≤ R.slots)
    (h : Hw D A s H locs ws) (hls : ls.size = nL) (hst : st = As.reverse ++ .ref o :: rest) (hcat : (rest.map fun v => v.category).sum ≤ 8) (dec : decode cc pc = .ok (.invokevirtual index, 3))
    (kk : ∀ (H : Heap) (locs : List Loc), Hw D A s H locs ws' → W p l e R s m args below meth c H locs cells slots Q (F0 m (pc + 3) ls (.int r :: rest))) : W p l e R s m args below meth c H locs cells slots Q (F0 m pc ls st) :=
  KIg.callV (mc := 0) (ms := 0) (wt := fun (_ : Unit) => ws') (P := fun r' _ => r' = r) C hM hT hy q0 ci he hc hq hd hn hcs hss h hls hst hcat dec (fun r' _ H locs hr h => by subst hr; exact kk H locs h)
/-- a call that always throws, by the object -/
theorem KTi.callV {E : String} (C : Cx p R s m args c cc nL ow D ty A d) (hM : KTi l y bytes nL' rt d' mc ms D ty A ws (.ref o :: As) E)
    (hT : GoodIn lw_all (wsV ow index Cn y (ws_ y bytes nL' (some rt)))) (hy : y.cls = Cn ∧ y.cls ≠ "java/lang/invoke/MethodHandle" ∧ y.cls ≠ "java/lang/invoke/VarHandle" ∧ (parseMethodDescriptor y.desc).map (fun d => d.parameters.length) = some As.length)
    (q0 ci : Nat) {fs : List Value} {qq : vw_C} (he : ws[q0]? = some (o, .inr (ci, fs))) (hc : vwCl[ci]? = some qq) (hq : qq.1 = Cn) (hd : d' + 1 ≤ d) (hn : nL' ≤ 21) (hcs : cells + mc ≤ R.cells) (hss : slots + ms ≤ R.slots)
    (h : Hw D A s H locs ws) (hls : ls.size = nL) (hst : st = As.reverse ++ .ref o :: rest) (hcat : (rest.map fun v => v.category).sum ≤ 8) (dec : decode cc pc = .ok (.invokevirtual index, 3))
    (kx : ∀ (H : Heap) (locs : List Loc) (q9 : Addr) (ce : Cell), Hw D A s H locs ws → H[q9]? = some ce → ce.vm = .none → s.vm.findClass E = some ce.cls → vx_W p l e R s m args below meth c H locs (cells + mc) (slots + ms) Q (F0 m pc ls rest) q9) : W p l e R s m args below meth c H locs cells slots Q (F0 m pc ls st) := by
  have hA1 : ∀ q : Nat, H.size ≤ q → A q := fun q hq => C.2.2.1 q (Nat.le_trans h.2.2.1 hq)
  have hrv := va_recv C.K h.1 hc he
  rw [hq] at hrv
  subst hst
  exact vx_calli (vx_runV (As := As) (rest := rest) C.1 (hM H.size hA1) (cwV As.length C.ts hT rfl rfl rfl hy (C.roomG hd hn)) ⟨KP.blind, hrv, KP.here C h⟩ rfl rfl hls rfl (lv_room hcat) dec ⟨hcs, hss⟩) h.2.2 (fun q _ h => h) (fun q h => h) (fun q _ h => h) (fun E' ce q9 _ t H1 locs1 ht hvm _ hB hz hk hS h1 h2 h3 => kx H1 locs1 q9 ce ⟨by rw [← ht]; exact hB.2.1, hB.2.2, hS⟩ h1 h2 (by rw [← hB.1]; exact h3)) (fun _ _ _ _ _ _ _ hp => hp.elim)
theorem KTv.callV {E : String} (C : Cx p R s m args c cc nL ow D ty A d) (hM : KTv l y bytes nL' d' mc ms D ty A ws (.ref o :: As) E)
    (hT : GoodIn lw_all (wsV ow index Cn y (ws_ y bytes nL' none))) (hy : y.cls = Cn ∧ y.cls ≠ "java/lang/invoke/MethodHandle" ∧ y.cls ≠ "java/lang/invoke/VarHandle" ∧ (parseMethodDescriptor y.desc).map (fun d => d.parameters.length) = some As.length)
    (q0 ci : Nat) {fs : List Value} {qq : vw_C} (he : ws[q0]? = some (o, .inr (ci, fs))) (hc : vwCl[ci]? = some qq) (hq : qq.1 = Cn) (hd : d' + 1 ≤ d) (hn : nL' ≤ 21) (hcs : cells + mc ≤ R.cells) (hss : slots + ms ≤ R.slots)
    (h : Hw D A s H locs ws) (hls : ls.size = nL) (hst : st = As.reverse ++ .ref o :: rest) (hcat : (rest.map fun v => v.category).sum ≤ 8) (dec : decode cc pc = .ok (.invokevirtual index, 3))
    (kx : ∀ (H : Heap) (locs : List Loc) (q9 : Addr) (ce : Cell), Hw D A s H locs ws → H[q9]? = some ce → ce.vm = .none → s.vm.findClass E = some ce.cls → vx_W p l e R s m args below meth c H locs (cells + mc) (slots + ms) Q (F0 m pc ls rest) q9) : W p l e R s m args below meth c H locs cells slots Q (F0 m pc ls st) := by
  have hA1 : ∀ q : Nat, H.size ≤ q → A q := fun q hq => C.2.2.1 q (Nat.le_trans h.2.2.1 hq)
  have hrv := va_recv C.K h.1 hc he
  rw [hq] at hrv
  subst hst
  exact vx_callv (vx_runV (As := As) (rest := rest) C.1 (hM H.size hA1) (cwV As.length C.ts hT rfl rfl rfl hy (C.roomG hd hn)) ⟨KP.blind, hrv, KP.here C h⟩ rfl rfl hls rfl (lv_room hcat) dec ⟨hcs, hss⟩) h.2.2 (fun q _ h => h) (fun q h => h) (fun q _ h => h) (fun E' ce q9 _ t H1 locs1 ht hvm _ hB hz hk hS h1 h2 h3 => kx H1 locs1 q9 ce ⟨by rw [← ht]; exact hB.2.1, hB.2.2, hS⟩ h1 h2 (by rw [← hB.1]; exact h3)) (fun _ _ _ _ _ _ hp => hp.elim)
end KHCALL
/-! the slots: gI τ j is row j's width (0 byte, 1 short, 2 int, 3 long, else none), gI τ (10 + j) its length; its cell is at ad (60 + j) -/
def slN (τ : PS) (j : Nat) : Nat := (gI τ (10 + j)).toNatClampNeg
def rowC (ty : Nat → ClassId) (ad : Nat → Nat) (τ : PS) (j : Nat) : va_W :=
  if gI τ j = 0 then [(ad (60 + j), .inl (ty 1, slN τ j, .inl (gA τ j)))] else if gI τ j = 1 then [(ad (60 + j), .inl (ty 2, slN τ j, .inl (gA τ j)))] else if gI τ j = 2 then [(ad (60 + j), .inl (ty 0, slN τ j, .inl (gA τ j)))] else if gI τ j = 3 then [(ad (60 + j), .inl (ty 3, slN τ j, .inr (.inl (gB τ j))))] else []
def slSome (τ : PS) (j : Nat) : Prop := gI τ j = 0 ∨ gI τ j = 1 ∨ gI τ j = 2 ∨ gI τ j = 3
def slB (τ : PS) (j : Nat) : Bool := decide (gI τ j = 0) || decide (gI τ j = 1) || decide (gI τ j = 2) || decide (gI τ j = 3)
theorem slB_iff {τ : PS} {j : Nat} : slB τ j = true ↔ slSome τ j := by
  simp only [slB, slSome, Bool.or_eq_true, decide_eq_true_eq, or_assoc]
def rowV (ad : Nat → Nat) (τ : PS) (j : Nat) : Value := if slB τ j = true then .ref (ad (60 + j)) else .null
def slW (ty : Nat → ClassId) (ad : Nat → Nat) (τ : PS) (j : Nat) : va_W := (ad (50 + j), .inr (6, [rowV ad τ j])) :: rowC ty ad τ j
def sl30 (ty : Nat → ClassId) (ad : Nat → Nat) : Nat × va_E := (ad 30, .inl (ty 6, 4, .inr (.inr (.inr (.inr (f4 ad 50))))))
def wS (ty : Nat → ClassId) (ad : Nat → Nat) (τ : PS) : va_W := sl30 ty ad :: (slW ty ad τ 0 ++ (slW ty ad τ 1 ++ (slW ty ad τ 2 ++ slW ty ad τ 3)))
section SLW
variable {ty : Nat → ClassId} {ad : Nat → Nat} {τ : PS} {j : Nat}
theorem slW_b (h : gI τ j = 0) : slW ty ad τ j = [(ad (50 + j), .inr (6, [.ref (ad (60 + j))])), (ad (60 + j), .inl (ty 1, slN τ j, .inl (gA τ j)))] := by
  unfold slW rowV rowC
  rw [if_pos (slB_iff.mpr (Or.inl h)), if_pos h]
theorem slW_s (h : gI τ j = 1) : slW ty ad τ j = [(ad (50 + j), .inr (6, [.ref (ad (60 + j))])), (ad (60 + j), .inl (ty 2, slN τ j, .inl (gA τ j)))] := by
  unfold slW rowV rowC
  rw [if_pos (slB_iff.mpr (Or.inr (Or.inl h))), if_neg (by rw [h]; decide), if_pos h]
theorem slW_i (h : gI τ j = 2) : slW ty ad τ j = [(ad (50 + j), .inr (6, [.ref (ad (60 + j))])), (ad (60 + j), .inl (ty 0, slN τ j, .inl (gA τ j)))] := by
  unfold slW rowV rowC
  rw [if_pos (slB_iff.mpr (Or.inr (Or.inr (Or.inl h)))), if_neg (by rw [h]; decide), if_neg (by rw [h]; decide), if_pos h]
theorem slW_l (h : gI τ j = 3) : slW ty ad τ j = [(ad (50 + j), .inr (6, [.ref (ad (60 + j))])), (ad (60 + j), .inl (ty 3, slN τ j, .inr (.inl (gB τ j))))] := by
  unfold slW rowV rowC
  rw [if_pos (slB_iff.mpr (Or.inr (Or.inr (Or.inr h)))), if_neg (by rw [h]; decide), if_neg (by rw [h]; decide), if_neg (by rw [h]; decide), if_pos h]
theorem slW_N (h : ¬ slSome τ j) : slW ty ad τ j = [(ad (50 + j), .inr (6, [.null]))] := by
  unfold slW rowV rowC
  rw [if_neg (fun c => h (slB_iff.mp c)), if_neg (fun c => h (Or.inl c)), if_neg (fun c => h (Or.inr (Or.inl c))), if_neg (fun c => h (Or.inr (Or.inr (Or.inl c)))), if_neg (fun c => h (Or.inr (Or.inr (Or.inr c))))]
/-- slot j's cells brought to the front; and, where only they change, put back -/
theorem slot_perm {B rs : va_W} {ad' : Nat → Nat} {τ' : PS} (hj : j < 4) (h30 : sl30 ty ad' = sl30 ty ad) (hs : ∀ i, i < 4 → i ≠ j → slW ty ad' τ' i = slW ty ad τ i) : ∃ rest : va_W, (B ++ (wS ty ad τ ++ rs)).Perm (slW ty ad τ j ++ rest) ∧ (slW ty ad' τ' j ++ rest).Perm (B ++ (wS ty ad' τ' ++ rs)) := by
  have hj4 : j = 0 ∨ j = 1 ∨ j = 2 ∨ j = 3 := by omega
  rcases hj4 with rfl | rfl | rfl | rfl
  · refine ⟨(B ++ [sl30 ty ad]) ++ (slW ty ad τ 1 ++ (slW ty ad τ 2 ++ (slW ty ad τ 3 ++ rs))), ?_, ?_⟩
    · rw [show B ++ (wS ty ad τ ++ rs) = (B ++ [sl30 ty ad]) ++ (slW ty ad τ 0 ++ (slW ty ad τ 1 ++ (slW ty ad τ 2 ++ (slW ty ad τ 3 ++ rs)))) by simp [wS, List.append_assoc]]
      exact List.perm_append_comm_assoc _ _ _
    · rw [show B ++ (wS ty ad' τ' ++ rs) = (B ++ [sl30 ty ad]) ++ (slW ty ad' τ' 0 ++ (slW ty ad τ 1 ++ (slW ty ad τ 2 ++ (slW ty ad τ 3 ++ rs)))) by simp [wS, List.append_assoc, h30, hs 1 (by decide) (by decide), hs 2 (by decide) (by decide), hs 3 (by decide) (by decide)]]
      exact List.perm_append_comm_assoc _ _ _
  · refine ⟨(B ++ (sl30 ty ad :: slW ty ad τ 0)) ++ (slW ty ad τ 2 ++ (slW ty ad τ 3 ++ rs)), ?_, ?_⟩
    · rw [show B ++ (wS ty ad τ ++ rs) = (B ++ (sl30 ty ad :: slW ty ad τ 0)) ++ (slW ty ad τ 1 ++ (slW ty ad τ 2 ++ (slW ty ad τ 3 ++ rs))) by simp [wS, List.append_assoc]]
      exact List.perm_append_comm_assoc _ _ _
    · rw [show B ++ (wS ty ad' τ' ++ rs) = (B ++ (sl30 ty ad :: slW ty ad τ 0)) ++ (slW ty ad' τ' 1 ++ (slW ty ad τ 2 ++ (slW ty ad τ 3 ++ rs))) by simp [wS, List.append_assoc, h30, hs 0 (by decide) (by decide), hs 2 (by decide) (by decide), hs 3 (by decide) (by decide)]]
      exact List.perm_append_comm_assoc _ _ _
  · refine ⟨(B ++ (sl30 ty ad :: (slW ty ad τ 0 ++ slW ty ad τ 1))) ++ (slW ty ad τ 3 ++ rs), ?_, ?_⟩
    · rw [show B ++ (wS ty ad τ ++ rs) = (B ++ (sl30 ty ad :: (slW ty ad τ 0 ++ slW ty ad τ 1))) ++ (slW ty ad τ 2 ++ (slW ty ad τ 3 ++ rs)) by simp [wS, List.append_assoc]]
      exact List.perm_append_comm_assoc _ _ _
    · rw [show B ++ (wS ty ad' τ' ++ rs) = (B ++ (sl30 ty ad :: (slW ty ad τ 0 ++ slW ty ad τ 1))) ++ (slW ty ad' τ' 2 ++ (slW ty ad τ 3 ++ rs)) by simp [wS, List.append_assoc, h30, hs 0 (by decide) (by decide), hs 1 (by decide) (by decide), hs 3 (by decide) (by decide)]]
      exact List.perm_append_comm_assoc _ _ _
  · refine ⟨(B ++ (sl30 ty ad :: (slW ty ad τ 0 ++ (slW ty ad τ 1 ++ slW ty ad τ 2)))) ++ rs, ?_, ?_⟩
    · rw [show B ++ (wS ty ad τ ++ rs) = (B ++ (sl30 ty ad :: (slW ty ad τ 0 ++ (slW ty ad τ 1 ++ slW ty ad τ 2)))) ++ (slW ty ad τ 3 ++ rs) by simp [wS, List.append_assoc]]
      exact List.perm_append_comm_assoc _ _ _
    · rw [show B ++ (wS ty ad' τ' ++ rs) = (B ++ (sl30 ty ad :: (slW ty ad τ 0 ++ (slW ty ad τ 1 ++ slW ty ad τ 2)))) ++ (slW ty ad' τ' 3 ++ rs) by simp [wS, List.append_assoc, h30, hs 0 (by decide) (by decide), hs 1 (by decide) (by decide), hs 2 (by decide) (by decide)]]
      exact List.perm_append_comm_assoc _ _ _
theorem slot_perm0 {B rs : va_W} (hj : j < 4) : ∃ rest : va_W, (B ++ (wS ty ad τ ++ rs)).Perm (slW ty ad τ j ++ rest) := by
  obtain ⟨r, h, -⟩ := slot_perm (B := B) (rs := rs) (ty := ty) (ad' := ad) (τ' := τ) hj rfl (fun _ _ _ => rfl)
  exact ⟨r, h⟩
end SLW
def S_size (τ : PS) (i : Int32) : Option Int32 := ix i 4 (if slB τ i.toNatClampNeg = true then some (Int32.ofNat (slN τ i.toNatClampNeg)) else none)
def S_at (τ : PS) (i k : Int32) : Option Int64 := ix i 4 (if slB τ i.toNatClampNeg = true then ix k (slN τ i.toNatClampNeg) (some (if gI τ i.toNatClampNeg = 3 then gB τ i.toNatClampNeg k.toNatClampNeg else (gA τ i.toNatClampNeg k.toNatClampNeg).toInt64)) else none)
def S_none (τ : PS) (i : Int32) : Bool := !slB τ i.toNatClampNeg
theorem in_lt {i : Int32} {n : Nat} (h : vp_in i n) : i.toNatClampNeg < n := Nat.not_le.mp fun q => h (Or.inr q)

section SROWS
variable {p : Program} {l : Launch} {e : Env} {R : Room} {s : State} {m : MethodId} {args : Array Value} {below : List Frame} {meth : Method} {c : Code} {H : Heap} {locs : List Loc} {Q : State → Prop} {cc : ByteArray} {pc : Nat} {ls : Array Slot} {st : List Value} {nL d : Nat} {D : va_G} {ty : Nat → ClassId} {A : Nat → Prop} {o : Nat} {ad : Nat → Nat} {rs : va_W} {σ τ : PS}
theorem x_a30 {cells slots : Nat} (C : Cx p R s m args c cc nL RX0 D ty A d) (h : Hw D A s H locs (wX ty o ad σ ++ (wS ty ad τ ++ rs))) {i : Int32} (hi : vp_in i 4) (dec : decode cc pc = .ok (.aaload, 1)) (kk : W p l e R s m args below meth c H locs cells slots Q (F0 m (pc + 1) ls (.ref (ad (50 + i.toNatClampNeg)) :: st))) : W p l e R s m args below meth c H locs cells slots Q (F0 m pc ls (.int i :: .ref (ad 30) :: st)) := va_aldq C.x C.b C.K h.1 30 6 rfl rfl hi dec (by rw [f4_at hi]; exact kk)
theorem x_row {cells slots : Nat} (C : Cx p R s m args c cc nL RX0 D ty A d) (h : Hw D A s H locs (wX ty o ad σ ++ (wS ty ad τ ++ rs))) {i : Int32} (hi : vp_in i 4) (dec : decode cc pc = .ok (.getfield 469, 3)) (k0 : S_none τ i = true → W p l e R s m args below meth c H locs cells slots Q (F0 m (pc + 3) ls (.null :: st))) (k1 : ∀ a : Nat, ¬ S_none τ i = true → W p l e R s m args below meth c H locs cells slots Q (F0 m (pc + 3) ls (.ref a :: st))) : W p l e R s m args below meth c H locs cells slots Q (F0 m pc ls (.ref (ad (50 + i.toNatClampNeg)) :: st)) := by
  obtain ⟨rest, hp⟩ := slot_perm0 (ty := ty) (ad := ad) (τ := τ) (B := wX ty o ad σ) (rs := rs) (in_lt hi)
  have h2 := h.perm hp
  by_cases hb : slB τ i.toNatClampNeg = true
  · refine va_getN (D := D) (ci := 6) (v := .ref (ad (60 + i.toNatClampNeg))) C.x C.b C.ts in_X6 C.own C.K h2.1 0 rfl rfl 0 (by decide) (C.nw q313 rfl) (fun _ h9 => h9) (by unfold rowV; rw [if_pos hb]; rfl) dec (k1 _ (by simp [S_none, hb]))
  · refine va_getN (D := D) (ci := 6) (v := .null) C.x C.b C.ts in_X6 C.own C.K h2.1 0 rfl rfl 0 (by decide) (C.nw q313 rfl) (fun _ h9 => h9) (by unfold rowV; rw [if_neg hb]; rfl) dec (k0 (by simp [S_none, hb]))
theorem tS_size : GoodIn lw_all (wsV RX0 364 RX6 yX6_size (ws_ yX6_size cX6_size 1 (some .int))) := lw_V q1185 q1186 q1187 q143 q1188
theorem tS_at : GoodIn lw_all (wsV RX0 357 RX6 yX6_at (ws_ yX6_at cX6_at 2 (some .long))) := lw_V q1193 q1194 q1195 q143 q1196
theorem tS_put : GoodIn lw_all (wsV RX0 498 RX6 yX6_put (ws_ yX6_put cX6_put 4 none)) := lw_V q1509 q1510 q1511 q143 q1512
theorem tS_make : GoodIn lw_all (wsV RX0 493 RX6 yX6_make (ws_ yX6_make cX6_make 3 none)) := lw_V q1480 q1481 q1482 q143 q1483
theorem cS_size (C : Cx p R s m args c cc nL RX0 D ty A d) (h : Hw D A s H locs (wX ty o ad σ ++ (wS ty ad τ ++ rs))) {i q : Int32} (hc : S_size τ i = some q) (hd : 0 + 1 ≤ d) (hls : ls.size = nL) (hcat : (st.map fun v => v.category).sum ≤ 8) (dec : decode cc pc = .ok (.invokevirtual 364, 3)) (kk : ∀ (H : Heap) (locs : List Loc), Hw D A s H locs (wX ty o ad σ ++ (wS ty ad τ ++ rs)) → W p l e R s m args below meth c H locs 0 0 Q (F0 m (pc + 3) ls (.int q :: st))) : W p l e R s m args below meth c H locs 0 0 Q (F0 m pc ls (.ref (ad (50 + i.toNatClampNeg)) :: st)) := by
  obtain ⟨hi, hc⟩ := ix_k (K := fun x => x) rfl hc
  obtain ⟨rest, hp⟩ := slot_perm0 (ty := ty) (ad := ad) (τ := τ) (B := wX ty o ad σ) (rs := rs) (in_lt hi)
  have h2 := h.perm hp
  by_cases hb : slB τ i.toNatClampNeg = true
  · rw [if_pos hb] at hc
    cases hc
    rcases slB_iff.mp hb with hw | hw | hw | hw
    · rw [slW_b hw] at h2
      exact KI.callV (As := []) C (kS_size_b l) tS_size ⟨rfl, by decide, by decide, by show _ = some 0; decide +kernel⟩ 0 6 rfl rfl rfl hd (by decide) (Nat.zero_le _) (Nat.zero_le _) h2 hls rfl hcat dec (fun H locs h3 => kk H locs (Hw.perm hp.symm (by rw [slW_b hw]; exact h3)))
    · rw [slW_s hw] at h2
      exact KI.callV (As := []) C (kS_size_s l) tS_size ⟨rfl, by decide, by decide, by show _ = some 0; decide +kernel⟩ 0 6 rfl rfl rfl hd (by decide) (Nat.zero_le _) (Nat.zero_le _) h2 hls rfl hcat dec (fun H locs h3 => kk H locs (Hw.perm hp.symm (by rw [slW_s hw]; exact h3)))
    · rw [slW_i hw] at h2
      exact KI.callV (As := []) C (kS_size_i l) tS_size ⟨rfl, by decide, by decide, by show _ = some 0; decide +kernel⟩ 0 6 rfl rfl rfl hd (by decide) (Nat.zero_le _) (Nat.zero_le _) h2 hls rfl hcat dec (fun H locs h3 => kk H locs (Hw.perm hp.symm (by rw [slW_i hw]; exact h3)))
    · rw [slW_l hw] at h2
      exact KI.callV (As := []) C (kS_size_l l) tS_size ⟨rfl, by decide, by decide, by show _ = some 0; decide +kernel⟩ 0 6 rfl rfl rfl hd (by decide) (Nat.zero_le _) (Nat.zero_le _) h2 hls rfl hcat dec (fun H locs h3 => kk H locs (Hw.perm hp.symm (by rw [slW_l hw]; exact h3)))
  · rw [if_neg hb] at hc; cases hc
theorem cS_at (C : Cx p R s m args c cc nL RX0 D ty A d) (h : Hw D A s H locs (wX ty o ad σ ++ (wS ty ad τ ++ rs))) {i k : Int32} {q : Int64} (hc : S_at τ i k = some q) (hd : 0 + 1 ≤ d) (hls : ls.size = nL) (hcat : (st.map fun v => v.category).sum ≤ 8) (dec : decode cc pc = .ok (.invokevirtual 357, 3)) (kk : ∀ (H : Heap) (locs : List Loc), Hw D A s H locs (wX ty o ad σ ++ (wS ty ad τ ++ rs)) → W p l e R s m args below meth c H locs 0 0 Q (F0 m (pc + 3) ls (.long q :: st))) : W p l e R s m args below meth c H locs 0 0 Q (F0 m pc ls (.int k :: .ref (ad (50 + i.toNatClampNeg)) :: st)) := by
  obtain ⟨hi, hc⟩ := ix_k (K := fun x => x) rfl hc
  obtain ⟨rest, hp⟩ := slot_perm0 (ty := ty) (ad := ad) (τ := τ) (B := wX ty o ad σ) (rs := rs) (in_lt hi)
  have h2 := h.perm hp
  by_cases hb : slB τ i.toNatClampNeg = true
  · rw [if_pos hb] at hc
    obtain ⟨hk, hc⟩ := ix_k (K := fun x => x) rfl hc
    have hc := Option.some.inj hc
    rcases slB_iff.mp hb with hw | hw | hw | hw
    · rw [slW_b hw] at h2
      rw [if_neg (by rw [hw]; decide)] at hc
      subst hc
      exact KL.callV (As := [.int k]) C (kS_at_b l hk) tS_at ⟨rfl, by decide, by decide, by show _ = some 1; decide +kernel⟩ 0 6 rfl rfl rfl hd (by decide) (Nat.zero_le _) (Nat.zero_le _) h2 hls rfl hcat dec (fun H locs h3 => kk H locs (Hw.perm hp.symm (by rw [slW_b hw]; exact h3)))
    · rw [slW_s hw] at h2
      rw [if_neg (by rw [hw]; decide)] at hc
      subst hc
      exact KL.callV (As := [.int k]) C (kS_at_s l hk) tS_at ⟨rfl, by decide, by decide, by show _ = some 1; decide +kernel⟩ 0 6 rfl rfl rfl hd (by decide) (Nat.zero_le _) (Nat.zero_le _) h2 hls rfl hcat dec (fun H locs h3 => kk H locs (Hw.perm hp.symm (by rw [slW_s hw]; exact h3)))
    · rw [slW_i hw] at h2
      rw [if_neg (by rw [hw]; decide)] at hc
      subst hc
      exact KL.callV (As := [.int k]) C (kS_at_i l hk) tS_at ⟨rfl, by decide, by decide, by show _ = some 1; decide +kernel⟩ 0 6 rfl rfl rfl hd (by decide) (Nat.zero_le _) (Nat.zero_le _) h2 hls rfl hcat dec (fun H locs h3 => kk H locs (Hw.perm hp.symm (by rw [slW_i hw]; exact h3)))
    · rw [slW_l hw] at h2
      rw [if_pos hw] at hc
      subst hc
      exact KL.callV (As := [.int k]) C (kS_at_l l hk) tS_at ⟨rfl, by decide, by decide, by show _ = some 1; decide +kernel⟩ 0 6 rfl rfl rfl hd (by decide) (Nat.zero_le _) (Nat.zero_le _) h2 hls rfl hcat dec (fun H locs h3 => kk H locs (Hw.perm hp.symm (by rw [slW_l hw]; exact h3)))
  · rw [if_neg hb] at hc; cases hc
end SROWS
