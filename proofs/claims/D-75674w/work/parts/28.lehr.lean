set_option maxRecDepth 100000
/-- a reader at its start -/
def σR0 (τ : PS) : PS := (fun k => if k = 200 then gI τ 2 else 0, fun _ => 0, fun _ _ => 0, fun _ _ => 0)
def R_run (σ : PS) : Option (PS ⊕ FT) := bd (R_next σ (σR0 σ)) (fun σ1 => R_whole σ fu σ1)
def lehrOk (σ ρ : PS) : PS := sI (sI (sI (mrg σ ρ) 3 0) 4 (-1)) 2 0
def lehrNo (σ : PS) (k pl : Int32) : PS := sI (sI (sI σ 3 k) 4 pl) 2 0
set_option maxHeartbeats 2000000 in
theorem kR_init (l : Launch) {D : va_G} {ty : Nat → ClassId} {A : Nat → Prop} {b o : Nat} {ad : Nat → Nat} {τ σ1 : PS} (hf : R_next τ (σR0 τ) = some σ1) : KVx l yX8_init cX8_init 2 4 7 76 D ty A ([(b, .inr (8, [.int 0, .null, .int 0, .int 0, .int 0, .null, .null]))] ++ wBelt ty o ad τ) [.ref b, .ref o] (fun (_ : Nat → Nat) => True) (fun ad2 => wRd ty b o ad2 σ1 ++ wBelt ty o ad τ) := by
  refine KVx.of (by decide) (Nat.le_of_ble_eq_true rfl) ?_
  intro p e R s m args below meth c Q C hin hmc hms hR H locs ls h hl
  have C : Cx p R s m args c cX8_init 2 RX8 D ty A 4 := C
  have hl : lv_has ls 2 [(0, .ref b), (1, .ref o)] := hl
  have hin : meth.name = "<init>" := hin
  have h : Hw D A s H locs ([(b, .inr (8, [.int 0, .null, .int 0, .int 0, .int 0, .null, .null]))] ++ (wBelt ty o ad τ)) := h
  refine lv_aload_n C.x C.b dX8_init_0 rfl (lv_at hl 0 rfl) ?_
  refine lv_aload_n C.x C.b dX8_init_1 rfl (lv_at hl 1 rfl) ?_
  refine va_putF (D := D) (ci := 8) (ty := .object "LehrBelt") (v := .ref o) C.x C.b C.ts in_X8 tyX8 tyX8_ok nmX8 C.own C.K h.1 h.2.1 h.2.2 0 rfl rfl 6 (by decide) (C.ts _ q501) (fun _ h9 => h9) rfl hin rfl (by decide +kernel) rfl rfl (Nat.le_of_ble_eq_true rfl) dX8_init_2 (fun H locs hP hD hS => ?_)
  have h : Hw D A s H locs ([(b, .inr (8, [.int 0, .null, .int 0, .int 0, .int 0, .null, .ref o]))] ++ (wBelt ty o ad τ)) := ⟨hP, hD, hS⟩
  refine lv_aload_n C.x C.b dX8_init_5 rfl (lv_at hl 0 rfl) ?_
  refine W.objInit C.x C.b C.own (C.ts _ q469) (C.ts _ q176) (C.ts _ q177) rfl (by rw [C.1.2.2.1]; exact hl.1) rfl dX8_init_6 (Nat.le_trans (Nat.le_of_ble_eq_true rfl) C.2.2.2.1) (Nat.le_trans (Nat.le_of_ble_eq_true rfl) C.2.2.2.2) ?_
  refine W.eq (g2 := F0 m 9 ls []) rfl ?_
  refine lv_aload_n C.x C.b dX8_init_9 rfl (lv_at hl 0 rfl) ?_
  refine lv_aload_n C.x C.b dX8_init_10 rfl (lv_at hl 0 rfl) ?_
  refine va_get (D := D) (ci := 8) C.x C.b C.ts in_X8 C.own C.K h.1 0 rfl rfl 6 (by decide) (C.ts _ q501) (fun _ h9 => h9) rfl dX8_init_11 ?_
  refine va_getN (D := D) (ci := 0) C.x C.b C.ts in_X0 C.own C.K h.1 1 rfl rfl 2 (by decide) (C.nw q347 rfl) (fun _ h9 => h9) rfl dX8_init_14 ?_
  refine va_putF (D := D) (ci := 8) (ty := .int) (v := .int (gI τ 2)) C.x C.b C.ts in_X8 tyX8 tyX8_ok nmX8 C.own C.K h.1 h.2.1 h.2.2 0 rfl rfl 0 (by decide) (C.ts _ q495) (fun _ h9 => h9) rfl hin rfl (by decide +kernel) rfl rfl (Nat.le_of_ble_eq_true rfl) dX8_init_17 (fun H locs hP hD hS => ?_)
  have h : Hw D A s H locs ([(b, .inr (8, [.int (gI τ 2), .null, .int 0, .int 0, .int 0, .null, .ref o]))] ++ (wBelt ty o ad τ)) := ⟨hP, hD, hS⟩
  refine lv_aload_n C.x C.b dX8_init_20 rfl (lv_at hl 0 rfl) ?_
  refine va_new (ci := 1) (fs := [.int 0, .int 0, .int 0, .int 0, .int 0, .int 0, .int 0, .int 0, .int 0, .null, .null, .null, .null, .null, .null]) (C := RX1) (T := TX1) (N := 15) C.x C.b C.ts in_X1 tyX1 tyX1_ok C.own (C.ts _ q470) (C.ts _ q179) (C.ts _ q138) C.K h.1 h.2.1 h.2.2 C.2.2.1 rfl (by decide +kernel) (by omega) (by omega) dX8_init_21 (fun q H hP hD hS => ?_)
  have h : Hw D A s H locs (([(b, .inr (8, [.int (gI τ 2), .null, .int 0, .int 0, .int 0, .null, .ref o]))] ++ (wBelt ty o ad τ)) ++ [(q, .inr (1, [.int 0, .int 0, .int 0, .int 0, .int 0, .int 0, .int 0, .int 0, .int 0, .null, .null, .null, .null, .null, .null]))]) := ⟨hP, hD, hS⟩
  refine lv_dup C.x C.b dX8_init_24 rfl ?_
  refine KVx.callIN (As := []) (rest := [.ref q, .ref b]) C (fun A => kL_init l) q182 q138 q471 q181 rfl ⟨by decide, by decide, by show _ = some 0; decide +kernel⟩ (Nat.le_of_ble_eq_true rfl) (by decide) (by omega) (by omega) h hl.1 rfl (Nat.le_of_ble_eq_true rfl) dX8_init_25 (fun ad2 H locs had h => ?_)
  rw [← had]
  have h : Hw D A s H locs ([(b, .inr (8, [.int (gI τ 2), .null, .int 0, .int 0, .int 0, .null, .ref o]))] ++ (wBelt ty o ad τ ++ wLehr ty ad2 σz)) := h
  refine va_putF (D := D) (ci := 8) (ty := .object "LehrBelt$Lehr") (v := .ref (ad2 0)) C.x C.b C.ts in_X8 tyX8 tyX8_ok nmX8 C.own C.K h.1 h.2.1 h.2.2 0 rfl rfl 1 (by decide) (C.ts _ q496) (fun _ h9 => h9) rfl hin rfl (by decide +kernel) rfl rfl (Nat.le_of_ble_eq_true rfl) dX8_init_28 (fun H locs hP hD hS => ?_)
  have h : Hw D A s H locs ([(b, .inr (8, [.int (gI τ 2), .ref (ad2 0), .int 0, .int 0, .int 0, .null, .ref o]))] ++ (wBelt ty o ad τ ++ wLehr ty ad2 σz)) := ⟨hP, hD, hS⟩
  refine lv_aload_n C.x C.b dX8_init_31 rfl (lv_at hl 0 rfl) ?_
  refine va_gets C.x C.b (C.E.2.2.1 0 (by decide)) h.2.2 C.own (C.ts _ q472) (fun _ h9 => h9) dX8_init_32 ?_
  refine W.eq (g2 := F0 m 35 ls [tokV ty 0, .ref b]) rfl ?_
  refine va_put (D := D) (ci := 8) (ty := .object "LehrBelt$Token") (v := tokV ty 0) C.x C.b C.ts in_X8 tyX8 tyX8_ok nmX8 C.own C.K h.1 h.2.1 h.2.2 0 rfl rfl 5 (by decide) (C.ts _ q500) (fun _ h9 => h9) rfl (by decide +kernel) (tok_fit ty 0 _).2 (tok_fit ty 0 _).1 (Nat.le_of_ble_eq_true rfl) dX8_init_35 (fun H locs hP hD hS => ?_)
  have h : Hw D A s H locs ([(b, .inr (8, [.int (gI τ 2), .ref (ad2 0), .int 0, .int 0, .int 0, tokV ty 0, .ref o]))] ++ (wBelt ty o ad τ ++ wLehr ty ad2 σz)) := ⟨hP, hD, hS⟩
  refine lv_aload_n C.x C.b dX8_init_38 rfl (lv_at hl 0 rfl) ?_
  have h : Hw D A s H locs (wRd ty b o ad2 (σR0 τ) ++ (wBelt ty o ad τ ++ [])) := by
    rw [List.append_nil]
    exact Hw.perm (List.Perm.append_left [(b, .inr (8, [.int (gI τ 2), .ref (ad2 0), .int 0, .int 0, .int 0, tokV ty 0, .ref o]))] (List.perm_append_comm (l₁ := wBelt ty o ad τ) (l₂ := wLehr ty ad2 σz))) h
  refine W.widen (k := 7) (n := 76) (by omega) (by omega) ?_
  refine KV.callV (As := []) (rest := []) C (kR_next l hf) (lw_V q474 q476 qs1 q148 q477) ⟨rfl, by decide, by decide, by show _ = some 0; decide +kernel⟩ 0 8 rfl rfl rfl (Nat.le_of_ble_eq_true rfl) (by decide) (by omega) (by omega) h hl.1 rfl (Nat.le_of_ble_eq_true rfl) dX8_init_39 (fun H locs h => ?_)
  exact hR ad2 _ _ _ _ trivial (by rw [List.append_nil] at h; exact h) dX8_init_42
theorem KFq.callOk {p : Program} {l : Launch} {e : Env} {R : Room} {s : State} {m : MethodId} {args : Array Value} {below : List Frame} {meth : Method} {c : Code} {H : Heap} {locs : List Loc} {cells slots : Nat} {Q : State → Prop} {cc : ByteArray} {pc : Nat} {ls : Array Slot} {st rest : List Value} {nL d : Nat} {ow : String} {D : va_G} {ty : Nat → ClassId} {A : Nat → Prop} {y : MethodName} {bytes : ByteArray} {nL' d' index : Nat} {rt : FieldType} {ws : va_W} {As : List Value} {o ra : Nat} {Cn : String} {wf : PS → va_W} {x : PS} (C : Cx p R s m args c cc nL ow D ty A d) (hM : KFq l y bytes nL' rt d' D ty A ws (.ref o :: As) wf ra (.inl x))
    (hT : GoodIn lw_all (wsV ow index Cn y (ws_ y bytes nL' (some rt)))) (hy : y.cls = Cn ∧ y.cls ≠ "java/lang/invoke/MethodHandle" ∧ y.cls ≠ "java/lang/invoke/VarHandle" ∧ (parseMethodDescriptor y.desc).map (fun d => d.parameters.length) = some As.length)
    (q0 ci : Nat) {fs : List Value} {qq : vw_C} (he : ws[q0]? = some (o, .inr (ci, fs))) (hc : vwCl[ci]? = some qq) (hq : qq.1 = Cn) (hd : d' + 1 ≤ d) (hn : nL' ≤ 21) (hcs : cells + 0 ≤ R.cells) (hss : slots + 0 ≤ R.slots)
    (h : Hw D A s H locs ws) (hls : ls.size = nL) (hst : st = As.reverse ++ .ref o :: rest) (hcat : (rest.map fun v => v.category).sum ≤ 8) (dec : decode cc pc = .ok (.invokevirtual index, 3))
    (kk : ∀ (H : Heap) (locs : List Loc), Hw D A s H locs (wf x) → W p l e R s m args below meth c H locs cells slots Q (F0 m (pc + 3) ls (.ref ra :: rest))) : W p l e R s m args below meth c H locs cells slots Q (F0 m pc ls st) := by
  have hA1 : ∀ q : Nat, H.size ≤ q → A q := fun q hq => C.2.2.1 q (Nat.le_trans h.2.2.1 hq)
  have hrv := va_recv C.K h.1 hc he
  rw [hq] at hrv
  subst hst
  exact vy_callq (vy_runV (As := As) (rest := rest) C.1 (hM H.size hA1) (cwV As.length C.ts hT rfl rfl rfl hy (C.roomG hd hn)) ⟨KP.blind, hrv, KP.here C h⟩ rfl rfl hls rfl (lv_room hcat) dec ⟨hcs, hss⟩) h.2.2 (fun q _ h => h) (fun q h => h) (fun q _ h => h) (fun E ce q9 u t H1 locs1 ht hvm hu hB hz1 hk1 hS h1 h2 h3 => nomatch hu) (fun r' x' t H1 locs1 ht hvm hr hB hz1 hk1 hS => by obtain ⟨hr1, hr2⟩ := hr; subst hr1; cases hr2; exact kk H1 locs1 ⟨by rw [← ht]; exact hB.1, hB.2, hS⟩)
theorem KFq.callX {p : Program} {l : Launch} {e : Env} {R : Room} {s : State} {m : MethodId} {args : Array Value} {below : List Frame} {meth : Method} {c : Code} {H : Heap} {locs : List Loc} {cells slots : Nat} {Q : State → Prop} {cc : ByteArray} {pc : Nat} {ls : Array Slot} {st rest : List Value} {nL d : Nat} {ow : String} {D : va_G} {ty : Nat → ClassId} {A : Nat → Prop} {y : MethodName} {bytes : ByteArray} {nL' d' index : Nat} {rt : FieldType} {ws : va_W} {As : List Value} {o ra : Nat} {Cn : String} {wf : PS → va_W} {u : Int32 × Int32 × PS} (C : Cx p R s m args c cc nL ow D ty A d) (hM : KFq l y bytes nL' rt d' D ty A ws (.ref o :: As) wf ra (.inr u))
    (hT : GoodIn lw_all (wsV ow index Cn y (ws_ y bytes nL' (some rt)))) (hy : y.cls = Cn ∧ y.cls ≠ "java/lang/invoke/MethodHandle" ∧ y.cls ≠ "java/lang/invoke/VarHandle" ∧ (parseMethodDescriptor y.desc).map (fun d => d.parameters.length) = some As.length)
    (q0 ci : Nat) {fs : List Value} {qq : vw_C} (he : ws[q0]? = some (o, .inr (ci, fs))) (hc : vwCl[ci]? = some qq) (hq : qq.1 = Cn) (hd : d' + 1 ≤ d) (hn : nL' ≤ 21) (hcs : cells + 1 ≤ R.cells) (hss : slots + 8 ≤ R.slots)
    (h : Hw D A s H locs ws) (hls : ls.size = nL) (hst : st = As.reverse ++ .ref o :: rest) (hcat : (rest.map fun v => v.category).sum ≤ 8) (dec : decode cc pc = .ok (.invokevirtual index, 3))
    (kx : ∀ (H : Heap) (locs : List Loc) (q9 : Nat), Hw D A s H locs (wf u.2.2 ++ [cFault q9 u.1 u.2.1]) → vx_W p l e R s m args below meth c H locs (cells + 1) (slots + 8) Q (F0 m pc ls rest) q9) : W p l e R s m args below meth c H locs cells slots Q (F0 m pc ls st) := by
  have hA1 : ∀ q : Nat, H.size ≤ q → A q := fun q hq => C.2.2.1 q (Nat.le_trans h.2.2.1 hq)
  have hrv := va_recv C.K h.1 hc he
  rw [hq] at hrv
  subst hst
  exact vy_callq (vy_runV (As := As) (rest := rest) C.1 (hM H.size hA1) (cwV As.length C.ts hT rfl rfl rfl hy (C.roomG hd hn)) ⟨KP.blind, hrv, KP.here C h⟩ rfl rfl hls rfl (lv_room hcat) dec ⟨hcs, hss⟩) h.2.2 (fun q _ h => h) (fun q h => h) (fun q _ h => h) (fun E ce q9 u t H1 locs1 ht hvm hu hB hz1 hk1 hS h1 h2 h3 => by cases hu; exact kx H1 locs1 q9 ⟨by rw [← ht]; exact hB.2.1, hB.2.2, hS⟩) (fun r' x' t H1 locs1 ht hvm hr hB hz1 hk1 hS => nomatch hr.2)
set_option maxHeartbeats 2000000 in
theorem kX_lehr_ok (l : Launch) {D : va_G} {ty : Nat → ClassId} {A : Nat → Prop} {o : Nat} {ad : Nat → Nat} {rs : va_W} {σ : PS} {ρ : PS} (hf : R_run σ = some (.inl ρ)) : KIg l yX0_lehr cX0_lehr 4 .int [(0, 33, 40, 129), (0, 33, 67, 0), (40, 60, 67, 0)] 12 9 91 D ty A (wX ty o ad σ ++ rs) [.ref o] (fun r (_ : Nat → Nat) => r = gI ρ 105) (fun ad2 => wX ty o (adM ad ad2) (lehrOk σ ρ) ++ rs) := by
  refine KIg.of (by decide) (Nat.le_of_ble_eq_true rfl) ?_
  intro p e R s m args below meth c Q C hlocks htab hmc hms hR H locs ls h hl
  have C : Cx p R s m args c cX0_lehr 4 RX0 D ty A 12 := C
  have hl : lv_has ls 4 [(0, .ref o)] := hl
  obtain ⟨σ1, hn, hf⟩ := bd_k1 hf
  refine lv_aload_n C.x C.b dX0_lehr_0 rfl (lv_at hl 0 rfl) ?_
  refine va_new (ci := 8) (fs := [.int 0, .null, .int 0, .int 0, .int 0, .null, .null]) (C := RX8) (T := TX8) (N := 7) C.x C.b C.ts in_X8 tyX8 tyX8_ok C.own (C.ts _ q464) (C.ts _ q465) (C.ts _ q148) C.K h.1 h.2.1 h.2.2 C.2.2.1 rfl (by decide +kernel) (by omega) (by omega) dX0_lehr_1 (fun b H hP hD hS => ?_)
  have h : Hw D A s H locs ((wX ty o ad σ ++ rs) ++ [(b, .inr (8, [.int 0, .null, .int 0, .int 0, .int 0, .null, .null]))]) := ⟨hP, hD, hS⟩
  refine lv_dup C.x C.b dX0_lehr_4 rfl ?_
  refine lv_aload_n C.x C.b dX0_lehr_5 rfl (lv_at hl 0 rfl) ?_
  have h : Hw D A s H locs (wBelt ty o ad σ ++ (wLehr ty ad σ ++ (rs ++ ([(b, .inr (8, [.int 0, .null, .int 0, .int 0, .int 0, .null, .null]))] ++ [])))) := by rw [wX_split] at h; simpa only [List.append_assoc, List.append_nil] using h
  have h : Hw D A s H locs (wLehr ty ad σ ++ (rs ++ ([(b, .inr (8, [.int 0, .null, .int 0, .int 0, .int 0, .null, .null]))] ++ (wBelt ty o ad σ ++ [])))) := Hw.perm ((List.perm_append_comm_assoc _ _ _).trans (List.Perm.append_left _ ((List.perm_append_comm_assoc _ _ _).trans (List.Perm.append_left _ (List.perm_append_comm_assoc _ _ _))))) h
  have h : Hw D A s H locs ((wLehr ty ad σ ++ rs) ++ ([(b, .inr (8, [.int 0, .null, .int 0, .int 0, .int 0, .null, .null]))] ++ wBelt ty o ad σ)) := by simpa only [List.append_assoc, List.append_nil] using h
  refine KVx.callI (wr := wLehr ty ad σ ++ rs) (As := [.ref o]) (rest := [.ref b, .ref o]) C (fun A => kR_init l hn) q468 q148 q466 q467 rfl ⟨by decide, by decide, by show _ = some 1; decide +kernel⟩ (Nat.le_of_ble_eq_true rfl) (by decide) (by omega) (by omega) h hl.1 rfl (Nat.le_of_ble_eq_true rfl) dX0_lehr_6 (fun ad2 H locs _ h => ?_)
  have h : Hw D A s H locs (wRd ty b o ad2 σ1 ++ (wBelt ty o ad σ ++ (wLehr ty ad σ ++ rs))) := by have h := h.swap; simpa only [List.append_assoc] using h
  refine KFq.callOk (As := []) (rest := [.ref o]) (wf := (fun x => wRd ty b o ad2 x ++ (wBelt ty o ad σ ++ (wLehr ty ad σ ++ rs)))) C (kR_whole l hf) (lw_V q517 q518 q519 q148 q520) ⟨rfl, by decide, by decide, by show _ = some 0; decide +kernel⟩ 0 8 rfl rfl rfl (Nat.le_of_ble_eq_true rfl) (by decide) (by omega) (by omega) h hl.1 rfl (Nat.le_of_ble_eq_true rfl) dX0_lehr_9 (fun H locs h => ?_)
  refine va_put (D := D) (ci := 0) (ty := .object "LehrBelt$Lehr") (v := .ref (ad2 0)) (fs := fX ad σ) C.x C.b C.ts in_X0 tyX0 tyX0_ok nmX0 C.own C.K h.1 h.2.1 h.2.2 8 rfl rfl 0 (by decide) (C.ts _ q344) (fun _ h9 => h9) rfl (by decide +kernel) rfl rfl (Nat.le_of_ble_eq_true rfl) dX0_lehr_12 (fun H locs hP hD hS => ?_)
  have h : Hw D A s H locs ([(b, .inr (8, fR ty o ad2 ρ))] ++ (wLehr ty ad2 ρ ++ (((o, .inr (0, (fX ad σ).set 0 (.ref (ad2 0)))) :: (wBelt ty o ad σ).tail) ++ (wLehr ty ad σ ++ rs)))) := ⟨hP, hD, hS⟩
  have h : Hw D A s H locs ([(b, .inr (8, fR ty o ad2 ρ))] ++ (wLehr ty ad2 ρ ++ (((o, .inr (0, (fX ad σ).set 0 (.ref (ad2 0)))) :: (wBelt ty o ad σ).tail) ++ (wLehr ty ad σ ++ (rs ++ []))))) := by simp only [List.append_nil]; exact h
  have h : Hw D A s H locs (((o, .inr (0, (fX ad σ).set 0 (.ref (ad2 0)))) :: (wBelt ty o ad σ).tail) ++ (wLehr ty ad2 ρ ++ (rs ++ ([(b, .inr (8, fR ty o ad2 ρ))] ++ (wLehr ty ad σ ++ []))))) := Hw.perm (((List.Perm.append_left _ (List.perm_append_comm_assoc _ _ _)).trans (List.perm_append_comm_assoc _ _ _)).trans (List.Perm.append_left _ ((List.perm_append_comm_assoc _ _ _).trans (List.Perm.append_left _ ((List.Perm.append_left _ (List.perm_append_comm_assoc _ _ _)).trans (List.perm_append_comm_assoc _ _ _)))))) h
  have h : Hw D A s H locs ((((o, .inr (0, (fX ad σ).set 0 (.ref (ad2 0)))) :: (wBelt ty o ad σ).tail) ++ (wLehr ty ad2 ρ ++ rs)) ++ ([(b, .inr (8, fR ty o ad2 ρ))] ++ wLehr ty ad σ)) := by simpa only [List.append_assoc, List.append_nil] using h
  have h := h.left
  have h : Hw D A s H locs (wX ty o (adM ad ad2) (mrg σ ρ) ++ rs) := by rw [wX_mrg, List.append_assoc]; exact h
  refine lv_aload_n C.x C.b dX0_lehr_15 rfl (lv_at hl 0 rfl) ?_
  refine lv_iconst (v := 0) C.x C.b dX0_lehr_16 (by decide) ?_
  refine x_p3 C h rfl dX0_lehr_17 (fun H locs h => ?_)
  refine lv_aload_n C.x C.b dX0_lehr_20 rfl (lv_at hl 0 rfl) ?_
  refine lv_iconst (v := (-1)) C.x C.b dX0_lehr_21 (by decide) ?_
  refine x_p4 C h rfl dX0_lehr_22 (fun H locs h => ?_)
  refine lv_aload_n C.x C.b dX0_lehr_25 rfl (lv_at hl 0 rfl) ?_
  refine x_g0 C h dX0_lehr_26 ?_
  refine x_g105 C h dX0_lehr_29 ?_
  refine W.eq (g2 := F0 m 32 ls [.int (gI ρ 105)]) rfl ?_
  refine lv_istore_n (lv' := [(1, .int (gI ρ 105)), (0, .ref o)]) C.x C.b dX0_lehr_32 rfl hl (by decide) rfl (fun ls hl => ?_)
  refine lv_aload_n C.x C.b dX0_lehr_33 rfl (lv_at hl 1 rfl) ?_
  refine lv_iconst (v := 0) C.x C.b dX0_lehr_34 (by decide) ?_
  refine x_p2 C h rfl dX0_lehr_35 (fun H locs h => ?_)
  refine lv_iload_n C.x C.b dX0_lehr_38 rfl (lv_at hl 0 rfl) ?_
  refine W.widen (k := 9) (n := 91) (by omega) (by omega) ?_
  exact hR _ ad2 _ _ _ _ rfl h (vp_nar_int _) dX0_lehr_39
set_option maxHeartbeats 2000000 in
theorem kX_lehr_no (l : Launch) {D : va_G} {ty : Nat → ClassId} {A : Nat → Prop} {o : Nat} {ad : Nat → Nat} {rs : va_W} {σ : PS} {k pl : Int32} {ρ : PS} (hf : R_run σ = some (.inr (k, pl, ρ))) : KIg l yX0_lehr cX0_lehr 4 .int [(0, 33, 40, 129), (0, 33, 67, 0), (40, 60, 67, 0)] 12 9 91 D ty A (wX ty o ad σ ++ rs) [.ref o] (fun r (_ : Unit) => r = -4) (fun _ => wX ty o ad (lehrNo σ k pl) ++ rs) := by
  refine KIg.of (by decide) (Nat.le_of_ble_eq_true rfl) ?_
  intro p e R s m args below meth c Q C hlocks htab hmc hms hR H locs ls h hl
  have C : Cx p R s m args c cX0_lehr 4 RX0 D ty A 12 := C
  have hl : lv_has ls 4 [(0, .ref o)] := hl
  obtain ⟨σ1, hn, hf⟩ := bd_k1 hf
  refine lv_aload_n C.x C.b dX0_lehr_0 rfl (lv_at hl 0 rfl) ?_
  refine va_new (ci := 8) (fs := [.int 0, .null, .int 0, .int 0, .int 0, .null, .null]) (C := RX8) (T := TX8) (N := 7) C.x C.b C.ts in_X8 tyX8 tyX8_ok C.own (C.ts _ q464) (C.ts _ q465) (C.ts _ q148) C.K h.1 h.2.1 h.2.2 C.2.2.1 rfl (by decide +kernel) (by omega) (by omega) dX0_lehr_1 (fun b H hP hD hS => ?_)
  have h : Hw D A s H locs ((wX ty o ad σ ++ rs) ++ [(b, .inr (8, [.int 0, .null, .int 0, .int 0, .int 0, .null, .null]))]) := ⟨hP, hD, hS⟩
  refine lv_dup C.x C.b dX0_lehr_4 rfl ?_
  refine lv_aload_n C.x C.b dX0_lehr_5 rfl (lv_at hl 0 rfl) ?_
  have h : Hw D A s H locs (wBelt ty o ad σ ++ (wLehr ty ad σ ++ (rs ++ ([(b, .inr (8, [.int 0, .null, .int 0, .int 0, .int 0, .null, .null]))] ++ [])))) := by rw [wX_split] at h; simpa only [List.append_assoc, List.append_nil] using h
  have h : Hw D A s H locs (wLehr ty ad σ ++ (rs ++ ([(b, .inr (8, [.int 0, .null, .int 0, .int 0, .int 0, .null, .null]))] ++ (wBelt ty o ad σ ++ [])))) := Hw.perm ((List.perm_append_comm_assoc _ _ _).trans (List.Perm.append_left _ ((List.perm_append_comm_assoc _ _ _).trans (List.Perm.append_left _ (List.perm_append_comm_assoc _ _ _))))) h
  have h : Hw D A s H locs ((wLehr ty ad σ ++ rs) ++ ([(b, .inr (8, [.int 0, .null, .int 0, .int 0, .int 0, .null, .null]))] ++ wBelt ty o ad σ)) := by simpa only [List.append_assoc, List.append_nil] using h
  refine KVx.callI (wr := wLehr ty ad σ ++ rs) (As := [.ref o]) (rest := [.ref b, .ref o]) C (fun A => kR_init l hn) q468 q148 q466 q467 rfl ⟨by decide, by decide, by show _ = some 1; decide +kernel⟩ (Nat.le_of_ble_eq_true rfl) (by decide) (by omega) (by omega) h hl.1 rfl (Nat.le_of_ble_eq_true rfl) dX0_lehr_6 (fun ad2 H locs _ h => ?_)
  have h : Hw D A s H locs (wRd ty b o ad2 σ1 ++ (wBelt ty o ad σ ++ (wLehr ty ad σ ++ rs))) := by have h := h.swap; simpa only [List.append_assoc] using h
  refine KFq.callX (As := []) (rest := [.ref o]) (wf := (fun x => wRd ty b o ad2 x ++ (wBelt ty o ad σ ++ (wLehr ty ad σ ++ rs)))) C (kR_whole l hf) (lw_V q517 q518 q519 q148 q520) ⟨rfl, by decide, by decide, by show _ = some 0; decide +kernel⟩ 0 8 rfl rfl rfl (Nat.le_of_ble_eq_true rfl) (by decide) (by omega) (by omega) h hl.1 rfl (Nat.le_of_ble_eq_true rfl) dX0_lehr_9 (fun H locs q9 h => ?_)
  obtain ⟨ce, g1, g2, g3⟩ := fault_cell C.K h
  refine vx_catch (name := "LehrBelt$Fault") (E := "LehrBelt$Fault") C.own [] { startPc := 0, endPc := 33, handlerPc := 40, catchType := 129 } [{ startPc := 0, endPc := 33, handlerPc := 67, catchType := 0 }, { startPc := 40, endPc := 60, handlerPc := 67, catchType := 0 }] (by rw [htab]; rfl) (fun z hz => absurd hz List.not_mem_nil) (by decide) (by decide) (C.ts _ q463) (C.nw q592 rfl) g1 g2 g3 ?_
  refine lv_astore_n (lv' := [(1, .ref q9), (0, .ref o)]) C.x C.b dX0_lehr_40 rfl hl (by decide) rfl (fun ls hl => ?_)
  refine lv_aload_n C.x C.b dX0_lehr_41 rfl (lv_at hl 1 rfl) ?_
  refine lv_aload_n C.x C.b dX0_lehr_42 rfl (lv_at hl 0 rfl) ?_
  have h : Hw D A s H locs (wRd ty b o ad2 ρ ++ (wBelt ty o ad σ ++ (wLehr ty ad σ ++ (rs ++ ([cFault q9 k pl] ++ []))))) := by simpa only [List.append_assoc, List.append_nil] using h
  have h : Hw D A s H locs (wBelt ty o ad σ ++ (wLehr ty ad σ ++ ([cFault q9 k pl] ++ (rs ++ (wRd ty b o ad2 ρ ++ []))))) := Hw.perm ((List.perm_append_comm_assoc _ _ _).trans (List.Perm.append_left _ ((List.perm_append_comm_assoc _ _ _).trans (List.Perm.append_left _ (((List.Perm.append_left _ (List.perm_append_comm_assoc _ _ _)).trans (List.perm_append_comm_assoc _ _ _)).trans (List.Perm.append_left _ (List.perm_append_comm_assoc _ _ _))))))) h
  have h : Hw D A s H locs ((wBelt ty o ad σ ++ (wLehr ty ad σ ++ ([cFault q9 k pl] ++ rs))) ++ wRd ty b o ad2 ρ) := by simpa only [List.append_assoc, List.append_nil] using h
  have h := h.left
  have h : Hw D A s H locs (wX ty o ad σ ++ ([cFault q9 k pl] ++ rs)) := by rw [wX_split, List.append_assoc]; exact h
  refine va_getN (D := D) (ci := 9) C.x C.b C.ts in_X9 C.own C.K h.1 30 rfl rfl 6 (by decide) (C.nw q654 rfl) (fun _ h9 => h9) rfl dX0_lehr_43 ?_
  refine x_p3 C h rfl dX0_lehr_46 (fun H locs h => ?_)
  refine lv_aload_n C.x C.b dX0_lehr_49 rfl (lv_at hl 1 rfl) ?_
  refine lv_aload_n C.x C.b dX0_lehr_50 rfl (lv_at hl 0 rfl) ?_
  refine va_getN (D := D) (ci := 9) C.x C.b C.ts in_X9 C.own C.K h.1 30 rfl rfl 7 (by decide) (C.nw q656 rfl) (fun _ h9 => h9) rfl dX0_lehr_51 ?_
  refine x_p4 C h rfl dX0_lehr_54 (fun H locs h => ?_)
  refine lv_bipush (v := (-4)) C.x C.b dX0_lehr_57 (by decide) ?_
  refine lv_istore_n (lv' := [(2, .int ((-4))), (1, .ref q9), (0, .ref o)]) C.x C.b dX0_lehr_59 rfl hl (by decide) rfl (fun ls hl => ?_)
  refine lv_aload_n C.x C.b dX0_lehr_60 rfl (lv_at hl 2 rfl) ?_
  refine lv_iconst (v := 0) C.x C.b dX0_lehr_61 (by decide) ?_
  refine x_p2 C h rfl dX0_lehr_62 (fun H locs h => ?_)
  refine lv_iload_n C.x C.b dX0_lehr_65 rfl (lv_at hl 0 rfl) ?_
  refine W.widen (k := 9) (n := 91) (by omega) (by omega) ?_
  have h : Hw D A s H locs (wX ty o ad (lehrNo σ k pl) ++ rs) := by
    have h := Hw.perm (List.Perm.append_left _ (List.perm_append_comm (l₁ := [cFault q9 k pl]) (l₂ := rs))) h
    rw [← List.append_assoc] at h
    exact h.left
  exact hR _ () _ _ _ _ rfl h (vp_nar_int _) dX0_lehr_66
