set_option maxRecDepth 100000
section KXCALL
variable {T : Type} {p : Program} {l : Launch} {e : Env} {R : Room} {s : State} {m : MethodId} {args : Array Value} {below : List Frame} {meth : Method} {c : Code} {H : Heap} {locs : List Loc} {cells slots : Nat} {Q : State → Prop} {cc : ByteArray} {pc : Nat} {ls : Array Slot} {st rest : List Value} {nL d : Nat} {ow : String} {D : va_G} {ty : Nat → ClassId} {A : Nat → Prop}
variable {y : MethodName} {bytes : ByteArray} {nL' d' index mc ms : Nat} {rt : FieldType} {ws : va_W} {As : List Value} {o : Nat} {Cn : String}
theorem KIx.callV {P : Int32 → T → Prop} {wt : T → va_W} (C : Cx p R s m args c cc nL ow D ty A d) (hM : KIx l y bytes nL' rt d' mc ms D ty A ws (.ref o :: As) P wt)
    (hT : GoodIn lw_all (wsV ow index Cn y (ws_ y bytes nL' (some rt)))) (hy : y.cls = Cn ∧ y.cls ≠ "java/lang/invoke/MethodHandle" ∧ y.cls ≠ "java/lang/invoke/VarHandle" ∧ (parseMethodDescriptor y.desc).map (fun d => d.parameters.length) = some As.length)
    (q0 ci : Nat) {fs : List Value} {qq : vw_C} (he : ws[q0]? = some (o, .inr (ci, fs))) (hc : vwCl[ci]? = some qq) (hq : qq.1 = Cn) (hd : d' + 1 ≤ d) (hn : nL' ≤ 21) (hcs : cells + mc ≤ R.cells) (hss : slots + ms ≤ R.slots)
    (h : Hw D A s H locs ws) (hls : ls.size = nL) (hst : st = As.reverse ++ .ref o :: rest) (hcat : (rest.map fun v => v.category).sum ≤ 8) (dec : decode cc pc = .ok (.invokevirtual index, 3))
    (kk : ∀ (r : Int32) (u : T) (H : Heap) (locs : List Loc), P r u → Hw D A s H locs (wt u) → W p l e R s m args below meth c H locs (cells + mc) (slots + ms) Q (F0 m (pc + 3) ls (.int r :: rest))) : W p l e R s m args below meth c H locs cells slots Q (F0 m pc ls st) := by
  have hA1 : ∀ q : Nat, H.size ≤ q → A q := fun q hq => C.2.2.1 q (Nat.le_trans h.2.2.1 hq)
  have hrv := va_recv C.K h.1 hc he
  rw [hq] at hrv
  subst hst
  exact va_calli (va_runV (As := As) (rest := rest) C.1 (hM H.size hA1) (cwV As.length C.ts hT rfl rfl rfl hy (C.roomG hd hn)) ⟨KP.blind, hrv, KP.here C h⟩ rfl rfl hls rfl (lv_room hcat) dec ⟨hcs, hss⟩) h.2.2 (fun q _ h => h) (fun q h => h) (fun r' u t H1 locs1 ht hvm hr hB hz1 hk1 hS => kk r' u H1 locs1 hr ⟨by rw [← ht]; exact hB.1, hB.2, hS⟩)
theorem KVx.callV {P : T → Prop} {wt : T → va_W} {wr wc : va_W} (C : Cx p R s m args c cc nL ow D ty A d) (hM : ∀ A : Nat → Prop, KVx l y bytes nL' d' mc ms D ty A wc (.ref o :: As) P wt)
    (hT : GoodIn lw_all (wsV ow index Cn y (ws_ y bytes nL' none))) (hy : y.cls = Cn ∧ y.cls ≠ "java/lang/invoke/MethodHandle" ∧ y.cls ≠ "java/lang/invoke/VarHandle" ∧ (parseMethodDescriptor y.desc).map (fun d => d.parameters.length) = some As.length)
    (q0 ci : Nat) {fs : List Value} {qq : vw_C} (he : wc[q0]? = some (o, .inr (ci, fs))) (hc : vwCl[ci]? = some qq) (hq : qq.1 = Cn) (hd : d' + 1 ≤ d) (hn : nL' ≤ 21) (hcs : cells + mc ≤ R.cells) (hss : slots + ms ≤ R.slots)
    (h : Hw D A s H locs (wr ++ wc)) (hls : ls.size = nL) (hst : st = As.reverse ++ .ref o :: rest) (hcat : (rest.map fun v => v.category).sum ≤ 8) (dec : decode cc pc = .ok (.invokevirtual index, 3))
    (kk : ∀ (u : T) (H : Heap) (locs : List Loc), P u → Hw D A s H locs (wr ++ wt u) → W p l e R s m args below meth c H locs (cells + mc) (slots + ms) Q (F0 m (pc + 3) ls rest)) : W p l e R s m args below meth c H locs cells slots Q (F0 m pc ls st) := by
  have hrv := va_recv C.K h.1.appR hc he
  rw [hq] at hrv
  subst hst
  exact KVx.go C h (va_runV (As := As) (rest := rest) C.1 (hM _ H.size (fun q hq => Or.inr hq)) (cwV As.length C.ts hT rfl rfl rfl hy (C.roomG hd hn)) ⟨KP.blind, hrv, KP.part C h⟩ rfl rfl hls rfl (lv_room hcat) dec ⟨hcs, hss⟩) kk
end KXCALL
/-- the slot v1 is one, and empty, and there is a lehr -/
def Seen6 (τ σ : PS) (v1 : Int32) : Prop := X_isSlot v1 = some 1 ∧ (∃ q, X_isLehr σ = some q ∧ ¬ q = 0) ∧ vp_in v1 4 ∧ ¬ slSome τ v1.toNatClampNeg
set_option maxHeartbeats 4000000 in
theorem kX_asksSeen_N (l : Launch) {D : va_G} {ty : Nat → ClassId} {A : Nat → Prop} {o : Nat} {ad : Nat → Nat} {rs : va_W} {σ τ : PS} {v1 : Int32} (hl9 : l.stackTraces = false) (hs : Seen6 τ σ v1) : KIg l yX0_asksSeen cX0_asksSeen 4 .int [(17, 35, 104, 369), (36, 91, 104, 369), (92, 103, 104, 369)] 301 1 8 D ty A (wX ty o ad σ ++ (wS ty ad τ ++ rs)) [.ref o, .int v1] (fun r (_ : Unit) => r = -6) (fun _ => (wX ty o ad σ ++ (wS ty ad τ ++ rs))) := by
  obtain ⟨hs1, ⟨qz, hs2, hs3⟩, hs4, hs5⟩ := hs
  refine KIg.of (by decide) (Nat.le_of_ble_eq_true rfl) ?_
  intro p e R s m args below meth c Q C hlk htab hmc hms hR H locs ls h hl
  have C : Cx p R s m args c cX0_asksSeen 4 RX0 D ty A 301 := C
  have hl : lv_has ls 4 [(0, .ref o), (1, .int v1)] := hl
  refine lv_iload_n C.x C.b dX0_asksSeen_0 rfl (lv_at hl 1 rfl) ?_
  refine cX_isSlot C h hs1 (Nat.le_of_ble_eq_true rfl) hl.1 (Nat.le_of_ble_eq_true rfl) dX0_asksSeen_1 (fun H locs h => ?_)
  refine lv_if_eq (tgt := 14) C.x C.b dX0_asksSeen_4 (by decide) (fun c9 => ?_) (fun c9 => ?_)
  · exact absurd c9 (by decide)
  refine lv_aload_n C.x C.b dX0_asksSeen_7 rfl (lv_at hl 0 rfl) ?_
  refine cX_isLehr C h hs2 (Nat.le_of_ble_eq_true rfl) hl.1 (Nat.le_of_ble_eq_true rfl) dX0_asksSeen_8 (fun H locs h => ?_)
  refine lv_if_ne (tgt := 17) C.x C.b dX0_asksSeen_11 (by decide) (fun c9 => ?_) (fun c9 => ?_)
  rotate_left
  · exact absurd c9 hs3
  refine lv_aload_n C.x C.b dX0_asksSeen_17 rfl (lv_at hl 0 rfl) ?_
  refine x_g30 C h dX0_asksSeen_18 ?_
  refine lv_iload_n C.x C.b dX0_asksSeen_21 rfl (lv_at hl 1 rfl) ?_
  refine x_a30 C h hs4 dX0_asksSeen_22 ?_
  refine lv_astore_n (lv' := [(2, .ref (ad (50 + v1.toNatClampNeg))), (0, .ref o), (1, .int v1)]) C.x C.b dX0_asksSeen_23 rfl hl (by decide) rfl (fun ls hl => ?_)
  refine lv_aload_n C.x C.b dX0_asksSeen_24 rfl (lv_at hl 0 rfl) ?_
  obtain ⟨rest, hp⟩ := slot_perm0 (ty := ty) (ad := ad) (τ := τ) (B := wX ty o ad σ) (rs := rs) (in_lt hs4)
  have h2 := h.perm hp
  rw [slW_N hs5] at h2
  refine KTi.callV (As := []) C (kS_size_N (a := 0) l hl9) tS_size ⟨rfl, by decide, by decide, by show _ = some 0; decide +kernel⟩ 0 6 rfl rfl rfl (Nat.le_refl _) (by decide) (by omega) (by omega) h2 hl.1 rfl (Nat.le_of_ble_eq_true rfl) dX0_asksSeen_25 (fun H locs q9 ce h4 h1 h2 h3 => ?_)
  have h := Hw.perm hp.symm (by rw [slW_N hs5]; exact h4)
  refine vx_catch (name := "java/lang/NullPointerException") (E := "java/lang/NullPointerException") C.own [] { startPc := 17, endPc := 35, handlerPc := 104, catchType := 369 } [{ startPc := 36, endPc := 91, handlerPc := 104, catchType := 369 }, { startPc := 92, endPc := 103, handlerPc := 104, catchType := 369 }] (by rw [htab]; rfl) (fun z hz => absurd hz List.not_mem_nil) (by decide) (by decide) (C.ts _ q1154) (C.nw q1176 rfl) h1 h2 h3 ?_
  refine lv_astore_n (lv' := [(2, .ref q9), (0, .ref o), (1, .int v1)]) C.x C.b dX0_asksSeen_104 rfl hl (by decide) rfl (fun ls hl => ?_)
  refine lv_bipush (v := (-6)) C.x C.b dX0_asksSeen_105 (by decide) ?_
  exact hR _ () _ _ _ _ rfl h rfl dX0_asksSeen_107
set_option maxHeartbeats 4000000 in
theorem kX_laysFits_N (l : Launch) {D : va_G} {ty : Nat → ClassId} {A : Nat → Prop} {o : Nat} {ad : Nat → Nat} {rs : va_W} {σ τ : PS} {v1 : Int32} {v2 : Int32} (hl9 : l.stackTraces = false) (hs : Seen6 τ σ v1) {qz : Int32} (hz : X_isZone σ v2 = some qz) (hz2 : ¬ qz = 0) : KIx l yX0_laysFits cX0_laysFits 5 .int 302 1 8 D ty A (wX ty o ad σ ++ (wS ty ad τ ++ rs)) [.ref o, .int v1, .int v2] (fun r (_ : Unit) => r = -6) (fun _ => (wX ty o ad σ ++ (wS ty ad τ ++ rs))) := by
  refine KIx.of (by decide) (Nat.le_of_ble_eq_true rfl) ?_
  intro p e R s m args below meth c Q C hmc hms hR H locs ls h hl
  have C : Cx p R s m args c cX0_laysFits 5 RX0 D ty A 302 := C
  have hl : lv_has ls 5 [(0, .ref o), (1, .int v1), (2, .int v2)] := hl
  refine lv_aload_n C.x C.b dX0_laysFits_0 rfl (lv_at hl 0 rfl) ?_
  refine lv_iload_n C.x C.b dX0_laysFits_1 rfl (lv_at hl 2 rfl) ?_
  refine cX_isZone C h hz (Nat.le_of_ble_eq_true rfl) hl.1 (Nat.le_of_ble_eq_true rfl) dX0_laysFits_2 (fun H locs h => ?_)
  refine lv_if_ne (tgt := 11) C.x C.b dX0_laysFits_5 (by decide) (fun c9 => ?_) (fun c9 => ?_)
  rotate_left
  · exact absurd c9 hz2
  refine lv_aload_n C.x C.b dX0_laysFits_11 rfl (lv_at hl 0 rfl) ?_
  refine lv_iload_n C.x C.b dX0_laysFits_12 rfl (lv_at hl 1 rfl) ?_
  refine KIg.callV (As := [.int v1]) C (kX_asksSeen_N l hl9 hs) tX_asksSeen ⟨rfl, by decide, by decide, by show _ = some 1; decide +kernel⟩ 0 0 rfl rfl rfl (Nat.le_refl _) (by decide) (by omega) (by omega) h hl.1 rfl (Nat.le_of_ble_eq_true rfl) dX0_laysFits_13 (fun r _ H locs hr h => ?_)
  subst hr
  refine lv_istore_n (lv' := [(3, .int ((-6))), (0, .ref o), (1, .int v1), (2, .int v2)]) C.x C.b dX0_laysFits_16 rfl hl (by decide) rfl (fun ls hl => ?_)
  refine lv_iload_n C.x C.b dX0_laysFits_17 rfl (lv_at hl 0 rfl) ?_
  refine lv_if_ge (tgt := 23) C.x C.b dX0_laysFits_18 (by decide) (fun c9 => ?_) (fun c9 => ?_)
  · exact absurd c9 (by decide)
  refine lv_iload_n C.x C.b dX0_laysFits_21 rfl (lv_at hl 0 rfl) ?_
  exact hR _ () _ _ _ _ rfl h rfl dX0_laysFits_22
set_option maxHeartbeats 4000000 in
theorem kX_airs_N (l : Launch) {D : va_G} {ty : Nat → ClassId} {A : Nat → Prop} {o : Nat} {ad : Nat → Nat} {rs : va_W} {σ τ : PS} {v1 : Int32} {v2 : Int32} (hl9 : l.stackTraces = false) (hs : Seen6 τ σ v1) {qz : Int32} (hz : X_isZone σ v2 = some qz) (hz2 : ¬ qz = 0) : KIx l yX0_airs cX0_airs 4 .int 303 1 8 D ty A (wX ty o ad σ ++ (wS ty ad τ ++ rs)) [.ref o, .int v1, .int v2] (fun r (_ : Unit) => r = -6) (fun _ => (wX ty o ad σ ++ (wS ty ad τ ++ rs))) := by
  refine KIx.of (by decide) (Nat.le_of_ble_eq_true rfl) ?_
  intro p e R s m args below meth c Q C hmc hms hR H locs ls h hl
  have C : Cx p R s m args c cX0_airs 4 RX0 D ty A 303 := C
  have hl : lv_has ls 4 [(0, .ref o), (1, .int v1), (2, .int v2)] := hl
  refine lv_aload_n C.x C.b dX0_airs_0 rfl (lv_at hl 0 rfl) ?_
  refine lv_iload_n C.x C.b dX0_airs_1 rfl (lv_at hl 1 rfl) ?_
  refine lv_iload_n C.x C.b dX0_airs_2 rfl (lv_at hl 2 rfl) ?_
  refine KIx.callV (As := [.int v1, .int v2]) C (kX_laysFits_N l hl9 hs hz hz2) tX_laysFits ⟨rfl, by decide, by decide, by show _ = some 2; decide +kernel⟩ 0 0 rfl rfl rfl (Nat.le_refl _) (by decide) (by omega) (by omega) h hl.1 rfl (Nat.le_of_ble_eq_true rfl) dX0_airs_3 (fun r _ H locs hr h => ?_)
  subst hr
  refine lv_istore_n (lv' := [(3, .int ((-6))), (0, .ref o), (1, .int v1), (2, .int v2)]) C.x C.b dX0_airs_6 rfl hl (by decide) rfl (fun ls hl => ?_)
  refine lv_iload_n C.x C.b dX0_airs_7 rfl (lv_at hl 0 rfl) ?_
  refine lv_if_ge (tgt := 15) C.x C.b dX0_airs_8 (by decide) (fun c9 => ?_) (fun c9 => ?_)
  · exact absurd c9 (by decide)
  refine lv_iload_n C.x C.b dX0_airs_11 rfl (lv_at hl 0 rfl) ?_
  refine lv_goto (tgt := 19) C.x C.b dX0_airs_12 (by decide) ?_
  exact hR _ () _ _ _ _ rfl h rfl dX0_airs_19
set_option maxHeartbeats 4000000 in
theorem kX_low_N (l : Launch) {D : va_G} {ty : Nat → ClassId} {A : Nat → Prop} {o : Nat} {ad : Nat → Nat} {rs : va_W} {σ τ : PS} {v1 : Int32} {v2 : Int32} (hl9 : l.stackTraces = false) (hs : Seen6 τ σ v1) {qz : Int32} (hz : X_isZone σ v2 = some qz) (hz2 : ¬ qz = 0) : KIx l yX0_low cX0_low 4 .int 303 1 8 D ty A (wX ty o ad σ ++ (wS ty ad τ ++ rs)) [.ref o, .int v1, .int v2] (fun r (_ : Unit) => r = -6) (fun _ => (wX ty o ad σ ++ (wS ty ad τ ++ rs))) := by
  refine KIx.of (by decide) (Nat.le_of_ble_eq_true rfl) ?_
  intro p e R s m args below meth c Q C hmc hms hR H locs ls h hl
  have C : Cx p R s m args c cX0_low 4 RX0 D ty A 303 := C
  have hl : lv_has ls 4 [(0, .ref o), (1, .int v1), (2, .int v2)] := hl
  refine lv_aload_n C.x C.b dX0_low_0 rfl (lv_at hl 0 rfl) ?_
  refine lv_iload_n C.x C.b dX0_low_1 rfl (lv_at hl 1 rfl) ?_
  refine lv_iload_n C.x C.b dX0_low_2 rfl (lv_at hl 2 rfl) ?_
  refine KIx.callV (As := [.int v1, .int v2]) C (kX_laysFits_N l hl9 hs hz hz2) tX_laysFits ⟨rfl, by decide, by decide, by show _ = some 2; decide +kernel⟩ 0 0 rfl rfl rfl (Nat.le_refl _) (by decide) (by omega) (by omega) h hl.1 rfl (Nat.le_of_ble_eq_true rfl) dX0_low_3 (fun r _ H locs hr h => ?_)
  subst hr
  refine lv_istore_n (lv' := [(3, .int ((-6))), (0, .ref o), (1, .int v1), (2, .int v2)]) C.x C.b dX0_low_6 rfl hl (by decide) rfl (fun ls hl => ?_)
  refine lv_iload_n C.x C.b dX0_low_7 rfl (lv_at hl 0 rfl) ?_
  refine lv_if_ge (tgt := 15) C.x C.b dX0_low_8 (by decide) (fun c9 => ?_) (fun c9 => ?_)
  · exact absurd c9 (by decide)
  refine lv_iload_n C.x C.b dX0_low_11 rfl (lv_at hl 0 rfl) ?_
  refine lv_goto (tgt := 32) C.x C.b dX0_low_12 (by decide) ?_
  exact hR _ () _ _ _ _ rfl h rfl dX0_low_32
set_option maxHeartbeats 4000000 in
theorem kX_high_N (l : Launch) {D : va_G} {ty : Nat → ClassId} {A : Nat → Prop} {o : Nat} {ad : Nat → Nat} {rs : va_W} {σ τ : PS} {v1 : Int32} {v2 : Int32} (hl9 : l.stackTraces = false) (hs : Seen6 τ σ v1) {qz : Int32} (hz : X_isZone σ v2 = some qz) (hz2 : ¬ qz = 0) : KIx l yX0_high cX0_high 4 .int 303 1 8 D ty A (wX ty o ad σ ++ (wS ty ad τ ++ rs)) [.ref o, .int v1, .int v2] (fun r (_ : Unit) => r = -6) (fun _ => (wX ty o ad σ ++ (wS ty ad τ ++ rs))) := by
  refine KIx.of (by decide) (Nat.le_of_ble_eq_true rfl) ?_
  intro p e R s m args below meth c Q C hmc hms hR H locs ls h hl
  have C : Cx p R s m args c cX0_high 4 RX0 D ty A 303 := C
  have hl : lv_has ls 4 [(0, .ref o), (1, .int v1), (2, .int v2)] := hl
  refine lv_aload_n C.x C.b dX0_high_0 rfl (lv_at hl 0 rfl) ?_
  refine lv_iload_n C.x C.b dX0_high_1 rfl (lv_at hl 1 rfl) ?_
  refine lv_iload_n C.x C.b dX0_high_2 rfl (lv_at hl 2 rfl) ?_
  refine KIx.callV (As := [.int v1, .int v2]) C (kX_laysFits_N l hl9 hs hz hz2) tX_laysFits ⟨rfl, by decide, by decide, by show _ = some 2; decide +kernel⟩ 0 0 rfl rfl rfl (Nat.le_refl _) (by decide) (by omega) (by omega) h hl.1 rfl (Nat.le_of_ble_eq_true rfl) dX0_high_3 (fun r _ H locs hr h => ?_)
  subst hr
  refine lv_istore_n (lv' := [(3, .int ((-6))), (0, .ref o), (1, .int v1), (2, .int v2)]) C.x C.b dX0_high_6 rfl hl (by decide) rfl (fun ls hl => ?_)
  refine lv_iload_n C.x C.b dX0_high_7 rfl (lv_at hl 0 rfl) ?_
  refine lv_if_ge (tgt := 15) C.x C.b dX0_high_8 (by decide) (fun c9 => ?_) (fun c9 => ?_)
  · exact absurd c9 (by decide)
  refine lv_iload_n C.x C.b dX0_high_11 rfl (lv_at hl 0 rfl) ?_
  refine lv_goto (tgt := 37) C.x C.b dX0_high_12 (by decide) ?_
  exact hR _ () _ _ _ _ rfl h rfl dX0_high_37
set_option maxHeartbeats 4000000 in
theorem kX_thicks_N (l : Launch) {D : va_G} {ty : Nat → ClassId} {A : Nat → Prop} {o : Nat} {ad : Nat → Nat} {rs : va_W} {σ τ : PS} {v1 : Int32} {v2 : Int32} (hl9 : l.stackTraces = false) (hs : Seen6 τ σ v1) {qz : Int32} (hz : X_isPiece σ v2.toInt64 = some qz) (hz2 : ¬ qz = 0) : KIx l yX0_thicks cX0_thicks 6 .int 302 1 8 D ty A (wX ty o ad σ ++ (wS ty ad τ ++ rs)) [.ref o, .int v1, .int v2] (fun r (_ : Unit) => r = -6) (fun _ => (wX ty o ad σ ++ (wS ty ad τ ++ rs))) := by
  refine KIx.of (by decide) (Nat.le_of_ble_eq_true rfl) ?_
  intro p e R s m args below meth c Q C hmc hms hR H locs ls h hl
  have C : Cx p R s m args c cX0_thicks 6 RX0 D ty A 302 := C
  have hl : lv_has ls 6 [(0, .ref o), (1, .int v1), (2, .int v2)] := hl
  refine lv_aload_n C.x C.b dX0_thicks_0 rfl (lv_at hl 0 rfl) ?_
  refine lv_iload_n C.x C.b dX0_thicks_1 rfl (lv_at hl 2 rfl) ?_
  refine lv_i2l C.x C.b dX0_thicks_2 rfl ?_
  refine cX_isPiece C h hz (Nat.le_of_ble_eq_true rfl) hl.1 (Nat.le_of_ble_eq_true rfl) dX0_thicks_3 (fun H locs h => ?_)
  refine lv_if_ne (tgt := 12) C.x C.b dX0_thicks_6 (by decide) (fun c9 => ?_) (fun c9 => ?_)
  rotate_left
  · exact absurd c9 hz2
  refine lv_aload_n C.x C.b dX0_thicks_12 rfl (lv_at hl 0 rfl) ?_
  refine lv_iload_n C.x C.b dX0_thicks_13 rfl (lv_at hl 1 rfl) ?_
  refine KIg.callV (As := [.int v1]) C (kX_asksSeen_N l hl9 hs) tX_asksSeen ⟨rfl, by decide, by decide, by show _ = some 1; decide +kernel⟩ 0 0 rfl rfl rfl (Nat.le_refl _) (by decide) (by omega) (by omega) h hl.1 rfl (Nat.le_of_ble_eq_true rfl) dX0_thicks_14 (fun r _ H locs hr h => ?_)
  subst hr
  refine lv_istore_n (lv' := [(3, .int ((-6))), (0, .ref o), (1, .int v1), (2, .int v2)]) C.x C.b dX0_thicks_17 rfl hl (by decide) rfl (fun ls hl => ?_)
  refine lv_iload_n C.x C.b dX0_thicks_18 rfl (lv_at hl 0 rfl) ?_
  refine lv_if_ge (tgt := 24) C.x C.b dX0_thicks_19 (by decide) (fun c9 => ?_) (fun c9 => ?_)
  · exact absurd c9 (by decide)
  refine lv_iload_n C.x C.b dX0_thicks_22 rfl (lv_at hl 0 rfl) ?_
  exact hR _ () _ _ _ _ rfl h rfl dX0_thicks_23
set_option maxHeartbeats 4000000 in
theorem kX_laws_N (l : Launch) {D : va_G} {ty : Nat → ClassId} {A : Nat → Prop} {o : Nat} {ad : Nat → Nat} {rs : va_W} {σ τ : PS} {v1 : Int32} (hl9 : l.stackTraces = false) (hs : Seen6 τ σ v1) : KIx l yX0_laws cX0_laws 5 .int 302 1 8 D ty A (wX ty o ad σ ++ (wS ty ad τ ++ rs)) [.ref o, .int v1] (fun r (_ : Unit) => r = -6) (fun _ => (wX ty o ad σ ++ (wS ty ad τ ++ rs))) := by
  refine KIx.of (by decide) (Nat.le_of_ble_eq_true rfl) ?_
  intro p e R s m args below meth c Q C hmc hms hR H locs ls h hl
  have C : Cx p R s m args c cX0_laws 5 RX0 D ty A 302 := C
  have hl : lv_has ls 5 [(0, .ref o), (1, .int v1)] := hl
  refine lv_aload_n C.x C.b dX0_laws_0 rfl (lv_at hl 0 rfl) ?_
  refine lv_iload_n C.x C.b dX0_laws_1 rfl (lv_at hl 1 rfl) ?_
  refine KIg.callV (As := [.int v1]) C (kX_asksSeen_N l hl9 hs) tX_asksSeen ⟨rfl, by decide, by decide, by show _ = some 1; decide +kernel⟩ 0 0 rfl rfl rfl (Nat.le_refl _) (by decide) (by omega) (by omega) h hl.1 rfl (Nat.le_of_ble_eq_true rfl) dX0_laws_2 (fun r _ H locs hr h => ?_)
  subst hr
  refine lv_istore_n (lv' := [(2, .int ((-6))), (0, .ref o), (1, .int v1)]) C.x C.b dX0_laws_5 rfl hl (by decide) rfl (fun ls hl => ?_)
  refine lv_iload_n C.x C.b dX0_laws_6 rfl (lv_at hl 0 rfl) ?_
  refine lv_if_ge (tgt := 12) C.x C.b dX0_laws_7 (by decide) (fun c9 => ?_) (fun c9 => ?_)
  · exact absurd c9 (by decide)
  refine lv_iload_n C.x C.b dX0_laws_10 rfl (lv_at hl 0 rfl) ?_
  exact hR _ () _ _ _ _ rfl h rfl dX0_laws_11
/-- slot j made anew: width w, n places -/
def slMake (τ : PS) (j : Nat) (w n : Int32) : PS := sB (sA (sI (sI τ j w) (10 + j) n) j (fun _ => 0)) j (fun _ => 0)
/-- slot j's row holds f (ints) or g (longs) -/
def slSet (τ : PS) (j : Nat) (f : Nat → Int32) (g : Nat → Int64) : PS := sB (sA τ j f) j g
theorem slW_off {ty : Nat → ClassId} {ad ad' : Nat → Nat} {τ τ' : PS} {i : Nat} (h1 : ad' (50 + i) = ad (50 + i)) (h2 : ad' (60 + i) = ad (60 + i)) (h3 : gI τ' i = gI τ i) (h4 : gI τ' (10 + i) = gI τ (10 + i)) (h5 : gA τ' i = gA τ i) (h6 : gB τ' i = gB τ i) : slW ty ad' τ' i = slW ty ad τ i := by
  unfold slW rowV rowC slB slN
  rw [h1, h2, h3, h4, h5, h6]
theorem va_upN {α : Type} {f : Nat → α} {k j : Nat} {v : α} (h : j ≠ k) : va_up f k v j = f j := if_neg h
theorem va_upS {α : Type} {f : Nat → α} {k : Nat} {v : α} : va_up f k v k = v := if_pos rfl
theorem sl30_up {ty : Nat → ClassId} {ad : Nat → Nat} {j a : Nat} (hj : j < 4) : sl30 ty (va_up ad (60 + j) a) = sl30 ty ad := by
  have h4 : j = 0 ∨ j = 1 ∨ j = 2 ∨ j = 3 := by omega
  rcases h4 with rfl | rfl | rfl | rfl <;> rfl
theorem wX_up {ty : Nat → ClassId} {o : Nat} {ad : Nat → Nat} {σ : PS} {j a : Nat} (hj : j < 4) : wX ty o (va_up ad (60 + j) a) σ = wX ty o ad σ := by
  have h4 : j = 0 ∨ j = 1 ∨ j = 2 ∨ j = 3 := by omega
  rcases h4 with rfl | rfl | rfl | rfl <;> rfl
theorem slMake_off {ty : Nat → ClassId} {ad : Nat → Nat} {τ : PS} {j a i : Nat} {w n : Int32} (hi : i < 4) (hj : j < 4) (hne : i ≠ j) : slW ty (va_up ad (60 + j) a) (slMake τ j w n) i = slW ty ad τ i := by
  refine slW_off (va_upN (by omega)) (va_upN (by omega)) ?_ ?_ ?_ ?_
  · show va_up (va_up τ.1 j w) (10 + j) n i = τ.1 i
    rw [va_upN (by omega), va_upN hne]
  · show va_up (va_up τ.1 j w) (10 + j) n (10 + i) = τ.1 (10 + i)
    rw [va_upN (by omega), va_upN (by omega)]
  · show va_up τ.2.2.1 j _ i = _
    rw [va_upN hne]; rfl
  · show va_up τ.2.2.2 j _ i = _
    rw [va_upN hne]; rfl
theorem slSet_off {ty : Nat → ClassId} {ad : Nat → Nat} {τ : PS} {j i : Nat} {f : Nat → Int32} {g : Nat → Int64} (hne : i ≠ j) : slW ty ad (slSet τ j f g) i = slW ty ad τ i := by
  refine slW_off rfl rfl rfl rfl ?_ ?_
  · show va_up τ.2.2.1 j _ i = _
    rw [va_upN hne]; rfl
  · show va_up τ.2.2.2 j _ i = _
    rw [va_upN hne]; rfl
theorem cb_byte {N : Nat} (h : N ≤ 60) : N * componentBytes .byte ≤ 536870912 := Nat.le_trans (Nat.mul_le_mul h (show componentBytes .byte ≤ 8 by decide)) (by decide)
theorem cb_short {N : Nat} (h : N ≤ 60) : N * componentBytes .short ≤ 536870912 := Nat.le_trans (Nat.mul_le_mul h (show componentBytes .short ≤ 8 by decide)) (by decide)
theorem cb_int {N : Nat} (h : N ≤ 60) : N * componentBytes .int ≤ 536870912 := Nat.le_trans (Nat.mul_le_mul h (show componentBytes .int ≤ 8 by decide)) (by decide)
theorem cb_long {N : Nat} (h : N ≤ 60) : N * componentBytes .long ≤ 536870912 := Nat.le_trans (Nat.mul_le_mul h (show componentBytes .long ≤ 8 by decide)) (by decide)
theorem slN_lt (τ : PS) (j : Nat) : slN τ j < 2 ^ 31 := by
  show (gI τ (10 + j)).toInt.toNat < 2 ^ 31
  have := Int32.toInt_lt (gI τ (10 + j))
  omega
theorem Hw.drop {D : va_G} {A : Nat → Prop} {s : State} {H : Heap} {locs : List Loc} {w1 w2 w3 : va_W} (h : Hw D A s H locs ((w1 ++ w2) ++ w3)) : Hw D A s H locs (w1 ++ w3) := by
  have h1 := h.perm (List.perm_append_comm (l₁ := w1 ++ w2))
  rw [← List.append_assoc] at h1
  exact (h1.left).perm List.perm_append_comm
theorem slMake_w {τ : PS} {j : Nat} {w n : Int32} (hj : j < 4) : gI (slMake τ j w n) j = w := by
  show va_up (va_up τ.1 j w) (10 + j) n j = w
  rw [va_upN (by omega), va_upS]
theorem slMake_n {τ : PS} {j : Nat} {w n : Int32} : slN (slMake τ j w n) j = n.toNatClampNeg := by
  show (va_up (va_up τ.1 j w) (10 + j) n (10 + j)).toNatClampNeg = _
  rw [va_upS]
theorem slMake_A {τ : PS} {j : Nat} {w n : Int32} : gA (slMake τ j w n) j = fun _ => 0 := va_upS
theorem slMake_B {τ : PS} {j : Nat} {w n : Int32} : gB (slMake τ j w n) j = fun _ => 0 := va_upS
set_option maxHeartbeats 4000000 in
theorem kX_row_0 (l : Launch) {D : va_G} {ty : Nat → ClassId} {A : Nat → Prop} {o : Nat} {ad : Nat → Nat} {rs : va_W} {σ τ : PS} {v1 v2 v3 : Int32} (hl9 : l.stackTraces = false) {q1 : Int32} (hs1 : X_isSlot v1 = some q1) (hs2 : q1 = 0) : KIg l yX0_row cX0_row 5 .int [(28, 40, 41, 496)] 20 0 0 D ty A (wX ty o ad σ ++ (wS ty ad τ ++ rs)) [.ref o, .int v1, .int v2, .int v3] (fun r (_ : Unit) => r = -2) (fun _ => (wX ty o ad σ ++ (wS ty ad τ ++ rs))) := by
  refine KIg.of (by decide) (Nat.le_of_ble_eq_true rfl) ?_
  intro p e R s m args below meth c Q C hlk htab hmc hms hR H locs ls h hl
  have C : Cx p R s m args c cX0_row 5 RX0 D ty A 20 := C
  have hl : lv_has ls 5 [(0, .ref o), (1, .int v1), (2, .int v2), (3, .int v3)] := hl
  refine lv_iload_n C.x C.b dX0_row_0 rfl (lv_at hl 1 rfl) ?_
  refine cX_isSlot C h hs1 (Nat.le_of_ble_eq_true rfl) hl.1 (Nat.le_of_ble_eq_true rfl) dX0_row_1 (fun H locs h => ?_)
  refine lv_if_eq (tgt := 25) C.x C.b dX0_row_4 (by decide) (fun c9 => ?_) (fun c9 => ?_)
  rotate_left
  · exact absurd hs2 c9
  refine lv_bipush (v := (-2)) C.x C.b dX0_row_25 (by decide) ?_
  exact hR _ () _ _ _ _ rfl h rfl dX0_row_27
set_option maxHeartbeats 4000000 in
theorem kX_row_1 (l : Launch) {D : va_G} {ty : Nat → ClassId} {A : Nat → Prop} {o : Nat} {ad : Nat → Nat} {rs : va_W} {σ τ : PS} {v1 v2 v3 : Int32} (hl9 : l.stackTraces = false) {q1 q2 : Int32} (hs1 : X_isSlot v1 = some q1) (hs2 : ¬ q1 = 0) (hs3 : X_isIn v2.toInt64 0 3 = some q2) (hs4 : q2 = 0) : KIg l yX0_row cX0_row 5 .int [(28, 40, 41, 496)] 20 0 0 D ty A (wX ty o ad σ ++ (wS ty ad τ ++ rs)) [.ref o, .int v1, .int v2, .int v3] (fun r (_ : Unit) => r = -2) (fun _ => (wX ty o ad σ ++ (wS ty ad τ ++ rs))) := by
  refine KIg.of (by decide) (Nat.le_of_ble_eq_true rfl) ?_
  intro p e R s m args below meth c Q C hlk htab hmc hms hR H locs ls h hl
  have C : Cx p R s m args c cX0_row 5 RX0 D ty A 20 := C
  have hl : lv_has ls 5 [(0, .ref o), (1, .int v1), (2, .int v2), (3, .int v3)] := hl
  refine lv_iload_n C.x C.b dX0_row_0 rfl (lv_at hl 1 rfl) ?_
  refine cX_isSlot C h hs1 (Nat.le_of_ble_eq_true rfl) hl.1 (Nat.le_of_ble_eq_true rfl) dX0_row_1 (fun H locs h => ?_)
  refine lv_if_eq (tgt := 25) C.x C.b dX0_row_4 (by decide) (fun c9 => ?_) (fun c9 => ?_)
  · exact absurd c9 hs2
  refine lv_iload_n C.x C.b dX0_row_7 rfl (lv_at hl 2 rfl) ?_
  refine lv_i2l C.x C.b dX0_row_8 rfl ?_
  refine lv_lconst (v := 0) C.x C.b dX0_row_9 (by decide) ?_
  refine lv_ldc2 (v := 3) C.x C.b C.own (C.ts _ q1184) dX0_row_10 ?_
  refine cX_isIn C h hs3 (Nat.le_of_ble_eq_true rfl) hl.1 (Nat.le_of_ble_eq_true rfl) dX0_row_13 (fun H locs h => ?_)
  refine lv_if_eq (tgt := 25) C.x C.b dX0_row_16 (by decide) (fun c9 => ?_) (fun c9 => ?_)
  rotate_left
  · exact absurd hs4 c9
  refine lv_bipush (v := (-2)) C.x C.b dX0_row_25 (by decide) ?_
  exact hR _ () _ _ _ _ rfl h rfl dX0_row_27
set_option maxHeartbeats 4000000 in
theorem kX_row_2 (l : Launch) {D : va_G} {ty : Nat → ClassId} {A : Nat → Prop} {o : Nat} {ad : Nat → Nat} {rs : va_W} {σ τ : PS} {v1 v2 v3 : Int32} (hl9 : l.stackTraces = false) {q1 q2 : Int32} (hs1 : X_isSlot v1 = some q1) (hs2 : ¬ q1 = 0) (hs3 : X_isIn v2.toInt64 0 3 = some q2) (hs4 : ¬ q2 = 0) (hs5 : ¬ v3 ≤ 60) : KIg l yX0_row cX0_row 5 .int [(28, 40, 41, 496)] 20 0 0 D ty A (wX ty o ad σ ++ (wS ty ad τ ++ rs)) [.ref o, .int v1, .int v2, .int v3] (fun r (_ : Unit) => r = -2) (fun _ => (wX ty o ad σ ++ (wS ty ad τ ++ rs))) := by
  refine KIg.of (by decide) (Nat.le_of_ble_eq_true rfl) ?_
  intro p e R s m args below meth c Q C hlk htab hmc hms hR H locs ls h hl
  have C : Cx p R s m args c cX0_row 5 RX0 D ty A 20 := C
  have hl : lv_has ls 5 [(0, .ref o), (1, .int v1), (2, .int v2), (3, .int v3)] := hl
  refine lv_iload_n C.x C.b dX0_row_0 rfl (lv_at hl 1 rfl) ?_
  refine cX_isSlot C h hs1 (Nat.le_of_ble_eq_true rfl) hl.1 (Nat.le_of_ble_eq_true rfl) dX0_row_1 (fun H locs h => ?_)
  refine lv_if_eq (tgt := 25) C.x C.b dX0_row_4 (by decide) (fun c9 => ?_) (fun c9 => ?_)
  · exact absurd c9 hs2
  refine lv_iload_n C.x C.b dX0_row_7 rfl (lv_at hl 2 rfl) ?_
  refine lv_i2l C.x C.b dX0_row_8 rfl ?_
  refine lv_lconst (v := 0) C.x C.b dX0_row_9 (by decide) ?_
  refine lv_ldc2 (v := 3) C.x C.b C.own (C.ts _ q1184) dX0_row_10 ?_
  refine cX_isIn C h hs3 (Nat.le_of_ble_eq_true rfl) hl.1 (Nat.le_of_ble_eq_true rfl) dX0_row_13 (fun H locs h => ?_)
  refine lv_if_eq (tgt := 25) C.x C.b dX0_row_16 (by decide) (fun c9 => ?_) (fun c9 => ?_)
  · exact absurd c9 hs4
  refine lv_iload_n C.x C.b dX0_row_19 rfl (lv_at hl 3 rfl) ?_
  refine lv_bipush (v := 60) C.x C.b dX0_row_20 (by decide) ?_
  refine lv_icmp_le (tgt := 28) C.x C.b dX0_row_22 (by decide) (fun c9 => ?_) (fun c9 => ?_)
  · exact absurd c9 hs5
  refine lv_bipush (v := (-2)) C.x C.b dX0_row_25 (by decide) ?_
  exact hR _ () _ _ _ _ rfl h rfl dX0_row_27
set_option maxHeartbeats 4000000 in
theorem kX_row_ok_b (l : Launch) {D : va_G} {ty : Nat → ClassId} {A : Nat → Prop} {o : Nat} {ad : Nat → Nat} {rs : va_W} {σ τ : PS} {v1 v2 v3 : Int32} (hl9 : l.stackTraces = false) {q1 q2 : Int32} (hs1 : X_isSlot v1 = some q1) (hs2 : ¬ q1 = 0) (hs3 : X_isIn v2.toInt64 0 3 = some q2) (hs4 : ¬ q2 = 0) (hs5 : v3 ≤ 60) (hs6 : vp_in v1 4) (hw : v2 = 0) (hn : ¬ v3 < 0) {N : Nat} (hN : v3.toNatClampNeg = N) (hN6 : N ≤ 60) : KIg l yX0_row cX0_row 5 .int [(28, 40, 41, 496)] 20 1 N D ty A (wX ty o ad σ ++ (wS ty ad τ ++ rs)) [.ref o, .int v1, .int v2, .int v3] (fun r (a : Nat) => r = 0) (fun a => wX ty o (va_up ad (60 + v1.toNatClampNeg) a) σ ++ (wS ty (va_up ad (60 + v1.toNatClampNeg) a) (slMake τ v1.toNatClampNeg v2 v3) ++ rs)) := by
  refine KIg.of (by decide) (Nat.le_of_ble_eq_true rfl) ?_
  intro p e R s m args below meth c Q C hlk htab hmc hms hR H locs ls h hl
  have C : Cx p R s m args c cX0_row 5 RX0 D ty A 20 := C
  have hl : lv_has ls 5 [(0, .ref o), (1, .int v1), (2, .int v2), (3, .int v3)] := hl
  refine lv_iload_n C.x C.b dX0_row_0 rfl (lv_at hl 1 rfl) ?_
  refine cX_isSlot C h hs1 (Nat.le_of_ble_eq_true rfl) hl.1 (Nat.le_of_ble_eq_true rfl) dX0_row_1 (fun H locs h => ?_)
  refine lv_if_eq (tgt := 25) C.x C.b dX0_row_4 (by decide) (fun c9 => ?_) (fun c9 => ?_)
  · exact absurd c9 hs2
  refine lv_iload_n C.x C.b dX0_row_7 rfl (lv_at hl 2 rfl) ?_
  refine lv_i2l C.x C.b dX0_row_8 rfl ?_
  refine lv_lconst (v := 0) C.x C.b dX0_row_9 (by decide) ?_
  refine lv_ldc2 (v := 3) C.x C.b C.own (C.ts _ q1184) dX0_row_10 ?_
  refine cX_isIn C h hs3 (Nat.le_of_ble_eq_true rfl) hl.1 (Nat.le_of_ble_eq_true rfl) dX0_row_13 (fun H locs h => ?_)
  refine lv_if_eq (tgt := 25) C.x C.b dX0_row_16 (by decide) (fun c9 => ?_) (fun c9 => ?_)
  · exact absurd c9 hs4
  refine lv_iload_n C.x C.b dX0_row_19 rfl (lv_at hl 3 rfl) ?_
  refine lv_bipush (v := 60) C.x C.b dX0_row_20 (by decide) ?_
  refine lv_icmp_le (tgt := 28) C.x C.b dX0_row_22 (by decide) (fun c9 => ?_) (fun c9 => ?_)
  rotate_left
  · exact absurd hs5 c9
  refine lv_aload_n C.x C.b dX0_row_28 rfl (lv_at hl 0 rfl) ?_
  refine x_g30 C h dX0_row_29 ?_
  refine lv_iload_n C.x C.b dX0_row_32 rfl (lv_at hl 1 rfl) ?_
  refine x_a30 C h hs6 dX0_row_33 ?_
  refine lv_iload_n C.x C.b dX0_row_34 rfl (lv_at hl 2 rfl) ?_
  refine lv_iload_n C.x C.b dX0_row_35 rfl (lv_at hl 3 rfl) ?_
  obtain ⟨rest, hp⟩ := slot_perm0 (ty := ty) (ad := ad) (τ := τ) (B := wX ty o ad σ) (rs := rs) (in_lt hs6)
  have h2 := h.perm hp
  have h2 : Hw D A s H locs ((rowC ty ad τ v1.toNatClampNeg ++ rest) ++ [(ad (50 + v1.toNatClampNeg), .inr (6, [rowV ad τ v1.toNatClampNeg]))]) := h2.perm (by unfold slW; exact (List.perm_append_comm (l₁ := ([(ad (50 + v1.toNatClampNeg), .inr (6, [rowV ad τ v1.toNatClampNeg]))] : va_W))))
  subst hw
  refine KVx.callV (As := [.int 0, .int v3]) C (fun A => kS_make_b l hn hN (cb_byte hN6)) tS_make ⟨rfl, by decide, by decide, by show _ = some 2; decide +kernel⟩ 0 6 rfl rfl rfl (Nat.le_of_ble_eq_true rfl) (by decide) (by omega) (by omega) h2 hl.1 rfl (Nat.le_of_ble_eq_true rfl) dX0_row_36 (fun a H locs _ h => ?_)
  have h3 : Hw D A s H locs (slW ty (va_up ad (60 + v1.toNatClampNeg) a) (slMake τ v1.toNatClampNeg 0 v3) v1.toNatClampNeg ++ rest) := by
    rw [slW_b (slMake_w (in_lt hs6)), slMake_n, slMake_A, hN, va_upN (by omega : 50 + v1.toNatClampNeg ≠ 60 + v1.toNatClampNeg), va_upS]
    have h5 := h.perm (List.perm_append_comm (l₂ := ([(ad (50 + v1.toNatClampNeg), .inr (6, [.ref a])), (a, .inl (ty 1, N, .inl (fun _ => 0)))] : va_W)))
    rw [← List.append_assoc] at h5
    refine (show Hw D A s H locs _ from ?_)
    exact Hw.drop h5
  obtain ⟨rest2, hp1, hp2⟩ := slot_perm (B := wX ty o ad σ) (rs := rs) (ty := ty) (ad := ad) (τ := τ) (ad' := va_up ad (60 + v1.toNatClampNeg) a) (τ' := slMake τ v1.toNatClampNeg 0 v3) (in_lt hs6) (sl30_up (in_lt hs6)) (fun i hi hne => slMake_off hi (in_lt hs6) hne)
  have h4 := Hw.perm hp2 (h3.perm (List.Perm.append_left _ (List.perm_append_left_iff _ |>.mp (hp.symm.trans hp1))))
  rw [← wX_up (a := a) (in_lt hs6)] at h4
  refine lv_iconst (v := 0) C.x C.b dX0_row_39 (by decide) ?_
  refine W.widen (k := 1) (n := N) (by omega) (by omega) ?_
  exact hR _ a _ _ _ _ rfl h4 rfl dX0_row_40
set_option maxHeartbeats 4000000 in
theorem kX_row_neg_b (l : Launch) {D : va_G} {ty : Nat → ClassId} {A : Nat → Prop} {o : Nat} {ad : Nat → Nat} {rs : va_W} {σ τ : PS} {v1 v2 v3 : Int32} (hl9 : l.stackTraces = false) {q1 q2 : Int32} (hs1 : X_isSlot v1 = some q1) (hs2 : ¬ q1 = 0) (hs3 : X_isIn v2.toInt64 0 3 = some q2) (hs4 : ¬ q2 = 0) (hs5 : v3 ≤ 60) (hs6 : vp_in v1 4) (hw : v2 = 0) (hn : v3 < 0) : KIg l yX0_row cX0_row 5 .int [(28, 40, 41, 496)] 301 3 1010 D ty A (wX ty o ad σ ++ (wS ty ad τ ++ rs)) [.ref o, .int v1, .int v2, .int v3] (fun r (_ : Unit) => r = -3) (fun _ => (wX ty o ad σ ++ (wS ty ad τ ++ rs))) := by
  refine KIg.of (by decide) (Nat.le_of_ble_eq_true rfl) ?_
  intro p e R s m args below meth c Q C hlk htab hmc hms hR H locs ls h hl
  have C : Cx p R s m args c cX0_row 5 RX0 D ty A 301 := C
  have hl : lv_has ls 5 [(0, .ref o), (1, .int v1), (2, .int v2), (3, .int v3)] := hl
  refine lv_iload_n C.x C.b dX0_row_0 rfl (lv_at hl 1 rfl) ?_
  refine cX_isSlot C h hs1 (Nat.le_of_ble_eq_true rfl) hl.1 (Nat.le_of_ble_eq_true rfl) dX0_row_1 (fun H locs h => ?_)
  refine lv_if_eq (tgt := 25) C.x C.b dX0_row_4 (by decide) (fun c9 => ?_) (fun c9 => ?_)
  · exact absurd c9 hs2
  refine lv_iload_n C.x C.b dX0_row_7 rfl (lv_at hl 2 rfl) ?_
  refine lv_i2l C.x C.b dX0_row_8 rfl ?_
  refine lv_lconst (v := 0) C.x C.b dX0_row_9 (by decide) ?_
  refine lv_ldc2 (v := 3) C.x C.b C.own (C.ts _ q1184) dX0_row_10 ?_
  refine cX_isIn C h hs3 (Nat.le_of_ble_eq_true rfl) hl.1 (Nat.le_of_ble_eq_true rfl) dX0_row_13 (fun H locs h => ?_)
  refine lv_if_eq (tgt := 25) C.x C.b dX0_row_16 (by decide) (fun c9 => ?_) (fun c9 => ?_)
  · exact absurd c9 hs4
  refine lv_iload_n C.x C.b dX0_row_19 rfl (lv_at hl 3 rfl) ?_
  refine lv_bipush (v := 60) C.x C.b dX0_row_20 (by decide) ?_
  refine lv_icmp_le (tgt := 28) C.x C.b dX0_row_22 (by decide) (fun c9 => ?_) (fun c9 => ?_)
  rotate_left
  · exact absurd hs5 c9
  refine lv_aload_n C.x C.b dX0_row_28 rfl (lv_at hl 0 rfl) ?_
  refine x_g30 C h dX0_row_29 ?_
  refine lv_iload_n C.x C.b dX0_row_32 rfl (lv_at hl 1 rfl) ?_
  refine x_a30 C h hs6 dX0_row_33 ?_
  refine lv_iload_n C.x C.b dX0_row_34 rfl (lv_at hl 2 rfl) ?_
  refine lv_iload_n C.x C.b dX0_row_35 rfl (lv_at hl 3 rfl) ?_
  obtain ⟨rest, hp⟩ := slot_perm0 (ty := ty) (ad := ad) (τ := τ) (B := wX ty o ad σ) (rs := rs) (in_lt hs6)
  have h2 := h.perm hp
  subst hw
  refine KTv.callV (As := [.int 0, .int v3]) C (kS_makeZ_b l hl9 hn) tS_make ⟨rfl, by decide, by decide, by show _ = some 2; decide +kernel⟩ 0 6 rfl rfl rfl (Nat.le_refl _) (by decide) (by omega) (by omega) h2 hl.1 rfl (Nat.le_of_ble_eq_true rfl) dX0_row_36 (fun H locs q9 ce h4 h1 h2 h3 => ?_)
  have h := Hw.perm hp.symm h4
  refine vx_catch (name := "java/lang/NegativeArraySizeException") (E := "java/lang/NegativeArraySizeException") C.own [] { startPc := 28, endPc := 40, handlerPc := 41, catchType := 496 } [] (by rw [htab]; rfl) (fun z hz => absurd hz List.not_mem_nil) (by decide) (by decide) (C.ts _ q1453) (C.nw q1473 rfl) h1 h2 h3 ?_
  refine lv_astore (lv' := [(4, .ref q9), (0, .ref o), (1, .int v1), (2, .int 0), (3, .int v3)]) C.x C.b dX0_row_41 hl (by decide) rfl (fun ls hl => ?_)
  refine lv_bipush (v := (-3)) C.x C.b dX0_row_43 (by decide) ?_
  exact hR _ () _ _ _ _ rfl h rfl dX0_row_45
set_option maxHeartbeats 4000000 in
theorem kX_row_ok_s (l : Launch) {D : va_G} {ty : Nat → ClassId} {A : Nat → Prop} {o : Nat} {ad : Nat → Nat} {rs : va_W} {σ τ : PS} {v1 v2 v3 : Int32} (hl9 : l.stackTraces = false) {q1 q2 : Int32} (hs1 : X_isSlot v1 = some q1) (hs2 : ¬ q1 = 0) (hs3 : X_isIn v2.toInt64 0 3 = some q2) (hs4 : ¬ q2 = 0) (hs5 : v3 ≤ 60) (hs6 : vp_in v1 4) (hw : v2 = 1) (hn : ¬ v3 < 0) {N : Nat} (hN : v3.toNatClampNeg = N) (hN6 : N ≤ 60) : KIg l yX0_row cX0_row 5 .int [(28, 40, 41, 496)] 20 1 N D ty A (wX ty o ad σ ++ (wS ty ad τ ++ rs)) [.ref o, .int v1, .int v2, .int v3] (fun r (a : Nat) => r = 0) (fun a => wX ty o (va_up ad (60 + v1.toNatClampNeg) a) σ ++ (wS ty (va_up ad (60 + v1.toNatClampNeg) a) (slMake τ v1.toNatClampNeg v2 v3) ++ rs)) := by
  refine KIg.of (by decide) (Nat.le_of_ble_eq_true rfl) ?_
  intro p e R s m args below meth c Q C hlk htab hmc hms hR H locs ls h hl
  have C : Cx p R s m args c cX0_row 5 RX0 D ty A 20 := C
  have hl : lv_has ls 5 [(0, .ref o), (1, .int v1), (2, .int v2), (3, .int v3)] := hl
  refine lv_iload_n C.x C.b dX0_row_0 rfl (lv_at hl 1 rfl) ?_
  refine cX_isSlot C h hs1 (Nat.le_of_ble_eq_true rfl) hl.1 (Nat.le_of_ble_eq_true rfl) dX0_row_1 (fun H locs h => ?_)
  refine lv_if_eq (tgt := 25) C.x C.b dX0_row_4 (by decide) (fun c9 => ?_) (fun c9 => ?_)
  · exact absurd c9 hs2
  refine lv_iload_n C.x C.b dX0_row_7 rfl (lv_at hl 2 rfl) ?_
  refine lv_i2l C.x C.b dX0_row_8 rfl ?_
  refine lv_lconst (v := 0) C.x C.b dX0_row_9 (by decide) ?_
  refine lv_ldc2 (v := 3) C.x C.b C.own (C.ts _ q1184) dX0_row_10 ?_
  refine cX_isIn C h hs3 (Nat.le_of_ble_eq_true rfl) hl.1 (Nat.le_of_ble_eq_true rfl) dX0_row_13 (fun H locs h => ?_)
  refine lv_if_eq (tgt := 25) C.x C.b dX0_row_16 (by decide) (fun c9 => ?_) (fun c9 => ?_)
  · exact absurd c9 hs4
  refine lv_iload_n C.x C.b dX0_row_19 rfl (lv_at hl 3 rfl) ?_
  refine lv_bipush (v := 60) C.x C.b dX0_row_20 (by decide) ?_
  refine lv_icmp_le (tgt := 28) C.x C.b dX0_row_22 (by decide) (fun c9 => ?_) (fun c9 => ?_)
  rotate_left
  · exact absurd hs5 c9
  refine lv_aload_n C.x C.b dX0_row_28 rfl (lv_at hl 0 rfl) ?_
  refine x_g30 C h dX0_row_29 ?_
  refine lv_iload_n C.x C.b dX0_row_32 rfl (lv_at hl 1 rfl) ?_
  refine x_a30 C h hs6 dX0_row_33 ?_
  refine lv_iload_n C.x C.b dX0_row_34 rfl (lv_at hl 2 rfl) ?_
  refine lv_iload_n C.x C.b dX0_row_35 rfl (lv_at hl 3 rfl) ?_
  obtain ⟨rest, hp⟩ := slot_perm0 (ty := ty) (ad := ad) (τ := τ) (B := wX ty o ad σ) (rs := rs) (in_lt hs6)
  have h2 := h.perm hp
  have h2 : Hw D A s H locs ((rowC ty ad τ v1.toNatClampNeg ++ rest) ++ [(ad (50 + v1.toNatClampNeg), .inr (6, [rowV ad τ v1.toNatClampNeg]))]) := h2.perm (by unfold slW; exact (List.perm_append_comm (l₁ := ([(ad (50 + v1.toNatClampNeg), .inr (6, [rowV ad τ v1.toNatClampNeg]))] : va_W))))
  subst hw
  refine KVx.callV (As := [.int 1, .int v3]) C (fun A => kS_make_s l hn hN (cb_short hN6)) tS_make ⟨rfl, by decide, by decide, by show _ = some 2; decide +kernel⟩ 0 6 rfl rfl rfl (Nat.le_of_ble_eq_true rfl) (by decide) (by omega) (by omega) h2 hl.1 rfl (Nat.le_of_ble_eq_true rfl) dX0_row_36 (fun a H locs _ h => ?_)
  have h3 : Hw D A s H locs (slW ty (va_up ad (60 + v1.toNatClampNeg) a) (slMake τ v1.toNatClampNeg 1 v3) v1.toNatClampNeg ++ rest) := by
    rw [slW_s (slMake_w (in_lt hs6)), slMake_n, slMake_A, hN, va_upN (by omega : 50 + v1.toNatClampNeg ≠ 60 + v1.toNatClampNeg), va_upS]
    have h5 := h.perm (List.perm_append_comm (l₂ := ([(ad (50 + v1.toNatClampNeg), .inr (6, [.ref a])), (a, .inl (ty 2, N, .inl (fun _ => 0)))] : va_W)))
    rw [← List.append_assoc] at h5
    refine (show Hw D A s H locs _ from ?_)
    exact Hw.drop h5
  obtain ⟨rest2, hp1, hp2⟩ := slot_perm (B := wX ty o ad σ) (rs := rs) (ty := ty) (ad := ad) (τ := τ) (ad' := va_up ad (60 + v1.toNatClampNeg) a) (τ' := slMake τ v1.toNatClampNeg 1 v3) (in_lt hs6) (sl30_up (in_lt hs6)) (fun i hi hne => slMake_off hi (in_lt hs6) hne)
  have h4 := Hw.perm hp2 (h3.perm (List.Perm.append_left _ (List.perm_append_left_iff _ |>.mp (hp.symm.trans hp1))))
  rw [← wX_up (a := a) (in_lt hs6)] at h4
  refine lv_iconst (v := 0) C.x C.b dX0_row_39 (by decide) ?_
  refine W.widen (k := 1) (n := N) (by omega) (by omega) ?_
  exact hR _ a _ _ _ _ rfl h4 rfl dX0_row_40
set_option maxHeartbeats 4000000 in
theorem kX_row_neg_s (l : Launch) {D : va_G} {ty : Nat → ClassId} {A : Nat → Prop} {o : Nat} {ad : Nat → Nat} {rs : va_W} {σ τ : PS} {v1 v2 v3 : Int32} (hl9 : l.stackTraces = false) {q1 q2 : Int32} (hs1 : X_isSlot v1 = some q1) (hs2 : ¬ q1 = 0) (hs3 : X_isIn v2.toInt64 0 3 = some q2) (hs4 : ¬ q2 = 0) (hs5 : v3 ≤ 60) (hs6 : vp_in v1 4) (hw : v2 = 1) (hn : v3 < 0) : KIg l yX0_row cX0_row 5 .int [(28, 40, 41, 496)] 301 3 1010 D ty A (wX ty o ad σ ++ (wS ty ad τ ++ rs)) [.ref o, .int v1, .int v2, .int v3] (fun r (_ : Unit) => r = -3) (fun _ => (wX ty o ad σ ++ (wS ty ad τ ++ rs))) := by
  refine KIg.of (by decide) (Nat.le_of_ble_eq_true rfl) ?_
  intro p e R s m args below meth c Q C hlk htab hmc hms hR H locs ls h hl
  have C : Cx p R s m args c cX0_row 5 RX0 D ty A 301 := C
  have hl : lv_has ls 5 [(0, .ref o), (1, .int v1), (2, .int v2), (3, .int v3)] := hl
  refine lv_iload_n C.x C.b dX0_row_0 rfl (lv_at hl 1 rfl) ?_
  refine cX_isSlot C h hs1 (Nat.le_of_ble_eq_true rfl) hl.1 (Nat.le_of_ble_eq_true rfl) dX0_row_1 (fun H locs h => ?_)
  refine lv_if_eq (tgt := 25) C.x C.b dX0_row_4 (by decide) (fun c9 => ?_) (fun c9 => ?_)
  · exact absurd c9 hs2
  refine lv_iload_n C.x C.b dX0_row_7 rfl (lv_at hl 2 rfl) ?_
  refine lv_i2l C.x C.b dX0_row_8 rfl ?_
  refine lv_lconst (v := 0) C.x C.b dX0_row_9 (by decide) ?_
  refine lv_ldc2 (v := 3) C.x C.b C.own (C.ts _ q1184) dX0_row_10 ?_
  refine cX_isIn C h hs3 (Nat.le_of_ble_eq_true rfl) hl.1 (Nat.le_of_ble_eq_true rfl) dX0_row_13 (fun H locs h => ?_)
  refine lv_if_eq (tgt := 25) C.x C.b dX0_row_16 (by decide) (fun c9 => ?_) (fun c9 => ?_)
  · exact absurd c9 hs4
  refine lv_iload_n C.x C.b dX0_row_19 rfl (lv_at hl 3 rfl) ?_
  refine lv_bipush (v := 60) C.x C.b dX0_row_20 (by decide) ?_
  refine lv_icmp_le (tgt := 28) C.x C.b dX0_row_22 (by decide) (fun c9 => ?_) (fun c9 => ?_)
  rotate_left
  · exact absurd hs5 c9
  refine lv_aload_n C.x C.b dX0_row_28 rfl (lv_at hl 0 rfl) ?_
  refine x_g30 C h dX0_row_29 ?_
  refine lv_iload_n C.x C.b dX0_row_32 rfl (lv_at hl 1 rfl) ?_
  refine x_a30 C h hs6 dX0_row_33 ?_
  refine lv_iload_n C.x C.b dX0_row_34 rfl (lv_at hl 2 rfl) ?_
  refine lv_iload_n C.x C.b dX0_row_35 rfl (lv_at hl 3 rfl) ?_
  obtain ⟨rest, hp⟩ := slot_perm0 (ty := ty) (ad := ad) (τ := τ) (B := wX ty o ad σ) (rs := rs) (in_lt hs6)
  have h2 := h.perm hp
  subst hw
  refine KTv.callV (As := [.int 1, .int v3]) C (kS_makeZ_s l hl9 hn) tS_make ⟨rfl, by decide, by decide, by show _ = some 2; decide +kernel⟩ 0 6 rfl rfl rfl (Nat.le_refl _) (by decide) (by omega) (by omega) h2 hl.1 rfl (Nat.le_of_ble_eq_true rfl) dX0_row_36 (fun H locs q9 ce h4 h1 h2 h3 => ?_)
  have h := Hw.perm hp.symm h4
  refine vx_catch (name := "java/lang/NegativeArraySizeException") (E := "java/lang/NegativeArraySizeException") C.own [] { startPc := 28, endPc := 40, handlerPc := 41, catchType := 496 } [] (by rw [htab]; rfl) (fun z hz => absurd hz List.not_mem_nil) (by decide) (by decide) (C.ts _ q1453) (C.nw q1473 rfl) h1 h2 h3 ?_
  refine lv_astore (lv' := [(4, .ref q9), (0, .ref o), (1, .int v1), (2, .int 1), (3, .int v3)]) C.x C.b dX0_row_41 hl (by decide) rfl (fun ls hl => ?_)
  refine lv_bipush (v := (-3)) C.x C.b dX0_row_43 (by decide) ?_
  exact hR _ () _ _ _ _ rfl h rfl dX0_row_45
set_option maxHeartbeats 4000000 in
theorem kX_row_ok_i (l : Launch) {D : va_G} {ty : Nat → ClassId} {A : Nat → Prop} {o : Nat} {ad : Nat → Nat} {rs : va_W} {σ τ : PS} {v1 v2 v3 : Int32} (hl9 : l.stackTraces = false) {q1 q2 : Int32} (hs1 : X_isSlot v1 = some q1) (hs2 : ¬ q1 = 0) (hs3 : X_isIn v2.toInt64 0 3 = some q2) (hs4 : ¬ q2 = 0) (hs5 : v3 ≤ 60) (hs6 : vp_in v1 4) (hw : v2 = 2) (hn : ¬ v3 < 0) {N : Nat} (hN : v3.toNatClampNeg = N) (hN6 : N ≤ 60) : KIg l yX0_row cX0_row 5 .int [(28, 40, 41, 496)] 20 1 N D ty A (wX ty o ad σ ++ (wS ty ad τ ++ rs)) [.ref o, .int v1, .int v2, .int v3] (fun r (a : Nat) => r = 0) (fun a => wX ty o (va_up ad (60 + v1.toNatClampNeg) a) σ ++ (wS ty (va_up ad (60 + v1.toNatClampNeg) a) (slMake τ v1.toNatClampNeg v2 v3) ++ rs)) := by
  refine KIg.of (by decide) (Nat.le_of_ble_eq_true rfl) ?_
  intro p e R s m args below meth c Q C hlk htab hmc hms hR H locs ls h hl
  have C : Cx p R s m args c cX0_row 5 RX0 D ty A 20 := C
  have hl : lv_has ls 5 [(0, .ref o), (1, .int v1), (2, .int v2), (3, .int v3)] := hl
  refine lv_iload_n C.x C.b dX0_row_0 rfl (lv_at hl 1 rfl) ?_
  refine cX_isSlot C h hs1 (Nat.le_of_ble_eq_true rfl) hl.1 (Nat.le_of_ble_eq_true rfl) dX0_row_1 (fun H locs h => ?_)
  refine lv_if_eq (tgt := 25) C.x C.b dX0_row_4 (by decide) (fun c9 => ?_) (fun c9 => ?_)
  · exact absurd c9 hs2
  refine lv_iload_n C.x C.b dX0_row_7 rfl (lv_at hl 2 rfl) ?_
  refine lv_i2l C.x C.b dX0_row_8 rfl ?_
  refine lv_lconst (v := 0) C.x C.b dX0_row_9 (by decide) ?_
  refine lv_ldc2 (v := 3) C.x C.b C.own (C.ts _ q1184) dX0_row_10 ?_
  refine cX_isIn C h hs3 (Nat.le_of_ble_eq_true rfl) hl.1 (Nat.le_of_ble_eq_true rfl) dX0_row_13 (fun H locs h => ?_)
  refine lv_if_eq (tgt := 25) C.x C.b dX0_row_16 (by decide) (fun c9 => ?_) (fun c9 => ?_)
  · exact absurd c9 hs4
  refine lv_iload_n C.x C.b dX0_row_19 rfl (lv_at hl 3 rfl) ?_
  refine lv_bipush (v := 60) C.x C.b dX0_row_20 (by decide) ?_
  refine lv_icmp_le (tgt := 28) C.x C.b dX0_row_22 (by decide) (fun c9 => ?_) (fun c9 => ?_)
  rotate_left
  · exact absurd hs5 c9
  refine lv_aload_n C.x C.b dX0_row_28 rfl (lv_at hl 0 rfl) ?_
  refine x_g30 C h dX0_row_29 ?_
  refine lv_iload_n C.x C.b dX0_row_32 rfl (lv_at hl 1 rfl) ?_
  refine x_a30 C h hs6 dX0_row_33 ?_
  refine lv_iload_n C.x C.b dX0_row_34 rfl (lv_at hl 2 rfl) ?_
  refine lv_iload_n C.x C.b dX0_row_35 rfl (lv_at hl 3 rfl) ?_
  obtain ⟨rest, hp⟩ := slot_perm0 (ty := ty) (ad := ad) (τ := τ) (B := wX ty o ad σ) (rs := rs) (in_lt hs6)
  have h2 := h.perm hp
  have h2 : Hw D A s H locs ((rowC ty ad τ v1.toNatClampNeg ++ rest) ++ [(ad (50 + v1.toNatClampNeg), .inr (6, [rowV ad τ v1.toNatClampNeg]))]) := h2.perm (by unfold slW; exact (List.perm_append_comm (l₁ := ([(ad (50 + v1.toNatClampNeg), .inr (6, [rowV ad τ v1.toNatClampNeg]))] : va_W))))
  subst hw
  refine KVx.callV (As := [.int 2, .int v3]) C (fun A => kS_make_i l hn hN (cb_int hN6)) tS_make ⟨rfl, by decide, by decide, by show _ = some 2; decide +kernel⟩ 0 6 rfl rfl rfl (Nat.le_of_ble_eq_true rfl) (by decide) (by omega) (by omega) h2 hl.1 rfl (Nat.le_of_ble_eq_true rfl) dX0_row_36 (fun a H locs _ h => ?_)
  have h3 : Hw D A s H locs (slW ty (va_up ad (60 + v1.toNatClampNeg) a) (slMake τ v1.toNatClampNeg 2 v3) v1.toNatClampNeg ++ rest) := by
    rw [slW_i (slMake_w (in_lt hs6)), slMake_n, slMake_A, hN, va_upN (by omega : 50 + v1.toNatClampNeg ≠ 60 + v1.toNatClampNeg), va_upS]
    have h5 := h.perm (List.perm_append_comm (l₂ := ([(ad (50 + v1.toNatClampNeg), .inr (6, [.ref a])), (a, .inl (ty 0, N, .inl (fun _ => 0)))] : va_W)))
    rw [← List.append_assoc] at h5
    refine (show Hw D A s H locs _ from ?_)
    exact Hw.drop h5
  obtain ⟨rest2, hp1, hp2⟩ := slot_perm (B := wX ty o ad σ) (rs := rs) (ty := ty) (ad := ad) (τ := τ) (ad' := va_up ad (60 + v1.toNatClampNeg) a) (τ' := slMake τ v1.toNatClampNeg 2 v3) (in_lt hs6) (sl30_up (in_lt hs6)) (fun i hi hne => slMake_off hi (in_lt hs6) hne)
  have h4 := Hw.perm hp2 (h3.perm (List.Perm.append_left _ (List.perm_append_left_iff _ |>.mp (hp.symm.trans hp1))))
  rw [← wX_up (a := a) (in_lt hs6)] at h4
  refine lv_iconst (v := 0) C.x C.b dX0_row_39 (by decide) ?_
  refine W.widen (k := 1) (n := N) (by omega) (by omega) ?_
  exact hR _ a _ _ _ _ rfl h4 rfl dX0_row_40
set_option maxHeartbeats 4000000 in
theorem kX_row_neg_i (l : Launch) {D : va_G} {ty : Nat → ClassId} {A : Nat → Prop} {o : Nat} {ad : Nat → Nat} {rs : va_W} {σ τ : PS} {v1 v2 v3 : Int32} (hl9 : l.stackTraces = false) {q1 q2 : Int32} (hs1 : X_isSlot v1 = some q1) (hs2 : ¬ q1 = 0) (hs3 : X_isIn v2.toInt64 0 3 = some q2) (hs4 : ¬ q2 = 0) (hs5 : v3 ≤ 60) (hs6 : vp_in v1 4) (hw : v2 = 2) (hn : v3 < 0) : KIg l yX0_row cX0_row 5 .int [(28, 40, 41, 496)] 301 3 1010 D ty A (wX ty o ad σ ++ (wS ty ad τ ++ rs)) [.ref o, .int v1, .int v2, .int v3] (fun r (_ : Unit) => r = -3) (fun _ => (wX ty o ad σ ++ (wS ty ad τ ++ rs))) := by
  refine KIg.of (by decide) (Nat.le_of_ble_eq_true rfl) ?_
  intro p e R s m args below meth c Q C hlk htab hmc hms hR H locs ls h hl
  have C : Cx p R s m args c cX0_row 5 RX0 D ty A 301 := C
  have hl : lv_has ls 5 [(0, .ref o), (1, .int v1), (2, .int v2), (3, .int v3)] := hl
  refine lv_iload_n C.x C.b dX0_row_0 rfl (lv_at hl 1 rfl) ?_
  refine cX_isSlot C h hs1 (Nat.le_of_ble_eq_true rfl) hl.1 (Nat.le_of_ble_eq_true rfl) dX0_row_1 (fun H locs h => ?_)
  refine lv_if_eq (tgt := 25) C.x C.b dX0_row_4 (by decide) (fun c9 => ?_) (fun c9 => ?_)
  · exact absurd c9 hs2
  refine lv_iload_n C.x C.b dX0_row_7 rfl (lv_at hl 2 rfl) ?_
  refine lv_i2l C.x C.b dX0_row_8 rfl ?_
  refine lv_lconst (v := 0) C.x C.b dX0_row_9 (by decide) ?_
  refine lv_ldc2 (v := 3) C.x C.b C.own (C.ts _ q1184) dX0_row_10 ?_
  refine cX_isIn C h hs3 (Nat.le_of_ble_eq_true rfl) hl.1 (Nat.le_of_ble_eq_true rfl) dX0_row_13 (fun H locs h => ?_)
  refine lv_if_eq (tgt := 25) C.x C.b dX0_row_16 (by decide) (fun c9 => ?_) (fun c9 => ?_)
  · exact absurd c9 hs4
  refine lv_iload_n C.x C.b dX0_row_19 rfl (lv_at hl 3 rfl) ?_
  refine lv_bipush (v := 60) C.x C.b dX0_row_20 (by decide) ?_
  refine lv_icmp_le (tgt := 28) C.x C.b dX0_row_22 (by decide) (fun c9 => ?_) (fun c9 => ?_)
  rotate_left
  · exact absurd hs5 c9
  refine lv_aload_n C.x C.b dX0_row_28 rfl (lv_at hl 0 rfl) ?_
  refine x_g30 C h dX0_row_29 ?_
  refine lv_iload_n C.x C.b dX0_row_32 rfl (lv_at hl 1 rfl) ?_
  refine x_a30 C h hs6 dX0_row_33 ?_
  refine lv_iload_n C.x C.b dX0_row_34 rfl (lv_at hl 2 rfl) ?_
  refine lv_iload_n C.x C.b dX0_row_35 rfl (lv_at hl 3 rfl) ?_
  obtain ⟨rest, hp⟩ := slot_perm0 (ty := ty) (ad := ad) (τ := τ) (B := wX ty o ad σ) (rs := rs) (in_lt hs6)
  have h2 := h.perm hp
  subst hw
  refine KTv.callV (As := [.int 2, .int v3]) C (kS_makeZ_i l hl9 hn) tS_make ⟨rfl, by decide, by decide, by show _ = some 2; decide +kernel⟩ 0 6 rfl rfl rfl (Nat.le_refl _) (by decide) (by omega) (by omega) h2 hl.1 rfl (Nat.le_of_ble_eq_true rfl) dX0_row_36 (fun H locs q9 ce h4 h1 h2 h3 => ?_)
  have h := Hw.perm hp.symm h4
  refine vx_catch (name := "java/lang/NegativeArraySizeException") (E := "java/lang/NegativeArraySizeException") C.own [] { startPc := 28, endPc := 40, handlerPc := 41, catchType := 496 } [] (by rw [htab]; rfl) (fun z hz => absurd hz List.not_mem_nil) (by decide) (by decide) (C.ts _ q1453) (C.nw q1473 rfl) h1 h2 h3 ?_
  refine lv_astore (lv' := [(4, .ref q9), (0, .ref o), (1, .int v1), (2, .int 2), (3, .int v3)]) C.x C.b dX0_row_41 hl (by decide) rfl (fun ls hl => ?_)
  refine lv_bipush (v := (-3)) C.x C.b dX0_row_43 (by decide) ?_
  exact hR _ () _ _ _ _ rfl h rfl dX0_row_45
set_option maxHeartbeats 4000000 in
theorem kX_row_ok_l (l : Launch) {D : va_G} {ty : Nat → ClassId} {A : Nat → Prop} {o : Nat} {ad : Nat → Nat} {rs : va_W} {σ τ : PS} {v1 v2 v3 : Int32} (hl9 : l.stackTraces = false) {q1 q2 : Int32} (hs1 : X_isSlot v1 = some q1) (hs2 : ¬ q1 = 0) (hs3 : X_isIn v2.toInt64 0 3 = some q2) (hs4 : ¬ q2 = 0) (hs5 : v3 ≤ 60) (hs6 : vp_in v1 4) (hw : v2 = 3) (hn : ¬ v3 < 0) {N : Nat} (hN : v3.toNatClampNeg = N) (hN6 : N ≤ 60) : KIg l yX0_row cX0_row 5 .int [(28, 40, 41, 496)] 20 1 N D ty A (wX ty o ad σ ++ (wS ty ad τ ++ rs)) [.ref o, .int v1, .int v2, .int v3] (fun r (a : Nat) => r = 0) (fun a => wX ty o (va_up ad (60 + v1.toNatClampNeg) a) σ ++ (wS ty (va_up ad (60 + v1.toNatClampNeg) a) (slMake τ v1.toNatClampNeg v2 v3) ++ rs)) := by
  refine KIg.of (by decide) (Nat.le_of_ble_eq_true rfl) ?_
  intro p e R s m args below meth c Q C hlk htab hmc hms hR H locs ls h hl
  have C : Cx p R s m args c cX0_row 5 RX0 D ty A 20 := C
  have hl : lv_has ls 5 [(0, .ref o), (1, .int v1), (2, .int v2), (3, .int v3)] := hl
  refine lv_iload_n C.x C.b dX0_row_0 rfl (lv_at hl 1 rfl) ?_
  refine cX_isSlot C h hs1 (Nat.le_of_ble_eq_true rfl) hl.1 (Nat.le_of_ble_eq_true rfl) dX0_row_1 (fun H locs h => ?_)
  refine lv_if_eq (tgt := 25) C.x C.b dX0_row_4 (by decide) (fun c9 => ?_) (fun c9 => ?_)
  · exact absurd c9 hs2
  refine lv_iload_n C.x C.b dX0_row_7 rfl (lv_at hl 2 rfl) ?_
  refine lv_i2l C.x C.b dX0_row_8 rfl ?_
  refine lv_lconst (v := 0) C.x C.b dX0_row_9 (by decide) ?_
  refine lv_ldc2 (v := 3) C.x C.b C.own (C.ts _ q1184) dX0_row_10 ?_
  refine cX_isIn C h hs3 (Nat.le_of_ble_eq_true rfl) hl.1 (Nat.le_of_ble_eq_true rfl) dX0_row_13 (fun H locs h => ?_)
  refine lv_if_eq (tgt := 25) C.x C.b dX0_row_16 (by decide) (fun c9 => ?_) (fun c9 => ?_)
  · exact absurd c9 hs4
  refine lv_iload_n C.x C.b dX0_row_19 rfl (lv_at hl 3 rfl) ?_
  refine lv_bipush (v := 60) C.x C.b dX0_row_20 (by decide) ?_
  refine lv_icmp_le (tgt := 28) C.x C.b dX0_row_22 (by decide) (fun c9 => ?_) (fun c9 => ?_)
  rotate_left
  · exact absurd hs5 c9
  refine lv_aload_n C.x C.b dX0_row_28 rfl (lv_at hl 0 rfl) ?_
  refine x_g30 C h dX0_row_29 ?_
  refine lv_iload_n C.x C.b dX0_row_32 rfl (lv_at hl 1 rfl) ?_
  refine x_a30 C h hs6 dX0_row_33 ?_
  refine lv_iload_n C.x C.b dX0_row_34 rfl (lv_at hl 2 rfl) ?_
  refine lv_iload_n C.x C.b dX0_row_35 rfl (lv_at hl 3 rfl) ?_
  obtain ⟨rest, hp⟩ := slot_perm0 (ty := ty) (ad := ad) (τ := τ) (B := wX ty o ad σ) (rs := rs) (in_lt hs6)
  have h2 := h.perm hp
  have h2 : Hw D A s H locs ((rowC ty ad τ v1.toNatClampNeg ++ rest) ++ [(ad (50 + v1.toNatClampNeg), .inr (6, [rowV ad τ v1.toNatClampNeg]))]) := h2.perm (by unfold slW; exact (List.perm_append_comm (l₁ := ([(ad (50 + v1.toNatClampNeg), .inr (6, [rowV ad τ v1.toNatClampNeg]))] : va_W))))
  subst hw
  refine KVx.callV (As := [.int 3, .int v3]) C (fun A => kS_make_l l hn hN (cb_long hN6)) tS_make ⟨rfl, by decide, by decide, by show _ = some 2; decide +kernel⟩ 0 6 rfl rfl rfl (Nat.le_of_ble_eq_true rfl) (by decide) (by omega) (by omega) h2 hl.1 rfl (Nat.le_of_ble_eq_true rfl) dX0_row_36 (fun a H locs _ h => ?_)
  have h3 : Hw D A s H locs (slW ty (va_up ad (60 + v1.toNatClampNeg) a) (slMake τ v1.toNatClampNeg 3 v3) v1.toNatClampNeg ++ rest) := by
    rw [slW_l (slMake_w (in_lt hs6)), slMake_n, slMake_B, hN, va_upN (by omega : 50 + v1.toNatClampNeg ≠ 60 + v1.toNatClampNeg), va_upS]
    have h5 := h.perm (List.perm_append_comm (l₂ := ([(ad (50 + v1.toNatClampNeg), .inr (6, [.ref a])), (a, .inl (ty 3, N, .inr (.inl (fun _ => 0))))] : va_W)))
    rw [← List.append_assoc] at h5
    refine (show Hw D A s H locs _ from ?_)
    exact Hw.drop h5
  obtain ⟨rest2, hp1, hp2⟩ := slot_perm (B := wX ty o ad σ) (rs := rs) (ty := ty) (ad := ad) (τ := τ) (ad' := va_up ad (60 + v1.toNatClampNeg) a) (τ' := slMake τ v1.toNatClampNeg 3 v3) (in_lt hs6) (sl30_up (in_lt hs6)) (fun i hi hne => slMake_off hi (in_lt hs6) hne)
  have h4 := Hw.perm hp2 (h3.perm (List.Perm.append_left _ (List.perm_append_left_iff _ |>.mp (hp.symm.trans hp1))))
  rw [← wX_up (a := a) (in_lt hs6)] at h4
  refine lv_iconst (v := 0) C.x C.b dX0_row_39 (by decide) ?_
  refine W.widen (k := 1) (n := N) (by omega) (by omega) ?_
  exact hR _ a _ _ _ _ rfl h4 rfl dX0_row_40
set_option maxHeartbeats 4000000 in
theorem kX_row_neg_l (l : Launch) {D : va_G} {ty : Nat → ClassId} {A : Nat → Prop} {o : Nat} {ad : Nat → Nat} {rs : va_W} {σ τ : PS} {v1 v2 v3 : Int32} (hl9 : l.stackTraces = false) {q1 q2 : Int32} (hs1 : X_isSlot v1 = some q1) (hs2 : ¬ q1 = 0) (hs3 : X_isIn v2.toInt64 0 3 = some q2) (hs4 : ¬ q2 = 0) (hs5 : v3 ≤ 60) (hs6 : vp_in v1 4) (hw : v2 = 3) (hn : v3 < 0) : KIg l yX0_row cX0_row 5 .int [(28, 40, 41, 496)] 301 3 1010 D ty A (wX ty o ad σ ++ (wS ty ad τ ++ rs)) [.ref o, .int v1, .int v2, .int v3] (fun r (_ : Unit) => r = -3) (fun _ => (wX ty o ad σ ++ (wS ty ad τ ++ rs))) := by
  refine KIg.of (by decide) (Nat.le_of_ble_eq_true rfl) ?_
  intro p e R s m args below meth c Q C hlk htab hmc hms hR H locs ls h hl
  have C : Cx p R s m args c cX0_row 5 RX0 D ty A 301 := C
  have hl : lv_has ls 5 [(0, .ref o), (1, .int v1), (2, .int v2), (3, .int v3)] := hl
  refine lv_iload_n C.x C.b dX0_row_0 rfl (lv_at hl 1 rfl) ?_
  refine cX_isSlot C h hs1 (Nat.le_of_ble_eq_true rfl) hl.1 (Nat.le_of_ble_eq_true rfl) dX0_row_1 (fun H locs h => ?_)
  refine lv_if_eq (tgt := 25) C.x C.b dX0_row_4 (by decide) (fun c9 => ?_) (fun c9 => ?_)
  · exact absurd c9 hs2
  refine lv_iload_n C.x C.b dX0_row_7 rfl (lv_at hl 2 rfl) ?_
  refine lv_i2l C.x C.b dX0_row_8 rfl ?_
  refine lv_lconst (v := 0) C.x C.b dX0_row_9 (by decide) ?_
  refine lv_ldc2 (v := 3) C.x C.b C.own (C.ts _ q1184) dX0_row_10 ?_
  refine cX_isIn C h hs3 (Nat.le_of_ble_eq_true rfl) hl.1 (Nat.le_of_ble_eq_true rfl) dX0_row_13 (fun H locs h => ?_)
  refine lv_if_eq (tgt := 25) C.x C.b dX0_row_16 (by decide) (fun c9 => ?_) (fun c9 => ?_)
  · exact absurd c9 hs4
  refine lv_iload_n C.x C.b dX0_row_19 rfl (lv_at hl 3 rfl) ?_
  refine lv_bipush (v := 60) C.x C.b dX0_row_20 (by decide) ?_
  refine lv_icmp_le (tgt := 28) C.x C.b dX0_row_22 (by decide) (fun c9 => ?_) (fun c9 => ?_)
  rotate_left
  · exact absurd hs5 c9
  refine lv_aload_n C.x C.b dX0_row_28 rfl (lv_at hl 0 rfl) ?_
  refine x_g30 C h dX0_row_29 ?_
  refine lv_iload_n C.x C.b dX0_row_32 rfl (lv_at hl 1 rfl) ?_
  refine x_a30 C h hs6 dX0_row_33 ?_
  refine lv_iload_n C.x C.b dX0_row_34 rfl (lv_at hl 2 rfl) ?_
  refine lv_iload_n C.x C.b dX0_row_35 rfl (lv_at hl 3 rfl) ?_
  obtain ⟨rest, hp⟩ := slot_perm0 (ty := ty) (ad := ad) (τ := τ) (B := wX ty o ad σ) (rs := rs) (in_lt hs6)
  have h2 := h.perm hp
  subst hw
  refine KTv.callV (As := [.int 3, .int v3]) C (kS_makeZ_l l hl9 hn) tS_make ⟨rfl, by decide, by decide, by show _ = some 2; decide +kernel⟩ 0 6 rfl rfl rfl (Nat.le_refl _) (by decide) (by omega) (by omega) h2 hl.1 rfl (Nat.le_of_ble_eq_true rfl) dX0_row_36 (fun H locs q9 ce h4 h1 h2 h3 => ?_)
  have h := Hw.perm hp.symm h4
  refine vx_catch (name := "java/lang/NegativeArraySizeException") (E := "java/lang/NegativeArraySizeException") C.own [] { startPc := 28, endPc := 40, handlerPc := 41, catchType := 496 } [] (by rw [htab]; rfl) (fun z hz => absurd hz List.not_mem_nil) (by decide) (by decide) (C.ts _ q1453) (C.nw q1473 rfl) h1 h2 h3 ?_
  refine lv_astore (lv' := [(4, .ref q9), (0, .ref o), (1, .int v1), (2, .int 3), (3, .int v3)]) C.x C.b dX0_row_41 hl (by decide) rfl (fun ls hl => ?_)
  refine lv_bipush (v := (-3)) C.x C.b dX0_row_43 (by decide) ?_
  exact hR _ () _ _ _ _ rfl h rfl dX0_row_45
set_option maxHeartbeats 4000000 in
theorem kX_write_0 (l : Launch) {D : va_G} {ty : Nat → ClassId} {A : Nat → Prop} {o : Nat} {ad : Nat → Nat} {rs : va_W} {σ τ : PS} {v1 v2 : Int32} {v3 : Int64} (hl9 : l.stackTraces = false) {q1 : Int32} (hs1 : X_isSlot v1 = some q1) (hs2 : q1 = 0) : KIg l yX0_write cX0_write 6 .int [(10, 22, 23, 369), (10, 22, 28, 502)] 20 0 0 D ty A (wX ty o ad σ ++ (wS ty ad τ ++ rs)) [.ref o, .int v1, .int v2, .long v3] (fun r (_ : Unit) => r = -2) (fun _ => (wX ty o ad σ ++ (wS ty ad τ ++ rs))) := by
  refine KIg.of (by decide) (Nat.le_of_ble_eq_true rfl) ?_
  intro p e R s m args below meth c Q C hlk htab hmc hms hR H locs ls h hl
  have C : Cx p R s m args c cX0_write 6 RX0 D ty A 20 := C
  have hl : lv_has ls 6 [(0, .ref o), (1, .int v1), (2, .int v2), (3, .long v3)] := hl
  refine lv_iload_n C.x C.b dX0_write_0 rfl (lv_at hl 1 rfl) ?_
  refine cX_isSlot C h hs1 (Nat.le_of_ble_eq_true rfl) hl.1 (Nat.le_of_ble_eq_true rfl) dX0_write_1 (fun H locs h => ?_)
  refine lv_if_ne (tgt := 10) C.x C.b dX0_write_4 (by decide) (fun c9 => ?_) (fun c9 => ?_)
  · exact absurd hs2 c9
  refine lv_bipush (v := (-2)) C.x C.b dX0_write_7 (by decide) ?_
  exact hR _ () _ _ _ _ rfl h rfl dX0_write_9
set_option maxHeartbeats 4000000 in
theorem kX_write_N (l : Launch) {D : va_G} {ty : Nat → ClassId} {A : Nat → Prop} {o : Nat} {ad : Nat → Nat} {rs : va_W} {σ τ : PS} {v1 v2 : Int32} {v3 : Int64} (hl9 : l.stackTraces = false) {q1 : Int32} (hs1 : X_isSlot v1 = some q1) (hs2 : ¬ q1 = 0) (hs6 : vp_in v1 4) (hw : ¬ slSome τ v1.toNatClampNeg) : KIg l yX0_write cX0_write 6 .int [(10, 22, 23, 369), (10, 22, 28, 502)] 301 1 8 D ty A (wX ty o ad σ ++ (wS ty ad τ ++ rs)) [.ref o, .int v1, .int v2, .long v3] (fun r (_ : Unit) => r = -6) (fun _ => (wX ty o ad σ ++ (wS ty ad τ ++ rs))) := by
  refine KIg.of (by decide) (Nat.le_of_ble_eq_true rfl) ?_
  intro p e R s m args below meth c Q C hlk htab hmc hms hR H locs ls h hl
  have C : Cx p R s m args c cX0_write 6 RX0 D ty A 301 := C
  have hl : lv_has ls 6 [(0, .ref o), (1, .int v1), (2, .int v2), (3, .long v3)] := hl
  refine lv_iload_n C.x C.b dX0_write_0 rfl (lv_at hl 1 rfl) ?_
  refine cX_isSlot C h hs1 (Nat.le_of_ble_eq_true rfl) hl.1 (Nat.le_of_ble_eq_true rfl) dX0_write_1 (fun H locs h => ?_)
  refine lv_if_ne (tgt := 10) C.x C.b dX0_write_4 (by decide) (fun c9 => ?_) (fun c9 => ?_)
  rotate_left
  · exact absurd c9 hs2
  refine lv_aload_n C.x C.b dX0_write_10 rfl (lv_at hl 0 rfl) ?_
  refine x_g30 C h dX0_write_11 ?_
  refine lv_iload_n C.x C.b dX0_write_14 rfl (lv_at hl 1 rfl) ?_
  refine x_a30 C h hs6 dX0_write_15 ?_
  refine lv_iload_n C.x C.b dX0_write_16 rfl (lv_at hl 2 rfl) ?_
  refine lv_lload_n C.x C.b dX0_write_17 rfl (lv_at hl 3 rfl) ?_
  obtain ⟨rest, hp⟩ := slot_perm0 (ty := ty) (ad := ad) (τ := τ) (B := wX ty o ad σ) (rs := rs) (in_lt hs6)
  have h2 := h.perm hp
  rw [slW_N hw] at h2
  refine KTv.callV (As := [.int v2, .long v3]) C (kS_put_N (a := 0) l hl9) tS_put ⟨rfl, by decide, by decide, by show _ = some 2; decide +kernel⟩ 0 6 rfl rfl rfl (Nat.le_refl _) (by decide) (by omega) (by omega) h2 hl.1 rfl (Nat.le_of_ble_eq_true rfl) dX0_write_18 (fun H locs q9 ce h4 h1 h2 h3 => ?_)
  have h := Hw.perm hp.symm (by rw [slW_N hw]; exact h4)
  refine vx_catch (name := "java/lang/NullPointerException") (E := "java/lang/NullPointerException") C.own [] { startPc := 10, endPc := 22, handlerPc := 23, catchType := 369 } [{ startPc := 10, endPc := 22, handlerPc := 28, catchType := 502 }] (by rw [htab]; rfl) (fun z hz => absurd hz List.not_mem_nil) (by decide) (by decide) (C.ts _ q1154) (C.nw q1176 rfl) h1 h2 h3 ?_
  refine lv_astore (lv' := [(5, .ref q9), (0, .ref o), (1, .int v1), (2, .int v2), (3, .long v3)]) C.x C.b dX0_write_23 hl (by decide) rfl (fun ls hl => ?_)
  refine lv_bipush (v := (-6)) C.x C.b dX0_write_25 (by decide) ?_
  exact hR _ () _ _ _ _ rfl h rfl dX0_write_27
set_option maxHeartbeats 4000000 in
theorem kX_write_ok_b (l : Launch) {D : va_G} {ty : Nat → ClassId} {A : Nat → Prop} {o : Nat} {ad : Nat → Nat} {rs : va_W} {σ τ : PS} {v1 v2 : Int32} {v3 : Int64} (hl9 : l.stackTraces = false) {q1 : Int32} (hs1 : X_isSlot v1 = some q1) (hs2 : ¬ q1 = 0) (hs6 : vp_in v1 4) (hw : gI τ v1.toNatClampNeg = 0) (hi : vp_in v2 (slN τ v1.toNatClampNeg)) : KIg l yX0_write cX0_write 6 .int [(10, 22, 23, 369), (10, 22, 28, 502)] 20 0 0 D ty A (wX ty o ad σ ++ (wS ty ad τ ++ rs)) [.ref o, .int v1, .int v2, .long v3] (fun r (_ : Unit) => r = 0) (fun _ => wX ty o ad σ ++ (wS ty ad (slSet τ v1.toNatClampNeg (upd (gA τ v1.toNatClampNeg) v2.toNatClampNeg (vp_nar .byte v3.toInt32.toInt8.toInt32)) (gB τ v1.toNatClampNeg)) ++ rs)) := by
  refine KIg.of (by decide) (Nat.le_of_ble_eq_true rfl) ?_
  intro p e R s m args below meth c Q C hlk htab hmc hms hR H locs ls h hl
  have C : Cx p R s m args c cX0_write 6 RX0 D ty A 20 := C
  have hl : lv_has ls 6 [(0, .ref o), (1, .int v1), (2, .int v2), (3, .long v3)] := hl
  refine lv_iload_n C.x C.b dX0_write_0 rfl (lv_at hl 1 rfl) ?_
  refine cX_isSlot C h hs1 (Nat.le_of_ble_eq_true rfl) hl.1 (Nat.le_of_ble_eq_true rfl) dX0_write_1 (fun H locs h => ?_)
  refine lv_if_ne (tgt := 10) C.x C.b dX0_write_4 (by decide) (fun c9 => ?_) (fun c9 => ?_)
  rotate_left
  · exact absurd c9 hs2
  refine lv_aload_n C.x C.b dX0_write_10 rfl (lv_at hl 0 rfl) ?_
  refine x_g30 C h dX0_write_11 ?_
  refine lv_iload_n C.x C.b dX0_write_14 rfl (lv_at hl 1 rfl) ?_
  refine x_a30 C h hs6 dX0_write_15 ?_
  refine lv_iload_n C.x C.b dX0_write_16 rfl (lv_at hl 2 rfl) ?_
  refine lv_lload_n C.x C.b dX0_write_17 rfl (lv_at hl 3 rfl) ?_
  obtain ⟨rest, hp, hp2⟩ := slot_perm (B := wX ty o ad σ) (rs := rs) (ty := ty) (ad := ad) (τ := τ) (ad' := ad) (τ' := (slSet τ v1.toNatClampNeg (upd (gA τ v1.toNatClampNeg) v2.toNatClampNeg (vp_nar .byte v3.toInt32.toInt8.toInt32)) (gB τ v1.toNatClampNeg))) (in_lt hs6) rfl (fun i hi hne => slSet_off hne)
  have h2 := h.perm hp
  rw [slW_b hw] at h2
  refine KV.callV (As := [.int v2, .long v3]) C (kS_put_b l hi) tS_put ⟨rfl, by decide, by decide, by show _ = some 2; decide +kernel⟩ 0 6 rfl rfl rfl (Nat.le_of_ble_eq_true rfl) (by decide) (Nat.zero_le _) (Nat.zero_le _) h2 hl.1 rfl (Nat.le_of_ble_eq_true rfl) dX0_write_18 (fun H locs h4 => ?_)
  have h := Hw.perm hp2 (by rw [slW_b (show gI (slSet τ v1.toNatClampNeg (upd (gA τ v1.toNatClampNeg) v2.toNatClampNeg (vp_nar .byte v3.toInt32.toInt8.toInt32)) (gB τ v1.toNatClampNeg)) v1.toNatClampNeg = 0 from hw), show slN (slSet τ v1.toNatClampNeg (upd (gA τ v1.toNatClampNeg) v2.toNatClampNeg (vp_nar .byte v3.toInt32.toInt8.toInt32)) (gB τ v1.toNatClampNeg)) v1.toNatClampNeg = slN τ v1.toNatClampNeg from rfl, show gA (slSet τ v1.toNatClampNeg (upd (gA τ v1.toNatClampNeg) v2.toNatClampNeg (vp_nar .byte v3.toInt32.toInt8.toInt32)) (gB τ v1.toNatClampNeg)) v1.toNatClampNeg = _ from va_upS]; exact h4)
  refine lv_iconst (v := 0) C.x C.b dX0_write_21 (by decide) ?_
  exact hR _ () _ _ _ _ rfl h rfl dX0_write_22
set_option maxHeartbeats 4000000 in
theorem kX_write_Z_b (l : Launch) {D : va_G} {ty : Nat → ClassId} {A : Nat → Prop} {o : Nat} {ad : Nat → Nat} {rs : va_W} {σ τ : PS} {v1 v2 : Int32} {v3 : Int64} (hl9 : l.stackTraces = false) {q1 : Int32} (hs1 : X_isSlot v1 = some q1) (hs2 : ¬ q1 = 0) (hs6 : vp_in v1 4) (hw : gI τ v1.toNatClampNeg = 0) (hi : ¬ vp_in v2 (slN τ v1.toNatClampNeg)) : KIg l yX0_write cX0_write 6 .int [(10, 22, 23, 369), (10, 22, 28, 502)] 301 3 1010 D ty A (wX ty o ad σ ++ (wS ty ad τ ++ rs)) [.ref o, .int v1, .int v2, .long v3] (fun r (_ : Unit) => r = -7) (fun _ => (wX ty o ad σ ++ (wS ty ad τ ++ rs))) := by
  refine KIg.of (by decide) (Nat.le_of_ble_eq_true rfl) ?_
  intro p e R s m args below meth c Q C hlk htab hmc hms hR H locs ls h hl
  have C : Cx p R s m args c cX0_write 6 RX0 D ty A 301 := C
  have hl : lv_has ls 6 [(0, .ref o), (1, .int v1), (2, .int v2), (3, .long v3)] := hl
  refine lv_iload_n C.x C.b dX0_write_0 rfl (lv_at hl 1 rfl) ?_
  refine cX_isSlot C h hs1 (Nat.le_of_ble_eq_true rfl) hl.1 (Nat.le_of_ble_eq_true rfl) dX0_write_1 (fun H locs h => ?_)
  refine lv_if_ne (tgt := 10) C.x C.b dX0_write_4 (by decide) (fun c9 => ?_) (fun c9 => ?_)
  rotate_left
  · exact absurd c9 hs2
  refine lv_aload_n C.x C.b dX0_write_10 rfl (lv_at hl 0 rfl) ?_
  refine x_g30 C h dX0_write_11 ?_
  refine lv_iload_n C.x C.b dX0_write_14 rfl (lv_at hl 1 rfl) ?_
  refine x_a30 C h hs6 dX0_write_15 ?_
  refine lv_iload_n C.x C.b dX0_write_16 rfl (lv_at hl 2 rfl) ?_
  refine lv_lload_n C.x C.b dX0_write_17 rfl (lv_at hl 3 rfl) ?_
  obtain ⟨rest, hp⟩ := slot_perm0 (ty := ty) (ad := ad) (τ := τ) (B := wX ty o ad σ) (rs := rs) (in_lt hs6)
  have h2 := h.perm hp
  rw [slW_b hw] at h2
  refine KTv.callV (As := [.int v2, .long v3]) C (kS_putZ_b l hl9 (slN_lt τ _) hi) tS_put ⟨rfl, by decide, by decide, by show _ = some 2; decide +kernel⟩ 0 6 rfl rfl rfl (Nat.le_refl _) (by decide) (by omega) (by omega) h2 hl.1 rfl (Nat.le_of_ble_eq_true rfl) dX0_write_18 (fun H locs q9 ce h4 h1 h2 h3 => ?_)
  have h := Hw.perm hp.symm (by rw [slW_b hw]; exact h4)
  refine vx_catch (name := "java/lang/ArrayIndexOutOfBoundsException") (E := "java/lang/ArrayIndexOutOfBoundsException") C.own [{ startPc := 10, endPc := 22, handlerPc := 23, catchType := 369 }] { startPc := 10, endPc := 22, handlerPc := 28, catchType := 502 } [] (by rw [htab]; rfl) (List.forall_mem_cons.mpr ⟨Or.inr ⟨by decide, "java/lang/NullPointerException", C.ts _ q1154, C.E.1 ("java/lang/ArrayIndexOutOfBoundsException", "java/lang/NullPointerException") (by decide)⟩, fun z hz => absurd hz List.not_mem_nil⟩) (by decide) (by decide) (C.ts _ q1490) (C.nw q1505 rfl) h1 h2 h3 ?_
  refine lv_astore (lv' := [(5, .ref q9), (0, .ref o), (1, .int v1), (2, .int v2), (3, .long v3)]) C.x C.b dX0_write_28 hl (by decide) rfl (fun ls hl => ?_)
  refine lv_bipush (v := (-7)) C.x C.b dX0_write_30 (by decide) ?_
  exact hR _ () _ _ _ _ rfl h rfl dX0_write_32
set_option maxHeartbeats 4000000 in
theorem kX_write_ok_s (l : Launch) {D : va_G} {ty : Nat → ClassId} {A : Nat → Prop} {o : Nat} {ad : Nat → Nat} {rs : va_W} {σ τ : PS} {v1 v2 : Int32} {v3 : Int64} (hl9 : l.stackTraces = false) {q1 : Int32} (hs1 : X_isSlot v1 = some q1) (hs2 : ¬ q1 = 0) (hs6 : vp_in v1 4) (hw : gI τ v1.toNatClampNeg = 1) (hi : vp_in v2 (slN τ v1.toNatClampNeg)) : KIg l yX0_write cX0_write 6 .int [(10, 22, 23, 369), (10, 22, 28, 502)] 20 0 0 D ty A (wX ty o ad σ ++ (wS ty ad τ ++ rs)) [.ref o, .int v1, .int v2, .long v3] (fun r (_ : Unit) => r = 0) (fun _ => wX ty o ad σ ++ (wS ty ad (slSet τ v1.toNatClampNeg (upd (gA τ v1.toNatClampNeg) v2.toNatClampNeg (vp_nar .short v3.toInt32.toInt16.toInt32)) (gB τ v1.toNatClampNeg)) ++ rs)) := by
  refine KIg.of (by decide) (Nat.le_of_ble_eq_true rfl) ?_
  intro p e R s m args below meth c Q C hlk htab hmc hms hR H locs ls h hl
  have C : Cx p R s m args c cX0_write 6 RX0 D ty A 20 := C
  have hl : lv_has ls 6 [(0, .ref o), (1, .int v1), (2, .int v2), (3, .long v3)] := hl
  refine lv_iload_n C.x C.b dX0_write_0 rfl (lv_at hl 1 rfl) ?_
  refine cX_isSlot C h hs1 (Nat.le_of_ble_eq_true rfl) hl.1 (Nat.le_of_ble_eq_true rfl) dX0_write_1 (fun H locs h => ?_)
  refine lv_if_ne (tgt := 10) C.x C.b dX0_write_4 (by decide) (fun c9 => ?_) (fun c9 => ?_)
  rotate_left
  · exact absurd c9 hs2
  refine lv_aload_n C.x C.b dX0_write_10 rfl (lv_at hl 0 rfl) ?_
  refine x_g30 C h dX0_write_11 ?_
  refine lv_iload_n C.x C.b dX0_write_14 rfl (lv_at hl 1 rfl) ?_
  refine x_a30 C h hs6 dX0_write_15 ?_
  refine lv_iload_n C.x C.b dX0_write_16 rfl (lv_at hl 2 rfl) ?_
  refine lv_lload_n C.x C.b dX0_write_17 rfl (lv_at hl 3 rfl) ?_
  obtain ⟨rest, hp, hp2⟩ := slot_perm (B := wX ty o ad σ) (rs := rs) (ty := ty) (ad := ad) (τ := τ) (ad' := ad) (τ' := (slSet τ v1.toNatClampNeg (upd (gA τ v1.toNatClampNeg) v2.toNatClampNeg (vp_nar .short v3.toInt32.toInt16.toInt32)) (gB τ v1.toNatClampNeg))) (in_lt hs6) rfl (fun i hi hne => slSet_off hne)
  have h2 := h.perm hp
  rw [slW_s hw] at h2
  refine KV.callV (As := [.int v2, .long v3]) C (kS_put_s l hi) tS_put ⟨rfl, by decide, by decide, by show _ = some 2; decide +kernel⟩ 0 6 rfl rfl rfl (Nat.le_of_ble_eq_true rfl) (by decide) (Nat.zero_le _) (Nat.zero_le _) h2 hl.1 rfl (Nat.le_of_ble_eq_true rfl) dX0_write_18 (fun H locs h4 => ?_)
  have h := Hw.perm hp2 (by rw [slW_s (show gI (slSet τ v1.toNatClampNeg (upd (gA τ v1.toNatClampNeg) v2.toNatClampNeg (vp_nar .short v3.toInt32.toInt16.toInt32)) (gB τ v1.toNatClampNeg)) v1.toNatClampNeg = 1 from hw), show slN (slSet τ v1.toNatClampNeg (upd (gA τ v1.toNatClampNeg) v2.toNatClampNeg (vp_nar .short v3.toInt32.toInt16.toInt32)) (gB τ v1.toNatClampNeg)) v1.toNatClampNeg = slN τ v1.toNatClampNeg from rfl, show gA (slSet τ v1.toNatClampNeg (upd (gA τ v1.toNatClampNeg) v2.toNatClampNeg (vp_nar .short v3.toInt32.toInt16.toInt32)) (gB τ v1.toNatClampNeg)) v1.toNatClampNeg = _ from va_upS]; exact h4)
  refine lv_iconst (v := 0) C.x C.b dX0_write_21 (by decide) ?_
  exact hR _ () _ _ _ _ rfl h rfl dX0_write_22
set_option maxHeartbeats 4000000 in
theorem kX_write_Z_s (l : Launch) {D : va_G} {ty : Nat → ClassId} {A : Nat → Prop} {o : Nat} {ad : Nat → Nat} {rs : va_W} {σ τ : PS} {v1 v2 : Int32} {v3 : Int64} (hl9 : l.stackTraces = false) {q1 : Int32} (hs1 : X_isSlot v1 = some q1) (hs2 : ¬ q1 = 0) (hs6 : vp_in v1 4) (hw : gI τ v1.toNatClampNeg = 1) (hi : ¬ vp_in v2 (slN τ v1.toNatClampNeg)) : KIg l yX0_write cX0_write 6 .int [(10, 22, 23, 369), (10, 22, 28, 502)] 301 3 1010 D ty A (wX ty o ad σ ++ (wS ty ad τ ++ rs)) [.ref o, .int v1, .int v2, .long v3] (fun r (_ : Unit) => r = -7) (fun _ => (wX ty o ad σ ++ (wS ty ad τ ++ rs))) := by
  refine KIg.of (by decide) (Nat.le_of_ble_eq_true rfl) ?_
  intro p e R s m args below meth c Q C hlk htab hmc hms hR H locs ls h hl
  have C : Cx p R s m args c cX0_write 6 RX0 D ty A 301 := C
  have hl : lv_has ls 6 [(0, .ref o), (1, .int v1), (2, .int v2), (3, .long v3)] := hl
  refine lv_iload_n C.x C.b dX0_write_0 rfl (lv_at hl 1 rfl) ?_
  refine cX_isSlot C h hs1 (Nat.le_of_ble_eq_true rfl) hl.1 (Nat.le_of_ble_eq_true rfl) dX0_write_1 (fun H locs h => ?_)
  refine lv_if_ne (tgt := 10) C.x C.b dX0_write_4 (by decide) (fun c9 => ?_) (fun c9 => ?_)
  rotate_left
  · exact absurd c9 hs2
  refine lv_aload_n C.x C.b dX0_write_10 rfl (lv_at hl 0 rfl) ?_
  refine x_g30 C h dX0_write_11 ?_
  refine lv_iload_n C.x C.b dX0_write_14 rfl (lv_at hl 1 rfl) ?_
  refine x_a30 C h hs6 dX0_write_15 ?_
  refine lv_iload_n C.x C.b dX0_write_16 rfl (lv_at hl 2 rfl) ?_
  refine lv_lload_n C.x C.b dX0_write_17 rfl (lv_at hl 3 rfl) ?_
  obtain ⟨rest, hp⟩ := slot_perm0 (ty := ty) (ad := ad) (τ := τ) (B := wX ty o ad σ) (rs := rs) (in_lt hs6)
  have h2 := h.perm hp
  rw [slW_s hw] at h2
  refine KTv.callV (As := [.int v2, .long v3]) C (kS_putZ_s l hl9 (slN_lt τ _) hi) tS_put ⟨rfl, by decide, by decide, by show _ = some 2; decide +kernel⟩ 0 6 rfl rfl rfl (Nat.le_refl _) (by decide) (by omega) (by omega) h2 hl.1 rfl (Nat.le_of_ble_eq_true rfl) dX0_write_18 (fun H locs q9 ce h4 h1 h2 h3 => ?_)
  have h := Hw.perm hp.symm (by rw [slW_s hw]; exact h4)
  refine vx_catch (name := "java/lang/ArrayIndexOutOfBoundsException") (E := "java/lang/ArrayIndexOutOfBoundsException") C.own [{ startPc := 10, endPc := 22, handlerPc := 23, catchType := 369 }] { startPc := 10, endPc := 22, handlerPc := 28, catchType := 502 } [] (by rw [htab]; rfl) (List.forall_mem_cons.mpr ⟨Or.inr ⟨by decide, "java/lang/NullPointerException", C.ts _ q1154, C.E.1 ("java/lang/ArrayIndexOutOfBoundsException", "java/lang/NullPointerException") (by decide)⟩, fun z hz => absurd hz List.not_mem_nil⟩) (by decide) (by decide) (C.ts _ q1490) (C.nw q1505 rfl) h1 h2 h3 ?_
  refine lv_astore (lv' := [(5, .ref q9), (0, .ref o), (1, .int v1), (2, .int v2), (3, .long v3)]) C.x C.b dX0_write_28 hl (by decide) rfl (fun ls hl => ?_)
  refine lv_bipush (v := (-7)) C.x C.b dX0_write_30 (by decide) ?_
  exact hR _ () _ _ _ _ rfl h rfl dX0_write_32
set_option maxHeartbeats 4000000 in
theorem kX_write_ok_i (l : Launch) {D : va_G} {ty : Nat → ClassId} {A : Nat → Prop} {o : Nat} {ad : Nat → Nat} {rs : va_W} {σ τ : PS} {v1 v2 : Int32} {v3 : Int64} (hl9 : l.stackTraces = false) {q1 : Int32} (hs1 : X_isSlot v1 = some q1) (hs2 : ¬ q1 = 0) (hs6 : vp_in v1 4) (hw : gI τ v1.toNatClampNeg = 2) (hi : vp_in v2 (slN τ v1.toNatClampNeg)) : KIg l yX0_write cX0_write 6 .int [(10, 22, 23, 369), (10, 22, 28, 502)] 20 0 0 D ty A (wX ty o ad σ ++ (wS ty ad τ ++ rs)) [.ref o, .int v1, .int v2, .long v3] (fun r (_ : Unit) => r = 0) (fun _ => wX ty o ad σ ++ (wS ty ad (slSet τ v1.toNatClampNeg (upd (gA τ v1.toNatClampNeg) v2.toNatClampNeg (v3.toInt32)) (gB τ v1.toNatClampNeg)) ++ rs)) := by
  refine KIg.of (by decide) (Nat.le_of_ble_eq_true rfl) ?_
  intro p e R s m args below meth c Q C hlk htab hmc hms hR H locs ls h hl
  have C : Cx p R s m args c cX0_write 6 RX0 D ty A 20 := C
  have hl : lv_has ls 6 [(0, .ref o), (1, .int v1), (2, .int v2), (3, .long v3)] := hl
  refine lv_iload_n C.x C.b dX0_write_0 rfl (lv_at hl 1 rfl) ?_
  refine cX_isSlot C h hs1 (Nat.le_of_ble_eq_true rfl) hl.1 (Nat.le_of_ble_eq_true rfl) dX0_write_1 (fun H locs h => ?_)
  refine lv_if_ne (tgt := 10) C.x C.b dX0_write_4 (by decide) (fun c9 => ?_) (fun c9 => ?_)
  rotate_left
  · exact absurd c9 hs2
  refine lv_aload_n C.x C.b dX0_write_10 rfl (lv_at hl 0 rfl) ?_
  refine x_g30 C h dX0_write_11 ?_
  refine lv_iload_n C.x C.b dX0_write_14 rfl (lv_at hl 1 rfl) ?_
  refine x_a30 C h hs6 dX0_write_15 ?_
  refine lv_iload_n C.x C.b dX0_write_16 rfl (lv_at hl 2 rfl) ?_
  refine lv_lload_n C.x C.b dX0_write_17 rfl (lv_at hl 3 rfl) ?_
  obtain ⟨rest, hp, hp2⟩ := slot_perm (B := wX ty o ad σ) (rs := rs) (ty := ty) (ad := ad) (τ := τ) (ad' := ad) (τ' := (slSet τ v1.toNatClampNeg (upd (gA τ v1.toNatClampNeg) v2.toNatClampNeg (v3.toInt32)) (gB τ v1.toNatClampNeg))) (in_lt hs6) rfl (fun i hi hne => slSet_off hne)
  have h2 := h.perm hp
  rw [slW_i hw] at h2
  refine KV.callV (As := [.int v2, .long v3]) C (kS_put_i l hi) tS_put ⟨rfl, by decide, by decide, by show _ = some 2; decide +kernel⟩ 0 6 rfl rfl rfl (Nat.le_of_ble_eq_true rfl) (by decide) (Nat.zero_le _) (Nat.zero_le _) h2 hl.1 rfl (Nat.le_of_ble_eq_true rfl) dX0_write_18 (fun H locs h4 => ?_)
  have h := Hw.perm hp2 (by rw [slW_i (show gI (slSet τ v1.toNatClampNeg (upd (gA τ v1.toNatClampNeg) v2.toNatClampNeg (v3.toInt32)) (gB τ v1.toNatClampNeg)) v1.toNatClampNeg = 2 from hw), show slN (slSet τ v1.toNatClampNeg (upd (gA τ v1.toNatClampNeg) v2.toNatClampNeg (v3.toInt32)) (gB τ v1.toNatClampNeg)) v1.toNatClampNeg = slN τ v1.toNatClampNeg from rfl, show gA (slSet τ v1.toNatClampNeg (upd (gA τ v1.toNatClampNeg) v2.toNatClampNeg (v3.toInt32)) (gB τ v1.toNatClampNeg)) v1.toNatClampNeg = _ from va_upS]; exact h4)
  refine lv_iconst (v := 0) C.x C.b dX0_write_21 (by decide) ?_
  exact hR _ () _ _ _ _ rfl h rfl dX0_write_22
set_option maxHeartbeats 4000000 in
theorem kX_write_Z_i (l : Launch) {D : va_G} {ty : Nat → ClassId} {A : Nat → Prop} {o : Nat} {ad : Nat → Nat} {rs : va_W} {σ τ : PS} {v1 v2 : Int32} {v3 : Int64} (hl9 : l.stackTraces = false) {q1 : Int32} (hs1 : X_isSlot v1 = some q1) (hs2 : ¬ q1 = 0) (hs6 : vp_in v1 4) (hw : gI τ v1.toNatClampNeg = 2) (hi : ¬ vp_in v2 (slN τ v1.toNatClampNeg)) : KIg l yX0_write cX0_write 6 .int [(10, 22, 23, 369), (10, 22, 28, 502)] 301 3 1010 D ty A (wX ty o ad σ ++ (wS ty ad τ ++ rs)) [.ref o, .int v1, .int v2, .long v3] (fun r (_ : Unit) => r = -7) (fun _ => (wX ty o ad σ ++ (wS ty ad τ ++ rs))) := by
  refine KIg.of (by decide) (Nat.le_of_ble_eq_true rfl) ?_
  intro p e R s m args below meth c Q C hlk htab hmc hms hR H locs ls h hl
  have C : Cx p R s m args c cX0_write 6 RX0 D ty A 301 := C
  have hl : lv_has ls 6 [(0, .ref o), (1, .int v1), (2, .int v2), (3, .long v3)] := hl
  refine lv_iload_n C.x C.b dX0_write_0 rfl (lv_at hl 1 rfl) ?_
  refine cX_isSlot C h hs1 (Nat.le_of_ble_eq_true rfl) hl.1 (Nat.le_of_ble_eq_true rfl) dX0_write_1 (fun H locs h => ?_)
  refine lv_if_ne (tgt := 10) C.x C.b dX0_write_4 (by decide) (fun c9 => ?_) (fun c9 => ?_)
  rotate_left
  · exact absurd c9 hs2
  refine lv_aload_n C.x C.b dX0_write_10 rfl (lv_at hl 0 rfl) ?_
  refine x_g30 C h dX0_write_11 ?_
  refine lv_iload_n C.x C.b dX0_write_14 rfl (lv_at hl 1 rfl) ?_
  refine x_a30 C h hs6 dX0_write_15 ?_
  refine lv_iload_n C.x C.b dX0_write_16 rfl (lv_at hl 2 rfl) ?_
  refine lv_lload_n C.x C.b dX0_write_17 rfl (lv_at hl 3 rfl) ?_
  obtain ⟨rest, hp⟩ := slot_perm0 (ty := ty) (ad := ad) (τ := τ) (B := wX ty o ad σ) (rs := rs) (in_lt hs6)
  have h2 := h.perm hp
  rw [slW_i hw] at h2
  refine KTv.callV (As := [.int v2, .long v3]) C (kS_putZ_i l hl9 (slN_lt τ _) hi) tS_put ⟨rfl, by decide, by decide, by show _ = some 2; decide +kernel⟩ 0 6 rfl rfl rfl (Nat.le_refl _) (by decide) (by omega) (by omega) h2 hl.1 rfl (Nat.le_of_ble_eq_true rfl) dX0_write_18 (fun H locs q9 ce h4 h1 h2 h3 => ?_)
  have h := Hw.perm hp.symm (by rw [slW_i hw]; exact h4)
  refine vx_catch (name := "java/lang/ArrayIndexOutOfBoundsException") (E := "java/lang/ArrayIndexOutOfBoundsException") C.own [{ startPc := 10, endPc := 22, handlerPc := 23, catchType := 369 }] { startPc := 10, endPc := 22, handlerPc := 28, catchType := 502 } [] (by rw [htab]; rfl) (List.forall_mem_cons.mpr ⟨Or.inr ⟨by decide, "java/lang/NullPointerException", C.ts _ q1154, C.E.1 ("java/lang/ArrayIndexOutOfBoundsException", "java/lang/NullPointerException") (by decide)⟩, fun z hz => absurd hz List.not_mem_nil⟩) (by decide) (by decide) (C.ts _ q1490) (C.nw q1505 rfl) h1 h2 h3 ?_
  refine lv_astore (lv' := [(5, .ref q9), (0, .ref o), (1, .int v1), (2, .int v2), (3, .long v3)]) C.x C.b dX0_write_28 hl (by decide) rfl (fun ls hl => ?_)
  refine lv_bipush (v := (-7)) C.x C.b dX0_write_30 (by decide) ?_
  exact hR _ () _ _ _ _ rfl h rfl dX0_write_32
set_option maxHeartbeats 4000000 in
theorem kX_write_ok_l (l : Launch) {D : va_G} {ty : Nat → ClassId} {A : Nat → Prop} {o : Nat} {ad : Nat → Nat} {rs : va_W} {σ τ : PS} {v1 v2 : Int32} {v3 : Int64} (hl9 : l.stackTraces = false) {q1 : Int32} (hs1 : X_isSlot v1 = some q1) (hs2 : ¬ q1 = 0) (hs6 : vp_in v1 4) (hw : gI τ v1.toNatClampNeg = 3) (hi : vp_in v2 (slN τ v1.toNatClampNeg)) : KIg l yX0_write cX0_write 6 .int [(10, 22, 23, 369), (10, 22, 28, 502)] 20 0 0 D ty A (wX ty o ad σ ++ (wS ty ad τ ++ rs)) [.ref o, .int v1, .int v2, .long v3] (fun r (_ : Unit) => r = 0) (fun _ => wX ty o ad σ ++ (wS ty ad (slSet τ v1.toNatClampNeg (gA τ v1.toNatClampNeg) (vp_updL (gB τ v1.toNatClampNeg) v2.toNatClampNeg v3)) ++ rs)) := by
  refine KIg.of (by decide) (Nat.le_of_ble_eq_true rfl) ?_
  intro p e R s m args below meth c Q C hlk htab hmc hms hR H locs ls h hl
  have C : Cx p R s m args c cX0_write 6 RX0 D ty A 20 := C
  have hl : lv_has ls 6 [(0, .ref o), (1, .int v1), (2, .int v2), (3, .long v3)] := hl
  refine lv_iload_n C.x C.b dX0_write_0 rfl (lv_at hl 1 rfl) ?_
  refine cX_isSlot C h hs1 (Nat.le_of_ble_eq_true rfl) hl.1 (Nat.le_of_ble_eq_true rfl) dX0_write_1 (fun H locs h => ?_)
  refine lv_if_ne (tgt := 10) C.x C.b dX0_write_4 (by decide) (fun c9 => ?_) (fun c9 => ?_)
  rotate_left
  · exact absurd c9 hs2
  refine lv_aload_n C.x C.b dX0_write_10 rfl (lv_at hl 0 rfl) ?_
  refine x_g30 C h dX0_write_11 ?_
  refine lv_iload_n C.x C.b dX0_write_14 rfl (lv_at hl 1 rfl) ?_
  refine x_a30 C h hs6 dX0_write_15 ?_
  refine lv_iload_n C.x C.b dX0_write_16 rfl (lv_at hl 2 rfl) ?_
  refine lv_lload_n C.x C.b dX0_write_17 rfl (lv_at hl 3 rfl) ?_
  obtain ⟨rest, hp, hp2⟩ := slot_perm (B := wX ty o ad σ) (rs := rs) (ty := ty) (ad := ad) (τ := τ) (ad' := ad) (τ' := (slSet τ v1.toNatClampNeg (gA τ v1.toNatClampNeg) (vp_updL (gB τ v1.toNatClampNeg) v2.toNatClampNeg v3))) (in_lt hs6) rfl (fun i hi hne => slSet_off hne)
  have h2 := h.perm hp
  rw [slW_l hw] at h2
  refine KV.callV (As := [.int v2, .long v3]) C (kS_put_l l hi) tS_put ⟨rfl, by decide, by decide, by show _ = some 2; decide +kernel⟩ 0 6 rfl rfl rfl (Nat.le_of_ble_eq_true rfl) (by decide) (Nat.zero_le _) (Nat.zero_le _) h2 hl.1 rfl (Nat.le_of_ble_eq_true rfl) dX0_write_18 (fun H locs h4 => ?_)
  have h := Hw.perm hp2 (by rw [slW_l (show gI (slSet τ v1.toNatClampNeg (gA τ v1.toNatClampNeg) (vp_updL (gB τ v1.toNatClampNeg) v2.toNatClampNeg v3)) v1.toNatClampNeg = 3 from hw), show slN (slSet τ v1.toNatClampNeg (gA τ v1.toNatClampNeg) (vp_updL (gB τ v1.toNatClampNeg) v2.toNatClampNeg v3)) v1.toNatClampNeg = slN τ v1.toNatClampNeg from rfl, show gB (slSet τ v1.toNatClampNeg (gA τ v1.toNatClampNeg) (vp_updL (gB τ v1.toNatClampNeg) v2.toNatClampNeg v3)) v1.toNatClampNeg = _ from va_upS]; exact h4)
  refine lv_iconst (v := 0) C.x C.b dX0_write_21 (by decide) ?_
  exact hR _ () _ _ _ _ rfl h rfl dX0_write_22
set_option maxHeartbeats 4000000 in
theorem kX_write_Z_l (l : Launch) {D : va_G} {ty : Nat → ClassId} {A : Nat → Prop} {o : Nat} {ad : Nat → Nat} {rs : va_W} {σ τ : PS} {v1 v2 : Int32} {v3 : Int64} (hl9 : l.stackTraces = false) {q1 : Int32} (hs1 : X_isSlot v1 = some q1) (hs2 : ¬ q1 = 0) (hs6 : vp_in v1 4) (hw : gI τ v1.toNatClampNeg = 3) (hi : ¬ vp_in v2 (slN τ v1.toNatClampNeg)) : KIg l yX0_write cX0_write 6 .int [(10, 22, 23, 369), (10, 22, 28, 502)] 301 3 1010 D ty A (wX ty o ad σ ++ (wS ty ad τ ++ rs)) [.ref o, .int v1, .int v2, .long v3] (fun r (_ : Unit) => r = -7) (fun _ => (wX ty o ad σ ++ (wS ty ad τ ++ rs))) := by
  refine KIg.of (by decide) (Nat.le_of_ble_eq_true rfl) ?_
  intro p e R s m args below meth c Q C hlk htab hmc hms hR H locs ls h hl
  have C : Cx p R s m args c cX0_write 6 RX0 D ty A 301 := C
  have hl : lv_has ls 6 [(0, .ref o), (1, .int v1), (2, .int v2), (3, .long v3)] := hl
  refine lv_iload_n C.x C.b dX0_write_0 rfl (lv_at hl 1 rfl) ?_
  refine cX_isSlot C h hs1 (Nat.le_of_ble_eq_true rfl) hl.1 (Nat.le_of_ble_eq_true rfl) dX0_write_1 (fun H locs h => ?_)
  refine lv_if_ne (tgt := 10) C.x C.b dX0_write_4 (by decide) (fun c9 => ?_) (fun c9 => ?_)
  rotate_left
  · exact absurd c9 hs2
  refine lv_aload_n C.x C.b dX0_write_10 rfl (lv_at hl 0 rfl) ?_
  refine x_g30 C h dX0_write_11 ?_
  refine lv_iload_n C.x C.b dX0_write_14 rfl (lv_at hl 1 rfl) ?_
  refine x_a30 C h hs6 dX0_write_15 ?_
  refine lv_iload_n C.x C.b dX0_write_16 rfl (lv_at hl 2 rfl) ?_
  refine lv_lload_n C.x C.b dX0_write_17 rfl (lv_at hl 3 rfl) ?_
  obtain ⟨rest, hp⟩ := slot_perm0 (ty := ty) (ad := ad) (τ := τ) (B := wX ty o ad σ) (rs := rs) (in_lt hs6)
  have h2 := h.perm hp
  rw [slW_l hw] at h2
  refine KTv.callV (As := [.int v2, .long v3]) C (kS_putZ_l l hl9 (slN_lt τ _) hi) tS_put ⟨rfl, by decide, by decide, by show _ = some 2; decide +kernel⟩ 0 6 rfl rfl rfl (Nat.le_refl _) (by decide) (by omega) (by omega) h2 hl.1 rfl (Nat.le_of_ble_eq_true rfl) dX0_write_18 (fun H locs q9 ce h4 h1 h2 h3 => ?_)
  have h := Hw.perm hp.symm (by rw [slW_l hw]; exact h4)
  refine vx_catch (name := "java/lang/ArrayIndexOutOfBoundsException") (E := "java/lang/ArrayIndexOutOfBoundsException") C.own [{ startPc := 10, endPc := 22, handlerPc := 23, catchType := 369 }] { startPc := 10, endPc := 22, handlerPc := 28, catchType := 502 } [] (by rw [htab]; rfl) (List.forall_mem_cons.mpr ⟨Or.inr ⟨by decide, "java/lang/NullPointerException", C.ts _ q1154, C.E.1 ("java/lang/ArrayIndexOutOfBoundsException", "java/lang/NullPointerException") (by decide)⟩, fun z hz => absurd hz List.not_mem_nil⟩) (by decide) (by decide) (C.ts _ q1490) (C.nw q1505 rfl) h1 h2 h3 ?_
  refine lv_astore (lv' := [(5, .ref q9), (0, .ref o), (1, .int v1), (2, .int v2), (3, .long v3)]) C.x C.b dX0_write_28 hl (by decide) rfl (fun ls hl => ?_)
  refine lv_bipush (v := (-7)) C.x C.b dX0_write_30 (by decide) ?_
  exact hR _ () _ _ _ _ rfl h rfl dX0_write_32
