set_option maxRecDepth 100000
section YROWS
variable {p : Program} {l : Launch} {e : Env} {R : Room} {s : State} {m : MethodId} {args : Array Value} {below : List Frame} {meth : Method} {c : Code} {H : Heap} {locs : List Loc} {cells slots : Nat} {Q : State → Prop} {cc : ByteArray} {pc : Nat} {ls : Array Slot} {st : List Value} {nL d : Nat} {D : va_G} {ty : Nat → ClassId} {A : Nat → Prop} {o : Nat} {ad : Nat → Nat} {rs : va_W} {σ : PS}
theorem y_this_RX2_0 (C : Cx p R s m args c cc nL RX2 D ty A d) (h : Hw D A s H locs (wX ty o ad σ ++ rs)) (dec : decode cc pc = .ok (.getfield 1, 3)) (kk : W p l e R s m args below meth c H locs cells slots Q (F0 m (pc + 3) ls (.ref o :: st))) : W p l e R s m args below meth c H locs cells slots Q (F0 m pc ls (.ref (ad 40) :: st)) := va_get (D := D) (ci := 2) C.x C.b C.ts in_X2 C.own C.K h.1 19 rfl rfl 0 (by decide) (C.ts _ q267) (fun _ h9 => h9) rfl dec kk
theorem y_this_RX2_1 (C : Cx p R s m args c cc nL RX2 D ty A d) (h : Hw D A s H locs (wX ty o ad σ ++ rs)) (dec : decode cc pc = .ok (.getfield 1, 3)) (kk : W p l e R s m args below meth c H locs cells slots Q (F0 m (pc + 3) ls (.ref o :: st))) : W p l e R s m args below meth c H locs cells slots Q (F0 m pc ls (.ref (ad 41) :: st)) := va_get (D := D) (ci := 3) C.x C.b C.ts in_X3 C.own C.K h.1 20 rfl rfl 0 (by decide) (C.ts _ q267) (fun _ h9 => h9) rfl dec kk
theorem y_this_RX2_2 (C : Cx p R s m args c cc nL RX2 D ty A d) (h : Hw D A s H locs (wX ty o ad σ ++ rs)) (dec : decode cc pc = .ok (.getfield 1, 3)) (kk : W p l e R s m args below meth c H locs cells slots Q (F0 m (pc + 3) ls (.ref o :: st))) : W p l e R s m args below meth c H locs cells slots Q (F0 m pc ls (.ref (ad 42) :: st)) := va_get (D := D) (ci := 4) C.x C.b C.ts in_X4 C.own C.K h.1 21 rfl rfl 0 (by decide) (C.ts _ q267) (fun _ h9 => h9) rfl dec kk
theorem y_this_RX2_3 (C : Cx p R s m args c cc nL RX2 D ty A d) (h : Hw D A s H locs (wX ty o ad σ ++ rs)) (dec : decode cc pc = .ok (.getfield 1, 3)) (kk : W p l e R s m args below meth c H locs cells slots Q (F0 m (pc + 3) ls (.ref o :: st))) : W p l e R s m args below meth c H locs cells slots Q (F0 m pc ls (.ref (ad 43) :: st)) := va_get (D := D) (ci := 5) C.x C.b C.ts in_X5 C.own C.K h.1 22 rfl rfl 0 (by decide) (C.ts _ q267) (fun _ h9 => h9) rfl dec kk
theorem y_this_RX4_2 (C : Cx p R s m args c cc nL RX4 D ty A d) (h : Hw D A s H locs (wX ty o ad σ ++ rs)) (dec : decode cc pc = .ok (.getfield 1, 3)) (kk : W p l e R s m args below meth c H locs cells slots Q (F0 m (pc + 3) ls (.ref o :: st))) : W p l e R s m args below meth c H locs cells slots Q (F0 m pc ls (.ref (ad 42) :: st)) := va_get (D := D) (ci := 4) C.x C.b C.ts in_X4 C.own C.K h.1 21 rfl rfl 1 (by decide) (C.ts _ q289) (fun _ h9 => h9) rfl dec kk
theorem y_g0 (C : Cx p R s m args c cc nL RX4 D ty A d) (h : Hw D A s H locs (wX ty o ad σ ++ rs)) (dec : decode cc pc = .ok (.getfield 17, 3)) (kk : W p l e R s m args below meth c H locs cells slots Q (F0 m (pc + 3) ls (.ref (ad 0) :: st))) : W p l e R s m args below meth c H locs cells slots Q (F0 m pc ls (.ref (o) :: st)) := va_getN (D := D) (ci := 0) C.x C.b C.ts in_X0 C.own C.K h.1 0 rfl rfl 0 (by decide) (C.nw q343 rfl) (fun _ h9 => h9) rfl dec kk
theorem y_g16 (C : Cx p R s m args c cc nL RX4 D ty A d) (h : Hw D A s H locs (wX ty o ad σ ++ rs)) (dec : decode cc pc = .ok (.getfield 33, 3)) (kk : W p l e R s m args below meth c H locs cells slots Q (F0 m (pc + 3) ls (.ref (ad 16) :: st))) : W p l e R s m args below meth c H locs cells slots Q (F0 m pc ls (.ref (o) :: st)) := va_getN (D := D) (ci := 0) C.x C.b C.ts in_X0 C.own C.K h.1 0 rfl rfl 16 (by decide) (C.nw q362 rfl) (fun _ h9 => h9) rfl dec kk
theorem y_g107 (C : Cx p R s m args c cc nL RX4 D ty A d) (h : Hw D A s H locs (wX ty o ad σ ++ rs)) (dec : decode cc pc = .ok (.getfield 23, 3)) (kk : W p l e R s m args below meth c H locs cells slots Q (F0 m (pc + 3) ls (.int (gI σ 107) :: st))) : W p l e R s m args below meth c H locs cells slots Q (F0 m pc ls (.ref (ad 0) :: st)) := va_getN (D := D) (ci := 1) C.x C.b C.ts in_X1 C.own C.K h.1 23 rfl rfl 7 (by decide) (C.nw q205 rfl) (fun _ h9 => h9) rfl dec kk
end YROWS
theorem cX_airOf_RX2 {p : Program} {l : Launch} {e : Env} {R : Room} {s : State} {m : MethodId} {args : Array Value} {below : List Frame} {meth : Method} {c : Code} {H : Heap} {locs : List Loc} {Q : State → Prop} {cc : ByteArray} {pc : Nat} {ls : Array Slot} {st : List Value} {nL d : Nat} {D : va_G} {ty : Nat → ClassId} {A : Nat → Prop} {o : Nat} {ad : Nat → Nat} {rs : va_W} {σ : PS} {v1 : Int32} {v2 : Int32} {q : Int32} (C : Cx p R s m args c cc nL RX2 D ty A d) (h : Hw D A s H locs (wX ty o ad σ ++ rs)) (hc : X_airOf σ v1 v2 = some q) (hd : 2 + 1 ≤ d) (hls : ls.size = nL) (hcat : (st.map fun v => v.category).sum ≤ 8) (dec : decode cc pc = .ok (.invokevirtual 13, 3)) (kk : ∀ (H : Heap) (locs : List Loc), Hw D A s H locs (wX ty o ad σ ++ rs) → W p l e R s m args below meth c H locs 0 0 Q (F0 m (pc + 3) ls (.int q :: st))) : W p l e R s m args below meth c H locs 0 0 Q (F0 m pc ls (.int v2 :: .int v1 :: .ref o :: st)) := KI.callVN (As := [.int v1, .int v2]) (Cn := RX0) C (kX_airOf l hc) (lw_meth q793) q790 q137 q792 qs27 ⟨by decide, by decide, by show _ = some 2; decide +kernel⟩ 0 0 rfl rfl rfl hd (by decide) (Nat.zero_le _) (Nat.zero_le _) h hls rfl hcat dec kk
theorem cX_placeOf_RX4 {p : Program} {l : Launch} {e : Env} {R : Room} {s : State} {m : MethodId} {args : Array Value} {below : List Frame} {meth : Method} {c : Code} {H : Heap} {locs : List Loc} {Q : State → Prop} {cc : ByteArray} {pc : Nat} {ls : Array Slot} {st : List Value} {nL d : Nat} {D : va_G} {ty : Nat → ClassId} {A : Nat → Prop} {o : Nat} {ad : Nat → Nat} {rs : va_W} {σ : PS} {v1 : Int32} {v2 : Int32} {q : Int32} (C : Cx p R s m args c cc nL RX4 D ty A d) (h : Hw D A s H locs (wX ty o ad σ ++ rs)) (hc : X_placeOf σ v1 v2 = some q) (hd : 0 + 1 ≤ d) (hls : ls.size = nL) (hcat : (st.map fun v => v.category).sum ≤ 8) (dec : decode cc pc = .ok (.invokevirtual 29, 3)) (kk : ∀ (H : Heap) (locs : List Loc), Hw D A s H locs (wX ty o ad σ ++ rs) → W p l e R s m args below meth c H locs 0 0 Q (F0 m (pc + 3) ls (.int q :: st))) : W p l e R s m args below meth c H locs 0 0 Q (F0 m pc ls (.int v2 :: .int v1 :: .ref o :: st)) := KI.callVN (As := [.int v1, .int v2]) (Cn := RX0) C (kX_placeOf l hc) (lw_meth q763) q787 q137 q762 qs24 ⟨by decide, by decide, by show _ = some 2; decide +kernel⟩ 0 0 rfl rfl rfl hd (by decide) (Nat.zero_le _) (Nat.zero_le _) h hls rfl hcat dec kk
def X_cgoal (σ : PS) (v1 : Int32) (v2 : Int32) (v3 : Int32) : Option Int32 := bd (X_airOf σ v2 v3) (fun q_1 => some q_1)
set_option maxHeartbeats 4000000 in
theorem kX_cgoal_0 (l : Launch) {D : va_G} {ty : Nat → ClassId} {A : Nat → Prop} {o : Nat} {ad : Nat → Nat} {rs : va_W} {σ : PS} {v1 : Int32} {v2 : Int32} {v3 : Int32} {r : Int32} (hf : X_cgoal σ v1 v2 v3 = some r) : KI l yX2_goal cX2_goal 4 .int 3 D ty A (wX ty o ad σ ++ rs) (wX ty o ad σ ++ rs) [.ref (ad 40), .int v1, .int v2, .int v3] r := by
  refine KI.of (by decide) (Nat.le_of_ble_eq_true rfl) ?_
  intro p e R s m args below meth c Q C hR
  have C : Cx p R s m args c cX2_goal 4 RX2 D ty A 3 := C
  have hR : ∀ (v : Int32), v = r → ∀ (H : Heap) (locs : List Loc) (pc : Nat) (ls : Array Slot), Hw D A s H locs (wX ty o ad σ ++ rs) → narrow .int (.int v) = .int v → decode cX2_goal pc = .ok (.ireturn, 1) → W p l e R s m args below meth c H locs 0 0 Q (F0 m pc ls [.int v]) := by intro v e9; cases e9; exact hR
  intro H locs ls h hl
  have hl : lv_has ls 4 [(0, .ref (ad 40)), (1, .int v1), (2, .int v2), (3, .int v3)] := hl
  unfold X_cgoal at hf
  refine lv_aload_n C.x C.b dX2_goal_0 rfl (lv_at hl 0 rfl) ?_
  refine y_this_RX2_0 C h dX2_goal_1 ?_
  refine lv_iload_n C.x C.b dX2_goal_4 rfl (lv_at hl 2 rfl) ?_
  refine lv_iload_n C.x C.b dX2_goal_5 rfl (lv_at hl 3 rfl) ?_
  obtain ⟨q_1, hc, hf⟩ := bd_k (K := fun x => x) rfl hf
  refine cX_airOf_RX2 C h hc (Nat.le_of_ble_eq_true rfl) hl.1 (Nat.le_of_ble_eq_true rfl) dX2_goal_6 (fun H locs h => ?_)
  exact hR _ (some_k hf) _ _ _ _ h rfl dX2_goal_9
set_option maxHeartbeats 4000000 in
theorem kX_cgoal_1 (l : Launch) {D : va_G} {ty : Nat → ClassId} {A : Nat → Prop} {o : Nat} {ad : Nat → Nat} {rs : va_W} {σ : PS} {v1 : Int32} {v2 : Int32} {v3 : Int32} {r : Int32} (hf : X_cgoal σ v1 v2 v3 = some r) : KI l yX2_goal cX2_goal 4 .int 3 D ty A (wX ty o ad σ ++ rs) (wX ty o ad σ ++ rs) [.ref (ad 41), .int v1, .int v2, .int v3] r := by
  refine KI.of (by decide) (Nat.le_of_ble_eq_true rfl) ?_
  intro p e R s m args below meth c Q C hR
  have C : Cx p R s m args c cX2_goal 4 RX2 D ty A 3 := C
  have hR : ∀ (v : Int32), v = r → ∀ (H : Heap) (locs : List Loc) (pc : Nat) (ls : Array Slot), Hw D A s H locs (wX ty o ad σ ++ rs) → narrow .int (.int v) = .int v → decode cX2_goal pc = .ok (.ireturn, 1) → W p l e R s m args below meth c H locs 0 0 Q (F0 m pc ls [.int v]) := by intro v e9; cases e9; exact hR
  intro H locs ls h hl
  have hl : lv_has ls 4 [(0, .ref (ad 41)), (1, .int v1), (2, .int v2), (3, .int v3)] := hl
  unfold X_cgoal at hf
  refine lv_aload_n C.x C.b dX2_goal_0 rfl (lv_at hl 0 rfl) ?_
  refine y_this_RX2_1 C h dX2_goal_1 ?_
  refine lv_iload_n C.x C.b dX2_goal_4 rfl (lv_at hl 2 rfl) ?_
  refine lv_iload_n C.x C.b dX2_goal_5 rfl (lv_at hl 3 rfl) ?_
  obtain ⟨q_1, hc, hf⟩ := bd_k (K := fun x => x) rfl hf
  refine cX_airOf_RX2 C h hc (Nat.le_of_ble_eq_true rfl) hl.1 (Nat.le_of_ble_eq_true rfl) dX2_goal_6 (fun H locs h => ?_)
  exact hR _ (some_k hf) _ _ _ _ h rfl dX2_goal_9
set_option maxHeartbeats 4000000 in
theorem kX_cgoal_2 (l : Launch) {D : va_G} {ty : Nat → ClassId} {A : Nat → Prop} {o : Nat} {ad : Nat → Nat} {rs : va_W} {σ : PS} {v1 : Int32} {v2 : Int32} {v3 : Int32} {r : Int32} (hf : X_cgoal σ v1 v2 v3 = some r) : KI l yX2_goal cX2_goal 4 .int 3 D ty A (wX ty o ad σ ++ rs) (wX ty o ad σ ++ rs) [.ref (ad 42), .int v1, .int v2, .int v3] r := by
  refine KI.of (by decide) (Nat.le_of_ble_eq_true rfl) ?_
  intro p e R s m args below meth c Q C hR
  have C : Cx p R s m args c cX2_goal 4 RX2 D ty A 3 := C
  have hR : ∀ (v : Int32), v = r → ∀ (H : Heap) (locs : List Loc) (pc : Nat) (ls : Array Slot), Hw D A s H locs (wX ty o ad σ ++ rs) → narrow .int (.int v) = .int v → decode cX2_goal pc = .ok (.ireturn, 1) → W p l e R s m args below meth c H locs 0 0 Q (F0 m pc ls [.int v]) := by intro v e9; cases e9; exact hR
  intro H locs ls h hl
  have hl : lv_has ls 4 [(0, .ref (ad 42)), (1, .int v1), (2, .int v2), (3, .int v3)] := hl
  unfold X_cgoal at hf
  refine lv_aload_n C.x C.b dX2_goal_0 rfl (lv_at hl 0 rfl) ?_
  refine y_this_RX2_2 C h dX2_goal_1 ?_
  refine lv_iload_n C.x C.b dX2_goal_4 rfl (lv_at hl 2 rfl) ?_
  refine lv_iload_n C.x C.b dX2_goal_5 rfl (lv_at hl 3 rfl) ?_
  obtain ⟨q_1, hc, hf⟩ := bd_k (K := fun x => x) rfl hf
  refine cX_airOf_RX2 C h hc (Nat.le_of_ble_eq_true rfl) hl.1 (Nat.le_of_ble_eq_true rfl) dX2_goal_6 (fun H locs h => ?_)
  exact hR _ (some_k hf) _ _ _ _ h rfl dX2_goal_9
set_option maxHeartbeats 4000000 in
theorem kX_cgoal_3 (l : Launch) {D : va_G} {ty : Nat → ClassId} {A : Nat → Prop} {o : Nat} {ad : Nat → Nat} {rs : va_W} {σ : PS} {v1 : Int32} {v2 : Int32} {v3 : Int32} {r : Int32} (hf : X_cgoal σ v1 v2 v3 = some r) : KI l yX2_goal cX2_goal 4 .int 3 D ty A (wX ty o ad σ ++ rs) (wX ty o ad σ ++ rs) [.ref (ad 43), .int v1, .int v2, .int v3] r := by
  refine KI.of (by decide) (Nat.le_of_ble_eq_true rfl) ?_
  intro p e R s m args below meth c Q C hR
  have C : Cx p R s m args c cX2_goal 4 RX2 D ty A 3 := C
  have hR : ∀ (v : Int32), v = r → ∀ (H : Heap) (locs : List Loc) (pc : Nat) (ls : Array Slot), Hw D A s H locs (wX ty o ad σ ++ rs) → narrow .int (.int v) = .int v → decode cX2_goal pc = .ok (.ireturn, 1) → W p l e R s m args below meth c H locs 0 0 Q (F0 m pc ls [.int v]) := by intro v e9; cases e9; exact hR
  intro H locs ls h hl
  have hl : lv_has ls 4 [(0, .ref (ad 43)), (1, .int v1), (2, .int v2), (3, .int v3)] := hl
  unfold X_cgoal at hf
  refine lv_aload_n C.x C.b dX2_goal_0 rfl (lv_at hl 0 rfl) ?_
  refine y_this_RX2_3 C h dX2_goal_1 ?_
  refine lv_iload_n C.x C.b dX2_goal_4 rfl (lv_at hl 2 rfl) ?_
  refine lv_iload_n C.x C.b dX2_goal_5 rfl (lv_at hl 3 rfl) ?_
  obtain ⟨q_1, hc, hf⟩ := bd_k (K := fun x => x) rfl hf
  refine cX_airOf_RX2 C h hc (Nat.le_of_ble_eq_true rfl) hl.1 (Nat.le_of_ble_eq_true rfl) dX2_goal_6 (fun H locs h => ?_)
  exact hR _ (some_k hf) _ _ _ _ h rfl dX2_goal_9
def X_cgoes (v1 : Int32) : Option Int32 := some (v1 / 2)
set_option maxHeartbeats 4000000 in
theorem kX_cgoes_0 (l : Launch) {D : va_G} {ty : Nat → ClassId} {A : Nat → Prop} {o : Nat} {ad : Nat → Nat} {rs : va_W} {σ : PS} {v1 : Int32} {r : Int32} (hf : X_cgoes v1 = some r) : KI l yX2_goes cX2_goes 2 .int 0 D ty A (wX ty o ad σ ++ rs) (wX ty o ad σ ++ rs) [.ref (ad 40), .int v1] r := by
  refine KI.of (by decide) (Nat.le_of_ble_eq_true rfl) ?_
  intro p e R s m args below meth c Q C hR
  have C : Cx p R s m args c cX2_goes 2 RX2 D ty A 0 := C
  have hR : ∀ (v : Int32), v = r → ∀ (H : Heap) (locs : List Loc) (pc : Nat) (ls : Array Slot), Hw D A s H locs (wX ty o ad σ ++ rs) → narrow .int (.int v) = .int v → decode cX2_goes pc = .ok (.ireturn, 1) → W p l e R s m args below meth c H locs 0 0 Q (F0 m pc ls [.int v]) := by intro v e9; cases e9; exact hR
  intro H locs ls h hl
  have hl : lv_has ls 2 [(0, .ref (ad 40)), (1, .int v1)] := hl
  unfold X_cgoes at hf
  refine lv_iload_n C.x C.b dX2_goes_0 rfl (lv_at hl 1 rfl) ?_
  refine lv_iconst (v := 2) C.x C.b dX2_goes_1 (by decide) ?_
  refine lv_idiv C.x C.b dX2_goes_2 (by decide) ?_
  exact hR _ (some_k hf) _ _ _ _ h rfl dX2_goes_3
set_option maxHeartbeats 4000000 in
theorem kX_cgoes_1 (l : Launch) {D : va_G} {ty : Nat → ClassId} {A : Nat → Prop} {o : Nat} {ad : Nat → Nat} {rs : va_W} {σ : PS} {v1 : Int32} {r : Int32} (hf : X_cgoes v1 = some r) : KI l yX2_goes cX2_goes 2 .int 0 D ty A (wX ty o ad σ ++ rs) (wX ty o ad σ ++ rs) [.ref (ad 41), .int v1] r := by
  refine KI.of (by decide) (Nat.le_of_ble_eq_true rfl) ?_
  intro p e R s m args below meth c Q C hR
  have C : Cx p R s m args c cX2_goes 2 RX2 D ty A 0 := C
  have hR : ∀ (v : Int32), v = r → ∀ (H : Heap) (locs : List Loc) (pc : Nat) (ls : Array Slot), Hw D A s H locs (wX ty o ad σ ++ rs) → narrow .int (.int v) = .int v → decode cX2_goes pc = .ok (.ireturn, 1) → W p l e R s m args below meth c H locs 0 0 Q (F0 m pc ls [.int v]) := by intro v e9; cases e9; exact hR
  intro H locs ls h hl
  have hl : lv_has ls 2 [(0, .ref (ad 41)), (1, .int v1)] := hl
  unfold X_cgoes at hf
  refine lv_iload_n C.x C.b dX2_goes_0 rfl (lv_at hl 1 rfl) ?_
  refine lv_iconst (v := 2) C.x C.b dX2_goes_1 (by decide) ?_
  refine lv_idiv C.x C.b dX2_goes_2 (by decide) ?_
  exact hR _ (some_k hf) _ _ _ _ h rfl dX2_goes_3
set_option maxHeartbeats 4000000 in
theorem kX_cgoes_2 (l : Launch) {D : va_G} {ty : Nat → ClassId} {A : Nat → Prop} {o : Nat} {ad : Nat → Nat} {rs : va_W} {σ : PS} {v1 : Int32} {r : Int32} (hf : X_cgoes v1 = some r) : KI l yX2_goes cX2_goes 2 .int 0 D ty A (wX ty o ad σ ++ rs) (wX ty o ad σ ++ rs) [.ref (ad 42), .int v1] r := by
  refine KI.of (by decide) (Nat.le_of_ble_eq_true rfl) ?_
  intro p e R s m args below meth c Q C hR
  have C : Cx p R s m args c cX2_goes 2 RX2 D ty A 0 := C
  have hR : ∀ (v : Int32), v = r → ∀ (H : Heap) (locs : List Loc) (pc : Nat) (ls : Array Slot), Hw D A s H locs (wX ty o ad σ ++ rs) → narrow .int (.int v) = .int v → decode cX2_goes pc = .ok (.ireturn, 1) → W p l e R s m args below meth c H locs 0 0 Q (F0 m pc ls [.int v]) := by intro v e9; cases e9; exact hR
  intro H locs ls h hl
  have hl : lv_has ls 2 [(0, .ref (ad 42)), (1, .int v1)] := hl
  unfold X_cgoes at hf
  refine lv_iload_n C.x C.b dX2_goes_0 rfl (lv_at hl 1 rfl) ?_
  refine lv_iconst (v := 2) C.x C.b dX2_goes_1 (by decide) ?_
  refine lv_idiv C.x C.b dX2_goes_2 (by decide) ?_
  exact hR _ (some_k hf) _ _ _ _ h rfl dX2_goes_3
theorem cX_cgoal_s2 {p : Program} {l : Launch} {e : Env} {R : Room} {s : State} {m : MethodId} {args : Array Value} {below : List Frame} {meth : Method} {c : Code} {H : Heap} {locs : List Loc} {Q : State → Prop} {cc : ByteArray} {pc : Nat} {ls : Array Slot} {st : List Value} {nL d : Nat} {D : va_G} {ty : Nat → ClassId} {A : Nat → Prop} {o : Nat} {ad : Nat → Nat} {rs : va_W} {σ : PS} {v1 : Int32} {v2 : Int32} {v3 : Int32} {q : Int32} (C : Cx p R s m args c cc nL RX4 D ty A d) (h : Hw D A s H locs (wX ty o ad σ ++ rs)) (hc : X_cgoal σ v1 v2 v3 = some q) (hd : 3 + 1 ≤ d) (hls : ls.size = nL) (hcat : (st.map fun v => v.category).sum ≤ 8) (dec : decode cc pc = .ok (.invokespecial 13, 3)) (kk : ∀ (H : Heap) (locs : List Loc), Hw D A s H locs (wX ty o ad σ ++ rs) → W p l e R s m args below meth c H locs 0 0 Q (F0 m (pc + 3) ls (.int q :: st))) : W p l e R s m args below meth c H locs 0 0 Q (F0 m pc ls (.int v3 :: .int v2 :: .int v1 :: .ref (ad 42) :: st)) := KI.callSU (As := [.int v1, .int v2, .int v3]) C (kX_cgoal_2 l hc) (lw_app (a := [.methodLink RX4 13 yX2_goal, .sameMethod yX2_goal.cls yX2_goal.cls yX2_goal.name yX2_goal.desc, .superclass RX4 yX2_goal.cls, .instanceMethod yX2_goal, .initialized yX2_goal.cls]) (List.forall_mem_cons.mpr ⟨q786, List.forall_mem_cons.mpr ⟨q781, List.forall_mem_cons.mpr ⟨q293, List.forall_mem_cons.mpr ⟨q779, List.forall_mem_cons.mpr ⟨q139, fun _ h => absurd h List.not_mem_nil⟩⟩⟩⟩⟩) (lw_meth q789)) ⟨by decide, by show _ = some 3; decide +kernel⟩ 21 4 rfl rfl hd (by decide) (Nat.zero_le _) (Nat.zero_le _) h hls rfl hcat dec kk
theorem cX_cgoes_s1 {p : Program} {l : Launch} {e : Env} {R : Room} {s : State} {m : MethodId} {args : Array Value} {below : List Frame} {meth : Method} {c : Code} {H : Heap} {locs : List Loc} {Q : State → Prop} {cc : ByteArray} {pc : Nat} {ls : Array Slot} {st : List Value} {nL d : Nat} {D : va_G} {ty : Nat → ClassId} {A : Nat → Prop} {o : Nat} {ad : Nat → Nat} {rs : va_W} {σ : PS} {v1 : Int32} {q : Int32} (C : Cx p R s m args c cc nL RX3 D ty A d) (h : Hw D A s H locs (wX ty o ad σ ++ rs)) (hc : X_cgoes v1 = some q) (hd : 0 + 1 ≤ d) (hls : ls.size = nL) (hcat : (st.map fun v => v.category).sum ≤ 8) (dec : decode cc pc = .ok (.invokespecial 15, 3)) (kk : ∀ (H : Heap) (locs : List Loc), Hw D A s H locs (wX ty o ad σ ++ rs) → W p l e R s m args below meth c H locs 0 0 Q (F0 m (pc + 3) ls (.int q :: st))) : W p l e R s m args below meth c H locs 0 0 Q (F0 m pc ls (.int v1 :: .ref (ad 41) :: st)) := KI.callSU (As := [.int v1]) C (kX_cgoes_1 l hc) (lw_app (a := [.methodLink RX3 15 yX2_goes, .sameMethod yX2_goes.cls yX2_goes.cls yX2_goes.name yX2_goes.desc, .superclass RX3 yX2_goes.cls, .instanceMethod yX2_goes, .initialized yX2_goes.cls]) (List.forall_mem_cons.mpr ⟨q812, List.forall_mem_cons.mpr ⟨q808, List.forall_mem_cons.mpr ⟨q282, List.forall_mem_cons.mpr ⟨q806, List.forall_mem_cons.mpr ⟨q139, fun _ h => absurd h List.not_mem_nil⟩⟩⟩⟩⟩) (lw_meth q819)) ⟨by decide, by show _ = some 1; decide +kernel⟩ 20 3 rfl rfl hd (by decide) (Nat.zero_le _) (Nat.zero_le _) h hls rfl hcat dec kk
def X_ngoal_j77 (σ : PS) (v4 : Int32) (v5 : Int32) : Option Int32 := nz v5 (some (v4 / v5))
def X_ngoal_j71 (σ : PS) (v1 : Int32) (v2 : Int32) (v3 : Int32) (v4 : Int32) (v5 : Int32) (v6 : Int32) : Option ((Int32 × Int32 × Int32) ⊕ Int32) := nm (v6 + 1) (fun v6_1 => some (.inl (v4, v5, v6_1)))
def X_ngoal_l15 (σ : PS) (v1 : Int32) (v2 : Int32) (v3 : Int32) (v4 : Int32) (v5 : Int32) (v6 : Int32) : Option ((Int32 × Int32 × Int32) ⊕ Int32) := if (gI σ 107) ≤ v6 then up (X_ngoal_j77 σ v4 v5) else if v6 = v1 then X_ngoal_j71 σ v1 v2 v3 v4 v5 v6 else bd (X_placeOf σ v6 v3) (fun q_2 => if q_2 = v2 then ix v6 6 (nm (v4 + (rA σ 16 v6)) (fun v4_3 => nm (v5 + 1) (fun v5_4 => X_ngoal_j71 σ v1 v2 v3 v4_3 v5_4 v6))) else X_ngoal_j71 σ v1 v2 v3 v4 v5 v6)
def X_ngoal_B15 (σ : PS) (v1 : Int32) (v2 : Int32) (v3 : Int32) : (Int32 × Int32 × Int32) → Option ((Int32 × Int32 × Int32) ⊕ Int32) := fun t => X_ngoal_l15 σ v1 v2 v3 t.1 t.2.1 t.2.2
def X_ngoal (σ : PS) (v1 : Int32) (v2 : Int32) (v3 : Int32) : Option Int32 := bd (X_cgoal σ v1 v2 v3) (fun q_5 => loop (X_ngoal_B15 σ v1 v2 v3) fu (q_5, 1, 0))
set_option maxHeartbeats 4000000 in
theorem kX_ngoal (l : Launch) {D : va_G} {ty : Nat → ClassId} {A : Nat → Prop} {o : Nat} {ad : Nat → Nat} {rs : va_W} {σ : PS} {v1 : Int32} {v2 : Int32} {v3 : Int32} {r : Int32} (hf : X_ngoal σ v1 v2 v3 = some r) : KI l yX4_goal cX4_goal 7 .int 4 D ty A (wX ty o ad σ ++ rs) (wX ty o ad σ ++ rs) [.ref (ad 42), .int v1, .int v2, .int v3] r := by
  refine KI.of (by decide) (Nat.le_of_ble_eq_true rfl) ?_
  intro p e R s m args below meth c Q C hR
  have C : Cx p R s m args c cX4_goal 7 RX4 D ty A 4 := C
  have hR : ∀ (v : Int32), v = r → ∀ (H : Heap) (locs : List Loc) (pc : Nat) (ls : Array Slot), Hw D A s H locs (wX ty o ad σ ++ rs) → narrow .int (.int v) = .int v → decode cX4_goal pc = .ok (.ireturn, 1) → W p l e R s m args below meth c H locs 0 0 Q (F0 m pc ls [.int v]) := by intro v e9; cases e9; exact hR
  have j77 : ∀ (v4 : Int32) (v5 : Int32) (H : Heap) (locs : List Loc) (ls : Array Slot), Hw D A s H locs (wX ty o ad σ ++ rs) → lv_has ls 7 [(4, .int v4), (5, .int v5)] → X_ngoal_j77 σ v4 v5 = some r → W p l e R s m args below meth c H locs 0 0 Q (F0 m 77 ls []) := by
    intro v4 v5 H locs ls h hl hf
    unfold X_ngoal_j77 at hf
    refine lv_iload C.x C.b dX4_goal_77 (lv_at hl 0 rfl) ?_
    refine lv_iload C.x C.b dX4_goal_79 (lv_at hl 1 rfl) ?_
    obtain ⟨hz, hf⟩ := nz_k (K := fun x => x) rfl hf
    refine lv_idiv C.x C.b dX4_goal_81 hz ?_
    exact hR _ (some_k hf) _ _ _ _ h rfl dX4_goal_82
  have l15 : ∀ (n15 : Nat) (v4 : Int32) (v5 : Int32) (v6 : Int32) (H : Heap) (locs : List Loc) (ls : Array Slot), Hw D A s H locs (wX ty o ad σ ++ rs) → lv_has ls 7 [(0, .ref (ad 42)), (1, .int v1), (2, .int v2), (3, .int v3), (4, .int v4), (5, .int v5), (6, .int v6)] → loop (X_ngoal_B15 σ v1 v2 v3) n15 (v4, v5, v6) = some r → W p l e R s m args below meth c H locs 0 0 Q (F0 m 15 ls []) := by
    intro n15
    induction n15 with
    | zero => intro v4 v5 v6 H locs ls h hl hf; exact (none_k hf).elim
    | succ n15 ih15 =>
      have j71 : ∀ (v4 : Int32) (v5 : Int32) (v6 : Int32) (H : Heap) (locs : List Loc) (ls : Array Slot), Hw D A s H locs (wX ty o ad σ ++ rs) → lv_has ls 7 [(0, .ref (ad 42)), (1, .int v1), (2, .int v2), (3, .int v3), (4, .int v4), (5, .int v5), (6, .int v6)] → bl (X_ngoal_B15 σ v1 v2 v3) n15 (X_ngoal_j71 σ v1 v2 v3 v4 v5 v6) = some r → W p l e R s m args below meth c H locs 0 0 Q (F0 m 71 ls []) := by
        intro v4 v5 v6 H locs ls h hl hf
        unfold X_ngoal_j71 at hf
        obtain ⟨v6_1, e9, hf⟩ := nm_k (K := bl (X_ngoal_B15 σ v1 v2 v3) n15) hf
        refine lv_iinc (v := v6_1) (lv' := [(6, .int v6_1), (0, .ref (ad 42)), (1, .int v1), (2, .int v2), (3, .int v3), (4, .int v4), (5, .int v5)]) C.x C.b dX4_goal_71 hl (k := 6) rfl (iinc_e (k := 1) (by decide) e9) (by decide) rfl (fun ls hl => ?_)
        refine lv_goto (tgt := 15) C.x C.b dX4_goal_74 (by decide) ?_
        exact ih15 v4 v5 v6_1 _ _ _ h (lv_sub hl [1, 2, 3, 4, 5, 6, 0] rfl) hf
      intro v4 v5 v6 H locs ls h hl hf
      have hf : bl (X_ngoal_B15 σ v1 v2 v3) n15 (X_ngoal_l15 σ v1 v2 v3 v4 v5 v6) = some r := hf
      unfold X_ngoal_l15 at hf
      refine lv_iload C.x C.b dX4_goal_15 (lv_at hl 6 rfl) ?_
      refine lv_aload_n C.x C.b dX4_goal_17 rfl (lv_at hl 0 rfl) ?_
      refine y_this_RX4_2 C h dX4_goal_18 ?_
      refine y_g0 C h dX4_goal_21 ?_
      refine y_g107 C h dX4_goal_24 ?_
      refine lv_icmp_ge (tgt := 77) C.x C.b dX4_goal_27 (by decide) (fun c9 => ?_) (fun c9 => ?_)
      · have hf := if_t (K := bl (X_ngoal_B15 σ v1 v2 v3) n15) c9 hf
        have hf := bl_upK (K := fun x => x) hf
        exact j77 v4 v5 _ _ _ h (lv_sub hl [4, 5] rfl) hf
      · have hf := if_f (K := bl (X_ngoal_B15 σ v1 v2 v3) n15) c9 hf
        refine lv_iload C.x C.b dX4_goal_30 (lv_at hl 6 rfl) ?_
        refine lv_iload_n C.x C.b dX4_goal_32 rfl (lv_at hl 1 rfl) ?_
        refine lv_icmp_eq (tgt := 71) C.x C.b dX4_goal_33 (by decide) (fun c9 => ?_) (fun c9 => ?_)
        · have hf := if_t (K := bl (X_ngoal_B15 σ v1 v2 v3) n15) c9 hf
          exact j71 v4 v5 v6 _ _ _ h (lv_sub hl [0, 1, 2, 3, 4, 5, 6] rfl) hf
        · have hf := if_f (K := bl (X_ngoal_B15 σ v1 v2 v3) n15) c9 hf
          refine lv_aload_n C.x C.b dX4_goal_36 rfl (lv_at hl 0 rfl) ?_
          refine y_this_RX4_2 C h dX4_goal_37 ?_
          refine lv_iload C.x C.b dX4_goal_40 (lv_at hl 6 rfl) ?_
          refine lv_iload_n C.x C.b dX4_goal_42 rfl (lv_at hl 3 rfl) ?_
          obtain ⟨q_2, hc, hf⟩ := bd_k (K := bl (X_ngoal_B15 σ v1 v2 v3) n15) rfl hf
          refine cX_placeOf_RX4 C h hc (Nat.le_of_ble_eq_true rfl) hl.1 (Nat.le_of_ble_eq_true rfl) dX4_goal_43 (fun H locs h => ?_)
          refine lv_iload_n C.x C.b dX4_goal_46 rfl (lv_at hl 2 rfl) ?_
          refine lv_icmp_eq (tgt := 53) C.x C.b dX4_goal_47 (by decide) (fun c9 => ?_) (fun c9 => ?_)
          · have hf := if_t (K := bl (X_ngoal_B15 σ v1 v2 v3) n15) c9 hf
            refine lv_iload C.x C.b dX4_goal_53 (lv_at hl 4 rfl) ?_
            refine lv_aload_n C.x C.b dX4_goal_55 rfl (lv_at hl 0 rfl) ?_
            refine y_this_RX4_2 C h dX4_goal_56 ?_
            refine y_g16 C h dX4_goal_59 ?_
            refine lv_iload C.x C.b dX4_goal_62 (lv_at hl 6 rfl) ?_
            obtain ⟨hi, hf⟩ := ix_k (K := bl (X_ngoal_B15 σ v1 v2 v3) n15) rfl hf
            refine x_a16 C h hi dX4_goal_64 ?_
            refine lv_iadd C.x C.b dX4_goal_65 ?_
            obtain ⟨v4_3, e9, hf⟩ := nm_k (K := bl (X_ngoal_B15 σ v1 v2 v3) n15) hf
            refine lv_topI e9 ?_
            refine lv_istore (lv' := [(4, .int v4_3), (0, .ref (ad 42)), (1, .int v1), (2, .int v2), (3, .int v3), (5, .int v5), (6, .int v6)]) C.x C.b dX4_goal_66 hl (by decide) rfl (fun ls hl => ?_)
            obtain ⟨v5_4, e9, hf⟩ := nm_k (K := bl (X_ngoal_B15 σ v1 v2 v3) n15) hf
            refine lv_iinc (v := v5_4) (lv' := [(5, .int v5_4), (4, .int v4_3), (0, .ref (ad 42)), (1, .int v1), (2, .int v2), (3, .int v3), (6, .int v6)]) C.x C.b dX4_goal_68 hl (k := 5) rfl (iinc_e (k := 1) (by decide) e9) (by decide) rfl (fun ls hl => ?_)
            exact j71 v4_3 v5_4 v6 _ _ _ h (lv_sub hl [2, 3, 4, 5, 1, 0, 6] rfl) hf
          · have hf := if_f (K := bl (X_ngoal_B15 σ v1 v2 v3) n15) c9 hf
            refine lv_goto (tgt := 71) C.x C.b dX4_goal_50 (by decide) ?_
            exact j71 v4 v5 v6 _ _ _ h (lv_sub hl [0, 1, 2, 3, 4, 5, 6] rfl) hf
  intro H locs ls h hl
  have hl : lv_has ls 7 [(0, .ref (ad 42)), (1, .int v1), (2, .int v2), (3, .int v3)] := hl
  unfold X_ngoal at hf
  refine lv_aload_n C.x C.b dX4_goal_0 rfl (lv_at hl 0 rfl) ?_
  refine lv_iload_n C.x C.b dX4_goal_1 rfl (lv_at hl 1 rfl) ?_
  refine lv_iload_n C.x C.b dX4_goal_2 rfl (lv_at hl 2 rfl) ?_
  refine lv_iload_n C.x C.b dX4_goal_3 rfl (lv_at hl 3 rfl) ?_
  obtain ⟨q_5, hc, hf⟩ := bd_k (K := fun x => x) rfl hf
  refine cX_cgoal_s2 C h hc (Nat.le_of_ble_eq_true rfl) hl.1 (Nat.le_of_ble_eq_true rfl) dX4_goal_4 (fun H locs h => ?_)
  refine lv_istore (lv' := [(4, .int q_5), (0, .ref (ad 42)), (1, .int v1), (2, .int v2), (3, .int v3)]) C.x C.b dX4_goal_7 hl (by decide) rfl (fun ls hl => ?_)
  refine lv_iconst (v := 1) C.x C.b dX4_goal_9 (by decide) ?_
  refine lv_istore (lv' := [(5, .int 1), (4, .int q_5), (0, .ref (ad 42)), (1, .int v1), (2, .int v2), (3, .int v3)]) C.x C.b dX4_goal_10 hl (by decide) rfl (fun ls hl => ?_)
  refine lv_iconst (v := 0) C.x C.b dX4_goal_12 (by decide) ?_
  refine lv_istore (lv' := [(6, .int 0), (5, .int 1), (4, .int q_5), (0, .ref (ad 42)), (1, .int v1), (2, .int v2), (3, .int v3)]) C.x C.b dX4_goal_13 hl (by decide) rfl (fun ls hl => ?_)
  exact l15  fu q_5 1 0 _ _ _ h (lv_sub hl [3, 4, 5, 6, 2, 1, 0] rfl) hf
def X_agoes (v1 : Int32) : Option Int32 := bd (X_cgoes v1) (fun q_1 => some (mx ((-60)) (mn 60 q_1)))
set_option maxHeartbeats 4000000 in
theorem kX_agoes (l : Launch) {D : va_G} {ty : Nat → ClassId} {A : Nat → Prop} {o : Nat} {ad : Nat → Nat} {rs : va_W} {σ : PS} {v1 : Int32} {r : Int32} (hf : X_agoes v1 = some r) : KI l yX3_goes cX3_goes 2 .int 1 D ty A (wX ty o ad σ ++ rs) (wX ty o ad σ ++ rs) [.ref (ad 41), .int v1] r := by
  refine KI.of (by decide) (Nat.le_of_ble_eq_true rfl) ?_
  intro p e R s m args below meth c Q C hR
  have C : Cx p R s m args c cX3_goes 2 RX3 D ty A 1 := C
  have hR : ∀ (v : Int32), v = r → ∀ (H : Heap) (locs : List Loc) (pc : Nat) (ls : Array Slot), Hw D A s H locs (wX ty o ad σ ++ rs) → narrow .int (.int v) = .int v → decode cX3_goes pc = .ok (.ireturn, 1) → W p l e R s m args below meth c H locs 0 0 Q (F0 m pc ls [.int v]) := by intro v e9; cases e9; exact hR
  intro H locs ls h hl
  have hl : lv_has ls 2 [(0, .ref (ad 41)), (1, .int v1)] := hl
  unfold X_agoes at hf
  refine lv_bipush (v := (-60)) C.x C.b dX3_goes_0 (by decide) ?_
  refine lv_bipush (v := 60) C.x C.b dX3_goes_2 (by decide) ?_
  refine lv_aload_n C.x C.b dX3_goes_4 rfl (lv_at hl 0 rfl) ?_
  refine lv_iload_n C.x C.b dX3_goes_5 rfl (lv_at hl 1 rfl) ?_
  obtain ⟨q_1, hc, hf⟩ := bd_k (K := fun x => x) rfl hf
  refine cX_cgoes_s1 C h hc (Nat.le_of_ble_eq_true rfl) hl.1 (Nat.le_of_ble_eq_true rfl) dX3_goes_6 (fun H locs h => ?_)
  refine r_min_X3 C h hl.1 (by decide) (Nat.le_of_ble_eq_true rfl) dX3_goes_9 ?_
  refine r_max_X3 C h hl.1 (by decide) (Nat.le_of_ble_eq_true rfl) dX3_goes_12 ?_
  exact hR _ (some_k hf) _ _ _ _ h rfl dX3_goes_15
def X_tgoes (v1 : Int32) : Option Int32 := some (v1 / 3)
set_option maxHeartbeats 4000000 in
theorem kX_tgoes (l : Launch) {D : va_G} {ty : Nat → ClassId} {A : Nat → Prop} {o : Nat} {ad : Nat → Nat} {rs : va_W} {σ : PS} {v1 : Int32} {r : Int32} (hf : X_tgoes v1 = some r) : KI l yX5_goes cX5_goes 2 .int 0 D ty A (wX ty o ad σ ++ rs) (wX ty o ad σ ++ rs) [.ref (ad 43), .int v1] r := by
  refine KI.of (by decide) (Nat.le_of_ble_eq_true rfl) ?_
  intro p e R s m args below meth c Q C hR
  have C : Cx p R s m args c cX5_goes 2 RX5 D ty A 0 := C
  have hR : ∀ (v : Int32), v = r → ∀ (H : Heap) (locs : List Loc) (pc : Nat) (ls : Array Slot), Hw D A s H locs (wX ty o ad σ ++ rs) → narrow .int (.int v) = .int v → decode cX5_goes pc = .ok (.ireturn, 1) → W p l e R s m args below meth c H locs 0 0 Q (F0 m pc ls [.int v]) := by intro v e9; cases e9; exact hR
  intro H locs ls h hl
  have hl : lv_has ls 2 [(0, .ref (ad 43)), (1, .int v1)] := hl
  unfold X_tgoes at hf
  refine lv_iload_n C.x C.b dX5_goes_0 rfl (lv_at hl 1 rfl) ?_
  refine lv_iconst (v := 3) C.x C.b dX5_goes_1 (by decide) ?_
  refine lv_idiv C.x C.b dX5_goes_2 (by decide) ?_
  exact hR _ (some_k hf) _ _ _ _ h rfl dX5_goes_3
theorem dX_cgoal_0 {p : Program} {l : Launch} {e : Env} {R : Room} {s : State} {m : MethodId} {args : Array Value} {below : List Frame} {meth : Method} {c : Code} {H : Heap} {locs : List Loc} {Q : State → Prop} {cc : ByteArray} {pc : Nat} {ls : Array Slot} {st : List Value} {nL d : Nat} {D : va_G} {ty : Nat → ClassId} {A : Nat → Prop} {o : Nat} {ad : Nat → Nat} {rs : va_W} {σ : PS} {v1 : Int32} {v2 : Int32} {v3 : Int32} {q : Int32} (C : Cx p R s m args c cc nL RX0 D ty A d) (h : Hw D A s H locs (wX ty o ad σ ++ rs)) (hc : X_cgoal σ v1 v2 v3 = some q) (hd : 3 + 1 ≤ d) (hls : ls.size = nL) (hcat : (st.map fun v => v.category).sum ≤ 8) (dec : decode cc pc = .ok (.invokevirtual 231, 3)) (kk : ∀ (H : Heap) (locs : List Loc), Hw D A s H locs (wX ty o ad σ ++ rs) → W p l e R s m args below meth c H locs 0 0 Q (F0 m (pc + 3) ls (.int q :: st))) : W p l e R s m args below meth c H locs 0 0 Q (F0 m pc ls (.int v3 :: .int v2 :: .int v1 :: .ref (ad 40) :: st)) := KI.callU (As := [.int v1, .int v2, .int v3]) (Cn := RX2) C (kX_cgoal_0 l hc) (va_cwU (x := yX2_goal) (owner := RX2) 3 C.ts (lw_app (a := [.methodLink RX0 231 yX2_goal, .sameMethod yX2_goal.cls RX2 yX2_goal.name yX2_goal.desc, .selects RX2 yX2_goal yX2_goal, .instanceMethod yX2_goal, .initialized yX2_goal.cls]) (List.forall_mem_cons.mpr ⟨q778, List.forall_mem_cons.mpr ⟨q781, List.forall_mem_cons.mpr ⟨q780, List.forall_mem_cons.mpr ⟨q779, List.forall_mem_cons.mpr ⟨q139, fun _ h => absurd h List.not_mem_nil⟩⟩⟩⟩⟩) (lw_meth q789)) rfl rfl rfl rfl ⟨by decide, by decide, by decide +kernel⟩ (C.room hd (by decide))) 19 2 rfl rfl rfl (Nat.zero_le _) (Nat.zero_le _) h hls rfl hcat dec kk
theorem dX_cgoal_1 {p : Program} {l : Launch} {e : Env} {R : Room} {s : State} {m : MethodId} {args : Array Value} {below : List Frame} {meth : Method} {c : Code} {H : Heap} {locs : List Loc} {Q : State → Prop} {cc : ByteArray} {pc : Nat} {ls : Array Slot} {st : List Value} {nL d : Nat} {D : va_G} {ty : Nat → ClassId} {A : Nat → Prop} {o : Nat} {ad : Nat → Nat} {rs : va_W} {σ : PS} {v1 : Int32} {v2 : Int32} {v3 : Int32} {q : Int32} (C : Cx p R s m args c cc nL RX0 D ty A d) (h : Hw D A s H locs (wX ty o ad σ ++ rs)) (hc : X_cgoal σ v1 v2 v3 = some q) (hd : 3 + 1 ≤ d) (hls : ls.size = nL) (hcat : (st.map fun v => v.category).sum ≤ 8) (dec : decode cc pc = .ok (.invokevirtual 231, 3)) (kk : ∀ (H : Heap) (locs : List Loc), Hw D A s H locs (wX ty o ad σ ++ rs) → W p l e R s m args below meth c H locs 0 0 Q (F0 m (pc + 3) ls (.int q :: st))) : W p l e R s m args below meth c H locs 0 0 Q (F0 m pc ls (.int v3 :: .int v2 :: .int v1 :: .ref (ad 41) :: st)) := KI.callU (As := [.int v1, .int v2, .int v3]) (Cn := RX3) C (kX_cgoal_1 l hc) (va_cwU (x := yX2_goal) (owner := RX2) 3 C.ts (lw_app (a := [.methodLink RX0 231 yX2_goal, .sameMethod yX2_goal.cls RX2 yX2_goal.name yX2_goal.desc, .selects RX3 yX2_goal yX2_goal, .instanceMethod yX2_goal, .initialized yX2_goal.cls]) (List.forall_mem_cons.mpr ⟨q778, List.forall_mem_cons.mpr ⟨q781, List.forall_mem_cons.mpr ⟨q782, List.forall_mem_cons.mpr ⟨q779, List.forall_mem_cons.mpr ⟨q139, fun _ h => absurd h List.not_mem_nil⟩⟩⟩⟩⟩) (lw_meth q789)) rfl rfl rfl rfl ⟨by decide, by decide, by decide +kernel⟩ (C.room hd (by decide))) 20 3 rfl rfl rfl (Nat.zero_le _) (Nat.zero_le _) h hls rfl hcat dec kk
theorem dX_ngoal_2 {p : Program} {l : Launch} {e : Env} {R : Room} {s : State} {m : MethodId} {args : Array Value} {below : List Frame} {meth : Method} {c : Code} {H : Heap} {locs : List Loc} {Q : State → Prop} {cc : ByteArray} {pc : Nat} {ls : Array Slot} {st : List Value} {nL d : Nat} {D : va_G} {ty : Nat → ClassId} {A : Nat → Prop} {o : Nat} {ad : Nat → Nat} {rs : va_W} {σ : PS} {v1 : Int32} {v2 : Int32} {v3 : Int32} {q : Int32} (C : Cx p R s m args c cc nL RX0 D ty A d) (h : Hw D A s H locs (wX ty o ad σ ++ rs)) (hc : X_ngoal σ v1 v2 v3 = some q) (hd : 4 + 1 ≤ d) (hls : ls.size = nL) (hcat : (st.map fun v => v.category).sum ≤ 8) (dec : decode cc pc = .ok (.invokevirtual 231, 3)) (kk : ∀ (H : Heap) (locs : List Loc), Hw D A s H locs (wX ty o ad σ ++ rs) → W p l e R s m args below meth c H locs 0 0 Q (F0 m (pc + 3) ls (.int q :: st))) : W p l e R s m args below meth c H locs 0 0 Q (F0 m pc ls (.int v3 :: .int v2 :: .int v1 :: .ref (ad 42) :: st)) := KI.callU (As := [.int v1, .int v2, .int v3]) (Cn := RX4) C (kX_ngoal l hc) (va_cwO (x := yX2_goal) (owner := RX2) 3 C.ts (lw_app (a := [.methodLink RX0 231 yX2_goal, .sameMethod yX2_goal.cls RX2 yX2_goal.name yX2_goal.desc, .instanceMethod ⟨RX2, yX2_goal.name, yX2_goal.desc⟩, .selects RX4 yX2_goal yX4_goal, .instanceMethod yX4_goal, .initialized yX4_goal.cls]) (List.forall_mem_cons.mpr ⟨q778, List.forall_mem_cons.mpr ⟨q781, List.forall_mem_cons.mpr ⟨q779, List.forall_mem_cons.mpr ⟨q783, List.forall_mem_cons.mpr ⟨q784, List.forall_mem_cons.mpr ⟨q141, fun _ h => absurd h List.not_mem_nil⟩⟩⟩⟩⟩⟩) (lw_meth q785)) rfl rfl rfl q789 ⟨by decide, by decide, by decide +kernel⟩ (C.room hd (by decide))) 21 4 rfl rfl rfl (Nat.zero_le _) (Nat.zero_le _) h hls rfl hcat dec kk
theorem dX_cgoal_3 {p : Program} {l : Launch} {e : Env} {R : Room} {s : State} {m : MethodId} {args : Array Value} {below : List Frame} {meth : Method} {c : Code} {H : Heap} {locs : List Loc} {Q : State → Prop} {cc : ByteArray} {pc : Nat} {ls : Array Slot} {st : List Value} {nL d : Nat} {D : va_G} {ty : Nat → ClassId} {A : Nat → Prop} {o : Nat} {ad : Nat → Nat} {rs : va_W} {σ : PS} {v1 : Int32} {v2 : Int32} {v3 : Int32} {q : Int32} (C : Cx p R s m args c cc nL RX0 D ty A d) (h : Hw D A s H locs (wX ty o ad σ ++ rs)) (hc : X_cgoal σ v1 v2 v3 = some q) (hd : 3 + 1 ≤ d) (hls : ls.size = nL) (hcat : (st.map fun v => v.category).sum ≤ 8) (dec : decode cc pc = .ok (.invokevirtual 231, 3)) (kk : ∀ (H : Heap) (locs : List Loc), Hw D A s H locs (wX ty o ad σ ++ rs) → W p l e R s m args below meth c H locs 0 0 Q (F0 m (pc + 3) ls (.int q :: st))) : W p l e R s m args below meth c H locs 0 0 Q (F0 m pc ls (.int v3 :: .int v2 :: .int v1 :: .ref (ad 43) :: st)) := KI.callU (As := [.int v1, .int v2, .int v3]) (Cn := RX5) C (kX_cgoal_3 l hc) (va_cwU (x := yX2_goal) (owner := RX2) 3 C.ts (lw_app (a := [.methodLink RX0 231 yX2_goal, .sameMethod yX2_goal.cls RX2 yX2_goal.name yX2_goal.desc, .selects RX5 yX2_goal yX2_goal, .instanceMethod yX2_goal, .initialized yX2_goal.cls]) (List.forall_mem_cons.mpr ⟨q778, List.forall_mem_cons.mpr ⟨q781, List.forall_mem_cons.mpr ⟨q788, List.forall_mem_cons.mpr ⟨q779, List.forall_mem_cons.mpr ⟨q139, fun _ h => absurd h List.not_mem_nil⟩⟩⟩⟩⟩) (lw_meth q789)) rfl rfl rfl rfl ⟨by decide, by decide, by decide +kernel⟩ (C.room hd (by decide))) 22 5 rfl rfl rfl (Nat.zero_le _) (Nat.zero_le _) h hls rfl hcat dec kk
theorem dX_cgoes_0 {p : Program} {l : Launch} {e : Env} {R : Room} {s : State} {m : MethodId} {args : Array Value} {below : List Frame} {meth : Method} {c : Code} {H : Heap} {locs : List Loc} {Q : State → Prop} {cc : ByteArray} {pc : Nat} {ls : Array Slot} {st : List Value} {nL d : Nat} {D : va_G} {ty : Nat → ClassId} {A : Nat → Prop} {o : Nat} {ad : Nat → Nat} {rs : va_W} {σ : PS} {v1 : Int32} {q : Int32} (C : Cx p R s m args c cc nL RX0 D ty A d) (h : Hw D A s H locs (wX ty o ad σ ++ rs)) (hc : X_cgoes v1 = some q) (hd : 0 + 1 ≤ d) (hls : ls.size = nL) (hcat : (st.map fun v => v.category).sum ≤ 8) (dec : decode cc pc = .ok (.invokevirtual 235, 3)) (kk : ∀ (H : Heap) (locs : List Loc), Hw D A s H locs (wX ty o ad σ ++ rs) → W p l e R s m args below meth c H locs 0 0 Q (F0 m (pc + 3) ls (.int q :: st))) : W p l e R s m args below meth c H locs 0 0 Q (F0 m pc ls (.int v1 :: .ref (ad 40) :: st)) := KI.callU (As := [.int v1]) (Cn := RX2) C (kX_cgoes_0 l hc) (va_cwU (x := yX2_goes) (owner := RX2) 1 C.ts (lw_app (a := [.methodLink RX0 235 yX2_goes, .sameMethod yX2_goes.cls RX2 yX2_goes.name yX2_goes.desc, .selects RX2 yX2_goes yX2_goes, .instanceMethod yX2_goes, .initialized yX2_goes.cls]) (List.forall_mem_cons.mpr ⟨q805, List.forall_mem_cons.mpr ⟨q808, List.forall_mem_cons.mpr ⟨q807, List.forall_mem_cons.mpr ⟨q806, List.forall_mem_cons.mpr ⟨q139, fun _ h => absurd h List.not_mem_nil⟩⟩⟩⟩⟩) (lw_meth q819)) rfl rfl rfl rfl ⟨by decide, by decide, by decide +kernel⟩ (C.room hd (by decide))) 19 2 rfl rfl rfl (Nat.zero_le _) (Nat.zero_le _) h hls rfl hcat dec kk
theorem dX_agoes_1 {p : Program} {l : Launch} {e : Env} {R : Room} {s : State} {m : MethodId} {args : Array Value} {below : List Frame} {meth : Method} {c : Code} {H : Heap} {locs : List Loc} {Q : State → Prop} {cc : ByteArray} {pc : Nat} {ls : Array Slot} {st : List Value} {nL d : Nat} {D : va_G} {ty : Nat → ClassId} {A : Nat → Prop} {o : Nat} {ad : Nat → Nat} {rs : va_W} {σ : PS} {v1 : Int32} {q : Int32} (C : Cx p R s m args c cc nL RX0 D ty A d) (h : Hw D A s H locs (wX ty o ad σ ++ rs)) (hc : X_agoes v1 = some q) (hd : 1 + 1 ≤ d) (hls : ls.size = nL) (hcat : (st.map fun v => v.category).sum ≤ 8) (dec : decode cc pc = .ok (.invokevirtual 235, 3)) (kk : ∀ (H : Heap) (locs : List Loc), Hw D A s H locs (wX ty o ad σ ++ rs) → W p l e R s m args below meth c H locs 0 0 Q (F0 m (pc + 3) ls (.int q :: st))) : W p l e R s m args below meth c H locs 0 0 Q (F0 m pc ls (.int v1 :: .ref (ad 41) :: st)) := KI.callU (As := [.int v1]) (Cn := RX3) C (kX_agoes l hc) (va_cwO (x := yX2_goes) (owner := RX2) 1 C.ts (lw_app (a := [.methodLink RX0 235 yX2_goes, .sameMethod yX2_goes.cls RX2 yX2_goes.name yX2_goes.desc, .instanceMethod ⟨RX2, yX2_goes.name, yX2_goes.desc⟩, .selects RX3 yX2_goes yX3_goes, .instanceMethod yX3_goes, .initialized yX3_goes.cls]) (List.forall_mem_cons.mpr ⟨q805, List.forall_mem_cons.mpr ⟨q808, List.forall_mem_cons.mpr ⟨q806, List.forall_mem_cons.mpr ⟨q809, List.forall_mem_cons.mpr ⟨q810, List.forall_mem_cons.mpr ⟨q140, fun _ h => absurd h List.not_mem_nil⟩⟩⟩⟩⟩⟩) (lw_meth q811)) rfl rfl rfl q819 ⟨by decide, by decide, by decide +kernel⟩ (C.room hd (by decide))) 20 3 rfl rfl rfl (Nat.zero_le _) (Nat.zero_le _) h hls rfl hcat dec kk
theorem dX_cgoes_2 {p : Program} {l : Launch} {e : Env} {R : Room} {s : State} {m : MethodId} {args : Array Value} {below : List Frame} {meth : Method} {c : Code} {H : Heap} {locs : List Loc} {Q : State → Prop} {cc : ByteArray} {pc : Nat} {ls : Array Slot} {st : List Value} {nL d : Nat} {D : va_G} {ty : Nat → ClassId} {A : Nat → Prop} {o : Nat} {ad : Nat → Nat} {rs : va_W} {σ : PS} {v1 : Int32} {q : Int32} (C : Cx p R s m args c cc nL RX0 D ty A d) (h : Hw D A s H locs (wX ty o ad σ ++ rs)) (hc : X_cgoes v1 = some q) (hd : 0 + 1 ≤ d) (hls : ls.size = nL) (hcat : (st.map fun v => v.category).sum ≤ 8) (dec : decode cc pc = .ok (.invokevirtual 235, 3)) (kk : ∀ (H : Heap) (locs : List Loc), Hw D A s H locs (wX ty o ad σ ++ rs) → W p l e R s m args below meth c H locs 0 0 Q (F0 m (pc + 3) ls (.int q :: st))) : W p l e R s m args below meth c H locs 0 0 Q (F0 m pc ls (.int v1 :: .ref (ad 42) :: st)) := KI.callU (As := [.int v1]) (Cn := RX4) C (kX_cgoes_2 l hc) (va_cwU (x := yX2_goes) (owner := RX2) 1 C.ts (lw_app (a := [.methodLink RX0 235 yX2_goes, .sameMethod yX2_goes.cls RX2 yX2_goes.name yX2_goes.desc, .selects RX4 yX2_goes yX2_goes, .instanceMethod yX2_goes, .initialized yX2_goes.cls]) (List.forall_mem_cons.mpr ⟨q805, List.forall_mem_cons.mpr ⟨q808, List.forall_mem_cons.mpr ⟨q815, List.forall_mem_cons.mpr ⟨q806, List.forall_mem_cons.mpr ⟨q139, fun _ h => absurd h List.not_mem_nil⟩⟩⟩⟩⟩) (lw_meth q819)) rfl rfl rfl rfl ⟨by decide, by decide, by decide +kernel⟩ (C.room hd (by decide))) 21 4 rfl rfl rfl (Nat.zero_le _) (Nat.zero_le _) h hls rfl hcat dec kk
theorem dX_tgoes_3 {p : Program} {l : Launch} {e : Env} {R : Room} {s : State} {m : MethodId} {args : Array Value} {below : List Frame} {meth : Method} {c : Code} {H : Heap} {locs : List Loc} {Q : State → Prop} {cc : ByteArray} {pc : Nat} {ls : Array Slot} {st : List Value} {nL d : Nat} {D : va_G} {ty : Nat → ClassId} {A : Nat → Prop} {o : Nat} {ad : Nat → Nat} {rs : va_W} {σ : PS} {v1 : Int32} {q : Int32} (C : Cx p R s m args c cc nL RX0 D ty A d) (h : Hw D A s H locs (wX ty o ad σ ++ rs)) (hc : X_tgoes v1 = some q) (hd : 0 + 1 ≤ d) (hls : ls.size = nL) (hcat : (st.map fun v => v.category).sum ≤ 8) (dec : decode cc pc = .ok (.invokevirtual 235, 3)) (kk : ∀ (H : Heap) (locs : List Loc), Hw D A s H locs (wX ty o ad σ ++ rs) → W p l e R s m args below meth c H locs 0 0 Q (F0 m (pc + 3) ls (.int q :: st))) : W p l e R s m args below meth c H locs 0 0 Q (F0 m pc ls (.int v1 :: .ref (ad 43) :: st)) := KI.callU (As := [.int v1]) (Cn := RX5) C (kX_tgoes l hc) (va_cwO (x := yX2_goes) (owner := RX2) 1 C.ts (lw_app (a := [.methodLink RX0 235 yX2_goes, .sameMethod yX2_goes.cls RX2 yX2_goes.name yX2_goes.desc, .instanceMethod ⟨RX2, yX2_goes.name, yX2_goes.desc⟩, .selects RX5 yX2_goes yX5_goes, .instanceMethod yX5_goes, .initialized yX5_goes.cls]) (List.forall_mem_cons.mpr ⟨q805, List.forall_mem_cons.mpr ⟨q808, List.forall_mem_cons.mpr ⟨q806, List.forall_mem_cons.mpr ⟨q816, List.forall_mem_cons.mpr ⟨q817, List.forall_mem_cons.mpr ⟨q142, fun _ h => absurd h List.not_mem_nil⟩⟩⟩⟩⟩⟩) (lw_meth q818)) rfl rfl rfl q819 ⟨by decide, by decide, by decide +kernel⟩ (C.room hd (by decide))) 22 5 rfl rfl rfl (Nat.zero_le _) (Nat.zero_le _) h hls rfl hcat dec kk
def X_goal (σ : PS) (v1 : Int32) (v2 : Int32) (v3 : Int32) : Option Int32 := if gI σ 13 = 0 then X_cgoal σ v1 v2 v3 else if gI σ 13 = 1 then X_cgoal σ v1 v2 v3 else if gI σ 13 = 2 then X_ngoal σ v1 v2 v3 else if gI σ 13 = 3 then X_cgoal σ v1 v2 v3 else none
theorem cX_goal {p : Program} {l : Launch} {e : Env} {R : Room} {s : State} {m : MethodId} {args : Array Value} {below : List Frame} {meth : Method} {c : Code} {H : Heap} {locs : List Loc} {Q : State → Prop} {cc : ByteArray} {pc : Nat} {ls : Array Slot} {st : List Value} {nL d : Nat} {D : va_G} {ty : Nat → ClassId} {A : Nat → Prop} {o : Nat} {ad : Nat → Nat} {rs : va_W} {σ : PS} {v1 : Int32} {v2 : Int32} {v3 : Int32} {q : Int32} (C : Cx p R s m args c cc nL RX0 D ty A d) {la : Nat} (hla : lawV ad (gI σ 13) = .ref la) (h : Hw D A s H locs (wX ty o ad σ ++ rs)) (hc : X_goal σ v1 v2 v3 = some q) (hd : 4 + 1 ≤ d) (hls : ls.size = nL) (hcat : (st.map fun v => v.category).sum ≤ 8) (dec : decode cc pc = .ok (.invokevirtual 231, 3)) (kk : ∀ (H : Heap) (locs : List Loc), Hw D A s H locs (wX ty o ad σ ++ rs) → W p l e R s m args below meth c H locs 0 0 Q (F0 m (pc + 3) ls (.int q :: st))) : W p l e R s m args below meth c H locs 0 0 Q (F0 m pc ls (.int v3 :: .int v2 :: .int v1 :: .ref la :: st)) := by
  unfold X_goal at hc
  by_cases c0 : gI σ 13 = 0
  · rw [if_pos c0] at hc
    rw [c0] at hla
    have e9 : ad 40 = la := by injection hla
    subst e9
    exact dX_cgoal_0 C h hc (Nat.le_trans (Nat.le_of_ble_eq_true rfl) hd) hls hcat dec kk
  rw [if_neg c0] at hc
  by_cases c1 : gI σ 13 = 1
  · rw [if_pos c1] at hc
    rw [c1] at hla
    have e9 : ad 41 = la := by injection hla
    subst e9
    exact dX_cgoal_1 C h hc (Nat.le_trans (Nat.le_of_ble_eq_true rfl) hd) hls hcat dec kk
  rw [if_neg c1] at hc
  by_cases c2 : gI σ 13 = 2
  · rw [if_pos c2] at hc
    rw [c2] at hla
    have e9 : ad 42 = la := by injection hla
    subst e9
    exact dX_ngoal_2 C h hc (Nat.le_trans (Nat.le_of_ble_eq_true rfl) hd) hls hcat dec kk
  rw [if_neg c2] at hc
  by_cases c3 : gI σ 13 = 3
  · rw [if_pos c3] at hc
    rw [c3] at hla
    have e9 : ad 43 = la := by injection hla
    subst e9
    exact dX_cgoal_3 C h hc (Nat.le_trans (Nat.le_of_ble_eq_true rfl) hd) hls hcat dec kk
  rw [if_neg c3] at hc
  cases hc
def X_goes (σ : PS) (v1 : Int32) : Option Int32 := if gI σ 13 = 0 then X_cgoes v1 else if gI σ 13 = 1 then X_agoes v1 else if gI σ 13 = 2 then X_cgoes v1 else if gI σ 13 = 3 then X_tgoes v1 else none
theorem cX_goes {p : Program} {l : Launch} {e : Env} {R : Room} {s : State} {m : MethodId} {args : Array Value} {below : List Frame} {meth : Method} {c : Code} {H : Heap} {locs : List Loc} {Q : State → Prop} {cc : ByteArray} {pc : Nat} {ls : Array Slot} {st : List Value} {nL d : Nat} {D : va_G} {ty : Nat → ClassId} {A : Nat → Prop} {o : Nat} {ad : Nat → Nat} {rs : va_W} {σ : PS} {v1 : Int32} {q : Int32} (C : Cx p R s m args c cc nL RX0 D ty A d) {la : Nat} (hla : lawV ad (gI σ 13) = .ref la) (h : Hw D A s H locs (wX ty o ad σ ++ rs)) (hc : X_goes σ v1 = some q) (hd : 1 + 1 ≤ d) (hls : ls.size = nL) (hcat : (st.map fun v => v.category).sum ≤ 8) (dec : decode cc pc = .ok (.invokevirtual 235, 3)) (kk : ∀ (H : Heap) (locs : List Loc), Hw D A s H locs (wX ty o ad σ ++ rs) → W p l e R s m args below meth c H locs 0 0 Q (F0 m (pc + 3) ls (.int q :: st))) : W p l e R s m args below meth c H locs 0 0 Q (F0 m pc ls (.int v1 :: .ref la :: st)) := by
  unfold X_goes at hc
  by_cases c0 : gI σ 13 = 0
  · rw [if_pos c0] at hc
    rw [c0] at hla
    have e9 : ad 40 = la := by injection hla
    subst e9
    exact dX_cgoes_0 C h hc (Nat.le_trans (Nat.le_of_ble_eq_true rfl) hd) hls hcat dec kk
  rw [if_neg c0] at hc
  by_cases c1 : gI σ 13 = 1
  · rw [if_pos c1] at hc
    rw [c1] at hla
    have e9 : ad 41 = la := by injection hla
    subst e9
    exact dX_agoes_1 C h hc (Nat.le_trans (Nat.le_of_ble_eq_true rfl) hd) hls hcat dec kk
  rw [if_neg c1] at hc
  by_cases c2 : gI σ 13 = 2
  · rw [if_pos c2] at hc
    rw [c2] at hla
    have e9 : ad 42 = la := by injection hla
    subst e9
    exact dX_cgoes_2 C h hc (Nat.le_trans (Nat.le_of_ble_eq_true rfl) hd) hls hcat dec kk
  rw [if_neg c2] at hc
  by_cases c3 : gI σ 13 = 3
  · rw [if_pos c3] at hc
    rw [c3] at hla
    have e9 : ad 43 = la := by injection hla
    subst e9
    exact dX_tgoes_3 C h hc (Nat.le_trans (Nat.le_of_ble_eq_true rfl) hd) hls hcat dec kk
  rw [if_neg c3] at hc
  cases hc
