set_option maxRecDepth 100000
set_option maxHeartbeats 4000000 in
theorem kL_init (l : Launch) {D : va_G} {ty : Nat → ClassId} {A : Nat → Prop} {o : Nat} : KVx l yX1_init cX1_init 1 1 6 61 D ty A [(o, .inr (1, [.int 0, .int 0, .int 0, .int 0, .int 0, .int 0, .int 0, .int 0, .int 0, .null, .null, .null, .null, .null, .null]))] [.ref o] (fun (ad : Nat → Nat) => ad 0 = o) (fun ad => wLehr ty ad σz) := by
  refine KVx.of (by decide) (Nat.le_of_ble_eq_true rfl) ?_
  intro p e R s m args below meth c Q C hin hmc hms hR H locs ls h hl
  have C : Cx p R s m args c cX1_init 1 RX1 D ty A 1 := C
  have hin : meth.name = "<init>" := hin
  have hl : lv_has ls 1 [(0, .ref o)] := hl
  refine lv_aload_n C.x C.b dX1_init_0 rfl (lv_at hl 0 rfl) ?_
  refine W.objInit C.x C.b C.own (C.ts _ q183) (C.ts _ q176) (C.ts _ q177) rfl (by rw [C.1.2.2.1]; exact hl.1) rfl dX1_init_1 (Nat.le_trans (Nat.le_of_ble_eq_true rfl) C.2.2.2.1) (Nat.le_trans (Nat.le_of_ble_eq_true rfl) C.2.2.2.2) ?_
  refine W.eq (g2 := F0 m 4 ls []) rfl ?_
  refine lv_aload_n C.x C.b dX1_init_4 rfl (lv_at hl 0 rfl) ?_
  refine lv_bipush (v := 7) C.x C.b dX1_init_5 (by decide) ?_
  refine n_arr_int (N := 7) C h (by decide) (by decide) (by decide) (by omega) (by omega) dX1_init_7 (fun q1 H h => ?_)
  have h : Hw D A s H locs [(o, .inr (1, [.int 0, .int 0, .int 0, .int 0, .int 0, .int 0, .int 0, .int 0, .int 0, .null, .null, .null, .null, .null, .null])), (q1, .inl (ty 0, 7, .inl (fun _ => 0)))] := h
  refine va_putF (D := D) (ci := 1) (ty := .array .int) (v := .ref q1) C.x C.b C.ts in_X1 tyX1 tyX1_ok nmX1 C.own C.K h.1 h.2.1 h.2.2 0 rfl rfl 9 (by decide) (C.ts _ q211) (fun _ h9 => h9) rfl hin rfl (by decide +kernel) rfl rfl (Nat.le_of_ble_eq_true rfl) dX1_init_9 (fun H locs hP hD hS => ?_)
  have h : Hw D A s H locs [(o, .inr (1, [.int 0, .int 0, .int 0, .int 0, .int 0, .int 0, .int 0, .int 0, .int 0, .ref q1, .null, .null, .null, .null, .null])), (q1, .inl (ty 0, 7, .inl (fun _ => 0)))] := ⟨hP, hD, hS⟩
  refine lv_aload_n C.x C.b dX1_init_12 rfl (lv_at hl 0 rfl) ?_
  refine lv_bipush (v := 6) C.x C.b dX1_init_13 (by decide) ?_
  refine n_arr_int (N := 6) C h (by decide) (by decide) (by decide) (by omega) (by omega) dX1_init_15 (fun q2 H h => ?_)
  have h : Hw D A s H locs [(o, .inr (1, [.int 0, .int 0, .int 0, .int 0, .int 0, .int 0, .int 0, .int 0, .int 0, .ref q1, .null, .null, .null, .null, .null])), (q1, .inl (ty 0, 7, .inl (fun _ => 0))), (q2, .inl (ty 0, 6, .inl (fun _ => 0)))] := h
  refine va_putF (D := D) (ci := 1) (ty := .array .int) (v := .ref q2) C.x C.b C.ts in_X1 tyX1 tyX1_ok nmX1 C.own C.K h.1 h.2.1 h.2.2 0 rfl rfl 10 (by decide) (C.ts _ q214) (fun _ h9 => h9) rfl hin rfl (by decide +kernel) rfl rfl (Nat.le_of_ble_eq_true rfl) dX1_init_17 (fun H locs hP hD hS => ?_)
  have h : Hw D A s H locs [(o, .inr (1, [.int 0, .int 0, .int 0, .int 0, .int 0, .int 0, .int 0, .int 0, .int 0, .ref q1, .ref q2, .null, .null, .null, .null])), (q1, .inl (ty 0, 7, .inl (fun _ => 0))), (q2, .inl (ty 0, 6, .inl (fun _ => 0)))] := ⟨hP, hD, hS⟩
  refine lv_aload_n C.x C.b dX1_init_20 rfl (lv_at hl 0 rfl) ?_
  refine lv_bipush (v := 6) C.x C.b dX1_init_21 (by decide) ?_
  refine n_arr_int (N := 6) C h (by decide) (by decide) (by decide) (by omega) (by omega) dX1_init_23 (fun q3 H h => ?_)
  have h : Hw D A s H locs [(o, .inr (1, [.int 0, .int 0, .int 0, .int 0, .int 0, .int 0, .int 0, .int 0, .int 0, .ref q1, .ref q2, .null, .null, .null, .null])), (q1, .inl (ty 0, 7, .inl (fun _ => 0))), (q2, .inl (ty 0, 6, .inl (fun _ => 0))), (q3, .inl (ty 0, 6, .inl (fun _ => 0)))] := h
  refine va_putF (D := D) (ci := 1) (ty := .array .int) (v := .ref q3) C.x C.b C.ts in_X1 tyX1 tyX1_ok nmX1 C.own C.K h.1 h.2.1 h.2.2 0 rfl rfl 11 (by decide) (C.ts _ q217) (fun _ h9 => h9) rfl hin rfl (by decide +kernel) rfl rfl (Nat.le_of_ble_eq_true rfl) dX1_init_25 (fun H locs hP hD hS => ?_)
  have h : Hw D A s H locs [(o, .inr (1, [.int 0, .int 0, .int 0, .int 0, .int 0, .int 0, .int 0, .int 0, .int 0, .ref q1, .ref q2, .ref q3, .null, .null, .null])), (q1, .inl (ty 0, 7, .inl (fun _ => 0))), (q2, .inl (ty 0, 6, .inl (fun _ => 0))), (q3, .inl (ty 0, 6, .inl (fun _ => 0)))] := ⟨hP, hD, hS⟩
  refine lv_aload_n C.x C.b dX1_init_28 rfl (lv_at hl 0 rfl) ?_
  refine lv_bipush (v := 6) C.x C.b dX1_init_29 (by decide) ?_
  refine n_arr_int (N := 6) C h (by decide) (by decide) (by decide) (by omega) (by omega) dX1_init_31 (fun q4 H h => ?_)
  have h : Hw D A s H locs [(o, .inr (1, [.int 0, .int 0, .int 0, .int 0, .int 0, .int 0, .int 0, .int 0, .int 0, .ref q1, .ref q2, .ref q3, .null, .null, .null])), (q1, .inl (ty 0, 7, .inl (fun _ => 0))), (q2, .inl (ty 0, 6, .inl (fun _ => 0))), (q3, .inl (ty 0, 6, .inl (fun _ => 0))), (q4, .inl (ty 0, 6, .inl (fun _ => 0)))] := h
  refine va_putF (D := D) (ci := 1) (ty := .array .int) (v := .ref q4) C.x C.b C.ts in_X1 tyX1 tyX1_ok nmX1 C.own C.K h.1 h.2.1 h.2.2 0 rfl rfl 12 (by decide) (C.ts _ q220) (fun _ h9 => h9) rfl hin rfl (by decide +kernel) rfl rfl (Nat.le_of_ble_eq_true rfl) dX1_init_33 (fun H locs hP hD hS => ?_)
  have h : Hw D A s H locs [(o, .inr (1, [.int 0, .int 0, .int 0, .int 0, .int 0, .int 0, .int 0, .int 0, .int 0, .ref q1, .ref q2, .ref q3, .ref q4, .null, .null])), (q1, .inl (ty 0, 7, .inl (fun _ => 0))), (q2, .inl (ty 0, 6, .inl (fun _ => 0))), (q3, .inl (ty 0, 6, .inl (fun _ => 0))), (q4, .inl (ty 0, 6, .inl (fun _ => 0)))] := ⟨hP, hD, hS⟩
  refine lv_aload_n C.x C.b dX1_init_36 rfl (lv_at hl 0 rfl) ?_
  refine lv_bipush (v := 6) C.x C.b dX1_init_37 (by decide) ?_
  refine n_arr_int (N := 6) C h (by decide) (by decide) (by decide) (by omega) (by omega) dX1_init_39 (fun q5 H h => ?_)
  have h : Hw D A s H locs [(o, .inr (1, [.int 0, .int 0, .int 0, .int 0, .int 0, .int 0, .int 0, .int 0, .int 0, .ref q1, .ref q2, .ref q3, .ref q4, .null, .null])), (q1, .inl (ty 0, 7, .inl (fun _ => 0))), (q2, .inl (ty 0, 6, .inl (fun _ => 0))), (q3, .inl (ty 0, 6, .inl (fun _ => 0))), (q4, .inl (ty 0, 6, .inl (fun _ => 0))), (q5, .inl (ty 0, 6, .inl (fun _ => 0)))] := h
  refine va_putF (D := D) (ci := 1) (ty := .array .int) (v := .ref q5) C.x C.b C.ts in_X1 tyX1 tyX1_ok nmX1 C.own C.K h.1 h.2.1 h.2.2 0 rfl rfl 13 (by decide) (C.ts _ q223) (fun _ h9 => h9) rfl hin rfl (by decide +kernel) rfl rfl (Nat.le_of_ble_eq_true rfl) dX1_init_41 (fun H locs hP hD hS => ?_)
  have h : Hw D A s H locs [(o, .inr (1, [.int 0, .int 0, .int 0, .int 0, .int 0, .int 0, .int 0, .int 0, .int 0, .ref q1, .ref q2, .ref q3, .ref q4, .ref q5, .null])), (q1, .inl (ty 0, 7, .inl (fun _ => 0))), (q2, .inl (ty 0, 6, .inl (fun _ => 0))), (q3, .inl (ty 0, 6, .inl (fun _ => 0))), (q4, .inl (ty 0, 6, .inl (fun _ => 0))), (q5, .inl (ty 0, 6, .inl (fun _ => 0)))] := ⟨hP, hD, hS⟩
  refine lv_aload_n C.x C.b dX1_init_44 rfl (lv_at hl 0 rfl) ?_
  refine lv_bipush (v := 30) C.x C.b dX1_init_45 (by decide) ?_
  refine n_arr_int (N := 30) C h (by decide) (by decide) (by decide) (by omega) (by omega) dX1_init_47 (fun q6 H h => ?_)
  have h : Hw D A s H locs [(o, .inr (1, [.int 0, .int 0, .int 0, .int 0, .int 0, .int 0, .int 0, .int 0, .int 0, .ref q1, .ref q2, .ref q3, .ref q4, .ref q5, .null])), (q1, .inl (ty 0, 7, .inl (fun _ => 0))), (q2, .inl (ty 0, 6, .inl (fun _ => 0))), (q3, .inl (ty 0, 6, .inl (fun _ => 0))), (q4, .inl (ty 0, 6, .inl (fun _ => 0))), (q5, .inl (ty 0, 6, .inl (fun _ => 0))), (q6, .inl (ty 0, 30, .inl (fun _ => 0)))] := h
  refine va_putF (D := D) (ci := 1) (ty := .array .int) (v := .ref q6) C.x C.b C.ts in_X1 tyX1 tyX1_ok nmX1 C.own C.K h.1 h.2.1 h.2.2 0 rfl rfl 14 (by decide) (C.ts _ q226) (fun _ h9 => h9) rfl hin rfl (by decide +kernel) rfl rfl (Nat.le_of_ble_eq_true rfl) dX1_init_49 (fun H locs hP hD hS => ?_)
  have h : Hw D A s H locs [(o, .inr (1, [.int 0, .int 0, .int 0, .int 0, .int 0, .int 0, .int 0, .int 0, .int 0, .ref q1, .ref q2, .ref q3, .ref q4, .ref q5, .ref q6])), (q1, .inl (ty 0, 7, .inl (fun _ => 0))), (q2, .inl (ty 0, 6, .inl (fun _ => 0))), (q3, .inl (ty 0, 6, .inl (fun _ => 0))), (q4, .inl (ty 0, 6, .inl (fun _ => 0))), (q5, .inl (ty 0, 6, .inl (fun _ => 0))), (q6, .inl (ty 0, 30, .inl (fun _ => 0)))] := ⟨hP, hD, hS⟩
  obtain ⟨ad, ead⟩ : ∃ f, f = adL [(0, o), (109, q1), (110, q2), (111, q3), (112, q4), (113, q5), (114, q6)] := ⟨_, rfl⟩
  have h : Hw D A s H locs (wLehr ty ad σz) := by rw [ead]; exact h
  have h : Hw D A s H locs (wLehr ty ad σz ++ []) := by rw [List.append_nil]; exact h
  exact hR ad _ _ _ _ (by rw [ead]; rfl) (by rw [List.append_nil] at h; exact h) dX1_init_52
