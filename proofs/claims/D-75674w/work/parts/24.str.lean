set_option maxRecDepth 100000
section KRECV
variable {p : Program} {l : Launch} {e : Env} {R : Room} {s : State} {m : MethodId} {args : Array Value} {below : List Frame} {meth : Method} {c : Code} {H : Heap} {locs : List Loc} {cells slots : Nat} {Q : State → Prop} {cc : ByteArray} {pc : Nat} {ls : Array Slot} {st rest : List Value} {nL d : Nat} {ow : String} {D : va_G} {ty : Nat → ClassId} {A : Nat → Prop}
variable {y : MethodName} {bytes : ByteArray} {nL' d' index : Nat} {rt : FieldType} {ws ws' : va_W} {As : List Value} {o : Nat} {Cn : String}
/-- a call by an object that isn't one of the world's -/
theorem KI.callVr {r : Int32} (C : Cx p R s m args c cc nL ow D ty A d) (hM : KI l y bytes nL' rt d' D ty A ws ws' (.ref o :: As) r)
    (hT : GoodIn lw_all (wsV ow index Cn y (ws_ y bytes nL' (some rt)))) (hy : y.cls = Cn ∧ y.cls ≠ "java/lang/invoke/MethodHandle" ∧ y.cls ≠ "java/lang/invoke/VarHandle" ∧ (parseMethodDescriptor y.desc).map (fun d => d.parameters.length) = some As.length)
    (hrv : ∃ cell : Cell, H[o]? = some cell ∧ cell.vm.isStatics = false ∧ s.vm.findClass Cn = some cell.cls) (hd : d' + 1 ≤ d) (hn : nL' ≤ 21) (hcs : cells ≤ R.cells) (hss : slots ≤ R.slots)
    (h : Hw D A s H locs ws) (hls : ls.size = nL) (hst : st = As.reverse ++ .ref o :: rest) (hcat : (rest.map fun v => v.category).sum ≤ 8) (dec : decode cc pc = .ok (.invokevirtual index, 3))
    (kk : ∀ (H : Heap) (locs : List Loc), Hw D A s H locs ws' → W p l e R s m args below meth c H locs cells slots Q (F0 m (pc + 3) ls (.int r :: rest))) : W p l e R s m args below meth c H locs cells slots Q (F0 m pc ls st) := by
  have hA1 : ∀ q : Nat, H.size ≤ q → A q := fun q hq => C.2.2.1 q (Nat.le_trans h.2.2.1 hq)
  subst hst
  refine va_calli (va_runV (As := As) (rest := rest) C.1 (hM H.size hA1) (cwV As.length C.ts hT rfl rfl rfl hy (C.room hd hn)) ⟨KP.blind, hrv, KP.here C h⟩ rfl rfl hls rfl (lv_room hcat) dec ⟨hcs, hss⟩) h.2.2 (fun q _ h => h) (fun q h => h) (fun r' u t H1 locs1 ht hvm hr hB hz1 hk1 hS => ?_)
  subst hr
  exact kk H1 locs1 ⟨by rw [← ht]; exact hB.1, hB.2, hS⟩
end KRECV
theorem Zq_cases {C n d : String} {A : Nat → Prop} {U : State} {H : Heap} (h : va_Zq C n d A U H) : ∃ u : Value, (u = .null ∨ ∃ t, u = .ref t) ∧ va_Z C n d u A U H := by
  rcases h with h9 | ⟨t, h9⟩
  · exact ⟨_, Or.inl rfl, h9⟩
  · exact ⟨_, Or.inr ⟨t, rfl⟩, h9⟩
/-- the char at j of the literal i -/
def chr (i j : Nat) : Int32 := (strByt.getD i []).getD j 0 &&& 255
theorem str_len : ∀ i, i < 12 → strLen.getD i 0 ≤ 5 := by decide
theorem chr_nar : ∀ i, i < 12 → ∀ j, j < 5 → ((chr i j).toUInt32 % 65536).toInt32 = chr i j ∧ narrow .char (.int (chr i j)) = .int (chr i j) := by decide +kernel
theorem kT_coder (l : Launch) {D : va_G} {ty : Nat → ClassId} {A : Nat → Prop} {ws : va_W} {i : Nat} (hi : i < 12) : KI l yJ4_coder cJ4_coder 1 .byte 1 D ty A ws ws [.ref (ty (200 + i))] 0 := by
  refine KI.of (by decide) (Nat.le_of_ble_eq_true rfl) ?_
  intro p e R s m args below meth c Q C hR H locs ls h hl
  have C : Cx p R s m args c cJ4_coder 1 RJ4 D ty A 1 := C
  have hl : lv_has ls 1 [(0, .ref (ty (200 + i)))] := hl
  refine va_gets C.x C.b C.E.2.2.2.2.2.2.1 h.2.2 C.own (C.ts _ q546) (fun _ h9 => h9) dJ4_coder_0 ?_
  refine lv_if_eq (tgt := 13) C.x C.b dJ4_coder_3 (by decide) (fun c9 => ?_) (fun c9 => ?_)
  · exact absurd c9 (by decide)
  refine lv_aload_n C.x C.b dJ4_coder_6 rfl (lv_at hl 0 rfl) ?_
  refine vk_getf C.x C.b (C.E.2.2.2.2.1.1 i hi).2.1 h.2.2 C.own (C.ts _ q2376) (fun _ h9 => h9) dJ4_coder_7 ?_
  refine lv_goto (tgt := 14) C.x C.b dJ4_coder_10 (by decide) ?_
  exact hR _ _ _ _ h (by decide) dJ4_coder_14
theorem kT_lat (l : Launch) {D : va_G} {ty : Nat → ClassId} {A : Nat → Prop} {ws : va_W} {i : Nat} (hi : i < 12) : KI l yJ4_isLatin1 cJ4_isLatin1 1 .boolean 1 D ty A ws ws [.ref (ty (200 + i))] 1 := by
  refine KI.of (by decide) (Nat.le_of_ble_eq_true rfl) ?_
  intro p e R s m args below meth c Q C hR H locs ls h hl
  have C : Cx p R s m args c cJ4_isLatin1 1 RJ4 D ty A 1 := C
  have hl : lv_has ls 1 [(0, .ref (ty (200 + i)))] := hl
  refine va_gets C.x C.b C.E.2.2.2.2.2.2.1 h.2.2 C.own (C.ts _ q546) (fun _ h9 => h9) dJ4_isLatin1_0 ?_
  refine lv_if_eq (tgt := 17) C.x C.b dJ4_isLatin1_3 (by decide) (fun c9 => ?_) (fun c9 => ?_)
  · exact absurd c9 (by decide)
  refine lv_aload_n C.x C.b dJ4_isLatin1_6 rfl (lv_at hl 0 rfl) ?_
  refine vk_getf C.x C.b (C.E.2.2.2.2.1.1 i hi).2.1 h.2.2 C.own (C.ts _ q2376) (fun _ h9 => h9) dJ4_isLatin1_7 ?_
  refine lv_if_ne (tgt := 17) C.x C.b dJ4_isLatin1_10 (by decide) (fun c9 => ?_) (fun c9 => ?_)
  · exact absurd rfl c9
  refine lv_iconst (v := 1) C.x C.b dJ4_isLatin1_13 (by decide) ?_
  refine lv_goto (tgt := 18) C.x C.b dJ4_isLatin1_14 (by decide) ?_
  exact hR _ _ _ _ h (by decide) dJ4_isLatin1_18
theorem kT_length (l : Launch) {D : va_G} {ty : Nat → ClassId} {A : Nat → Prop} {ws : va_W} {i : Nat} (hi : i < 12) : KI l yJ4_length cJ4_length 1 .int 2 D ty A ws ws [.ref (ty (200 + i))] (nI (strLen.getD i 0)) := by
  refine KI.of (by decide) (Nat.le_of_ble_eq_true rfl) ?_
  intro p e R s m args below meth c Q C hR H locs ls h hl
  have C : Cx p R s m args c cJ4_length 1 RJ4 D ty A 2 := C
  have hl : lv_has ls 1 [(0, .ref (ty (200 + i)))] := hl
  refine lv_aload_n C.x C.b dJ4_length_0 rfl (lv_at hl 0 rfl) ?_
  refine vk_getf C.x C.b (C.E.2.2.2.2.1.1 i hi).2.2.1 h.2.2 C.own (C.ts _ q2375) (fun _ h9 => h9) dJ4_length_1 ?_
  refine va_tlen (v := nI (strLen.getD i 0)) C.x C.b (C.E.2.2.2.2.1.1 i hi).2.2.2 h.2.2 rfl dJ4_length_4 ?_
  refine lv_aload_n C.x C.b dJ4_length_5 rfl (lv_at hl 0 rfl) ?_
  refine KI.callVr (As := []) (rest := [.int (nI (strLen.getD i 0))]) C (kT_coder l hi) (lw_V q542 q543 q544 q152 q545) ⟨rfl, by decide, by decide, by show _ = some 0; decide +kernel⟩ (vk_recv (adK := fun i => ty (200 + i)) (i := i) C.E.2.2.2.2.1 hi h.2.2) (Nat.le_of_ble_eq_true rfl) (by decide) (by omega) (by omega) h hl.1 rfl (Nat.le_of_ble_eq_true rfl) dJ4_length_6 (fun H locs h => ?_)
  refine lv_ishr C.x C.b dJ4_length_9 ?_
  rw [sb_shr0]
  exact hR _ _ _ _ h (vp_nar_int _) dJ4_length_10
theorem kP_checkN (l : Launch) {D : va_G} {ty : Nat → ClassId} {A : Nat → Prop} {ws : va_W} {z : Nat} {i n : Int32} (h0 : ¬ i < 0) (h1 : i < n) : KI l yJ6_checkIndex cJ6_checkIndex 3 .int 1 D ty A ws ws [.int i, .int n, .null] i := by
  refine KI.of (by decide) (Nat.le_of_ble_eq_true rfl) ?_
  intro p e R s m args below meth c Q C hR H locs ls h hl
  have C : Cx p R s m args c cJ6_checkIndex 3 RJ6 D ty A 1 := C
  have hl : lv_has ls 3 [(0, .int i), (1, .int n), (2, .null)] := hl
  refine lv_iload_n C.x C.b dJ6_checkIndex_0 rfl (lv_at hl 0 rfl) ?_
  refine lv_if_lt (tgt := 9) C.x C.b dJ6_checkIndex_1 (by decide) (fun c9 => ?_) (fun c9 => ?_)
  · exact absurd c9 h0
  refine lv_iload_n C.x C.b dJ6_checkIndex_4 rfl (lv_at hl 0 rfl) ?_
  refine lv_iload_n C.x C.b dJ6_checkIndex_5 rfl (lv_at hl 1 rfl) ?_
  refine lv_icmp_lt (tgt := 16) C.x C.b dJ6_checkIndex_6 (by decide) (fun c9 => ?_) (fun c9 => ?_)
  rotate_left
  · exact absurd h1 c9
  refine lv_iload_n C.x C.b dJ6_checkIndex_16 rfl (lv_at hl 0 rfl) ?_
  exact hR _ _ _ _ h (vp_nar_int _) dJ6_checkIndex_17
theorem kP_checkR (l : Launch) {D : va_G} {ty : Nat → ClassId} {A : Nat → Prop} {ws : va_W} {z : Nat} {i n : Int32} (h0 : ¬ i < 0) (h1 : i < n) : KI l yJ6_checkIndex cJ6_checkIndex 3 .int 1 D ty A ws ws [.int i, .int n, .ref z] i := by
  refine KI.of (by decide) (Nat.le_of_ble_eq_true rfl) ?_
  intro p e R s m args below meth c Q C hR H locs ls h hl
  have C : Cx p R s m args c cJ6_checkIndex 3 RJ6 D ty A 1 := C
  have hl : lv_has ls 3 [(0, .int i), (1, .int n), (2, .ref z)] := hl
  refine lv_iload_n C.x C.b dJ6_checkIndex_0 rfl (lv_at hl 0 rfl) ?_
  refine lv_if_lt (tgt := 9) C.x C.b dJ6_checkIndex_1 (by decide) (fun c9 => ?_) (fun c9 => ?_)
  · exact absurd c9 h0
  refine lv_iload_n C.x C.b dJ6_checkIndex_4 rfl (lv_at hl 0 rfl) ?_
  refine lv_iload_n C.x C.b dJ6_checkIndex_5 rfl (lv_at hl 1 rfl) ?_
  refine lv_icmp_lt (tgt := 16) C.x C.b dJ6_checkIndex_6 (by decide) (fun c9 => ?_) (fun c9 => ?_)
  rotate_left
  · exact absurd h1 c9
  refine lv_iload_n C.x C.b dJ6_checkIndex_16 rfl (lv_at hl 0 rfl) ?_
  exact hR _ _ _ _ h (vp_nar_int _) dJ6_checkIndex_17
theorem kT_check (l : Launch) {D : va_G} {ty : Nat → ClassId} {A : Nat → Prop} {ws : va_W} {i n : Int32} (h0 : ¬ i < 0) (h1 : i < n) : KV l yJ4_checkIndex cJ4_checkIndex 2 2 D ty A ws ws [.int i, .int n] := by
  refine KV.of (by decide) (Nat.le_of_ble_eq_true rfl) ?_
  intro p e R s m args below meth c Q C hR H locs ls h hl
  have C : Cx p R s m args c cJ4_checkIndex 2 RJ4 D ty A 2 := C
  have hl : lv_has ls 2 [(0, .int i), (1, .int n)] := hl
  refine lv_iload_n C.x C.b dJ4_checkIndex_0 rfl (lv_at hl 0 rfl) ?_
  refine lv_iload_n C.x C.b dJ4_checkIndex_1 rfl (lv_at hl 1 rfl) ?_
  rcases C.E.2.2.2.2.2.2.2.1 with hz | ⟨z, hz⟩
  ·
    refine va_gets C.x C.b hz h.2.2 C.own (C.ts _ q562) (fun _ h9 => h9) dJ4_checkIndex_2 ?_
    refine KI.callS (As := [.int i, .int n, .null]) (rest := []) C (kP_checkN l (z := 0) h0 h1) (lw_S q564 q565 q154 q566) ⟨by decide, by decide, by show _ = some 3; decide +kernel⟩ (Nat.le_of_ble_eq_true rfl) (by decide) (Nat.zero_le _) (Nat.zero_le _) h hl.1 rfl (Nat.le_of_ble_eq_true rfl) dJ4_checkIndex_5 (fun H locs h => ?_)
    refine lv_pop C.x C.b dJ4_checkIndex_8 rfl ?_
    exact hR _ _ _ _ h dJ4_checkIndex_9
  ·
    refine va_gets C.x C.b hz h.2.2 C.own (C.ts _ q562) (fun _ h9 => h9) dJ4_checkIndex_2 ?_
    refine KI.callS (As := [.int i, .int n, .ref z]) (rest := []) C (kP_checkR l h0 h1) (lw_S q564 q565 q154 q566) ⟨by decide, by decide, by show _ = some 3; decide +kernel⟩ (Nat.le_of_ble_eq_true rfl) (by decide) (Nat.zero_le _) (Nat.zero_le _) h hl.1 rfl (Nat.le_of_ble_eq_true rfl) dJ4_checkIndex_5 (fun H locs h => ?_)
    refine lv_pop C.x C.b dJ4_checkIndex_8 rfl ?_
    exact hR _ _ _ _ h dJ4_checkIndex_9
theorem kA_charAt (l : Launch) {D : va_G} {ty : Nat → ClassId} {A : Nat → Prop} {ws : va_W} {i : Nat} (hi : i < 12) {j : Nat} (hj : j < strLen.getD i 0) : KI l yJ5_charAt cJ5_charAt 2 .char 3 D ty A ws ws [.ref (ty (300 + i)), .int (nI j)] (chr i j) := by
  refine KI.of (by decide) (Nat.le_of_ble_eq_true rfl) ?_
  intro p e R s m args below meth c Q C hR H locs ls h hl
  have C : Cx p R s m args c cJ5_charAt 2 RJ5 D ty A 3 := C
  have hl : lv_has ls 2 [(0, .ref (ty (300 + i))), (1, .int (nI j))] := hl
  have h5 := str_len i hi
  refine lv_iload_n C.x C.b dJ5_charAt_0 rfl (lv_at hl 1 rfl) ?_
  refine lv_aload_n C.x C.b dJ5_charAt_1 rfl (lv_at hl 0 rfl) ?_
  refine va_tlen (v := nI (strLen.getD i 0)) C.x C.b (C.E.2.2.2.2.1.1 i hi).2.2.2 h.2.2 rfl dJ5_charAt_2 ?_
  refine KV.callS (As := [.int (nI j), .int (nI (strLen.getD i 0))]) (rest := []) C (kT_check l (nI_pos (by omega)) (nI_lt hj (by omega))) (lw_S q559 q560 q152 q561) ⟨by decide, by decide, by show _ = some 2; decide +kernel⟩ (Nat.le_of_ble_eq_true rfl) (by decide) (Nat.zero_le _) (Nat.zero_le _) h hl.1 rfl (Nat.le_of_ble_eq_true rfl) dJ5_charAt_3 (fun H locs h => ?_)
  refine lv_aload_n C.x C.b dJ5_charAt_6 rfl (lv_at hl 0 rfl) ?_
  refine lv_iload_n C.x C.b dJ5_charAt_7 rfl (lv_at hl 1 rfl) ?_
  refine va_tb (v := .int ((strByt.getD i []).getD j 0)) C.x C.b (C.E.2.2.2.2.1.1 i hi).2.2.2 h.2.2 (vp_in_nI hj (by omega)) (by rw [nI_clamp (by omega)]) dJ5_charAt_8 ?_
  refine lv_sipush (v := 255) C.x C.b dJ5_charAt_9 (by decide) ?_
  refine lv_iand C.x C.b dJ5_charAt_12 ?_
  refine lv_i2c (v := chr i j) C.x C.b dJ5_charAt_13 (chr_nar i hi j (by omega)).1 ?_
  exact hR _ _ _ _ h (chr_nar i hi j (by omega)).2 dJ5_charAt_14
theorem kT_charAt (l : Launch) {D : va_G} {ty : Nat → ClassId} {A : Nat → Prop} {ws : va_W} {i : Nat} (hi : i < 12) {j : Nat} (hj : j < strLen.getD i 0) : KI l yJ4_charAt cJ4_charAt 2 .char 4 D ty A ws ws [.ref (ty (200 + i)), .int (nI j)] (chr i j) := by
  refine KI.of (by decide) (Nat.le_of_ble_eq_true rfl) ?_
  intro p e R s m args below meth c Q C hR H locs ls h hl
  have C : Cx p R s m args c cJ4_charAt 2 RJ4 D ty A 4 := C
  have hl : lv_has ls 2 [(0, .ref (ty (200 + i))), (1, .int (nI j))] := hl
  refine lv_aload_n C.x C.b dJ4_charAt_0 rfl (lv_at hl 0 rfl) ?_
  refine KI.callVr (As := []) (rest := []) C (kT_lat l hi) (lw_V q552 q553 q554 q152 q555) ⟨rfl, by decide, by decide, by show _ = some 0; decide +kernel⟩ (vk_recv (adK := fun i => ty (200 + i)) (i := i) C.E.2.2.2.2.1 hi h.2.2) (Nat.le_of_ble_eq_true rfl) (by decide) (by omega) (by omega) h hl.1 rfl (Nat.le_of_ble_eq_true rfl) dJ4_charAt_1 (fun H locs h => ?_)
  refine lv_if_eq (tgt := 16) C.x C.b dJ4_charAt_4 (by decide) (fun c9 => ?_) (fun c9 => ?_)
  · exact absurd c9 (by decide)
  refine lv_aload_n C.x C.b dJ4_charAt_7 rfl (lv_at hl 0 rfl) ?_
  refine vk_getf C.x C.b (C.E.2.2.2.2.1.1 i hi).2.2.1 h.2.2 C.own (C.ts _ q2375) (fun _ h9 => h9) dJ4_charAt_8 ?_
  refine lv_iload_n C.x C.b dJ4_charAt_11 rfl (lv_at hl 1 rfl) ?_
  have h5 := str_len i hi
  refine KI.callS (As := [.ref (ty (300 + i)), .int (nI j)]) (rest := []) C (kA_charAt l hi hj) (lw_S q556 q557 q153 q558) ⟨by decide, by decide, by show _ = some 2; decide +kernel⟩ (Nat.le_of_ble_eq_true rfl) (by decide) (Nat.zero_le _) (Nat.zero_le _) h hl.1 rfl (Nat.le_of_ble_eq_true rfl) dJ4_charAt_12 (fun H locs h => ?_)
  exact hR _ _ _ _ h (chr_nar i hi j (by omega)).2 dJ4_charAt_15
set_option maxHeartbeats 2000000 in
theorem kH_init (l : Launch) {D : va_G} {ty : Nat → ClassId} {A : Nat → Prop} {b : Nat} : KVx l yJ8_init_2 cJ8_init_2 5 1 0 0 D ty A [(b, .inr (9, [.null, .null, .null, .null, .null, .int 0, .int 0, .int 0]))] [.ref b, .null, .null, .int 0, .int 0] (fun (_ : Unit) => True) (fun _ => [(b, .inr (9, [.null, .null, .null, .null, .null, .int 0, .int 0, .int 0]))]) := by
  refine KVx.of (by decide) (Nat.le_of_ble_eq_true rfl) ?_
  intro p e R s m args below meth c Q C hin hmc hms hR H locs ls h hl
  have C : Cx p R s m args c cJ8_init_2 5 RJ8 D ty A 1 := C
  have hl : lv_has ls 5 [(0, .ref b), (1, .null), (2, .null), (3, .int 0), (4, .int 0)] := hl
  refine lv_aload_n C.x C.b dJ8_init_2_0 rfl (lv_at hl 0 rfl) ?_
  refine W.objInit C.x C.b C.own (C.ts _ q613) (C.ts _ q176) (C.ts _ q177) rfl (by rw [C.1.2.2.1]; exact hl.1) rfl dJ8_init_2_1 (Nat.le_trans (Nat.le_of_ble_eq_true rfl) C.2.2.2.1) (Nat.le_trans (Nat.le_of_ble_eq_true rfl) C.2.2.2.2) ?_
  refine W.eq (g2 := F0 m 4 ls []) rfl ?_
  refine lv_aload_n C.x C.b dJ8_init_2_4 rfl (lv_at hl 0 rfl) ?_
  refine lv_aload_n C.x C.b dJ8_init_2_5 rfl (lv_at hl 0 rfl) ?_
  refine va_put (D := D) (ci := 9) (ty := .object "java/lang/Throwable") (v := .ref b) C.x C.b C.ts in_X9 tyX9 tyX9_ok nmX9 C.own C.K h.1 h.2.1 h.2.2 0 rfl rfl 0 (by decide) (C.ts _ q659) (fun _ h9 => h9) rfl (by decide +kernel) rfl rfl (Nat.le_of_ble_eq_true rfl) dJ8_init_2_6 (fun H locs hP hD hS => ?_)
  have h : Hw D A s H locs [(b, .inr (9, [.ref b, .null, .null, .null, .null, .int 0, .int 0, .int 0]))] := ⟨hP, hD, hS⟩
  refine lv_aload_n C.x C.b dJ8_init_2_9 rfl (lv_at hl 0 rfl) ?_
  have hU := Zq_cases C.E.2.1.1.1
  have hN := Zq_cases C.E.2.1.2.1
  obtain ⟨u1, hu1, hz1⟩ := hU
  obtain ⟨u2, hu2, hz2⟩ := hN
  have f1 : fits (.array (.object "java/lang/StackTraceElement")) u1 = true ∧ narrow (.array (.object "java/lang/StackTraceElement")) u1 = u1 := by rcases hu1 with h9 | ⟨t, h9⟩ <;> (subst h9; exact ⟨rfl, rfl⟩)
  have f2 : fits (.object "java/util/List") u2 = true ∧ narrow (.object "java/util/List") u2 = u2 := by rcases hu2 with h9 | ⟨t, h9⟩ <;> (subst h9; exact ⟨rfl, rfl⟩)
  refine va_gets C.x C.b hz1 h.2.2 C.own (C.ts _ q614) (fun _ h9 => h9) dJ8_init_2_10 ?_
  refine va_put (D := D) (ci := 9) (ty := .array (.object "java/lang/StackTraceElement")) (v := u1) C.x C.b C.ts in_X9 tyX9 tyX9_ok nmX9 C.own C.K h.1 h.2.1 h.2.2 0 rfl rfl 1 (by decide) (C.ts _ q660) (fun _ h9 => h9) rfl (by decide +kernel) f1.2 f1.1 (Nat.le_of_ble_eq_true rfl) dJ8_init_2_13 (fun H locs hP hD hS => ?_)
  have h : Hw D A s H locs [(b, .inr (9, [.ref b, u1, .null, .null, .null, .int 0, .int 0, .int 0]))] := ⟨hP, hD, hS⟩
  refine lv_aload_n C.x C.b dJ8_init_2_16 rfl (lv_at hl 0 rfl) ?_
  refine va_gets C.x C.b hz2 h.2.2 C.own (C.ts _ q616) (fun _ h9 => h9) dJ8_init_2_17 ?_
  refine va_put (D := D) (ci := 9) (ty := .object "java/util/List") (v := u2) C.x C.b C.ts in_X9 tyX9 tyX9_ok nmX9 C.own C.K h.1 h.2.1 h.2.2 0 rfl rfl 2 (by decide) (C.ts _ q661) (fun _ h9 => h9) rfl (by decide +kernel) f2.2 f2.1 (Nat.le_of_ble_eq_true rfl) dJ8_init_2_20 (fun H locs hP hD hS => ?_)
  have h : Hw D A s H locs [(b, .inr (9, [.ref b, u1, u2, .null, .null, .int 0, .int 0, .int 0]))] := ⟨hP, hD, hS⟩
  refine lv_iload C.x C.b dJ8_init_2_23 (lv_at hl 4 rfl) ?_
  refine lv_if_eq (tgt := 36) C.x C.b dJ8_init_2_25 (by decide) (fun c9 => ?_) (fun c9 => ?_)
  rotate_left
  · exact absurd rfl c9
  refine lv_aload_n C.x C.b dJ8_init_2_36 rfl (lv_at hl 0 rfl) ?_
  refine lv_null C.x C.b dJ8_init_2_37 ?_
  refine va_put (D := D) (ci := 9) (ty := .array (.object "java/lang/StackTraceElement")) (v := .null) C.x C.b C.ts in_X9 tyX9 tyX9_ok nmX9 C.own C.K h.1 h.2.1 h.2.2 0 rfl rfl 1 (by decide) (C.ts _ q660) (fun _ h9 => h9) rfl (by decide +kernel) rfl rfl (Nat.le_of_ble_eq_true rfl) dJ8_init_2_38 (fun H locs hP hD hS => ?_)
  have h : Hw D A s H locs [(b, .inr (9, [.ref b, .null, u2, .null, .null, .int 0, .int 0, .int 0]))] := ⟨hP, hD, hS⟩
  refine lv_aload_n C.x C.b dJ8_init_2_41 rfl (lv_at hl 0 rfl) ?_
  refine lv_aload_nN C.x C.b dJ8_init_2_42 rfl (lv_at hl 1 rfl) ?_
  refine va_put (D := D) (ci := 9) (ty := .object "java/lang/String") (v := .null) C.x C.b C.ts in_X9 tyX9 tyX9_ok nmX9 C.own C.K h.1 h.2.1 h.2.2 0 rfl rfl 3 (by decide) (C.ts _ q658) (fun _ h9 => h9) rfl (by decide +kernel) rfl rfl (Nat.le_of_ble_eq_true rfl) dJ8_init_2_43 (fun H locs hP hD hS => ?_)
  have h : Hw D A s H locs [(b, .inr (9, [.ref b, .null, u2, .null, .null, .int 0, .int 0, .int 0]))] := ⟨hP, hD, hS⟩
  refine lv_aload_n C.x C.b dJ8_init_2_46 rfl (lv_at hl 0 rfl) ?_
  refine lv_aload_nN C.x C.b dJ8_init_2_47 rfl (lv_at hl 2 rfl) ?_
  refine va_put (D := D) (ci := 9) (ty := .object "java/lang/Throwable") (v := .null) C.x C.b C.ts in_X9 tyX9 tyX9_ok nmX9 C.own C.K h.1 h.2.1 h.2.2 0 rfl rfl 0 (by decide) (C.ts _ q659) (fun _ h9 => h9) rfl (by decide +kernel) rfl rfl (Nat.le_of_ble_eq_true rfl) dJ8_init_2_48 (fun H locs hP hD hS => ?_)
  have h : Hw D A s H locs [(b, .inr (9, [.null, .null, u2, .null, .null, .int 0, .int 0, .int 0]))] := ⟨hP, hD, hS⟩
  refine lv_iload_n C.x C.b dJ8_init_2_51 rfl (lv_at hl 3 rfl) ?_
  refine lv_if_ne (tgt := 60) C.x C.b dJ8_init_2_52 (by decide) (fun c9 => ?_) (fun c9 => ?_)
  · exact absurd rfl c9
  refine lv_aload_n C.x C.b dJ8_init_2_55 rfl (lv_at hl 0 rfl) ?_
  refine lv_null C.x C.b dJ8_init_2_56 ?_
  refine va_put (D := D) (ci := 9) (ty := .object "java/util/List") (v := .null) C.x C.b C.ts in_X9 tyX9 tyX9_ok nmX9 C.own C.K h.1 h.2.1 h.2.2 0 rfl rfl 2 (by decide) (C.ts _ q661) (fun _ h9 => h9) rfl (by decide +kernel) rfl rfl (Nat.le_of_ble_eq_true rfl) dJ8_init_2_57 (fun H locs hP hD hS => ?_)
  have h : Hw D A s H locs [(b, .inr (9, [.null, .null, .null, .null, .null, .int 0, .int 0, .int 0]))] := ⟨hP, hD, hS⟩
  exact hR () _ _ _ _ trivial h dJ8_init_2_60
theorem kE_init (l : Launch) {D : va_G} {ty : Nat → ClassId} {A : Nat → Prop} {b : Nat} : KVx l yJ9_init cJ9_init 5 2 0 0 D ty A [(b, .inr (9, [.null, .null, .null, .null, .null, .int 0, .int 0, .int 0]))] [.ref b, .null, .null, .int 0, .int 0] (fun (_ : Unit) => True) (fun _ => [(b, .inr (9, [.null, .null, .null, .null, .null, .int 0, .int 0, .int 0]))]) := by
  refine KVx.of (by decide) (Nat.le_of_ble_eq_true rfl) ?_
  intro p e R s m args below meth c Q C hin hmc hms hR H locs ls h hl
  have C : Cx p R s m args c cJ9_init 5 RJ9 D ty A 2 := C
  have hl : lv_has ls 5 [(0, .ref b), (1, .null), (2, .null), (3, .int 0), (4, .int 0)] := hl
  refine lv_aload_n C.x C.b dJ9_init_0 rfl (lv_at hl 0 rfl) ?_
  refine lv_aload_nN C.x C.b dJ9_init_1 rfl (lv_at hl 1 rfl) ?_
  refine lv_aload_nN C.x C.b dJ9_init_2 rfl (lv_at hl 2 rfl) ?_
  refine lv_iload_n C.x C.b dJ9_init_3 rfl (lv_at hl 3 rfl) ?_
  refine lv_iload C.x C.b dJ9_init_4 (lv_at hl 4 rfl) ?_
  have h : Hw D A s H locs ([] ++ [(b, .inr (9, [.null, .null, .null, .null, .null, .int 0, .int 0, .int 0]))]) := h
  refine KVx.callI (As := [.null, .null, .int 0, .int 0]) (rest := []) C (fun A => kH_init l) q652 q156 q650 q651 rfl ⟨by decide, by decide, by show _ = some 4; decide +kernel⟩ (Nat.le_of_ble_eq_true rfl) (by decide) (by omega) (by omega) h hl.1 rfl (Nat.le_of_ble_eq_true rfl) dJ9_init_6 (fun _ H locs _ h => ?_)
  exact hR () _ _ _ _ trivial h dJ9_init_9
/-- a fault -/
def cFault (b : Nat) (k pl : Int32) : Nat × va_E := (b, .inr (9, [.null, .null, .null, .null, .null, .int 0, .int k, .int pl]))
theorem kF_init (l : Launch) {D : va_G} {ty : Nat → ClassId} {A : Nat → Prop} {b : Nat} {k pl : Int32} : KVx l yX9_init cX9_init 3 3 0 0 D ty A [(b, .inr (9, [.null, .null, .null, .null, .null, .int 0, .int 0, .int 0]))] [.ref b, .int k, .int pl] (fun (_ : Unit) => True) (fun _ => [cFault b k pl]) := by
  refine KVx.of (by decide) (Nat.le_of_ble_eq_true rfl) ?_
  intro p e R s m args below meth c Q C hin hmc hms hR H locs ls h hl
  have C : Cx p R s m args c cX9_init 3 RX9 D ty A 3 := C
  have hl : lv_has ls 3 [(0, .ref b), (1, .int k), (2, .int pl)] := hl
  refine lv_aload_n C.x C.b dX9_init_0 rfl (lv_at hl 0 rfl) ?_
  refine lv_null C.x C.b dX9_init_1 ?_
  refine lv_null C.x C.b dX9_init_2 ?_
  refine lv_iconst (v := 0) C.x C.b dX9_init_3 (by decide) ?_
  refine lv_iconst (v := 0) C.x C.b dX9_init_4 (by decide) ?_
  have hin : meth.name = "<init>" := hin
  have h : Hw D A s H locs ([] ++ [(b, .inr (9, [.null, .null, .null, .null, .null, .int 0, .int 0, .int 0]))]) := h
  refine KVx.callI (As := [.null, .null, .int 0, .int 0]) (rest := []) C (fun A => kE_init l) q649 q157 q647 q648 rfl ⟨by decide, by decide, by show _ = some 4; decide +kernel⟩ (Nat.le_of_ble_eq_true rfl) (by decide) (by omega) (by omega) h hl.1 rfl (Nat.le_of_ble_eq_true rfl) dX9_init_5 (fun _ H locs _ h => ?_)
  refine lv_aload_n C.x C.b dX9_init_8 rfl (lv_at hl 0 rfl) ?_
  refine lv_iload_n C.x C.b dX9_init_9 rfl (lv_at hl 1 rfl) ?_
  refine va_putF (D := D) (ci := 9) (ty := .int) (v := .int k) C.x C.b C.ts in_X9 tyX9 tyX9_ok nmX9 C.own C.K h.1 h.2.1 h.2.2 0 rfl rfl 6 (by decide) (C.ts _ q653) (fun _ h9 => h9) rfl hin rfl (by decide +kernel) rfl rfl (Nat.le_of_ble_eq_true rfl) dX9_init_10 (fun H locs hP hD hS => ?_)
  have h : Hw D A s H locs [(b, .inr (9, [.null, .null, .null, .null, .null, .int 0, .int k, .int 0]))] := ⟨hP, hD, hS⟩
  refine lv_aload_n C.x C.b dX9_init_13 rfl (lv_at hl 0 rfl) ?_
  refine lv_iload_n C.x C.b dX9_init_14 rfl (lv_at hl 2 rfl) ?_
  refine va_putF (D := D) (ci := 9) (ty := .int) (v := .int pl) C.x C.b C.ts in_X9 tyX9 tyX9_ok nmX9 C.own C.K h.1 h.2.1 h.2.2 0 rfl rfl 7 (by decide) (C.ts _ q655) (fun _ h9 => h9) rfl hin rfl (by decide +kernel) rfl rfl (Nat.le_of_ble_eq_true rfl) dX9_init_15 (fun H locs hP hD hS => ?_)
  have h : Hw D A s H locs [(b, .inr (9, [.null, .null, .null, .null, .null, .int 0, .int k, .int pl]))] := ⟨hP, hD, hS⟩
  exact hR () _ _ _ _ trivial h dX9_init_18
