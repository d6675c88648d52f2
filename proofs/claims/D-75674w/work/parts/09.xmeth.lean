set_option maxRecDepth 100000
def J_bitCount (v0 : Int32) : Option Int32 := nm (v0 - (((v0.toUInt32 >>> ((1 : Int32).toUInt32 &&& Int32.toUInt32 31)).toInt32) &&& 1431655765)) (fun v0_1 => nm ((v0_1 &&& 858993459) + (((v0_1.toUInt32 >>> ((2 : Int32).toUInt32 &&& Int32.toUInt32 31)).toInt32) &&& 858993459)) (fun v0_2 => nm ((v0_2 + ((v0_2.toUInt32 >>> ((4 : Int32).toUInt32 &&& Int32.toUInt32 31)).toInt32)) &&& 252645135) (fun v0_3 => nm (v0_3 + ((v0_3.toUInt32 >>> ((8 : Int32).toUInt32 &&& Int32.toUInt32 31)).toInt32)) (fun v0_4 => nm (v0_4 + ((v0_4.toUInt32 >>> ((16 : Int32).toUInt32 &&& Int32.toUInt32 31)).toInt32)) (fun v0_5 => some (v0_5 &&& 63))))))
set_option maxHeartbeats 4000000 in
theorem kJ_bitCount (l : Launch) {D : va_G} {ty : Nat → ClassId} {A : Nat → Prop} {ws : va_W} {v0 : Int32} {r : Int32} (hf : J_bitCount v0 = some r) : KI l yJ10_bitCount cJ10_bitCount 1 .int 0 D ty A ws ws [.int v0] r := by
  refine KI.of (by decide) (Nat.le_of_ble_eq_true rfl) ?_
  intro p e R s m args below meth c Q C hR
  have C : Cx p R s m args c cJ10_bitCount 1 RJ10 D ty A 0 := C
  have hR : ∀ (v : Int32), v = r → ∀ (H : Heap) (locs : List Loc) (pc : Nat) (ls : Array Slot), Hw D A s H locs ws → narrow .int (.int v) = .int v → decode cJ10_bitCount pc = .ok (.ireturn, 1) → W p l e R s m args below meth c H locs 0 0 Q (F0 m pc ls [.int v]) := by intro v e9; cases e9; exact hR
  intro H locs ls h hl
  have hl : lv_has ls 1 [(0, .int v0)] := hl
  unfold J_bitCount at hf
  refine lv_iload_n C.x C.b dJ10_bitCount_0 rfl (lv_at hl 0 rfl) ?_
  refine lv_iload_n C.x C.b dJ10_bitCount_1 rfl (lv_at hl 0 rfl) ?_
  refine lv_iconst (v := 1) C.x C.b dJ10_bitCount_2 (by decide) ?_
  refine lv_iushr C.x C.b dJ10_bitCount_3 rfl ?_
  refine lv_ldcw (v := 1431655765) C.x C.b C.own (C.ts _ q985) dJ10_bitCount_4 ?_
  refine lv_iand C.x C.b dJ10_bitCount_7 ?_
  refine lv_isub C.x C.b dJ10_bitCount_8 ?_
  obtain ⟨v0_1, e9, hf⟩ := nm_k (K := fun x => x) hf
  refine lv_topI e9 ?_
  refine lv_istore_n (lv' := [(0, .int v0_1)]) C.x C.b dJ10_bitCount_9 rfl hl (by decide) rfl (fun ls hl => ?_)
  refine lv_iload_n C.x C.b dJ10_bitCount_10 rfl (lv_at hl 0 rfl) ?_
  refine lv_ldcw (v := 858993459) C.x C.b C.own (C.ts _ q986) dJ10_bitCount_11 ?_
  refine lv_iand C.x C.b dJ10_bitCount_14 ?_
  refine lv_iload_n C.x C.b dJ10_bitCount_15 rfl (lv_at hl 0 rfl) ?_
  refine lv_iconst (v := 2) C.x C.b dJ10_bitCount_16 (by decide) ?_
  refine lv_iushr C.x C.b dJ10_bitCount_17 rfl ?_
  refine lv_ldcw (v := 858993459) C.x C.b C.own (C.ts _ q986) dJ10_bitCount_18 ?_
  refine lv_iand C.x C.b dJ10_bitCount_21 ?_
  refine lv_iadd C.x C.b dJ10_bitCount_22 ?_
  obtain ⟨v0_2, e9, hf⟩ := nm_k (K := fun x => x) hf
  refine lv_topI e9 ?_
  refine lv_istore_n (lv' := [(0, .int v0_2)]) C.x C.b dJ10_bitCount_23 rfl hl (by decide) rfl (fun ls hl => ?_)
  refine lv_iload_n C.x C.b dJ10_bitCount_24 rfl (lv_at hl 0 rfl) ?_
  refine lv_iload_n C.x C.b dJ10_bitCount_25 rfl (lv_at hl 0 rfl) ?_
  refine lv_iconst (v := 4) C.x C.b dJ10_bitCount_26 (by decide) ?_
  refine lv_iushr C.x C.b dJ10_bitCount_27 rfl ?_
  refine lv_iadd C.x C.b dJ10_bitCount_28 ?_
  refine lv_ldcw (v := 252645135) C.x C.b C.own (C.ts _ q987) dJ10_bitCount_29 ?_
  refine lv_iand C.x C.b dJ10_bitCount_32 ?_
  obtain ⟨v0_3, e9, hf⟩ := nm_k (K := fun x => x) hf
  refine lv_topI e9 ?_
  refine lv_istore_n (lv' := [(0, .int v0_3)]) C.x C.b dJ10_bitCount_33 rfl hl (by decide) rfl (fun ls hl => ?_)
  refine lv_iload_n C.x C.b dJ10_bitCount_34 rfl (lv_at hl 0 rfl) ?_
  refine lv_iload_n C.x C.b dJ10_bitCount_35 rfl (lv_at hl 0 rfl) ?_
  refine lv_bipush (v := 8) C.x C.b dJ10_bitCount_36 (by decide) ?_
  refine lv_iushr C.x C.b dJ10_bitCount_38 rfl ?_
  refine lv_iadd C.x C.b dJ10_bitCount_39 ?_
  obtain ⟨v0_4, e9, hf⟩ := nm_k (K := fun x => x) hf
  refine lv_topI e9 ?_
  refine lv_istore_n (lv' := [(0, .int v0_4)]) C.x C.b dJ10_bitCount_40 rfl hl (by decide) rfl (fun ls hl => ?_)
  refine lv_iload_n C.x C.b dJ10_bitCount_41 rfl (lv_at hl 0 rfl) ?_
  refine lv_iload_n C.x C.b dJ10_bitCount_42 rfl (lv_at hl 0 rfl) ?_
  refine lv_bipush (v := 16) C.x C.b dJ10_bitCount_43 (by decide) ?_
  refine lv_iushr C.x C.b dJ10_bitCount_45 rfl ?_
  refine lv_iadd C.x C.b dJ10_bitCount_46 ?_
  obtain ⟨v0_5, e9, hf⟩ := nm_k (K := fun x => x) hf
  refine lv_topI e9 ?_
  refine lv_istore_n (lv' := [(0, .int v0_5)]) C.x C.b dJ10_bitCount_47 rfl hl (by decide) rfl (fun ls hl => ?_)
  refine lv_iload_n C.x C.b dJ10_bitCount_48 rfl (lv_at hl 0 rfl) ?_
  refine lv_bipush (v := 63) C.x C.b dJ10_bitCount_49 (by decide) ?_
  refine lv_iand C.x C.b dJ10_bitCount_51 ?_
  exact hR _ (some_k hf) _ _ _ _ h rfl dJ10_bitCount_52
theorem tJ_bitCount_RX0 : GoodIn lw_all (va_wsS RX0 279 yJ10_bitCount (ws_ yJ10_bitCount cJ10_bitCount 1 (some .int))) := lw_S q982 q983 q160 q984
theorem cJ_bitCount_RX0 {p : Program} {l : Launch} {e : Env} {R : Room} {s : State} {m : MethodId} {args : Array Value} {below : List Frame} {meth : Method} {c : Code} {H : Heap} {locs : List Loc} {Q : State → Prop} {cc : ByteArray} {pc : Nat} {ls : Array Slot} {st : List Value} {nL d : Nat} {D : va_G} {ty : Nat → ClassId} {A : Nat → Prop} {ws : va_W} {v0 : Int32} {q : Int32} (C : Cx p R s m args c cc nL RX0 D ty A d) (h : Hw D A s H locs ws) (hc : J_bitCount v0 = some q) (hd : 0 + 1 ≤ d) (hls : ls.size = nL) (hcat : (st.map fun v => v.category).sum ≤ 8) (dec : decode cc pc = .ok (.invokestatic 279, 3)) (kk : ∀ (H : Heap) (locs : List Loc), Hw D A s H locs ws → W p l e R s m args below meth c H locs 0 0 Q (F0 m (pc + 3) ls (.int q :: st))) : W p l e R s m args below meth c H locs 0 0 Q (F0 m pc ls (.int v0 :: st)) := KI.callS (As := [.int v0]) C (kJ_bitCount l hc) tJ_bitCount_RX0 ⟨by decide, by decide, by show _ = some 1; decide +kernel⟩ hd (by decide) (Nat.zero_le _) (Nat.zero_le _) h hls rfl hcat dec kk
def X_puts_j36 (σ : PS) : Option PS := some σ
def X_puts_l3 (v1 : Int32) (v2 : Int32) (σ : PS) : Option ((Int32 × PS) ⊕ PS) := if v2 < 0 then up (X_puts_j36 σ) else ix (gI σ 2) 600 (nm (wA σ 1 (gI σ 2) (vp_nar .byte ((v1 >>> (v2 &&& 31)).toInt8.toInt32))) (fun σ_1 => nm (sI σ_1 2 ((gI σ_1 2) + 1)) (fun σ_2 => nm (v2 + (-8)) (fun v2_3 => some (.inl (v2_3, σ_2))))))
def X_puts_B3 (v1 : Int32) : (Int32 × PS) → Option ((Int32 × PS) ⊕ PS) := fun t => X_puts_l3 v1 t.1 t.2
def X_puts (σ : PS) (v1 : Int32) : Option PS := loop (X_puts_B3 v1) fu (24, σ)
set_option maxHeartbeats 4000000 in
theorem kX_puts (l : Launch) {D : va_G} {ty : Nat → ClassId} {A : Nat → Prop} {o : Nat} {ad : Nat → Nat} {rs : va_W} {σ : PS} {σ' : PS} {v1 : Int32} (hf : X_puts σ v1 = some σ') : KV l yX0_puts cX0_puts 3 0 D ty A (wX ty o ad σ ++ rs) (wX ty o ad σ' ++ rs) [.ref o, .int v1] := by
  refine KV.of (by decide) (Nat.le_of_ble_eq_true rfl) ?_
  intro p e R s m args below meth c Q C hR
  have C : Cx p R s m args c cX0_puts 3 RX0 D ty A 0 := C
  have hR : ∀ (σ2 : PS), σ2 = σ' → ∀ (H : Heap) (locs : List Loc) (pc : Nat) (ls : Array Slot), Hw D A s H locs (wX ty o ad σ2 ++ rs) → decode cX0_puts pc = .ok (.return_, 1) → W p l e R s m args below meth c H locs 0 0 Q (F0 m pc ls []) := by intro σ2 e9; cases e9; exact hR
  have j36 : ∀ (σ : PS) (H : Heap) (locs : List Loc) (ls : Array Slot), Hw D A s H locs (wX ty o ad σ ++ rs) → lv_has ls 3 [] → X_puts_j36 σ = some σ' → W p l e R s m args below meth c H locs 0 0 Q (F0 m 36 ls []) := by
    intro σ H locs ls h hl hf
    unfold X_puts_j36 at hf
    exact hR _ (some_k hf) _ _ _ _ h dX0_puts_36
  have l3 : ∀ (n3 : Nat) (v2 : Int32) (σ : PS) (H : Heap) (locs : List Loc) (ls : Array Slot), Hw D A s H locs (wX ty o ad σ ++ rs) → lv_has ls 3 [(0, .ref o), (1, .int v1), (2, .int v2)] → loop (X_puts_B3 v1) n3 (v2, σ) = some σ' → W p l e R s m args below meth c H locs 0 0 Q (F0 m 3 ls []) := by
    intro n3
    induction n3 with
    | zero => intro v2 σ H locs ls h hl hf; exact (none_k hf).elim
    | succ n3 ih3 =>
      intro v2 σ H locs ls h hl hf
      have hf : bl (X_puts_B3 v1) n3 (X_puts_l3 v1 v2 σ) = some σ' := hf
      unfold X_puts_l3 at hf
      refine lv_iload_n C.x C.b dX0_puts_3 rfl (lv_at hl 2 rfl) ?_
      refine lv_if_lt (tgt := 36) C.x C.b dX0_puts_4 (by decide) (fun c9 => ?_) (fun c9 => ?_)
      · have hf := if_t (K := bl (X_puts_B3 v1) n3) c9 hf
        have hf := bl_upK (K := fun x => x) hf
        exact j36 σ _ _ _ h (lv_sub hl [] rfl) hf
      · have hf := if_f (K := bl (X_puts_B3 v1) n3) c9 hf
        refine lv_aload_n C.x C.b dX0_puts_7 rfl (lv_at hl 0 rfl) ?_
        refine x_g1 C h dX0_puts_8 ?_
        refine lv_aload_n C.x C.b dX0_puts_11 rfl (lv_at hl 0 rfl) ?_
        refine x_g2 C h dX0_puts_12 ?_
        refine lv_iload_n C.x C.b dX0_puts_15 rfl (lv_at hl 1 rfl) ?_
        refine lv_iload_n C.x C.b dX0_puts_16 rfl (lv_at hl 2 rfl) ?_
        refine lv_ishr C.x C.b dX0_puts_17 ?_
        refine lv_i2b C.x C.b dX0_puts_18 rfl ?_
        obtain ⟨hi, hf⟩ := ix_k (K := bl (X_puts_B3 v1) n3) rfl hf
        obtain ⟨σ_1, e9, hf⟩ := nm_k (K := bl (X_puts_B3 v1) n3) hf
        refine x_w1 C h hi e9 dX0_puts_19 (fun H locs h => ?_)
        refine lv_aload_n C.x C.b dX0_puts_20 rfl (lv_at hl 0 rfl) ?_
        refine lv_dup C.x C.b dX0_puts_21 rfl ?_
        refine x_g2 C h dX0_puts_22 ?_
        refine lv_iconst (v := 1) C.x C.b dX0_puts_25 (by decide) ?_
        refine lv_iadd C.x C.b dX0_puts_26 ?_
        obtain ⟨σ_2, e9, hf⟩ := nm_k (K := bl (X_puts_B3 v1) n3) hf
        refine x_p2 C h e9 dX0_puts_27 (fun H locs h => ?_)
        obtain ⟨v2_3, e9, hf⟩ := nm_k (K := bl (X_puts_B3 v1) n3) hf
        refine lv_iinc (v := v2_3) (lv' := [(2, .int v2_3), (0, .ref o), (1, .int v1)]) C.x C.b dX0_puts_30 hl (k := 2) rfl (iinc_e (k := (-8)) (by decide) e9) (by decide) rfl (fun ls hl => ?_)
        refine lv_goto (tgt := 3) C.x C.b dX0_puts_33 (by decide) ?_
        exact ih3 v2_3 σ_2 _ _ _ h (lv_sub hl [1, 2, 0] rfl) hf
  intro H locs ls h hl
  have hl : lv_has ls 3 [(0, .ref o), (1, .int v1)] := hl
  unfold X_puts at hf
  refine lv_bipush (v := 24) C.x C.b dX0_puts_0 (by decide) ?_
  refine lv_istore_n (lv' := [(2, .int 24), (0, .ref o), (1, .int v1)]) C.x C.b dX0_puts_2 rfl hl (by decide) rfl (fun ls hl => ?_)
  exact l3  fu 24 σ _ _ _ h (lv_sub hl [1, 2, 0] rfl) hf
theorem tX_puts : GoodIn lw_all (wsV RX0 108 RX0 yX0_puts (ws_ yX0_puts cX0_puts 3 none)) := lw_V q448 q450 qs0 q137 q451
theorem cX_puts {p : Program} {l : Launch} {e : Env} {R : Room} {s : State} {m : MethodId} {args : Array Value} {below : List Frame} {meth : Method} {c : Code} {H : Heap} {locs : List Loc} {Q : State → Prop} {cc : ByteArray} {pc : Nat} {ls : Array Slot} {st : List Value} {nL d : Nat} {D : va_G} {ty : Nat → ClassId} {A : Nat → Prop} {o : Nat} {ad : Nat → Nat} {rs : va_W} {σ : PS} {v1 : Int32} {q : PS} (C : Cx p R s m args c cc nL RX0 D ty A d) (h : Hw D A s H locs (wX ty o ad σ ++ rs)) (hc : X_puts σ v1 = some q) (hd : 0 + 1 ≤ d) (hls : ls.size = nL) (hcat : (st.map fun v => v.category).sum ≤ 8) (dec : decode cc pc = .ok (.invokevirtual 108, 3)) (kk : ∀ (H : Heap) (locs : List Loc), Hw D A s H locs (wX ty o ad q ++ rs) → W p l e R s m args below meth c H locs 0 0 Q (F0 m (pc + 3) ls (st))) : W p l e R s m args below meth c H locs 0 0 Q (F0 m pc ls (.int v1 :: .ref o :: st)) := KV.callV (As := [.int v1]) C (kX_puts l hc) tX_puts ⟨rfl, by decide, by decide, by show _ = some 1; decide +kernel⟩ 0 0 rfl rfl rfl hd (by decide) (Nat.zero_le _) (Nat.zero_le _) h hls rfl hcat dec kk
def X_isIn_j18 (x0 : Int32) : Option Int32 := tz x0 (some x0)
def X_isIn_j17 : Option Int32 := X_isIn_j18 0
def X_isIn (v0 : Int64) (v2 : Int64) (v4 : Int64) : Option Int32 := if (lg_cmp v0 v2) < 0 then X_isIn_j17 else if 0 < (lg_cmp v0 v4) then X_isIn_j17 else X_isIn_j18 1
set_option maxHeartbeats 4000000 in
theorem kX_isIn (l : Launch) {D : va_G} {ty : Nat → ClassId} {A : Nat → Prop} {ws : va_W} {v0 : Int64} {v2 : Int64} {v4 : Int64} {r : Int32} (hf : X_isIn v0 v2 v4 = some r) : KI l yX0_isIn cX0_isIn 6 .boolean 0 D ty A ws ws [.long v0, .long v2, .long v4] r := by
  refine KI.of (by decide) (Nat.le_of_ble_eq_true rfl) ?_
  intro p e R s m args below meth c Q C hR
  have C : Cx p R s m args c cX0_isIn 6 RX0 D ty A 0 := C
  have hR : ∀ (v : Int32), v = r → ∀ (H : Heap) (locs : List Loc) (pc : Nat) (ls : Array Slot), Hw D A s H locs ws → narrow .boolean (.int v) = .int v → decode cX0_isIn pc = .ok (.ireturn, 1) → W p l e R s m args below meth c H locs 0 0 Q (F0 m pc ls [.int v]) := by intro v e9; cases e9; exact hR
  have j18 : ∀ (x0 : Int32) (H : Heap) (locs : List Loc) (ls : Array Slot), Hw D A s H locs ws → lv_has ls 6 [] → X_isIn_j18 x0 = some r → W p l e R s m args below meth c H locs 0 0 Q (F0 m 18 ls [.int x0]) := by
    intro x0 H locs ls h hl hf
    unfold X_isIn_j18 at hf
    obtain ⟨hz, hf⟩ := tz_k (K := fun x => x) rfl hf
    exact hR _ (some_k hf) _ _ _ _ h hz dX0_isIn_18
  have j17 : ∀ (H : Heap) (locs : List Loc) (ls : Array Slot), Hw D A s H locs ws → lv_has ls 6 [] → X_isIn_j17 = some r → W p l e R s m args below meth c H locs 0 0 Q (F0 m 17 ls []) := by
    intro  H locs ls h hl hf
    unfold X_isIn_j17 at hf
    refine lv_iconst (v := 0) C.x C.b dX0_isIn_17 (by decide) ?_
    exact j18 0 _ _ _ h (lv_sub hl [] rfl) hf
  intro H locs ls h hl
  have hl : lv_has ls 6 [(0, .long v0), (2, .long v2), (4, .long v4)] := hl
  unfold X_isIn at hf
  refine lv_lload_n C.x C.b dX0_isIn_0 rfl (lv_at hl 0 rfl) ?_
  refine lv_lload_n C.x C.b dX0_isIn_1 rfl (lv_at hl 1 rfl) ?_
  refine W.lcmp C.x C.b dX0_isIn_2 ?_
  refine lv_if_lt (tgt := 17) C.x C.b dX0_isIn_3 (by decide) (fun c9 => ?_) (fun c9 => ?_)
  · have hf := if_t (K := fun x => x) c9 hf
    exact j17  _ _ _ h (lv_sub hl [] rfl) hf
  · have hf := if_f (K := fun x => x) c9 hf
    refine lv_lload_n C.x C.b dX0_isIn_6 rfl (lv_at hl 0 rfl) ?_
    refine lv_lload C.x C.b dX0_isIn_7 (lv_at hl 2 rfl) ?_
    refine W.lcmp C.x C.b dX0_isIn_9 ?_
    refine lv_if_gt (tgt := 17) C.x C.b dX0_isIn_10 (by decide) (fun c9 => ?_) (fun c9 => ?_)
    · have hf := if_t (K := fun x => x) c9 hf
      exact j17  _ _ _ h (lv_sub hl [] rfl) hf
    · have hf := if_f (K := fun x => x) c9 hf
      refine lv_iconst (v := 1) C.x C.b dX0_isIn_13 (by decide) ?_
      refine lv_goto (tgt := 18) C.x C.b dX0_isIn_14 (by decide) ?_
      exact j18 1 _ _ _ h (lv_sub hl [] rfl) hf
theorem tX_isIn : GoodIn lw_all (va_wsS RX0 112 yX0_isIn (ws_ yX0_isIn cX0_isIn 6 (some .boolean))) := lw_S q456 q457 q137 q458
theorem cX_isIn {p : Program} {l : Launch} {e : Env} {R : Room} {s : State} {m : MethodId} {args : Array Value} {below : List Frame} {meth : Method} {c : Code} {H : Heap} {locs : List Loc} {Q : State → Prop} {cc : ByteArray} {pc : Nat} {ls : Array Slot} {st : List Value} {nL d : Nat} {D : va_G} {ty : Nat → ClassId} {A : Nat → Prop} {ws : va_W} {v0 : Int64} {v2 : Int64} {v4 : Int64} {q : Int32} (C : Cx p R s m args c cc nL RX0 D ty A d) (h : Hw D A s H locs ws) (hc : X_isIn v0 v2 v4 = some q) (hd : 0 + 1 ≤ d) (hls : ls.size = nL) (hcat : (st.map fun v => v.category).sum ≤ 8) (dec : decode cc pc = .ok (.invokestatic 112, 3)) (kk : ∀ (H : Heap) (locs : List Loc), Hw D A s H locs ws → W p l e R s m args below meth c H locs 0 0 Q (F0 m (pc + 3) ls (.int q :: st))) : W p l e R s m args below meth c H locs 0 0 Q (F0 m pc ls (.long v4 :: .long v2 :: .long v0 :: st)) := KI.callS (As := [.long v0, .long v2, .long v4]) C (kX_isIn l hc) tX_isIn ⟨by decide, by decide, by show _ = some 3; decide +kernel⟩ hd (by decide) (Nat.zero_le _) (Nat.zero_le _) h hls rfl hcat dec kk
def X_fault_j24 (σ : PS) (x0 : Int32) : Option Int32 := some x0
def X_fault (σ : PS) (v1 : Int32) : Option Int32 := if v1 = 0 then X_fault_j24 σ (gI σ 3) else if v1 = 1 then X_fault_j24 σ (gI σ 4) else X_fault_j24 σ ((-1))
set_option maxHeartbeats 4000000 in
theorem kX_fault (l : Launch) {D : va_G} {ty : Nat → ClassId} {A : Nat → Prop} {o : Nat} {ad : Nat → Nat} {rs : va_W} {σ : PS} {v1 : Int32} {r : Int32} (hf : X_fault σ v1 = some r) : KI l yX0_fault cX0_fault 2 .int 0 D ty A (wX ty o ad σ ++ rs) (wX ty o ad σ ++ rs) [.ref o, .int v1] r := by
  refine KI.of (by decide) (Nat.le_of_ble_eq_true rfl) ?_
  intro p e R s m args below meth c Q C hR
  have C : Cx p R s m args c cX0_fault 2 RX0 D ty A 0 := C
  have hR : ∀ (v : Int32), v = r → ∀ (H : Heap) (locs : List Loc) (pc : Nat) (ls : Array Slot), Hw D A s H locs (wX ty o ad σ ++ rs) → narrow .int (.int v) = .int v → decode cX0_fault pc = .ok (.ireturn, 1) → W p l e R s m args below meth c H locs 0 0 Q (F0 m pc ls [.int v]) := by intro v e9; cases e9; exact hR
  have j24 : ∀ (x0 : Int32) (H : Heap) (locs : List Loc) (ls : Array Slot), Hw D A s H locs (wX ty o ad σ ++ rs) → lv_has ls 2 [] → X_fault_j24 σ x0 = some r → W p l e R s m args below meth c H locs 0 0 Q (F0 m 24 ls [.int x0]) := by
    intro x0 H locs ls h hl hf
    unfold X_fault_j24 at hf
    exact hR _ (some_k hf) _ _ _ _ h rfl dX0_fault_24
  intro H locs ls h hl
  have hl : lv_has ls 2 [(0, .ref o), (1, .int v1)] := hl
  unfold X_fault at hf
  refine lv_iload_n C.x C.b dX0_fault_0 rfl (lv_at hl 1 rfl) ?_
  refine lv_if_ne (tgt := 11) C.x C.b dX0_fault_1 (by decide) (fun c9 => ?_) (fun c9 => ?_)
  · have hf := if_f (K := fun x => x) c9 hf
    refine lv_iload_n C.x C.b dX0_fault_11 rfl (lv_at hl 1 rfl) ?_
    refine lv_iconst (v := 1) C.x C.b dX0_fault_12 (by decide) ?_
    refine lv_icmp_ne (tgt := 23) C.x C.b dX0_fault_13 (by decide) (fun c9 => ?_) (fun c9 => ?_)
    · have hf := if_f (K := fun x => x) c9 hf
      refine lv_iconst (v := (-1)) C.x C.b dX0_fault_23 (by decide) ?_
      exact j24 ((-1)) _ _ _ h (lv_sub hl [] rfl) hf
    · have hf := if_t (K := fun x => x) c9 hf
      refine lv_aload_n C.x C.b dX0_fault_16 rfl (lv_at hl 0 rfl) ?_
      refine x_g4 C h dX0_fault_17 ?_
      refine lv_goto (tgt := 24) C.x C.b dX0_fault_20 (by decide) ?_
      exact j24 (gI σ 4) _ _ _ h (lv_sub hl [] rfl) hf
  · have hf := if_t (K := fun x => x) c9 hf
    refine lv_aload_n C.x C.b dX0_fault_4 rfl (lv_at hl 0 rfl) ?_
    refine x_g3 C h dX0_fault_5 ?_
    refine lv_goto (tgt := 24) C.x C.b dX0_fault_8 (by decide) ?_
    exact j24 (gI σ 3) _ _ _ h (lv_sub hl [] rfl) hf
def X_isZone (σ : PS) (v1 : Int32) : Option Int32 := bd (X_isIn v1.toInt64 0 (((gI σ 106) - 1).toInt64)) (fun q_1 => tz q_1 (some q_1))
set_option maxHeartbeats 4000000 in
theorem kX_isZone (l : Launch) {D : va_G} {ty : Nat → ClassId} {A : Nat → Prop} {o : Nat} {ad : Nat → Nat} {rs : va_W} {σ : PS} {v1 : Int32} {r : Int32} (hf : X_isZone σ v1 = some r) : KI l yX0_isZone cX0_isZone 2 .boolean 1 D ty A (wX ty o ad σ ++ rs) (wX ty o ad σ ++ rs) [.ref o, .int v1] r := by
  refine KI.of (by decide) (Nat.le_of_ble_eq_true rfl) ?_
  intro p e R s m args below meth c Q C hR
  have C : Cx p R s m args c cX0_isZone 2 RX0 D ty A 1 := C
  have hR : ∀ (v : Int32), v = r → ∀ (H : Heap) (locs : List Loc) (pc : Nat) (ls : Array Slot), Hw D A s H locs (wX ty o ad σ ++ rs) → narrow .boolean (.int v) = .int v → decode cX0_isZone pc = .ok (.ireturn, 1) → W p l e R s m args below meth c H locs 0 0 Q (F0 m pc ls [.int v]) := by intro v e9; cases e9; exact hR
  intro H locs ls h hl
  have hl : lv_has ls 2 [(0, .ref o), (1, .int v1)] := hl
  unfold X_isZone at hf
  refine lv_iload_n C.x C.b dX0_isZone_0 rfl (lv_at hl 1 rfl) ?_
  refine lv_i2l C.x C.b dX0_isZone_1 rfl ?_
  refine lv_lconst (v := 0) C.x C.b dX0_isZone_2 (by decide) ?_
  refine lv_aload_n C.x C.b dX0_isZone_3 rfl (lv_at hl 0 rfl) ?_
  refine x_g0 C h dX0_isZone_4 ?_
  refine x_g106 C h dX0_isZone_7 ?_
  refine lv_iconst (v := 1) C.x C.b dX0_isZone_10 (by decide) ?_
  refine lv_isub C.x C.b dX0_isZone_11 ?_
  refine lv_i2l C.x C.b dX0_isZone_12 rfl ?_
  obtain ⟨q_1, hc, hf⟩ := bd_k (K := fun x => x) rfl hf
  refine cX_isIn C h hc (Nat.le_of_ble_eq_true rfl) hl.1 (Nat.le_of_ble_eq_true rfl) dX0_isZone_13 (fun H locs h => ?_)
  obtain ⟨hz, hf⟩ := tz_k (K := fun x => x) rfl hf
  exact hR _ (some_k hf) _ _ _ _ h hz dX0_isZone_16
theorem tX_isZone : GoodIn lw_all (wsV RX0 154 RX0 yX0_isZone (ws_ yX0_isZone cX0_isZone 2 (some .boolean))) := lw_V q717 q719 qs16 q137 q720
theorem cX_isZone {p : Program} {l : Launch} {e : Env} {R : Room} {s : State} {m : MethodId} {args : Array Value} {below : List Frame} {meth : Method} {c : Code} {H : Heap} {locs : List Loc} {Q : State → Prop} {cc : ByteArray} {pc : Nat} {ls : Array Slot} {st : List Value} {nL d : Nat} {D : va_G} {ty : Nat → ClassId} {A : Nat → Prop} {o : Nat} {ad : Nat → Nat} {rs : va_W} {σ : PS} {v1 : Int32} {q : Int32} (C : Cx p R s m args c cc nL RX0 D ty A d) (h : Hw D A s H locs (wX ty o ad σ ++ rs)) (hc : X_isZone σ v1 = some q) (hd : 1 + 1 ≤ d) (hls : ls.size = nL) (hcat : (st.map fun v => v.category).sum ≤ 8) (dec : decode cc pc = .ok (.invokevirtual 154, 3)) (kk : ∀ (H : Heap) (locs : List Loc), Hw D A s H locs (wX ty o ad σ ++ rs) → W p l e R s m args below meth c H locs 0 0 Q (F0 m (pc + 3) ls (.int q :: st))) : W p l e R s m args below meth c H locs 0 0 Q (F0 m pc ls (.int v1 :: .ref o :: st)) := KI.callV (As := [.int v1]) C (kX_isZone l hc) tX_isZone ⟨rfl, by decide, by decide, by show _ = some 1; decide +kernel⟩ 0 0 rfl rfl rfl hd (by decide) (Nat.zero_le _) (Nat.zero_le _) h hls rfl hcat dec kk
def X_isPiece (σ : PS) (v1 : Int64) : Option Int32 := bd (X_isIn v1 0 (((gI σ 107) - 1).toInt64)) (fun q_1 => tz q_1 (some q_1))
set_option maxHeartbeats 4000000 in
theorem kX_isPiece (l : Launch) {D : va_G} {ty : Nat → ClassId} {A : Nat → Prop} {o : Nat} {ad : Nat → Nat} {rs : va_W} {σ : PS} {v1 : Int64} {r : Int32} (hf : X_isPiece σ v1 = some r) : KI l yX0_isPiece cX0_isPiece 3 .boolean 1 D ty A (wX ty o ad σ ++ rs) (wX ty o ad σ ++ rs) [.ref o, .long v1] r := by
  refine KI.of (by decide) (Nat.le_of_ble_eq_true rfl) ?_
  intro p e R s m args below meth c Q C hR
  have C : Cx p R s m args c cX0_isPiece 3 RX0 D ty A 1 := C
  have hR : ∀ (v : Int32), v = r → ∀ (H : Heap) (locs : List Loc) (pc : Nat) (ls : Array Slot), Hw D A s H locs (wX ty o ad σ ++ rs) → narrow .boolean (.int v) = .int v → decode cX0_isPiece pc = .ok (.ireturn, 1) → W p l e R s m args below meth c H locs 0 0 Q (F0 m pc ls [.int v]) := by intro v e9; cases e9; exact hR
  intro H locs ls h hl
  have hl : lv_has ls 3 [(0, .ref o), (1, .long v1)] := hl
  unfold X_isPiece at hf
  refine lv_lload_n C.x C.b dX0_isPiece_0 rfl (lv_at hl 1 rfl) ?_
  refine lv_lconst (v := 0) C.x C.b dX0_isPiece_1 (by decide) ?_
  refine lv_aload_n C.x C.b dX0_isPiece_2 rfl (lv_at hl 0 rfl) ?_
  refine x_g0 C h dX0_isPiece_3 ?_
  refine x_g107 C h dX0_isPiece_6 ?_
  refine lv_iconst (v := 1) C.x C.b dX0_isPiece_9 (by decide) ?_
  refine lv_isub C.x C.b dX0_isPiece_10 ?_
  refine lv_i2l C.x C.b dX0_isPiece_11 rfl ?_
  obtain ⟨q_1, hc, hf⟩ := bd_k (K := fun x => x) rfl hf
  refine cX_isIn C h hc (Nat.le_of_ble_eq_true rfl) hl.1 (Nat.le_of_ble_eq_true rfl) dX0_isPiece_12 (fun H locs h => ?_)
  obtain ⟨hz, hf⟩ := tz_k (K := fun x => x) rfl hf
  exact hR _ (some_k hf) _ _ _ _ h hz dX0_isPiece_15
theorem tX_isPiece : GoodIn lw_all (wsV RX0 161 RX0 yX0_isPiece (ws_ yX0_isPiece cX0_isPiece 3 (some .boolean))) := lw_V q725 q727 qs17 q137 q728
theorem cX_isPiece {p : Program} {l : Launch} {e : Env} {R : Room} {s : State} {m : MethodId} {args : Array Value} {below : List Frame} {meth : Method} {c : Code} {H : Heap} {locs : List Loc} {Q : State → Prop} {cc : ByteArray} {pc : Nat} {ls : Array Slot} {st : List Value} {nL d : Nat} {D : va_G} {ty : Nat → ClassId} {A : Nat → Prop} {o : Nat} {ad : Nat → Nat} {rs : va_W} {σ : PS} {v1 : Int64} {q : Int32} (C : Cx p R s m args c cc nL RX0 D ty A d) (h : Hw D A s H locs (wX ty o ad σ ++ rs)) (hc : X_isPiece σ v1 = some q) (hd : 1 + 1 ≤ d) (hls : ls.size = nL) (hcat : (st.map fun v => v.category).sum ≤ 8) (dec : decode cc pc = .ok (.invokevirtual 161, 3)) (kk : ∀ (H : Heap) (locs : List Loc), Hw D A s H locs (wX ty o ad σ ++ rs) → W p l e R s m args below meth c H locs 0 0 Q (F0 m (pc + 3) ls (.int q :: st))) : W p l e R s m args below meth c H locs 0 0 Q (F0 m pc ls (.long v1 :: .ref o :: st)) := KI.callV (As := [.long v1]) C (kX_isPiece l hc) tX_isPiece ⟨rfl, by decide, by decide, by show _ = some 1; decide +kernel⟩ 0 0 rfl rfl rfl hd (by decide) (Nat.zero_le _) (Nat.zero_le _) h hls rfl hcat dec kk
def X_asItIs_j98 (σ : PS) : Option PS := nm (sI σ 10 (gI σ 106)) (fun σ_1 => nm (sI σ_1 11 (gI σ_1 103)) (fun σ_2 => nm (sI σ_2 12 0) (fun σ_3 => some σ_3)))
def X_asItIs_l72 (v1 : Int32) (σ : PS) : Option ((Int32 × PS) ⊕ PS) := if 7 ≤ v1 then up (X_asItIs_j98 σ) else ix v1 7 (nm (wA σ 6 v1 0) (fun σ_4 => ix v1 7 (nm (wA σ_4 7 v1 v1) (fun σ_5 => nm (v1 + 1) (fun v1_6 => some (.inl (v1_6, σ_5)))))))
def X_asItIs_B72 : (Int32 × PS) → Option ((Int32 × PS) ⊕ PS) := fun t => X_asItIs_l72 t.1 t.2
def X_asItIs (σ : PS) : Option PS := ix (gI σ 101) 4 (nm (sI σ 13 (gI σ 101)) (fun σ_7 => cpg 0 7 0 7 7 (nm (cpA σ_7 109 0 5 0 7) (fun σ_8 => cpg 0 6 0 6 6 (nm (cpA σ_8 111 0 8 0 6) (fun σ_9 => cpg 0 6 0 6 6 (nm (cpA σ_9 112 0 9 0 6) (fun σ_10 => loop (X_asItIs_B72) fu (0, σ_10)))))))))
set_option maxHeartbeats 4000000 in
theorem kX_asItIs (l : Launch) {D : va_G} {ty : Nat → ClassId} {A : Nat → Prop} {o : Nat} {ad : Nat → Nat} {rs : va_W} {σ : PS} {σ' : PS} (hf : X_asItIs σ = some σ') : KV l yX0_asItIs cX0_asItIs 2 1 D ty A (wX ty o ad σ ++ rs) (wX ty o ad σ' ++ rs) [.ref o] := by
  refine KV.of (by decide) (Nat.le_of_ble_eq_true rfl) ?_
  intro p e R s m args below meth c Q C hR
  have C : Cx p R s m args c cX0_asItIs 2 RX0 D ty A 1 := C
  have hR : ∀ (σ2 : PS), σ2 = σ' → ∀ (H : Heap) (locs : List Loc) (pc : Nat) (ls : Array Slot), Hw D A s H locs (wX ty o ad σ2 ++ rs) → decode cX0_asItIs pc = .ok (.return_, 1) → W p l e R s m args below meth c H locs 0 0 Q (F0 m pc ls []) := by intro σ2 e9; cases e9; exact hR
  have j98 : ∀ (σ : PS) (H : Heap) (locs : List Loc) (ls : Array Slot), Hw D A s H locs (wX ty o ad σ ++ rs) → lv_has ls 2 [(0, .ref o)] → X_asItIs_j98 σ = some σ' → W p l e R s m args below meth c H locs 0 0 Q (F0 m 98 ls []) := by
    intro σ H locs ls h hl hf
    unfold X_asItIs_j98 at hf
    refine lv_aload_n C.x C.b dX0_asItIs_98 rfl (lv_at hl 0 rfl) ?_
    refine lv_aload_n C.x C.b dX0_asItIs_99 rfl (lv_at hl 0 rfl) ?_
    refine x_g0 C h dX0_asItIs_100 ?_
    refine x_g106 C h dX0_asItIs_103 ?_
    obtain ⟨σ_1, e9, hf⟩ := nm_k (K := fun x => x) hf
    refine x_p10 C h e9 dX0_asItIs_106 (fun H locs h => ?_)
    refine lv_aload_n C.x C.b dX0_asItIs_109 rfl (lv_at hl 0 rfl) ?_
    refine lv_aload_n C.x C.b dX0_asItIs_110 rfl (lv_at hl 0 rfl) ?_
    refine x_g0 C h dX0_asItIs_111 ?_
    refine x_g103 C h dX0_asItIs_114 ?_
    obtain ⟨σ_2, e9, hf⟩ := nm_k (K := fun x => x) hf
    refine x_p11 C h e9 dX0_asItIs_117 (fun H locs h => ?_)
    refine lv_aload_n C.x C.b dX0_asItIs_120 rfl (lv_at hl 0 rfl) ?_
    refine lv_iconst (v := 0) C.x C.b dX0_asItIs_121 (by decide) ?_
    obtain ⟨σ_3, e9, hf⟩ := nm_k (K := fun x => x) hf
    refine x_p12 C h e9 dX0_asItIs_122 (fun H locs h => ?_)
    exact hR _ (some_k hf) _ _ _ _ h dX0_asItIs_125
  have l72 : ∀ (n72 : Nat) (v1 : Int32) (σ : PS) (H : Heap) (locs : List Loc) (ls : Array Slot), Hw D A s H locs (wX ty o ad σ ++ rs) → lv_has ls 2 [(0, .ref o), (1, .int v1)] → loop (X_asItIs_B72) n72 (v1, σ) = some σ' → W p l e R s m args below meth c H locs 0 0 Q (F0 m 72 ls []) := by
    intro n72
    induction n72 with
    | zero => intro v1 σ H locs ls h hl hf; exact (none_k hf).elim
    | succ n72 ih72 =>
      intro v1 σ H locs ls h hl hf
      have hf : bl (X_asItIs_B72) n72 (X_asItIs_l72 v1 σ) = some σ' := hf
      unfold X_asItIs_l72 at hf
      refine lv_iload_n C.x C.b dX0_asItIs_72 rfl (lv_at hl 1 rfl) ?_
      refine lv_bipush (v := 7) C.x C.b dX0_asItIs_73 (by decide) ?_
      refine lv_icmp_ge (tgt := 98) C.x C.b dX0_asItIs_75 (by decide) (fun c9 => ?_) (fun c9 => ?_)
      · have hf := if_t (K := bl (X_asItIs_B72) n72) c9 hf
        have hf := bl_upK (K := fun x => x) hf
        exact j98 σ _ _ _ h (lv_sub hl [0] rfl) hf
      · have hf := if_f (K := bl (X_asItIs_B72) n72) c9 hf
        refine lv_aload_n C.x C.b dX0_asItIs_78 rfl (lv_at hl 0 rfl) ?_
        refine x_g6 C h dX0_asItIs_79 ?_
        refine lv_iload_n C.x C.b dX0_asItIs_82 rfl (lv_at hl 1 rfl) ?_
        refine lv_iconst (v := 0) C.x C.b dX0_asItIs_83 (by decide) ?_
        obtain ⟨hi, hf⟩ := ix_k (K := bl (X_asItIs_B72) n72) rfl hf
        obtain ⟨σ_4, e9, hf⟩ := nm_k (K := bl (X_asItIs_B72) n72) hf
        refine x_w6 C h hi e9 dX0_asItIs_84 (fun H locs h => ?_)
        refine lv_aload_n C.x C.b dX0_asItIs_85 rfl (lv_at hl 0 rfl) ?_
        refine x_g7 C h dX0_asItIs_86 ?_
        refine lv_iload_n C.x C.b dX0_asItIs_89 rfl (lv_at hl 1 rfl) ?_
        refine lv_iload_n C.x C.b dX0_asItIs_90 rfl (lv_at hl 1 rfl) ?_
        obtain ⟨hi, hf⟩ := ix_k (K := bl (X_asItIs_B72) n72) rfl hf
        obtain ⟨σ_5, e9, hf⟩ := nm_k (K := bl (X_asItIs_B72) n72) hf
        refine x_w7 C h hi e9 dX0_asItIs_91 (fun H locs h => ?_)
        obtain ⟨v1_6, e9, hf⟩ := nm_k (K := bl (X_asItIs_B72) n72) hf
        refine lv_iinc (v := v1_6) (lv' := [(1, .int v1_6), (0, .ref o)]) C.x C.b dX0_asItIs_92 hl (k := 1) rfl (iinc_e (k := 1) (by decide) e9) (by decide) rfl (fun ls hl => ?_)
        refine lv_goto (tgt := 72) C.x C.b dX0_asItIs_95 (by decide) ?_
        exact ih72 v1_6 σ_5 _ _ _ h (lv_sub hl [1, 0] rfl) hf
  intro H locs ls h hl
  have hl : lv_has ls 2 [(0, .ref o)] := hl
  unfold X_asItIs at hf
  refine lv_aload_n C.x C.b dX0_asItIs_0 rfl (lv_at hl 0 rfl) ?_
  refine lv_aload_n C.x C.b dX0_asItIs_1 rfl (lv_at hl 0 rfl) ?_
  refine x_g17 C h dX0_asItIs_2 ?_
  refine lv_aload_n C.x C.b dX0_asItIs_5 rfl (lv_at hl 0 rfl) ?_
  refine x_g0 C h dX0_asItIs_6 ?_
  refine x_g101 C h dX0_asItIs_9 ?_
  obtain ⟨hi, hf⟩ := ix_k (K := fun x => x) rfl hf
  refine x_a17 C h hi dX0_asItIs_12 ?_
  obtain ⟨σ_7, e9, hf⟩ := nm_k (K := fun x => x) hf
  refine x_p13 C h hi e9 dX0_asItIs_13 (fun H locs h => ?_)
  refine lv_aload_n C.x C.b dX0_asItIs_16 rfl (lv_at hl 0 rfl) ?_
  refine x_g0 C h dX0_asItIs_17 ?_
  refine x_g109 C h dX0_asItIs_20 ?_
  refine lv_iconst (v := 0) C.x C.b dX0_asItIs_23 (by decide) ?_
  refine lv_aload_n C.x C.b dX0_asItIs_24 rfl (lv_at hl 0 rfl) ?_
  refine x_g5 C h dX0_asItIs_25 ?_
  refine lv_iconst (v := 0) C.x C.b dX0_asItIs_28 (by decide) ?_
  refine lv_bipush (v := 7) C.x C.b dX0_asItIs_29 (by decide) ?_
  obtain ⟨hg, hf⟩ := cpg_k (K := fun x => x) rfl hf
  obtain ⟨σ_8, e9, hf⟩ := nm_k (K := fun x => x) hf
  refine x_cp109_5 C h hg e9 hl.1 (by decide) (Nat.le_of_ble_eq_true rfl) dX0_asItIs_31 (fun H locs h => ?_)
  refine lv_aload_n C.x C.b dX0_asItIs_34 rfl (lv_at hl 0 rfl) ?_
  refine x_g0 C h dX0_asItIs_35 ?_
  refine x_g111 C h dX0_asItIs_38 ?_
  refine lv_iconst (v := 0) C.x C.b dX0_asItIs_41 (by decide) ?_
  refine lv_aload_n C.x C.b dX0_asItIs_42 rfl (lv_at hl 0 rfl) ?_
  refine x_g8 C h dX0_asItIs_43 ?_
  refine lv_iconst (v := 0) C.x C.b dX0_asItIs_46 (by decide) ?_
  refine lv_bipush (v := 6) C.x C.b dX0_asItIs_47 (by decide) ?_
  obtain ⟨hg, hf⟩ := cpg_k (K := fun x => x) rfl hf
  obtain ⟨σ_9, e9, hf⟩ := nm_k (K := fun x => x) hf
  refine x_cp111_8 C h hg e9 hl.1 (by decide) (Nat.le_of_ble_eq_true rfl) dX0_asItIs_49 (fun H locs h => ?_)
  refine lv_aload_n C.x C.b dX0_asItIs_52 rfl (lv_at hl 0 rfl) ?_
  refine x_g0 C h dX0_asItIs_53 ?_
  refine x_g112 C h dX0_asItIs_56 ?_
  refine lv_iconst (v := 0) C.x C.b dX0_asItIs_59 (by decide) ?_
  refine lv_aload_n C.x C.b dX0_asItIs_60 rfl (lv_at hl 0 rfl) ?_
  refine x_g9 C h dX0_asItIs_61 ?_
  refine lv_iconst (v := 0) C.x C.b dX0_asItIs_64 (by decide) ?_
  refine lv_bipush (v := 6) C.x C.b dX0_asItIs_65 (by decide) ?_
  obtain ⟨hg, hf⟩ := cpg_k (K := fun x => x) rfl hf
  obtain ⟨σ_10, e9, hf⟩ := nm_k (K := fun x => x) hf
  refine x_cp112_9 C h hg e9 hl.1 (by decide) (Nat.le_of_ble_eq_true rfl) dX0_asItIs_67 (fun H locs h => ?_)
  refine lv_iconst (v := 0) C.x C.b dX0_asItIs_70 (by decide) ?_
  refine lv_istore_n (lv' := [(1, .int 0), (0, .ref o)]) C.x C.b dX0_asItIs_71 rfl hl (by decide) rfl (fun ls hl => ?_)
  exact l72  fu 0 σ_10 _ _ _ h (lv_sub hl [1, 0] rfl) hf
theorem tX_asItIs : GoodIn lw_all (wsV RX0 254 RX0 yX0_asItIs (ws_ yX0_asItIs cX0_asItIs 2 none)) := lw_V q741 q743 qs20 q137 q744
theorem cX_asItIs {p : Program} {l : Launch} {e : Env} {R : Room} {s : State} {m : MethodId} {args : Array Value} {below : List Frame} {meth : Method} {c : Code} {H : Heap} {locs : List Loc} {Q : State → Prop} {cc : ByteArray} {pc : Nat} {ls : Array Slot} {st : List Value} {nL d : Nat} {D : va_G} {ty : Nat → ClassId} {A : Nat → Prop} {o : Nat} {ad : Nat → Nat} {rs : va_W} {σ : PS} {q : PS} (C : Cx p R s m args c cc nL RX0 D ty A d) (h : Hw D A s H locs (wX ty o ad σ ++ rs)) (hc : X_asItIs σ = some q) (hd : 1 + 1 ≤ d) (hls : ls.size = nL) (hcat : (st.map fun v => v.category).sum ≤ 8) (dec : decode cc pc = .ok (.invokevirtual 254, 3)) (kk : ∀ (H : Heap) (locs : List Loc), Hw D A s H locs (wX ty o ad q ++ rs) → W p l e R s m args below meth c H locs 0 0 Q (F0 m (pc + 3) ls (st))) : W p l e R s m args below meth c H locs 0 0 Q (F0 m pc ls (.ref o :: st)) := KV.callV (As := []) C (kX_asItIs l hc) tX_asItIs ⟨rfl, by decide, by decide, by show _ = some 0; decide +kernel⟩ 0 0 rfl rfl rfl hd (by decide) (Nat.zero_le _) (Nat.zero_le _) h hls rfl hcat dec kk
def X_placeOf_j51 (σ : PS) (x0 : Int32) : Option Int32 := some x0
def X_placeOf (σ : PS) (v1 : Int32) (v2 : Int32) : Option Int32 := ix v1 6 (if (rA σ 113 v1) ≤ v2 then ix v1 6 (nz (gI σ 11) (nm ((v2 - (rA σ 113 v1)) / (gI σ 11)) (fun v3_1 => if (gI σ 10) ≤ v3_1 then X_placeOf_j51 σ 10 else ix v3_1 7 (X_placeOf_j51 σ (rA σ 7 v3_1))))) else some ((-1)))
set_option maxHeartbeats 4000000 in
theorem kX_placeOf (l : Launch) {D : va_G} {ty : Nat → ClassId} {A : Nat → Prop} {o : Nat} {ad : Nat → Nat} {rs : va_W} {σ : PS} {v1 : Int32} {v2 : Int32} {r : Int32} (hf : X_placeOf σ v1 v2 = some r) : KI l yX0_placeOf cX0_placeOf 4 .int 0 D ty A (wX ty o ad σ ++ rs) (wX ty o ad σ ++ rs) [.ref o, .int v1, .int v2] r := by
  refine KI.of (by decide) (Nat.le_of_ble_eq_true rfl) ?_
  intro p e R s m args below meth c Q C hR
  have C : Cx p R s m args c cX0_placeOf 4 RX0 D ty A 0 := C
  have hR : ∀ (v : Int32), v = r → ∀ (H : Heap) (locs : List Loc) (pc : Nat) (ls : Array Slot), Hw D A s H locs (wX ty o ad σ ++ rs) → narrow .int (.int v) = .int v → decode cX0_placeOf pc = .ok (.ireturn, 1) → W p l e R s m args below meth c H locs 0 0 Q (F0 m pc ls [.int v]) := by intro v e9; cases e9; exact hR
  have j51 : ∀ (x0 : Int32) (H : Heap) (locs : List Loc) (ls : Array Slot), Hw D A s H locs (wX ty o ad σ ++ rs) → lv_has ls 4 [] → X_placeOf_j51 σ x0 = some r → W p l e R s m args below meth c H locs 0 0 Q (F0 m 51 ls [.int x0]) := by
    intro x0 H locs ls h hl hf
    unfold X_placeOf_j51 at hf
    exact hR _ (some_k hf) _ _ _ _ h rfl dX0_placeOf_51
  intro H locs ls h hl
  have hl : lv_has ls 4 [(0, .ref o), (1, .int v1), (2, .int v2)] := hl
  unfold X_placeOf at hf
  refine lv_iload_n C.x C.b dX0_placeOf_0 rfl (lv_at hl 2 rfl) ?_
  refine lv_aload_n C.x C.b dX0_placeOf_1 rfl (lv_at hl 0 rfl) ?_
  refine x_g0 C h dX0_placeOf_2 ?_
  refine x_g113 C h dX0_placeOf_5 ?_
  refine lv_iload_n C.x C.b dX0_placeOf_8 rfl (lv_at hl 1 rfl) ?_
  obtain ⟨hi, hf⟩ := ix_k (K := fun x => x) rfl hf
  refine x_a113 C h hi dX0_placeOf_9 ?_
  refine lv_icmp_ge (tgt := 15) C.x C.b dX0_placeOf_10 (by decide) (fun c9 => ?_) (fun c9 => ?_)
  · have hf := if_t (K := fun x => x) c9 hf
    refine lv_iload_n C.x C.b dX0_placeOf_15 rfl (lv_at hl 2 rfl) ?_
    refine lv_aload_n C.x C.b dX0_placeOf_16 rfl (lv_at hl 0 rfl) ?_
    refine x_g0 C h dX0_placeOf_17 ?_
    refine x_g113 C h dX0_placeOf_20 ?_
    refine lv_iload_n C.x C.b dX0_placeOf_23 rfl (lv_at hl 1 rfl) ?_
    obtain ⟨hi, hf⟩ := ix_k (K := fun x => x) rfl hf
    refine x_a113 C h hi dX0_placeOf_24 ?_
    refine lv_isub C.x C.b dX0_placeOf_25 ?_
    refine lv_aload_n C.x C.b dX0_placeOf_26 rfl (lv_at hl 0 rfl) ?_
    refine x_g11 C h dX0_placeOf_27 ?_
    obtain ⟨hz, hf⟩ := nz_k (K := fun x => x) rfl hf
    refine lv_idiv C.x C.b dX0_placeOf_30 hz ?_
    obtain ⟨v3_1, e9, hf⟩ := nm_k (K := fun x => x) hf
    refine lv_topI e9 ?_
    refine lv_istore_n (lv' := [(3, .int v3_1), (0, .ref o), (1, .int v1), (2, .int v2)]) C.x C.b dX0_placeOf_31 rfl hl (by decide) rfl (fun ls hl => ?_)
    refine lv_iload_n C.x C.b dX0_placeOf_32 rfl (lv_at hl 0 rfl) ?_
    refine lv_aload_n C.x C.b dX0_placeOf_33 rfl (lv_at hl 1 rfl) ?_
    refine x_g10 C h dX0_placeOf_34 ?_
    refine lv_icmp_ge (tgt := 49) C.x C.b dX0_placeOf_37 (by decide) (fun c9 => ?_) (fun c9 => ?_)
    · have hf := if_t (K := fun x => x) c9 hf
      refine lv_bipush (v := 10) C.x C.b dX0_placeOf_49 (by decide) ?_
      exact j51 10 _ _ _ h (lv_sub hl [] rfl) hf
    · have hf := if_f (K := fun x => x) c9 hf
      refine lv_aload_n C.x C.b dX0_placeOf_40 rfl (lv_at hl 1 rfl) ?_
      refine x_g7 C h dX0_placeOf_41 ?_
      refine lv_iload_n C.x C.b dX0_placeOf_44 rfl (lv_at hl 0 rfl) ?_
      obtain ⟨hi, hf⟩ := ix_k (K := fun x => x) rfl hf
      refine x_a7 C h hi dX0_placeOf_45 ?_
      refine lv_goto (tgt := 51) C.x C.b dX0_placeOf_46 (by decide) ?_
      exact j51 (rA σ 7 v3_1) _ _ _ h (lv_sub hl [] rfl) hf
  · have hf := if_f (K := fun x => x) c9 hf
    refine lv_iconst (v := (-1)) C.x C.b dX0_placeOf_13 (by decide) ?_
    exact hR _ (some_k hf) _ _ _ _ h rfl dX0_placeOf_14
theorem tX_placeOf : GoodIn lw_all (wsV RX0 228 RX0 yX0_placeOf (ws_ yX0_placeOf cX0_placeOf 4 (some .int))) := lw_V q760 q762 qs24 q137 q763
theorem cX_placeOf {p : Program} {l : Launch} {e : Env} {R : Room} {s : State} {m : MethodId} {args : Array Value} {below : List Frame} {meth : Method} {c : Code} {H : Heap} {locs : List Loc} {Q : State → Prop} {cc : ByteArray} {pc : Nat} {ls : Array Slot} {st : List Value} {nL d : Nat} {D : va_G} {ty : Nat → ClassId} {A : Nat → Prop} {o : Nat} {ad : Nat → Nat} {rs : va_W} {σ : PS} {v1 : Int32} {v2 : Int32} {q : Int32} (C : Cx p R s m args c cc nL RX0 D ty A d) (h : Hw D A s H locs (wX ty o ad σ ++ rs)) (hc : X_placeOf σ v1 v2 = some q) (hd : 0 + 1 ≤ d) (hls : ls.size = nL) (hcat : (st.map fun v => v.category).sum ≤ 8) (dec : decode cc pc = .ok (.invokevirtual 228, 3)) (kk : ∀ (H : Heap) (locs : List Loc), Hw D A s H locs (wX ty o ad σ ++ rs) → W p l e R s m args below meth c H locs 0 0 Q (F0 m (pc + 3) ls (.int q :: st))) : W p l e R s m args below meth c H locs 0 0 Q (F0 m pc ls (.int v2 :: .int v1 :: .ref o :: st)) := KI.callV (As := [.int v1, .int v2]) C (kX_placeOf l hc) tX_placeOf ⟨rfl, by decide, by decide, by show _ = some 2; decide +kernel⟩ 0 0 rfl rfl rfl hd (by decide) (Nat.zero_le _) (Nat.zero_le _) h hls rfl hcat dec kk
def X_apart (v0 : Int32) (v1 : Int32) : Option Int32 := some (ab (v0 - v1))
set_option maxHeartbeats 4000000 in
theorem kX_apart (l : Launch) {D : va_G} {ty : Nat → ClassId} {A : Nat → Prop} {ws : va_W} {v0 : Int32} {v1 : Int32} {r : Int32} (hf : X_apart v0 v1 = some r) : KI l yX0_apart cX0_apart 2 .int 1 D ty A ws ws [.int v0, .int v1] r := by
  refine KI.of (by decide) (Nat.le_of_ble_eq_true rfl) ?_
  intro p e R s m args below meth c Q C hR
  have C : Cx p R s m args c cX0_apart 2 RX0 D ty A 1 := C
  have hR : ∀ (v : Int32), v = r → ∀ (H : Heap) (locs : List Loc) (pc : Nat) (ls : Array Slot), Hw D A s H locs ws → narrow .int (.int v) = .int v → decode cX0_apart pc = .ok (.ireturn, 1) → W p l e R s m args below meth c H locs 0 0 Q (F0 m pc ls [.int v]) := by intro v e9; cases e9; exact hR
  intro H locs ls h hl
  have hl : lv_has ls 2 [(0, .int v0), (1, .int v1)] := hl
  unfold X_apart at hf
  refine lv_iload_n C.x C.b dX0_apart_0 rfl (lv_at hl 0 rfl) ?_
  refine lv_iload_n C.x C.b dX0_apart_1 rfl (lv_at hl 1 rfl) ?_
  refine lv_isub C.x C.b dX0_apart_2 ?_
  refine r_abs_X0 C h hl.1 (by decide) (Nat.le_of_ble_eq_true rfl) dX0_apart_3 ?_
  exact hR _ (some_k hf) _ _ _ _ h rfl dX0_apart_6
theorem tX_apart : GoodIn lw_all (va_wsS RX0 225 yX0_apart (ws_ yX0_apart cX0_apart 2 (some .int))) := lw_S q768 q769 q137 q770
theorem cX_apart {p : Program} {l : Launch} {e : Env} {R : Room} {s : State} {m : MethodId} {args : Array Value} {below : List Frame} {meth : Method} {c : Code} {H : Heap} {locs : List Loc} {Q : State → Prop} {cc : ByteArray} {pc : Nat} {ls : Array Slot} {st : List Value} {nL d : Nat} {D : va_G} {ty : Nat → ClassId} {A : Nat → Prop} {ws : va_W} {v0 : Int32} {v1 : Int32} {q : Int32} (C : Cx p R s m args c cc nL RX0 D ty A d) (h : Hw D A s H locs ws) (hc : X_apart v0 v1 = some q) (hd : 1 + 1 ≤ d) (hls : ls.size = nL) (hcat : (st.map fun v => v.category).sum ≤ 8) (dec : decode cc pc = .ok (.invokestatic 225, 3)) (kk : ∀ (H : Heap) (locs : List Loc), Hw D A s H locs ws → W p l e R s m args below meth c H locs 0 0 Q (F0 m (pc + 3) ls (.int q :: st))) : W p l e R s m args below meth c H locs 0 0 Q (F0 m pc ls (.int v1 :: .int v0 :: st)) := KI.callS (As := [.int v0, .int v1]) C (kX_apart l hc) tX_apart ⟨by decide, by decide, by show _ = some 2; decide +kernel⟩ hd (by decide) (Nat.zero_le _) (Nat.zero_le _) h hls rfl hcat dec kk
def X_isOf_j14 (x0 : Int32) : Option Int32 := tz x0 (some x0)
def X_isOf (v0 : Int32) (v1 : Int32) : Option Int32 := if ((v0 >>> (v1 &&& 31)) &&& 1) = 1 then X_isOf_j14 1 else X_isOf_j14 0
set_option maxHeartbeats 4000000 in
theorem kX_isOf (l : Launch) {D : va_G} {ty : Nat → ClassId} {A : Nat → Prop} {ws : va_W} {v0 : Int32} {v1 : Int32} {r : Int32} (hf : X_isOf v0 v1 = some r) : KI l yX0_isOf cX0_isOf 2 .boolean 0 D ty A ws ws [.int v0, .int v1] r := by
  refine KI.of (by decide) (Nat.le_of_ble_eq_true rfl) ?_
  intro p e R s m args below meth c Q C hR
  have C : Cx p R s m args c cX0_isOf 2 RX0 D ty A 0 := C
  have hR : ∀ (v : Int32), v = r → ∀ (H : Heap) (locs : List Loc) (pc : Nat) (ls : Array Slot), Hw D A s H locs ws → narrow .boolean (.int v) = .int v → decode cX0_isOf pc = .ok (.ireturn, 1) → W p l e R s m args below meth c H locs 0 0 Q (F0 m pc ls [.int v]) := by intro v e9; cases e9; exact hR
  have j14 : ∀ (x0 : Int32) (H : Heap) (locs : List Loc) (ls : Array Slot), Hw D A s H locs ws → lv_has ls 2 [] → X_isOf_j14 x0 = some r → W p l e R s m args below meth c H locs 0 0 Q (F0 m 14 ls [.int x0]) := by
    intro x0 H locs ls h hl hf
    unfold X_isOf_j14 at hf
    obtain ⟨hz, hf⟩ := tz_k (K := fun x => x) rfl hf
    exact hR _ (some_k hf) _ _ _ _ h hz dX0_isOf_14
  intro H locs ls h hl
  have hl : lv_has ls 2 [(0, .int v0), (1, .int v1)] := hl
  unfold X_isOf at hf
  refine lv_iload_n C.x C.b dX0_isOf_0 rfl (lv_at hl 0 rfl) ?_
  refine lv_iload_n C.x C.b dX0_isOf_1 rfl (lv_at hl 1 rfl) ?_
  refine lv_ishr C.x C.b dX0_isOf_2 ?_
  refine lv_iconst (v := 1) C.x C.b dX0_isOf_3 (by decide) ?_
  refine lv_iand C.x C.b dX0_isOf_4 ?_
  refine lv_iconst (v := 1) C.x C.b dX0_isOf_5 (by decide) ?_
  refine lv_icmp_ne (tgt := 13) C.x C.b dX0_isOf_6 (by decide) (fun c9 => ?_) (fun c9 => ?_)
  · have hf := if_f (K := fun x => x) c9 hf
    refine lv_iconst (v := 0) C.x C.b dX0_isOf_13 (by decide) ?_
    exact j14 0 _ _ _ h (lv_sub hl [] rfl) hf
  · have hf := if_t (K := fun x => x) c9 hf
    refine lv_iconst (v := 1) C.x C.b dX0_isOf_9 (by decide) ?_
    refine lv_goto (tgt := 14) C.x C.b dX0_isOf_10 (by decide) ?_
    exact j14 1 _ _ _ h (lv_sub hl [] rfl) hf
theorem tX_isOf : GoodIn lw_all (va_wsS RX0 201 yX0_isOf (ws_ yX0_isOf cX0_isOf 2 (some .boolean))) := lw_S q799 q800 q137 q801
theorem cX_isOf {p : Program} {l : Launch} {e : Env} {R : Room} {s : State} {m : MethodId} {args : Array Value} {below : List Frame} {meth : Method} {c : Code} {H : Heap} {locs : List Loc} {Q : State → Prop} {cc : ByteArray} {pc : Nat} {ls : Array Slot} {st : List Value} {nL d : Nat} {D : va_G} {ty : Nat → ClassId} {A : Nat → Prop} {ws : va_W} {v0 : Int32} {v1 : Int32} {q : Int32} (C : Cx p R s m args c cc nL RX0 D ty A d) (h : Hw D A s H locs ws) (hc : X_isOf v0 v1 = some q) (hd : 0 + 1 ≤ d) (hls : ls.size = nL) (hcat : (st.map fun v => v.category).sum ≤ 8) (dec : decode cc pc = .ok (.invokestatic 201, 3)) (kk : ∀ (H : Heap) (locs : List Loc), Hw D A s H locs ws → W p l e R s m args below meth c H locs 0 0 Q (F0 m (pc + 3) ls (.int q :: st))) : W p l e R s m args below meth c H locs 0 0 Q (F0 m pc ls (.int v1 :: .int v0 :: st)) := KI.callS (As := [.int v0, .int v1]) C (kX_isOf l hc) tX_isOf ⟨by decide, by decide, by show _ = some 2; decide +kernel⟩ hd (by decide) (Nat.zero_le _) (Nat.zero_le _) h hls rfl hcat dec kk
def X_isLehr_j15 (σ : PS) (x0 : Int32) : Option Int32 := tz x0 (some x0)
def X_isLehr (σ : PS) : Option Int32 := if (gI σ 105) ≤ 0 then X_isLehr_j15 σ 0 else X_isLehr_j15 σ 1
set_option maxHeartbeats 4000000 in
theorem kX_isLehr (l : Launch) {D : va_G} {ty : Nat → ClassId} {A : Nat → Prop} {o : Nat} {ad : Nat → Nat} {rs : va_W} {σ : PS} {r : Int32} (hf : X_isLehr σ = some r) : KI l yX0_isLehr cX0_isLehr 1 .boolean 0 D ty A (wX ty o ad σ ++ rs) (wX ty o ad σ ++ rs) [.ref o] r := by
  refine KI.of (by decide) (Nat.le_of_ble_eq_true rfl) ?_
  intro p e R s m args below meth c Q C hR
  have C : Cx p R s m args c cX0_isLehr 1 RX0 D ty A 0 := C
  have hR : ∀ (v : Int32), v = r → ∀ (H : Heap) (locs : List Loc) (pc : Nat) (ls : Array Slot), Hw D A s H locs (wX ty o ad σ ++ rs) → narrow .boolean (.int v) = .int v → decode cX0_isLehr pc = .ok (.ireturn, 1) → W p l e R s m args below meth c H locs 0 0 Q (F0 m pc ls [.int v]) := by intro v e9; cases e9; exact hR
  have j15 : ∀ (x0 : Int32) (H : Heap) (locs : List Loc) (ls : Array Slot), Hw D A s H locs (wX ty o ad σ ++ rs) → lv_has ls 1 [] → X_isLehr_j15 σ x0 = some r → W p l e R s m args below meth c H locs 0 0 Q (F0 m 15 ls [.int x0]) := by
    intro x0 H locs ls h hl hf
    unfold X_isLehr_j15 at hf
    obtain ⟨hz, hf⟩ := tz_k (K := fun x => x) rfl hf
    exact hR _ (some_k hf) _ _ _ _ h hz dX0_isLehr_15
  intro H locs ls h hl
  have hl : lv_has ls 1 [(0, .ref o)] := hl
  unfold X_isLehr at hf
  refine lv_aload_n C.x C.b dX0_isLehr_0 rfl (lv_at hl 0 rfl) ?_
  refine x_g0 C h dX0_isLehr_1 ?_
  refine x_g105 C h dX0_isLehr_4 ?_
  refine lv_if_le (tgt := 14) C.x C.b dX0_isLehr_7 (by decide) (fun c9 => ?_) (fun c9 => ?_)
  · have hf := if_t (K := fun x => x) c9 hf
    refine lv_iconst (v := 0) C.x C.b dX0_isLehr_14 (by decide) ?_
    exact j15 0 _ _ _ h (lv_sub hl [] rfl) hf
  · have hf := if_f (K := fun x => x) c9 hf
    refine lv_iconst (v := 1) C.x C.b dX0_isLehr_10 (by decide) ?_
    refine lv_goto (tgt := 15) C.x C.b dX0_isLehr_11 (by decide) ?_
    exact j15 1 _ _ _ h (lv_sub hl [] rfl) hf
theorem tX_isLehr : GoodIn lw_all (wsV RX0 143 RX0 yX0_isLehr (ws_ yX0_isLehr cX0_isLehr 1 (some .boolean))) := lw_V q820 q822 qs29 q137 q823
theorem cX_isLehr {p : Program} {l : Launch} {e : Env} {R : Room} {s : State} {m : MethodId} {args : Array Value} {below : List Frame} {meth : Method} {c : Code} {H : Heap} {locs : List Loc} {Q : State → Prop} {cc : ByteArray} {pc : Nat} {ls : Array Slot} {st : List Value} {nL d : Nat} {D : va_G} {ty : Nat → ClassId} {A : Nat → Prop} {o : Nat} {ad : Nat → Nat} {rs : va_W} {σ : PS} {q : Int32} (C : Cx p R s m args c cc nL RX0 D ty A d) (h : Hw D A s H locs (wX ty o ad σ ++ rs)) (hc : X_isLehr σ = some q) (hd : 0 + 1 ≤ d) (hls : ls.size = nL) (hcat : (st.map fun v => v.category).sum ≤ 8) (dec : decode cc pc = .ok (.invokevirtual 143, 3)) (kk : ∀ (H : Heap) (locs : List Loc), Hw D A s H locs (wX ty o ad σ ++ rs) → W p l e R s m args below meth c H locs 0 0 Q (F0 m (pc + 3) ls (.int q :: st))) : W p l e R s m args below meth c H locs 0 0 Q (F0 m pc ls (.ref o :: st)) := KI.callV (As := []) C (kX_isLehr l hc) tX_isLehr ⟨rfl, by decide, by decide, by show _ = some 0; decide +kernel⟩ 0 0 rfl rfl rfl hd (by decide) (Nat.zero_le _) (Nat.zero_le _) h hls rfl hcat dec kk
def X_isStep_j28 (σ : PS) (x0 : Int32) : Option Int32 := tz x0 (some x0)
def X_isStep_j27 (σ : PS) : Option Int32 := X_isStep_j28 σ 0
def X_isStep (σ : PS) (v1 : Int64) : Option Int32 := bd (X_isLehr σ) (fun q_1 => if q_1 = 0 then X_isStep_j27 σ else bd (X_isIn v1 0 ((gI σ 100).toInt64)) (fun q_2 => if q_2 = 0 then X_isStep_j27 σ else X_isStep_j28 σ 1))
set_option maxHeartbeats 4000000 in
theorem kX_isStep (l : Launch) {D : va_G} {ty : Nat → ClassId} {A : Nat → Prop} {o : Nat} {ad : Nat → Nat} {rs : va_W} {σ : PS} {v1 : Int64} {r : Int32} (hf : X_isStep σ v1 = some r) : KI l yX0_isStep cX0_isStep 3 .boolean 1 D ty A (wX ty o ad σ ++ rs) (wX ty o ad σ ++ rs) [.ref o, .long v1] r := by
  refine KI.of (by decide) (Nat.le_of_ble_eq_true rfl) ?_
  intro p e R s m args below meth c Q C hR
  have C : Cx p R s m args c cX0_isStep 3 RX0 D ty A 1 := C
  have hR : ∀ (v : Int32), v = r → ∀ (H : Heap) (locs : List Loc) (pc : Nat) (ls : Array Slot), Hw D A s H locs (wX ty o ad σ ++ rs) → narrow .boolean (.int v) = .int v → decode cX0_isStep pc = .ok (.ireturn, 1) → W p l e R s m args below meth c H locs 0 0 Q (F0 m pc ls [.int v]) := by intro v e9; cases e9; exact hR
  have j28 : ∀ (x0 : Int32) (H : Heap) (locs : List Loc) (ls : Array Slot), Hw D A s H locs (wX ty o ad σ ++ rs) → lv_has ls 3 [] → X_isStep_j28 σ x0 = some r → W p l e R s m args below meth c H locs 0 0 Q (F0 m 28 ls [.int x0]) := by
    intro x0 H locs ls h hl hf
    unfold X_isStep_j28 at hf
    obtain ⟨hz, hf⟩ := tz_k (K := fun x => x) rfl hf
    exact hR _ (some_k hf) _ _ _ _ h hz dX0_isStep_28
  have j27 : ∀ (H : Heap) (locs : List Loc) (ls : Array Slot), Hw D A s H locs (wX ty o ad σ ++ rs) → lv_has ls 3 [] → X_isStep_j27 σ = some r → W p l e R s m args below meth c H locs 0 0 Q (F0 m 27 ls []) := by
    intro  H locs ls h hl hf
    unfold X_isStep_j27 at hf
    refine lv_iconst (v := 0) C.x C.b dX0_isStep_27 (by decide) ?_
    exact j28 0 _ _ _ h (lv_sub hl [] rfl) hf
  intro H locs ls h hl
  have hl : lv_has ls 3 [(0, .ref o), (1, .long v1)] := hl
  unfold X_isStep at hf
  refine lv_aload_n C.x C.b dX0_isStep_0 rfl (lv_at hl 0 rfl) ?_
  obtain ⟨q_1, hc, hf⟩ := bd_k (K := fun x => x) rfl hf
  refine cX_isLehr C h hc (Nat.le_of_ble_eq_true rfl) hl.1 (Nat.le_of_ble_eq_true rfl) dX0_isStep_1 (fun H locs h => ?_)
  refine lv_if_eq (tgt := 27) C.x C.b dX0_isStep_4 (by decide) (fun c9 => ?_) (fun c9 => ?_)
  · have hf := if_t (K := fun x => x) c9 hf
    exact j27  _ _ _ h (lv_sub hl [] rfl) hf
  · have hf := if_f (K := fun x => x) c9 hf
    refine lv_lload_n C.x C.b dX0_isStep_7 rfl (lv_at hl 1 rfl) ?_
    refine lv_lconst (v := 0) C.x C.b dX0_isStep_8 (by decide) ?_
    refine lv_aload_n C.x C.b dX0_isStep_9 rfl (lv_at hl 0 rfl) ?_
    refine x_g0 C h dX0_isStep_10 ?_
    refine x_g100 C h dX0_isStep_13 ?_
    refine lv_i2l C.x C.b dX0_isStep_16 rfl ?_
    obtain ⟨q_2, hc, hf⟩ := bd_k (K := fun x => x) rfl hf
    refine cX_isIn C h hc (Nat.le_of_ble_eq_true rfl) hl.1 (Nat.le_of_ble_eq_true rfl) dX0_isStep_17 (fun H locs h => ?_)
    refine lv_if_eq (tgt := 27) C.x C.b dX0_isStep_20 (by decide) (fun c9 => ?_) (fun c9 => ?_)
    · have hf := if_t (K := fun x => x) c9 hf
      exact j27  _ _ _ h (lv_sub hl [] rfl) hf
    · have hf := if_f (K := fun x => x) c9 hf
      refine lv_iconst (v := 1) C.x C.b dX0_isStep_23 (by decide) ?_
      refine lv_goto (tgt := 28) C.x C.b dX0_isStep_24 (by decide) ?_
      exact j28 1 _ _ _ h (lv_sub hl [] rfl) hf
theorem tX_isStep : GoodIn lw_all (wsV RX0 263 RX0 yX0_isStep (ws_ yX0_isStep cX0_isStep 3 (some .boolean))) := lw_V q824 q826 qs30 q137 q827
theorem cX_isStep {p : Program} {l : Launch} {e : Env} {R : Room} {s : State} {m : MethodId} {args : Array Value} {below : List Frame} {meth : Method} {c : Code} {H : Heap} {locs : List Loc} {Q : State → Prop} {cc : ByteArray} {pc : Nat} {ls : Array Slot} {st : List Value} {nL d : Nat} {D : va_G} {ty : Nat → ClassId} {A : Nat → Prop} {o : Nat} {ad : Nat → Nat} {rs : va_W} {σ : PS} {v1 : Int64} {q : Int32} (C : Cx p R s m args c cc nL RX0 D ty A d) (h : Hw D A s H locs (wX ty o ad σ ++ rs)) (hc : X_isStep σ v1 = some q) (hd : 1 + 1 ≤ d) (hls : ls.size = nL) (hcat : (st.map fun v => v.category).sum ≤ 8) (dec : decode cc pc = .ok (.invokevirtual 263, 3)) (kk : ∀ (H : Heap) (locs : List Loc), Hw D A s H locs (wX ty o ad σ ++ rs) → W p l e R s m args below meth c H locs 0 0 Q (F0 m (pc + 3) ls (.int q :: st))) : W p l e R s m args below meth c H locs 0 0 Q (F0 m pc ls (.long v1 :: .ref o :: st)) := KI.callV (As := [.long v1]) C (kX_isStep l hc) tX_isStep ⟨rfl, by decide, by decide, by show _ = some 1; decide +kernel⟩ 0 0 rfl rfl rfl hd (by decide) (Nat.zero_le _) (Nat.zero_le _) h hls rfl hcat dec kk
def X_insideOf_j45 (σ : PS) (v3 : Int32) : Option Int32 := some v3
def X_insideOf_j37 (σ : PS) (v1 : Int32) (v2 : Int32) (v4 : Int32) (x0 : Int32) (x1 : Int32) : Option ((Int32 × Int32) ⊕ Int32) := nm (x1 ||| x0) (fun v3_1 => nm (v4 + 1) (fun v4_2 => some (.inl (v3_1, v4_2))))
def X_insideOf_l5 (σ : PS) (v1 : Int32) (v2 : Int32) (v3 : Int32) (v4 : Int32) : Option ((Int32 × Int32) ⊕ Int32) := if (gI σ 107) ≤ v4 then up (X_insideOf_j45 σ v3) else bd (X_placeOf σ v4 v2) (fun q_3 => if q_3 = v1 then X_insideOf_j37 σ v1 v2 v4 (1 <<< (v4 &&& 31)) v3 else X_insideOf_j37 σ v1 v2 v4 0 v3)
def X_insideOf_B5 (σ : PS) (v1 : Int32) (v2 : Int32) : (Int32 × Int32) → Option ((Int32 × Int32) ⊕ Int32) := fun t => X_insideOf_l5 σ v1 v2 t.1 t.2
def X_insideOf (σ : PS) (v1 : Int32) (v2 : Int32) : Option Int32 := loop (X_insideOf_B5 σ v1 v2) fu (0, 0)
set_option maxHeartbeats 4000000 in
theorem kX_insideOf (l : Launch) {D : va_G} {ty : Nat → ClassId} {A : Nat → Prop} {o : Nat} {ad : Nat → Nat} {rs : va_W} {σ : PS} {v1 : Int32} {v2 : Int32} {r : Int32} (hf : X_insideOf σ v1 v2 = some r) : KI l yX0_insideOf cX0_insideOf 5 .int 1 D ty A (wX ty o ad σ ++ rs) (wX ty o ad σ ++ rs) [.ref o, .int v1, .int v2] r := by
  refine KI.of (by decide) (Nat.le_of_ble_eq_true rfl) ?_
  intro p e R s m args below meth c Q C hR
  have C : Cx p R s m args c cX0_insideOf 5 RX0 D ty A 1 := C
  have hR : ∀ (v : Int32), v = r → ∀ (H : Heap) (locs : List Loc) (pc : Nat) (ls : Array Slot), Hw D A s H locs (wX ty o ad σ ++ rs) → narrow .int (.int v) = .int v → decode cX0_insideOf pc = .ok (.ireturn, 1) → W p l e R s m args below meth c H locs 0 0 Q (F0 m pc ls [.int v]) := by intro v e9; cases e9; exact hR
  have j45 : ∀ (v3 : Int32) (H : Heap) (locs : List Loc) (ls : Array Slot), Hw D A s H locs (wX ty o ad σ ++ rs) → lv_has ls 5 [(3, .int v3)] → X_insideOf_j45 σ v3 = some r → W p l e R s m args below meth c H locs 0 0 Q (F0 m 45 ls []) := by
    intro v3 H locs ls h hl hf
    unfold X_insideOf_j45 at hf
    refine lv_iload_n C.x C.b dX0_insideOf_45 rfl (lv_at hl 0 rfl) ?_
    exact hR _ (some_k hf) _ _ _ _ h rfl dX0_insideOf_46
  have l5 : ∀ (n5 : Nat) (v3 : Int32) (v4 : Int32) (H : Heap) (locs : List Loc) (ls : Array Slot), Hw D A s H locs (wX ty o ad σ ++ rs) → lv_has ls 5 [(0, .ref o), (1, .int v1), (2, .int v2), (3, .int v3), (4, .int v4)] → loop (X_insideOf_B5 σ v1 v2) n5 (v3, v4) = some r → W p l e R s m args below meth c H locs 0 0 Q (F0 m 5 ls []) := by
    intro n5
    induction n5 with
    | zero => intro v3 v4 H locs ls h hl hf; exact (none_k hf).elim
    | succ n5 ih5 =>
      have j37 : ∀ (v4 : Int32) (x0 : Int32) (x1 : Int32) (H : Heap) (locs : List Loc) (ls : Array Slot), Hw D A s H locs (wX ty o ad σ ++ rs) → lv_has ls 5 [(0, .ref o), (1, .int v1), (2, .int v2), (4, .int v4)] → bl (X_insideOf_B5 σ v1 v2) n5 (X_insideOf_j37 σ v1 v2 v4 x0 x1) = some r → W p l e R s m args below meth c H locs 0 0 Q (F0 m 37 ls [.int x0, .int x1]) := by
        intro v4 x0 x1 H locs ls h hl hf
        unfold X_insideOf_j37 at hf
        refine lv_ior C.x C.b dX0_insideOf_37 ?_
        obtain ⟨v3_1, e9, hf⟩ := nm_k (K := bl (X_insideOf_B5 σ v1 v2) n5) hf
        refine lv_topI e9 ?_
        refine lv_istore_n (lv' := [(3, .int v3_1), (0, .ref o), (1, .int v1), (2, .int v2), (4, .int v4)]) C.x C.b dX0_insideOf_38 rfl hl (by decide) rfl (fun ls hl => ?_)
        obtain ⟨v4_2, e9, hf⟩ := nm_k (K := bl (X_insideOf_B5 σ v1 v2) n5) hf
        refine lv_iinc (v := v4_2) (lv' := [(4, .int v4_2), (3, .int v3_1), (0, .ref o), (1, .int v1), (2, .int v2)]) C.x C.b dX0_insideOf_39 hl (k := 4) rfl (iinc_e (k := 1) (by decide) e9) (by decide) rfl (fun ls hl => ?_)
        refine lv_goto (tgt := 5) C.x C.b dX0_insideOf_42 (by decide) ?_
        exact ih5 v3_1 v4_2 _ _ _ h (lv_sub hl [2, 3, 4, 1, 0] rfl) hf
      intro v3 v4 H locs ls h hl hf
      have hf : bl (X_insideOf_B5 σ v1 v2) n5 (X_insideOf_l5 σ v1 v2 v3 v4) = some r := hf
      unfold X_insideOf_l5 at hf
      refine lv_iload C.x C.b dX0_insideOf_5 (lv_at hl 4 rfl) ?_
      refine lv_aload_n C.x C.b dX0_insideOf_7 rfl (lv_at hl 0 rfl) ?_
      refine x_g0 C h dX0_insideOf_8 ?_
      refine x_g107 C h dX0_insideOf_11 ?_
      refine lv_icmp_ge (tgt := 45) C.x C.b dX0_insideOf_14 (by decide) (fun c9 => ?_) (fun c9 => ?_)
      · have hf := if_t (K := bl (X_insideOf_B5 σ v1 v2) n5) c9 hf
        have hf := bl_upK (K := fun x => x) hf
        exact j45 v3 _ _ _ h (lv_sub hl [3] rfl) hf
      · have hf := if_f (K := bl (X_insideOf_B5 σ v1 v2) n5) c9 hf
        refine lv_iload_n C.x C.b dX0_insideOf_17 rfl (lv_at hl 3 rfl) ?_
        refine lv_aload_n C.x C.b dX0_insideOf_18 rfl (lv_at hl 0 rfl) ?_
        refine lv_iload C.x C.b dX0_insideOf_19 (lv_at hl 4 rfl) ?_
        refine lv_iload_n C.x C.b dX0_insideOf_21 rfl (lv_at hl 2 rfl) ?_
        obtain ⟨q_3, hc, hf⟩ := bd_k (K := bl (X_insideOf_B5 σ v1 v2) n5) rfl hf
        refine cX_placeOf C h hc (Nat.le_of_ble_eq_true rfl) hl.1 (Nat.le_of_ble_eq_true rfl) dX0_insideOf_22 (fun H locs h => ?_)
        refine lv_iload_n C.x C.b dX0_insideOf_25 rfl (lv_at hl 1 rfl) ?_
        refine lv_icmp_ne (tgt := 36) C.x C.b dX0_insideOf_26 (by decide) (fun c9 => ?_) (fun c9 => ?_)
        · have hf := if_f (K := bl (X_insideOf_B5 σ v1 v2) n5) c9 hf
          refine lv_iconst (v := 0) C.x C.b dX0_insideOf_36 (by decide) ?_
          exact j37 v4 0 v3 _ _ _ h (lv_sub hl [0, 1, 2, 4] rfl) hf
        · have hf := if_t (K := bl (X_insideOf_B5 σ v1 v2) n5) c9 hf
          refine lv_iconst (v := 1) C.x C.b dX0_insideOf_29 (by decide) ?_
          refine lv_iload C.x C.b dX0_insideOf_30 (lv_at hl 4 rfl) ?_
          refine lv_ishl C.x C.b dX0_insideOf_32 ?_
          refine lv_goto (tgt := 37) C.x C.b dX0_insideOf_33 (by decide) ?_
          exact j37 v4 (1 <<< (v4 &&& 31)) v3 _ _ _ h (lv_sub hl [0, 1, 2, 4] rfl) hf
  intro H locs ls h hl
  have hl : lv_has ls 5 [(0, .ref o), (1, .int v1), (2, .int v2)] := hl
  unfold X_insideOf at hf
  refine lv_iconst (v := 0) C.x C.b dX0_insideOf_0 (by decide) ?_
  refine lv_istore_n (lv' := [(3, .int 0), (0, .ref o), (1, .int v1), (2, .int v2)]) C.x C.b dX0_insideOf_1 rfl hl (by decide) rfl (fun ls hl => ?_)
  refine lv_iconst (v := 0) C.x C.b dX0_insideOf_2 (by decide) ?_
  refine lv_istore (lv' := [(4, .int 0), (3, .int 0), (0, .ref o), (1, .int v1), (2, .int v2)]) C.x C.b dX0_insideOf_3 hl (by decide) rfl (fun ls hl => ?_)
  exact l5  fu 0 0 _ _ _ h (lv_sub hl [2, 3, 4, 1, 0] rfl) hf
theorem tX_insideOf : GoodIn lw_all (wsV RX0 290 RX0 yX0_insideOf (ws_ yX0_insideOf cX0_insideOf 5 (some .int))) := lw_V q837 q839 qs31 q137 q840
theorem cX_insideOf {p : Program} {l : Launch} {e : Env} {R : Room} {s : State} {m : MethodId} {args : Array Value} {below : List Frame} {meth : Method} {c : Code} {H : Heap} {locs : List Loc} {Q : State → Prop} {cc : ByteArray} {pc : Nat} {ls : Array Slot} {st : List Value} {nL d : Nat} {D : va_G} {ty : Nat → ClassId} {A : Nat → Prop} {o : Nat} {ad : Nat → Nat} {rs : va_W} {σ : PS} {v1 : Int32} {v2 : Int32} {q : Int32} (C : Cx p R s m args c cc nL RX0 D ty A d) (h : Hw D A s H locs (wX ty o ad σ ++ rs)) (hc : X_insideOf σ v1 v2 = some q) (hd : 1 + 1 ≤ d) (hls : ls.size = nL) (hcat : (st.map fun v => v.category).sum ≤ 8) (dec : decode cc pc = .ok (.invokevirtual 290, 3)) (kk : ∀ (H : Heap) (locs : List Loc), Hw D A s H locs (wX ty o ad σ ++ rs) → W p l e R s m args below meth c H locs 0 0 Q (F0 m (pc + 3) ls (.int q :: st))) : W p l e R s m args below meth c H locs 0 0 Q (F0 m pc ls (.int v2 :: .int v1 :: .ref o :: st)) := KI.callV (As := [.int v1, .int v2]) C (kX_insideOf l hc) tX_insideOf ⟨rfl, by decide, by decide, by show _ = some 2; decide +kernel⟩ 0 0 rfl rfl rfl hd (by decide) (Nat.zero_le _) (Nat.zero_le _) h hls rfl hcat dec kk
def X_skinOf (σ : PS) (v1 : Int32) (v2 : Int32) : Option Int32 := ix ((6 * v2) + v1) 90 (some (rA σ 18 ((6 * v2) + v1)))
set_option maxHeartbeats 4000000 in
theorem kX_skinOf (l : Launch) {D : va_G} {ty : Nat → ClassId} {A : Nat → Prop} {o : Nat} {ad : Nat → Nat} {rs : va_W} {σ : PS} {v1 : Int32} {v2 : Int32} {r : Int32} (hf : X_skinOf σ v1 v2 = some r) : KI l yX0_skinOf cX0_skinOf 3 .int 0 D ty A (wX ty o ad σ ++ rs) (wX ty o ad σ ++ rs) [.ref o, .int v1, .int v2] r := by
  refine KI.of (by decide) (Nat.le_of_ble_eq_true rfl) ?_
  intro p e R s m args below meth c Q C hR
  have C : Cx p R s m args c cX0_skinOf 3 RX0 D ty A 0 := C
  have hR : ∀ (v : Int32), v = r → ∀ (H : Heap) (locs : List Loc) (pc : Nat) (ls : Array Slot), Hw D A s H locs (wX ty o ad σ ++ rs) → narrow .int (.int v) = .int v → decode cX0_skinOf pc = .ok (.ireturn, 1) → W p l e R s m args below meth c H locs 0 0 Q (F0 m pc ls [.int v]) := by intro v e9; cases e9; exact hR
  intro H locs ls h hl
  have hl : lv_has ls 3 [(0, .ref o), (1, .int v1), (2, .int v2)] := hl
  unfold X_skinOf at hf
  refine lv_aload_n C.x C.b dX0_skinOf_0 rfl (lv_at hl 0 rfl) ?_
  refine x_g18 C h dX0_skinOf_1 ?_
  refine lv_bipush (v := 6) C.x C.b dX0_skinOf_4 (by decide) ?_
  refine lv_iload_n C.x C.b dX0_skinOf_6 rfl (lv_at hl 2 rfl) ?_
  refine lv_imul C.x C.b dX0_skinOf_7 ?_
  refine lv_iload_n C.x C.b dX0_skinOf_8 rfl (lv_at hl 1 rfl) ?_
  refine lv_iadd C.x C.b dX0_skinOf_9 ?_
  obtain ⟨hi, hf⟩ := ix_k (K := fun x => x) rfl hf
  refine x_a18 C h hi dX0_skinOf_10 ?_
  exact hR _ (some_k hf) _ _ _ _ h rfl dX0_skinOf_11
theorem tX_skinOf : GoodIn lw_all (wsV RX0 266 RX0 yX0_skinOf (ws_ yX0_skinOf cX0_skinOf 3 (some .int))) := lw_V q857 q859 qs33 q137 q860
theorem cX_skinOf {p : Program} {l : Launch} {e : Env} {R : Room} {s : State} {m : MethodId} {args : Array Value} {below : List Frame} {meth : Method} {c : Code} {H : Heap} {locs : List Loc} {Q : State → Prop} {cc : ByteArray} {pc : Nat} {ls : Array Slot} {st : List Value} {nL d : Nat} {D : va_G} {ty : Nat → ClassId} {A : Nat → Prop} {o : Nat} {ad : Nat → Nat} {rs : va_W} {σ : PS} {v1 : Int32} {v2 : Int32} {q : Int32} (C : Cx p R s m args c cc nL RX0 D ty A d) (h : Hw D A s H locs (wX ty o ad σ ++ rs)) (hc : X_skinOf σ v1 v2 = some q) (hd : 0 + 1 ≤ d) (hls : ls.size = nL) (hcat : (st.map fun v => v.category).sum ≤ 8) (dec : decode cc pc = .ok (.invokevirtual 266, 3)) (kk : ∀ (H : Heap) (locs : List Loc), Hw D A s H locs (wX ty o ad σ ++ rs) → W p l e R s m args below meth c H locs 0 0 Q (F0 m (pc + 3) ls (.int q :: st))) : W p l e R s m args below meth c H locs 0 0 Q (F0 m pc ls (.int v2 :: .int v1 :: .ref o :: st)) := KI.callV (As := [.int v1, .int v2]) C (kX_skinOf l hc) tX_skinOf ⟨rfl, by decide, by decide, by show _ = some 2; decide +kernel⟩ 0 0 rfl rfl rfl hd (by decide) (Nat.zero_le _) (Nat.zero_le _) h hls rfl hcat dec kk
def X_coreOf (σ : PS) (v1 : Int32) (v2 : Int32) : Option Int32 := ix ((6 * v2) + v1) 90 (some (rA σ 19 ((6 * v2) + v1)))
set_option maxHeartbeats 4000000 in
theorem kX_coreOf (l : Launch) {D : va_G} {ty : Nat → ClassId} {A : Nat → Prop} {o : Nat} {ad : Nat → Nat} {rs : va_W} {σ : PS} {v1 : Int32} {v2 : Int32} {r : Int32} (hf : X_coreOf σ v1 v2 = some r) : KI l yX0_coreOf cX0_coreOf 3 .int 0 D ty A (wX ty o ad σ ++ rs) (wX ty o ad σ ++ rs) [.ref o, .int v1, .int v2] r := by
  refine KI.of (by decide) (Nat.le_of_ble_eq_true rfl) ?_
  intro p e R s m args below meth c Q C hR
  have C : Cx p R s m args c cX0_coreOf 3 RX0 D ty A 0 := C
  have hR : ∀ (v : Int32), v = r → ∀ (H : Heap) (locs : List Loc) (pc : Nat) (ls : Array Slot), Hw D A s H locs (wX ty o ad σ ++ rs) → narrow .int (.int v) = .int v → decode cX0_coreOf pc = .ok (.ireturn, 1) → W p l e R s m args below meth c H locs 0 0 Q (F0 m pc ls [.int v]) := by intro v e9; cases e9; exact hR
  intro H locs ls h hl
  have hl : lv_has ls 3 [(0, .ref o), (1, .int v1), (2, .int v2)] := hl
  unfold X_coreOf at hf
  refine lv_aload_n C.x C.b dX0_coreOf_0 rfl (lv_at hl 0 rfl) ?_
  refine x_g19 C h dX0_coreOf_1 ?_
  refine lv_bipush (v := 6) C.x C.b dX0_coreOf_4 (by decide) ?_
  refine lv_iload_n C.x C.b dX0_coreOf_6 rfl (lv_at hl 2 rfl) ?_
  refine lv_imul C.x C.b dX0_coreOf_7 ?_
  refine lv_iload_n C.x C.b dX0_coreOf_8 rfl (lv_at hl 1 rfl) ?_
  refine lv_iadd C.x C.b dX0_coreOf_9 ?_
  obtain ⟨hi, hf⟩ := ix_k (K := fun x => x) rfl hf
  refine x_a19 C h hi dX0_coreOf_10 ?_
  exact hR _ (some_k hf) _ _ _ _ h rfl dX0_coreOf_11
theorem tX_coreOf : GoodIn lw_all (wsV RX0 269 RX0 yX0_coreOf (ws_ yX0_coreOf cX0_coreOf 3 (some .int))) := lw_V q865 q867 qs34 q137 q868
theorem cX_coreOf {p : Program} {l : Launch} {e : Env} {R : Room} {s : State} {m : MethodId} {args : Array Value} {below : List Frame} {meth : Method} {c : Code} {H : Heap} {locs : List Loc} {Q : State → Prop} {cc : ByteArray} {pc : Nat} {ls : Array Slot} {st : List Value} {nL d : Nat} {D : va_G} {ty : Nat → ClassId} {A : Nat → Prop} {o : Nat} {ad : Nat → Nat} {rs : va_W} {σ : PS} {v1 : Int32} {v2 : Int32} {q : Int32} (C : Cx p R s m args c cc nL RX0 D ty A d) (h : Hw D A s H locs (wX ty o ad σ ++ rs)) (hc : X_coreOf σ v1 v2 = some q) (hd : 0 + 1 ≤ d) (hls : ls.size = nL) (hcat : (st.map fun v => v.category).sum ≤ 8) (dec : decode cc pc = .ok (.invokevirtual 269, 3)) (kk : ∀ (H : Heap) (locs : List Loc), Hw D A s H locs (wX ty o ad σ ++ rs) → W p l e R s m args below meth c H locs 0 0 Q (F0 m (pc + 3) ls (.int q :: st))) : W p l e R s m args below meth c H locs 0 0 Q (F0 m pc ls (.int v2 :: .int v1 :: .ref o :: st)) := KI.callV (As := [.int v1, .int v2]) C (kX_coreOf l hc) tX_coreOf ⟨rfl, by decide, by decide, by show _ = some 2; decide +kernel⟩ 0 0 rfl rfl rfl hd (by decide) (Nat.zero_le _) (Nat.zero_le _) h hls rfl hcat dec kk
def X_strainOf (σ : PS) (v1 : Int32) (v2 : Int32) : Option Int32 := bd (X_skinOf σ v1 v2) (fun q_1 => bd (X_coreOf σ v1 v2) (fun q_2 => bd (X_apart q_1 q_2) (fun q_3 => some q_3)))
set_option maxHeartbeats 4000000 in
theorem kX_strainOf (l : Launch) {D : va_G} {ty : Nat → ClassId} {A : Nat → Prop} {o : Nat} {ad : Nat → Nat} {rs : va_W} {σ : PS} {v1 : Int32} {v2 : Int32} {r : Int32} (hf : X_strainOf σ v1 v2 = some r) : KI l yX0_strainOf cX0_strainOf 3 .int 2 D ty A (wX ty o ad σ ++ rs) (wX ty o ad σ ++ rs) [.ref o, .int v1, .int v2] r := by
  refine KI.of (by decide) (Nat.le_of_ble_eq_true rfl) ?_
  intro p e R s m args below meth c Q C hR
  have C : Cx p R s m args c cX0_strainOf 3 RX0 D ty A 2 := C
  have hR : ∀ (v : Int32), v = r → ∀ (H : Heap) (locs : List Loc) (pc : Nat) (ls : Array Slot), Hw D A s H locs (wX ty o ad σ ++ rs) → narrow .int (.int v) = .int v → decode cX0_strainOf pc = .ok (.ireturn, 1) → W p l e R s m args below meth c H locs 0 0 Q (F0 m pc ls [.int v]) := by intro v e9; cases e9; exact hR
  intro H locs ls h hl
  have hl : lv_has ls 3 [(0, .ref o), (1, .int v1), (2, .int v2)] := hl
  unfold X_strainOf at hf
  refine lv_aload_n C.x C.b dX0_strainOf_0 rfl (lv_at hl 0 rfl) ?_
  refine lv_iload_n C.x C.b dX0_strainOf_1 rfl (lv_at hl 1 rfl) ?_
  refine lv_iload_n C.x C.b dX0_strainOf_2 rfl (lv_at hl 2 rfl) ?_
  obtain ⟨q_1, hc, hf⟩ := bd_k (K := fun x => x) rfl hf
  refine cX_skinOf C h hc (Nat.le_of_ble_eq_true rfl) hl.1 (Nat.le_of_ble_eq_true rfl) dX0_strainOf_3 (fun H locs h => ?_)
  refine lv_aload_n C.x C.b dX0_strainOf_6 rfl (lv_at hl 0 rfl) ?_
  refine lv_iload_n C.x C.b dX0_strainOf_7 rfl (lv_at hl 1 rfl) ?_
  refine lv_iload_n C.x C.b dX0_strainOf_8 rfl (lv_at hl 2 rfl) ?_
  obtain ⟨q_2, hc, hf⟩ := bd_k (K := fun x => x) rfl hf
  refine cX_coreOf C h hc (Nat.le_of_ble_eq_true rfl) hl.1 (Nat.le_of_ble_eq_true rfl) dX0_strainOf_9 (fun H locs h => ?_)
  obtain ⟨q_3, hc, hf⟩ := bd_k (K := fun x => x) rfl hf
  refine cX_apart C h hc (Nat.le_of_ble_eq_true rfl) hl.1 (Nat.le_of_ble_eq_true rfl) dX0_strainOf_12 (fun H locs h => ?_)
  exact hR _ (some_k hf) _ _ _ _ h rfl dX0_strainOf_15
theorem tX_strainOf : GoodIn lw_all (wsV RX0 296 RX0 yX0_strainOf (ws_ yX0_strainOf cX0_strainOf 3 (some .int))) := lw_V q873 q875 qs35 q137 q876
theorem cX_strainOf {p : Program} {l : Launch} {e : Env} {R : Room} {s : State} {m : MethodId} {args : Array Value} {below : List Frame} {meth : Method} {c : Code} {H : Heap} {locs : List Loc} {Q : State → Prop} {cc : ByteArray} {pc : Nat} {ls : Array Slot} {st : List Value} {nL d : Nat} {D : va_G} {ty : Nat → ClassId} {A : Nat → Prop} {o : Nat} {ad : Nat → Nat} {rs : va_W} {σ : PS} {v1 : Int32} {v2 : Int32} {q : Int32} (C : Cx p R s m args c cc nL RX0 D ty A d) (h : Hw D A s H locs (wX ty o ad σ ++ rs)) (hc : X_strainOf σ v1 v2 = some q) (hd : 2 + 1 ≤ d) (hls : ls.size = nL) (hcat : (st.map fun v => v.category).sum ≤ 8) (dec : decode cc pc = .ok (.invokevirtual 296, 3)) (kk : ∀ (H : Heap) (locs : List Loc), Hw D A s H locs (wX ty o ad σ ++ rs) → W p l e R s m args below meth c H locs 0 0 Q (F0 m (pc + 3) ls (.int q :: st))) : W p l e R s m args below meth c H locs 0 0 Q (F0 m pc ls (.int v2 :: .int v1 :: .ref o :: st)) := KI.callV (As := [.int v1, .int v2]) C (kX_strainOf l hc) tX_strainOf ⟨rfl, by decide, by decide, by show _ = some 2; decide +kernel⟩ 0 0 rfl rfl rfl hd (by decide) (Nat.zero_le _) (Nat.zero_le _) h hls rfl hcat dec kk
def X_whenOf_j38 (σ : PS) (v2 : Int32) : Option Int32 := some v2
def X_whenOf_j32 (σ : PS) (v1 : Int32) (v2 : Int32) (v3 : Int32) : Option ((Int32 × Int32) ⊕ Int32) := nm (v3 + 1) (fun v3_1 => some (.inl (v2, v3_1)))
def X_whenOf_l4 (σ : PS) (v1 : Int32) (v2 : Int32) (v3 : Int32) : Option ((Int32 × Int32) ⊕ Int32) := if (gI σ 100) < v3 then up (X_whenOf_j38 σ v2) else bd (X_strainOf σ v1 v3) (fun q_2 => bd (X_strainOf σ v1 v2) (fun q_3 => if q_2 ≤ q_3 then X_whenOf_j32 σ v1 v2 v3 else X_whenOf_j32 σ v1 v3 v3))
def X_whenOf_B4 (σ : PS) (v1 : Int32) : (Int32 × Int32) → Option ((Int32 × Int32) ⊕ Int32) := fun t => X_whenOf_l4 σ v1 t.1 t.2
def X_whenOf (σ : PS) (v1 : Int32) : Option Int32 := loop (X_whenOf_B4 σ v1) fu (0, 1)
set_option maxHeartbeats 4000000 in
theorem kX_whenOf (l : Launch) {D : va_G} {ty : Nat → ClassId} {A : Nat → Prop} {o : Nat} {ad : Nat → Nat} {rs : va_W} {σ : PS} {v1 : Int32} {r : Int32} (hf : X_whenOf σ v1 = some r) : KI l yX0_whenOf cX0_whenOf 4 .int 3 D ty A (wX ty o ad σ ++ rs) (wX ty o ad σ ++ rs) [.ref o, .int v1] r := by
  refine KI.of (by decide) (Nat.le_of_ble_eq_true rfl) ?_
  intro p e R s m args below meth c Q C hR
  have C : Cx p R s m args c cX0_whenOf 4 RX0 D ty A 3 := C
  have hR : ∀ (v : Int32), v = r → ∀ (H : Heap) (locs : List Loc) (pc : Nat) (ls : Array Slot), Hw D A s H locs (wX ty o ad σ ++ rs) → narrow .int (.int v) = .int v → decode cX0_whenOf pc = .ok (.ireturn, 1) → W p l e R s m args below meth c H locs 0 0 Q (F0 m pc ls [.int v]) := by intro v e9; cases e9; exact hR
  have j38 : ∀ (v2 : Int32) (H : Heap) (locs : List Loc) (ls : Array Slot), Hw D A s H locs (wX ty o ad σ ++ rs) → lv_has ls 4 [(2, .int v2)] → X_whenOf_j38 σ v2 = some r → W p l e R s m args below meth c H locs 0 0 Q (F0 m 38 ls []) := by
    intro v2 H locs ls h hl hf
    unfold X_whenOf_j38 at hf
    refine lv_iload_n C.x C.b dX0_whenOf_38 rfl (lv_at hl 0 rfl) ?_
    exact hR _ (some_k hf) _ _ _ _ h rfl dX0_whenOf_39
  have l4 : ∀ (n4 : Nat) (v2 : Int32) (v3 : Int32) (H : Heap) (locs : List Loc) (ls : Array Slot), Hw D A s H locs (wX ty o ad σ ++ rs) → lv_has ls 4 [(0, .ref o), (1, .int v1), (2, .int v2), (3, .int v3)] → loop (X_whenOf_B4 σ v1) n4 (v2, v3) = some r → W p l e R s m args below meth c H locs 0 0 Q (F0 m 4 ls []) := by
    intro n4
    induction n4 with
    | zero => intro v2 v3 H locs ls h hl hf; exact (none_k hf).elim
    | succ n4 ih4 =>
      have j32 : ∀ (v2 : Int32) (v3 : Int32) (H : Heap) (locs : List Loc) (ls : Array Slot), Hw D A s H locs (wX ty o ad σ ++ rs) → lv_has ls 4 [(0, .ref o), (1, .int v1), (2, .int v2), (3, .int v3)] → bl (X_whenOf_B4 σ v1) n4 (X_whenOf_j32 σ v1 v2 v3) = some r → W p l e R s m args below meth c H locs 0 0 Q (F0 m 32 ls []) := by
        intro v2 v3 H locs ls h hl hf
        unfold X_whenOf_j32 at hf
        obtain ⟨v3_1, e9, hf⟩ := nm_k (K := bl (X_whenOf_B4 σ v1) n4) hf
        refine lv_iinc (v := v3_1) (lv' := [(3, .int v3_1), (0, .ref o), (1, .int v1), (2, .int v2)]) C.x C.b dX0_whenOf_32 hl (k := 3) rfl (iinc_e (k := 1) (by decide) e9) (by decide) rfl (fun ls hl => ?_)
        refine lv_goto (tgt := 4) C.x C.b dX0_whenOf_35 (by decide) ?_
        exact ih4 v2 v3_1 _ _ _ h (lv_sub hl [1, 2, 3, 0] rfl) hf
      intro v2 v3 H locs ls h hl hf
      have hf : bl (X_whenOf_B4 σ v1) n4 (X_whenOf_l4 σ v1 v2 v3) = some r := hf
      unfold X_whenOf_l4 at hf
      refine lv_iload_n C.x C.b dX0_whenOf_4 rfl (lv_at hl 3 rfl) ?_
      refine lv_aload_n C.x C.b dX0_whenOf_5 rfl (lv_at hl 0 rfl) ?_
      refine x_g0 C h dX0_whenOf_6 ?_
      refine x_g100 C h dX0_whenOf_9 ?_
      refine lv_icmp_gt (tgt := 38) C.x C.b dX0_whenOf_12 (by decide) (fun c9 => ?_) (fun c9 => ?_)
      · have hf := if_t (K := bl (X_whenOf_B4 σ v1) n4) c9 hf
        have hf := bl_upK (K := fun x => x) hf
        exact j38 v2 _ _ _ h (lv_sub hl [2] rfl) hf
      · have hf := if_f (K := bl (X_whenOf_B4 σ v1) n4) c9 hf
        refine lv_aload_n C.x C.b dX0_whenOf_15 rfl (lv_at hl 0 rfl) ?_
        refine lv_iload_n C.x C.b dX0_whenOf_16 rfl (lv_at hl 1 rfl) ?_
        refine lv_iload_n C.x C.b dX0_whenOf_17 rfl (lv_at hl 3 rfl) ?_
        obtain ⟨q_2, hc, hf⟩ := bd_k (K := bl (X_whenOf_B4 σ v1) n4) rfl hf
        refine cX_strainOf C h hc (Nat.le_of_ble_eq_true rfl) hl.1 (Nat.le_of_ble_eq_true rfl) dX0_whenOf_18 (fun H locs h => ?_)
        refine lv_aload_n C.x C.b dX0_whenOf_21 rfl (lv_at hl 0 rfl) ?_
        refine lv_iload_n C.x C.b dX0_whenOf_22 rfl (lv_at hl 1 rfl) ?_
        refine lv_iload_n C.x C.b dX0_whenOf_23 rfl (lv_at hl 2 rfl) ?_
        obtain ⟨q_3, hc, hf⟩ := bd_k (K := bl (X_whenOf_B4 σ v1) n4) rfl hf
        refine cX_strainOf C h hc (Nat.le_of_ble_eq_true rfl) hl.1 (Nat.le_of_ble_eq_true rfl) dX0_whenOf_24 (fun H locs h => ?_)
        refine lv_icmp_le (tgt := 32) C.x C.b dX0_whenOf_27 (by decide) (fun c9 => ?_) (fun c9 => ?_)
        · have hf := if_t (K := bl (X_whenOf_B4 σ v1) n4) c9 hf
          exact j32 v2 v3 _ _ _ h (lv_sub hl [0, 1, 2, 3] rfl) hf
        · have hf := if_f (K := bl (X_whenOf_B4 σ v1) n4) c9 hf
          refine lv_iload_n C.x C.b dX0_whenOf_30 rfl (lv_at hl 3 rfl) ?_
          refine lv_istore_n (lv' := [(2, .int v3), (0, .ref o), (1, .int v1), (3, .int v3)]) C.x C.b dX0_whenOf_31 rfl hl (by decide) rfl (fun ls hl => ?_)
          exact j32 v3 v3 _ _ _ h (lv_sub hl [1, 2, 0, 3] rfl) hf
  intro H locs ls h hl
  have hl : lv_has ls 4 [(0, .ref o), (1, .int v1)] := hl
  unfold X_whenOf at hf
  refine lv_iconst (v := 0) C.x C.b dX0_whenOf_0 (by decide) ?_
  refine lv_istore_n (lv' := [(2, .int 0), (0, .ref o), (1, .int v1)]) C.x C.b dX0_whenOf_1 rfl hl (by decide) rfl (fun ls hl => ?_)
  refine lv_iconst (v := 1) C.x C.b dX0_whenOf_2 (by decide) ?_
  refine lv_istore_n (lv' := [(3, .int 1), (2, .int 0), (0, .ref o), (1, .int v1)]) C.x C.b dX0_whenOf_3 rfl hl (by decide) rfl (fun ls hl => ?_)
  exact l4  fu 0 1 _ _ _ h (lv_sub hl [2, 3, 1, 0] rfl) hf
theorem tX_whenOf : GoodIn lw_all (wsV RX0 299 RX0 yX0_whenOf (ws_ yX0_whenOf cX0_whenOf 4 (some .int))) := lw_V q881 q883 qs36 q137 q884
theorem cX_whenOf {p : Program} {l : Launch} {e : Env} {R : Room} {s : State} {m : MethodId} {args : Array Value} {below : List Frame} {meth : Method} {c : Code} {H : Heap} {locs : List Loc} {Q : State → Prop} {cc : ByteArray} {pc : Nat} {ls : Array Slot} {st : List Value} {nL d : Nat} {D : va_G} {ty : Nat → ClassId} {A : Nat → Prop} {o : Nat} {ad : Nat → Nat} {rs : va_W} {σ : PS} {v1 : Int32} {q : Int32} (C : Cx p R s m args c cc nL RX0 D ty A d) (h : Hw D A s H locs (wX ty o ad σ ++ rs)) (hc : X_whenOf σ v1 = some q) (hd : 3 + 1 ≤ d) (hls : ls.size = nL) (hcat : (st.map fun v => v.category).sum ≤ 8) (dec : decode cc pc = .ok (.invokevirtual 299, 3)) (kk : ∀ (H : Heap) (locs : List Loc), Hw D A s H locs (wX ty o ad σ ++ rs) → W p l e R s m args below meth c H locs 0 0 Q (F0 m (pc + 3) ls (.int q :: st))) : W p l e R s m args below meth c H locs 0 0 Q (F0 m pc ls (.int v1 :: .ref o :: st)) := KI.callV (As := [.int v1]) C (kX_whenOf l hc) tX_whenOf ⟨rfl, by decide, by decide, by show _ = some 1; decide +kernel⟩ 0 0 rfl rfl rfl hd (by decide) (Nat.zero_le _) (Nat.zero_le _) h hls rfl hcat dec kk
def X_hasCome_j18 (σ : PS) (x0 : Int32) : Option Int32 := tz x0 (some x0)
def X_hasCome (σ : PS) (v1 : Int32) (v2 : Int32) : Option Int32 := ix v1 6 (if v2 < (rA σ 113 v1) then X_hasCome_j18 σ 0 else X_hasCome_j18 σ 1)
set_option maxHeartbeats 4000000 in
theorem kX_hasCome (l : Launch) {D : va_G} {ty : Nat → ClassId} {A : Nat → Prop} {o : Nat} {ad : Nat → Nat} {rs : va_W} {σ : PS} {v1 : Int32} {v2 : Int32} {r : Int32} (hf : X_hasCome σ v1 v2 = some r) : KI l yX0_hasCome cX0_hasCome 3 .boolean 0 D ty A (wX ty o ad σ ++ rs) (wX ty o ad σ ++ rs) [.ref o, .int v1, .int v2] r := by
  refine KI.of (by decide) (Nat.le_of_ble_eq_true rfl) ?_
  intro p e R s m args below meth c Q C hR
  have C : Cx p R s m args c cX0_hasCome 3 RX0 D ty A 0 := C
  have hR : ∀ (v : Int32), v = r → ∀ (H : Heap) (locs : List Loc) (pc : Nat) (ls : Array Slot), Hw D A s H locs (wX ty o ad σ ++ rs) → narrow .boolean (.int v) = .int v → decode cX0_hasCome pc = .ok (.ireturn, 1) → W p l e R s m args below meth c H locs 0 0 Q (F0 m pc ls [.int v]) := by intro v e9; cases e9; exact hR
  have j18 : ∀ (x0 : Int32) (H : Heap) (locs : List Loc) (ls : Array Slot), Hw D A s H locs (wX ty o ad σ ++ rs) → lv_has ls 3 [] → X_hasCome_j18 σ x0 = some r → W p l e R s m args below meth c H locs 0 0 Q (F0 m 18 ls [.int x0]) := by
    intro x0 H locs ls h hl hf
    unfold X_hasCome_j18 at hf
    obtain ⟨hz, hf⟩ := tz_k (K := fun x => x) rfl hf
    exact hR _ (some_k hf) _ _ _ _ h hz dX0_hasCome_18
  intro H locs ls h hl
  have hl : lv_has ls 3 [(0, .ref o), (1, .int v1), (2, .int v2)] := hl
  unfold X_hasCome at hf
  refine lv_iload_n C.x C.b dX0_hasCome_0 rfl (lv_at hl 2 rfl) ?_
  refine lv_aload_n C.x C.b dX0_hasCome_1 rfl (lv_at hl 0 rfl) ?_
  refine x_g0 C h dX0_hasCome_2 ?_
  refine x_g113 C h dX0_hasCome_5 ?_
  refine lv_iload_n C.x C.b dX0_hasCome_8 rfl (lv_at hl 1 rfl) ?_
  obtain ⟨hi, hf⟩ := ix_k (K := fun x => x) rfl hf
  refine x_a113 C h hi dX0_hasCome_9 ?_
  refine lv_icmp_lt (tgt := 17) C.x C.b dX0_hasCome_10 (by decide) (fun c9 => ?_) (fun c9 => ?_)
  · have hf := if_t (K := fun x => x) c9 hf
    refine lv_iconst (v := 0) C.x C.b dX0_hasCome_17 (by decide) ?_
    exact j18 0 _ _ _ h (lv_sub hl [] rfl) hf
  · have hf := if_f (K := fun x => x) c9 hf
    refine lv_iconst (v := 1) C.x C.b dX0_hasCome_13 (by decide) ?_
    refine lv_goto (tgt := 18) C.x C.b dX0_hasCome_14 (by decide) ?_
    exact j18 1 _ _ _ h (lv_sub hl [] rfl) hf
theorem tX_hasCome : GoodIn lw_all (wsV RX0 302 RX0 yX0_hasCome (ws_ yX0_hasCome cX0_hasCome 3 (some .boolean))) := lw_V q909 q911 qs37 q137 q912
theorem cX_hasCome {p : Program} {l : Launch} {e : Env} {R : Room} {s : State} {m : MethodId} {args : Array Value} {below : List Frame} {meth : Method} {c : Code} {H : Heap} {locs : List Loc} {Q : State → Prop} {cc : ByteArray} {pc : Nat} {ls : Array Slot} {st : List Value} {nL d : Nat} {D : va_G} {ty : Nat → ClassId} {A : Nat → Prop} {o : Nat} {ad : Nat → Nat} {rs : va_W} {σ : PS} {v1 : Int32} {v2 : Int32} {q : Int32} (C : Cx p R s m args c cc nL RX0 D ty A d) (h : Hw D A s H locs (wX ty o ad σ ++ rs)) (hc : X_hasCome σ v1 v2 = some q) (hd : 0 + 1 ≤ d) (hls : ls.size = nL) (hcat : (st.map fun v => v.category).sum ≤ 8) (dec : decode cc pc = .ok (.invokevirtual 302, 3)) (kk : ∀ (H : Heap) (locs : List Loc), Hw D A s H locs (wX ty o ad σ ++ rs) → W p l e R s m args below meth c H locs 0 0 Q (F0 m (pc + 3) ls (.int q :: st))) : W p l e R s m args below meth c H locs 0 0 Q (F0 m pc ls (.int v2 :: .int v1 :: .ref o :: st)) := KI.callV (As := [.int v1, .int v2]) C (kX_hasCome l hc) tX_hasCome ⟨rfl, by decide, by decide, by show _ = some 2; decide +kernel⟩ 0 0 rfl rfl rfl hd (by decide) (Nat.zero_le _) (Nat.zero_le _) h hls rfl hcat dec kk
def X_isWhole_j25 (σ : PS) (x0 : Int32) : Option Int32 := tz x0 (some x0)
def X_isWhole_j20 (σ : PS) : Option Int32 := X_isWhole_j25 σ 1
def X_isWhole (σ : PS) (v1 : Int32) (v2 : Int32) : Option Int32 := ix v1 6 (if (rA σ 20 v1) = ((-1)) then X_isWhole_j20 σ else ix v1 6 (if (rA σ 20 v1) ≤ v2 then X_isWhole_j25 σ 0 else X_isWhole_j20 σ))
set_option maxHeartbeats 4000000 in
theorem kX_isWhole (l : Launch) {D : va_G} {ty : Nat → ClassId} {A : Nat → Prop} {o : Nat} {ad : Nat → Nat} {rs : va_W} {σ : PS} {v1 : Int32} {v2 : Int32} {r : Int32} (hf : X_isWhole σ v1 v2 = some r) : KI l yX0_isWhole cX0_isWhole 3 .boolean 0 D ty A (wX ty o ad σ ++ rs) (wX ty o ad σ ++ rs) [.ref o, .int v1, .int v2] r := by
  refine KI.of (by decide) (Nat.le_of_ble_eq_true rfl) ?_
  intro p e R s m args below meth c Q C hR
  have C : Cx p R s m args c cX0_isWhole 3 RX0 D ty A 0 := C
  have hR : ∀ (v : Int32), v = r → ∀ (H : Heap) (locs : List Loc) (pc : Nat) (ls : Array Slot), Hw D A s H locs (wX ty o ad σ ++ rs) → narrow .boolean (.int v) = .int v → decode cX0_isWhole pc = .ok (.ireturn, 1) → W p l e R s m args below meth c H locs 0 0 Q (F0 m pc ls [.int v]) := by intro v e9; cases e9; exact hR
  have j25 : ∀ (x0 : Int32) (H : Heap) (locs : List Loc) (ls : Array Slot), Hw D A s H locs (wX ty o ad σ ++ rs) → lv_has ls 3 [] → X_isWhole_j25 σ x0 = some r → W p l e R s m args below meth c H locs 0 0 Q (F0 m 25 ls [.int x0]) := by
    intro x0 H locs ls h hl hf
    unfold X_isWhole_j25 at hf
    obtain ⟨hz, hf⟩ := tz_k (K := fun x => x) rfl hf
    exact hR _ (some_k hf) _ _ _ _ h hz dX0_isWhole_25
  have j20 : ∀ (H : Heap) (locs : List Loc) (ls : Array Slot), Hw D A s H locs (wX ty o ad σ ++ rs) → lv_has ls 3 [] → X_isWhole_j20 σ = some r → W p l e R s m args below meth c H locs 0 0 Q (F0 m 20 ls []) := by
    intro  H locs ls h hl hf
    unfold X_isWhole_j20 at hf
    refine lv_iconst (v := 1) C.x C.b dX0_isWhole_20 (by decide) ?_
    refine lv_goto (tgt := 25) C.x C.b dX0_isWhole_21 (by decide) ?_
    exact j25 1 _ _ _ h (lv_sub hl [] rfl) hf
  intro H locs ls h hl
  have hl : lv_has ls 3 [(0, .ref o), (1, .int v1), (2, .int v2)] := hl
  unfold X_isWhole at hf
  refine lv_aload_n C.x C.b dX0_isWhole_0 rfl (lv_at hl 0 rfl) ?_
  refine x_g20 C h dX0_isWhole_1 ?_
  refine lv_iload_n C.x C.b dX0_isWhole_4 rfl (lv_at hl 1 rfl) ?_
  obtain ⟨hi, hf⟩ := ix_k (K := fun x => x) rfl hf
  refine x_a20 C h hi dX0_isWhole_5 ?_
  refine lv_iconst (v := (-1)) C.x C.b dX0_isWhole_6 (by decide) ?_
  refine lv_icmp_eq (tgt := 20) C.x C.b dX0_isWhole_7 (by decide) (fun c9 => ?_) (fun c9 => ?_)
  · have hf := if_t (K := fun x => x) c9 hf
    exact j20  _ _ _ h (lv_sub hl [] rfl) hf
  · have hf := if_f (K := fun x => x) c9 hf
    refine lv_aload_n C.x C.b dX0_isWhole_10 rfl (lv_at hl 0 rfl) ?_
    refine x_g20 C h dX0_isWhole_11 ?_
    refine lv_iload_n C.x C.b dX0_isWhole_14 rfl (lv_at hl 1 rfl) ?_
    obtain ⟨hi, hf⟩ := ix_k (K := fun x => x) rfl hf
    refine x_a20 C h hi dX0_isWhole_15 ?_
    refine lv_iload_n C.x C.b dX0_isWhole_16 rfl (lv_at hl 2 rfl) ?_
    refine lv_icmp_le (tgt := 24) C.x C.b dX0_isWhole_17 (by decide) (fun c9 => ?_) (fun c9 => ?_)
    · have hf := if_t (K := fun x => x) c9 hf
      refine lv_iconst (v := 0) C.x C.b dX0_isWhole_24 (by decide) ?_
      exact j25 0 _ _ _ h (lv_sub hl [] rfl) hf
    · have hf := if_f (K := fun x => x) c9 hf
      exact j20  _ _ _ h (lv_sub hl [] rfl) hf
theorem tX_isWhole : GoodIn lw_all (wsV RX0 305 RX0 yX0_isWhole (ws_ yX0_isWhole cX0_isWhole 3 (some .boolean))) := lw_V q913 q915 qs38 q137 q916
theorem cX_isWhole {p : Program} {l : Launch} {e : Env} {R : Room} {s : State} {m : MethodId} {args : Array Value} {below : List Frame} {meth : Method} {c : Code} {H : Heap} {locs : List Loc} {Q : State → Prop} {cc : ByteArray} {pc : Nat} {ls : Array Slot} {st : List Value} {nL d : Nat} {D : va_G} {ty : Nat → ClassId} {A : Nat → Prop} {o : Nat} {ad : Nat → Nat} {rs : va_W} {σ : PS} {v1 : Int32} {v2 : Int32} {q : Int32} (C : Cx p R s m args c cc nL RX0 D ty A d) (h : Hw D A s H locs (wX ty o ad σ ++ rs)) (hc : X_isWhole σ v1 v2 = some q) (hd : 0 + 1 ≤ d) (hls : ls.size = nL) (hcat : (st.map fun v => v.category).sum ≤ 8) (dec : decode cc pc = .ok (.invokevirtual 305, 3)) (kk : ∀ (H : Heap) (locs : List Loc), Hw D A s H locs (wX ty o ad σ ++ rs) → W p l e R s m args below meth c H locs 0 0 Q (F0 m (pc + 3) ls (.int q :: st))) : W p l e R s m args below meth c H locs 0 0 Q (F0 m pc ls (.int v2 :: .int v1 :: .ref o :: st)) := KI.callV (As := [.int v1, .int v2]) C (kX_isWhole l hc) tX_isWhole ⟨rfl, by decide, by decide, by show _ = some 2; decide +kernel⟩ 0 0 rfl rfl rfl hd (by decide) (Nat.zero_le _) (Nat.zero_le _) h hls rfl hcat dec kk
def X_isSound_j15 (σ : PS) (x0 : Int32) : Option Int32 := tz x0 (some x0)
def X_isSound (σ : PS) (v1 : Int32) : Option Int32 := ix v1 6 (if (rA σ 20 v1) = ((-1)) then X_isSound_j15 σ 1 else X_isSound_j15 σ 0)
set_option maxHeartbeats 4000000 in
theorem kX_isSound (l : Launch) {D : va_G} {ty : Nat → ClassId} {A : Nat → Prop} {o : Nat} {ad : Nat → Nat} {rs : va_W} {σ : PS} {v1 : Int32} {r : Int32} (hf : X_isSound σ v1 = some r) : KI l yX0_isSound cX0_isSound 2 .boolean 0 D ty A (wX ty o ad σ ++ rs) (wX ty o ad σ ++ rs) [.ref o, .int v1] r := by
  refine KI.of (by decide) (Nat.le_of_ble_eq_true rfl) ?_
  intro p e R s m args below meth c Q C hR
  have C : Cx p R s m args c cX0_isSound 2 RX0 D ty A 0 := C
  have hR : ∀ (v : Int32), v = r → ∀ (H : Heap) (locs : List Loc) (pc : Nat) (ls : Array Slot), Hw D A s H locs (wX ty o ad σ ++ rs) → narrow .boolean (.int v) = .int v → decode cX0_isSound pc = .ok (.ireturn, 1) → W p l e R s m args below meth c H locs 0 0 Q (F0 m pc ls [.int v]) := by intro v e9; cases e9; exact hR
  have j15 : ∀ (x0 : Int32) (H : Heap) (locs : List Loc) (ls : Array Slot), Hw D A s H locs (wX ty o ad σ ++ rs) → lv_has ls 2 [] → X_isSound_j15 σ x0 = some r → W p l e R s m args below meth c H locs 0 0 Q (F0 m 15 ls [.int x0]) := by
    intro x0 H locs ls h hl hf
    unfold X_isSound_j15 at hf
    obtain ⟨hz, hf⟩ := tz_k (K := fun x => x) rfl hf
    exact hR _ (some_k hf) _ _ _ _ h hz dX0_isSound_15
  intro H locs ls h hl
  have hl : lv_has ls 2 [(0, .ref o), (1, .int v1)] := hl
  unfold X_isSound at hf
  refine lv_aload_n C.x C.b dX0_isSound_0 rfl (lv_at hl 0 rfl) ?_
  refine x_g20 C h dX0_isSound_1 ?_
  refine lv_iload_n C.x C.b dX0_isSound_4 rfl (lv_at hl 1 rfl) ?_
  obtain ⟨hi, hf⟩ := ix_k (K := fun x => x) rfl hf
  refine x_a20 C h hi dX0_isSound_5 ?_
  refine lv_iconst (v := (-1)) C.x C.b dX0_isSound_6 (by decide) ?_
  refine lv_icmp_ne (tgt := 14) C.x C.b dX0_isSound_7 (by decide) (fun c9 => ?_) (fun c9 => ?_)
  · have hf := if_f (K := fun x => x) c9 hf
    refine lv_iconst (v := 0) C.x C.b dX0_isSound_14 (by decide) ?_
    exact j15 0 _ _ _ h (lv_sub hl [] rfl) hf
  · have hf := if_t (K := fun x => x) c9 hf
    refine lv_iconst (v := 1) C.x C.b dX0_isSound_10 (by decide) ?_
    refine lv_goto (tgt := 15) C.x C.b dX0_isSound_11 (by decide) ?_
    exact j15 1 _ _ _ h (lv_sub hl [] rfl) hf
theorem tX_isSound : GoodIn lw_all (wsV RX0 272 RX0 yX0_isSound (ws_ yX0_isSound cX0_isSound 2 (some .boolean))) := lw_V q925 q927 qs40 q137 q928
theorem cX_isSound {p : Program} {l : Launch} {e : Env} {R : Room} {s : State} {m : MethodId} {args : Array Value} {below : List Frame} {meth : Method} {c : Code} {H : Heap} {locs : List Loc} {Q : State → Prop} {cc : ByteArray} {pc : Nat} {ls : Array Slot} {st : List Value} {nL d : Nat} {D : va_G} {ty : Nat → ClassId} {A : Nat → Prop} {o : Nat} {ad : Nat → Nat} {rs : va_W} {σ : PS} {v1 : Int32} {q : Int32} (C : Cx p R s m args c cc nL RX0 D ty A d) (h : Hw D A s H locs (wX ty o ad σ ++ rs)) (hc : X_isSound σ v1 = some q) (hd : 0 + 1 ≤ d) (hls : ls.size = nL) (hcat : (st.map fun v => v.category).sum ≤ 8) (dec : decode cc pc = .ok (.invokevirtual 272, 3)) (kk : ∀ (H : Heap) (locs : List Loc), Hw D A s H locs (wX ty o ad σ ++ rs) → W p l e R s m args below meth c H locs 0 0 Q (F0 m (pc + 3) ls (.int q :: st))) : W p l e R s m args below meth c H locs 0 0 Q (F0 m pc ls (.int v1 :: .ref o :: st)) := KI.callV (As := [.int v1]) C (kX_isSound l hc) tX_isSound ⟨rfl, by decide, by decide, by show _ = some 1; decide +kernel⟩ 0 0 rfl rfl rfl hd (by decide) (Nat.zero_le _) (Nat.zero_le _) h hls rfl hcat dec kk
def X_cracksIn_j39 (σ : PS) (v2 : Int32) : Option Int32 := some v2
def X_cracksIn_j31 (σ : PS) (v1 : Int32) (v3 : Int32) (x0 : Int32) (x1 : Int32) : Option ((Int32 × Int32) ⊕ Int32) := nm (x1 + x0) (fun v2_1 => nm (v3 + 1) (fun v3_2 => some (.inl (v2_1, v3_2))))
def X_cracksIn_l4 (σ : PS) (v1 : Int32) (v2 : Int32) (v3 : Int32) : Option ((Int32 × Int32) ⊕ Int32) := if (gI σ 107) ≤ v3 then up (X_cracksIn_j39 σ v2) else ix v3 6 (if (rA σ 20 v3) = v1 then X_cracksIn_j31 σ v1 v3 1 v2 else X_cracksIn_j31 σ v1 v3 0 v2)
def X_cracksIn_B4 (σ : PS) (v1 : Int32) : (Int32 × Int32) → Option ((Int32 × Int32) ⊕ Int32) := fun t => X_cracksIn_l4 σ v1 t.1 t.2
def X_cracksIn (σ : PS) (v1 : Int32) : Option Int32 := loop (X_cracksIn_B4 σ v1) fu (0, 0)
set_option maxHeartbeats 4000000 in
theorem kX_cracksIn (l : Launch) {D : va_G} {ty : Nat → ClassId} {A : Nat → Prop} {o : Nat} {ad : Nat → Nat} {rs : va_W} {σ : PS} {v1 : Int32} {r : Int32} (hf : X_cracksIn σ v1 = some r) : KI l yX0_cracksIn cX0_cracksIn 4 .int 0 D ty A (wX ty o ad σ ++ rs) (wX ty o ad σ ++ rs) [.ref o, .int v1] r := by
  refine KI.of (by decide) (Nat.le_of_ble_eq_true rfl) ?_
  intro p e R s m args below meth c Q C hR
  have C : Cx p R s m args c cX0_cracksIn 4 RX0 D ty A 0 := C
  have hR : ∀ (v : Int32), v = r → ∀ (H : Heap) (locs : List Loc) (pc : Nat) (ls : Array Slot), Hw D A s H locs (wX ty o ad σ ++ rs) → narrow .int (.int v) = .int v → decode cX0_cracksIn pc = .ok (.ireturn, 1) → W p l e R s m args below meth c H locs 0 0 Q (F0 m pc ls [.int v]) := by intro v e9; cases e9; exact hR
  have j39 : ∀ (v2 : Int32) (H : Heap) (locs : List Loc) (ls : Array Slot), Hw D A s H locs (wX ty o ad σ ++ rs) → lv_has ls 4 [(2, .int v2)] → X_cracksIn_j39 σ v2 = some r → W p l e R s m args below meth c H locs 0 0 Q (F0 m 39 ls []) := by
    intro v2 H locs ls h hl hf
    unfold X_cracksIn_j39 at hf
    refine lv_iload_n C.x C.b dX0_cracksIn_39 rfl (lv_at hl 0 rfl) ?_
    exact hR _ (some_k hf) _ _ _ _ h rfl dX0_cracksIn_40
  have l4 : ∀ (n4 : Nat) (v2 : Int32) (v3 : Int32) (H : Heap) (locs : List Loc) (ls : Array Slot), Hw D A s H locs (wX ty o ad σ ++ rs) → lv_has ls 4 [(0, .ref o), (1, .int v1), (2, .int v2), (3, .int v3)] → loop (X_cracksIn_B4 σ v1) n4 (v2, v3) = some r → W p l e R s m args below meth c H locs 0 0 Q (F0 m 4 ls []) := by
    intro n4
    induction n4 with
    | zero => intro v2 v3 H locs ls h hl hf; exact (none_k hf).elim
    | succ n4 ih4 =>
      have j31 : ∀ (v3 : Int32) (x0 : Int32) (x1 : Int32) (H : Heap) (locs : List Loc) (ls : Array Slot), Hw D A s H locs (wX ty o ad σ ++ rs) → lv_has ls 4 [(0, .ref o), (1, .int v1), (3, .int v3)] → bl (X_cracksIn_B4 σ v1) n4 (X_cracksIn_j31 σ v1 v3 x0 x1) = some r → W p l e R s m args below meth c H locs 0 0 Q (F0 m 31 ls [.int x0, .int x1]) := by
        intro v3 x0 x1 H locs ls h hl hf
        unfold X_cracksIn_j31 at hf
        refine lv_iadd C.x C.b dX0_cracksIn_31 ?_
        obtain ⟨v2_1, e9, hf⟩ := nm_k (K := bl (X_cracksIn_B4 σ v1) n4) hf
        refine lv_topI e9 ?_
        refine lv_istore_n (lv' := [(2, .int v2_1), (0, .ref o), (1, .int v1), (3, .int v3)]) C.x C.b dX0_cracksIn_32 rfl hl (by decide) rfl (fun ls hl => ?_)
        obtain ⟨v3_2, e9, hf⟩ := nm_k (K := bl (X_cracksIn_B4 σ v1) n4) hf
        refine lv_iinc (v := v3_2) (lv' := [(3, .int v3_2), (2, .int v2_1), (0, .ref o), (1, .int v1)]) C.x C.b dX0_cracksIn_33 hl (k := 3) rfl (iinc_e (k := 1) (by decide) e9) (by decide) rfl (fun ls hl => ?_)
        refine lv_goto (tgt := 4) C.x C.b dX0_cracksIn_36 (by decide) ?_
        exact ih4 v2_1 v3_2 _ _ _ h (lv_sub hl [2, 3, 1, 0] rfl) hf
      intro v2 v3 H locs ls h hl hf
      have hf : bl (X_cracksIn_B4 σ v1) n4 (X_cracksIn_l4 σ v1 v2 v3) = some r := hf
      unfold X_cracksIn_l4 at hf
      refine lv_iload_n C.x C.b dX0_cracksIn_4 rfl (lv_at hl 3 rfl) ?_
      refine lv_aload_n C.x C.b dX0_cracksIn_5 rfl (lv_at hl 0 rfl) ?_
      refine x_g0 C h dX0_cracksIn_6 ?_
      refine x_g107 C h dX0_cracksIn_9 ?_
      refine lv_icmp_ge (tgt := 39) C.x C.b dX0_cracksIn_12 (by decide) (fun c9 => ?_) (fun c9 => ?_)
      · have hf := if_t (K := bl (X_cracksIn_B4 σ v1) n4) c9 hf
        have hf := bl_upK (K := fun x => x) hf
        exact j39 v2 _ _ _ h (lv_sub hl [2] rfl) hf
      · have hf := if_f (K := bl (X_cracksIn_B4 σ v1) n4) c9 hf
        refine lv_iload_n C.x C.b dX0_cracksIn_15 rfl (lv_at hl 2 rfl) ?_
        refine lv_aload_n C.x C.b dX0_cracksIn_16 rfl (lv_at hl 0 rfl) ?_
        refine x_g20 C h dX0_cracksIn_17 ?_
        refine lv_iload_n C.x C.b dX0_cracksIn_20 rfl (lv_at hl 3 rfl) ?_
        obtain ⟨hi, hf⟩ := ix_k (K := bl (X_cracksIn_B4 σ v1) n4) rfl hf
        refine x_a20 C h hi dX0_cracksIn_21 ?_
        refine lv_iload_n C.x C.b dX0_cracksIn_22 rfl (lv_at hl 1 rfl) ?_
        refine lv_icmp_ne (tgt := 30) C.x C.b dX0_cracksIn_23 (by decide) (fun c9 => ?_) (fun c9 => ?_)
        · have hf := if_f (K := bl (X_cracksIn_B4 σ v1) n4) c9 hf
          refine lv_iconst (v := 0) C.x C.b dX0_cracksIn_30 (by decide) ?_
          exact j31 v3 0 v2 _ _ _ h (lv_sub hl [0, 1, 3] rfl) hf
        · have hf := if_t (K := bl (X_cracksIn_B4 σ v1) n4) c9 hf
          refine lv_iconst (v := 1) C.x C.b dX0_cracksIn_26 (by decide) ?_
          refine lv_goto (tgt := 31) C.x C.b dX0_cracksIn_27 (by decide) ?_
          exact j31 v3 1 v2 _ _ _ h (lv_sub hl [0, 1, 3] rfl) hf
  intro H locs ls h hl
  have hl : lv_has ls 4 [(0, .ref o), (1, .int v1)] := hl
  unfold X_cracksIn at hf
  refine lv_iconst (v := 0) C.x C.b dX0_cracksIn_0 (by decide) ?_
  refine lv_istore_n (lv' := [(2, .int 0), (0, .ref o), (1, .int v1)]) C.x C.b dX0_cracksIn_1 rfl hl (by decide) rfl (fun ls hl => ?_)
  refine lv_iconst (v := 0) C.x C.b dX0_cracksIn_2 (by decide) ?_
  refine lv_istore_n (lv' := [(3, .int 0), (2, .int 0), (0, .ref o), (1, .int v1)]) C.x C.b dX0_cracksIn_3 rfl hl (by decide) rfl (fun ls hl => ?_)
  exact l4  fu 0 0 _ _ _ h (lv_sub hl [2, 3, 1, 0] rfl) hf
theorem tX_cracksIn : GoodIn lw_all (wsV RX0 308 RX0 yX0_cracksIn (ws_ yX0_cracksIn cX0_cracksIn 4 (some .int))) := lw_V q949 q951 qs41 q137 q952
theorem cX_cracksIn {p : Program} {l : Launch} {e : Env} {R : Room} {s : State} {m : MethodId} {args : Array Value} {below : List Frame} {meth : Method} {c : Code} {H : Heap} {locs : List Loc} {Q : State → Prop} {cc : ByteArray} {pc : Nat} {ls : Array Slot} {st : List Value} {nL d : Nat} {D : va_G} {ty : Nat → ClassId} {A : Nat → Prop} {o : Nat} {ad : Nat → Nat} {rs : va_W} {σ : PS} {v1 : Int32} {q : Int32} (C : Cx p R s m args c cc nL RX0 D ty A d) (h : Hw D A s H locs (wX ty o ad σ ++ rs)) (hc : X_cracksIn σ v1 = some q) (hd : 0 + 1 ≤ d) (hls : ls.size = nL) (hcat : (st.map fun v => v.category).sum ≤ 8) (dec : decode cc pc = .ok (.invokevirtual 308, 3)) (kk : ∀ (H : Heap) (locs : List Loc), Hw D A s H locs (wX ty o ad σ ++ rs) → W p l e R s m args below meth c H locs 0 0 Q (F0 m (pc + 3) ls (.int q :: st))) : W p l e R s m args below meth c H locs 0 0 Q (F0 m pc ls (.int v1 :: .ref o :: st)) := KI.callV (As := [.int v1]) C (kX_cracksIn l hc) tX_cracksIn ⟨rfl, by decide, by decide, by show _ = some 1; decide +kernel⟩ 0 0 rfl rfl rfl hd (by decide) (Nat.zero_le _) (Nat.zero_le _) h hls rfl hcat dec kk
def X_cracksAt_j52 (σ : PS) (v2 : Int32) : Option Int32 := some v2
def X_cracksAt_j44 (σ : PS) (v1 : Int32) (v3 : Int32) (x0 : Int32) (x1 : Int32) : Option ((Int32 × Int32) ⊕ Int32) := nm (x1 + x0) (fun v2_1 => nm (v3 + 1) (fun v3_2 => some (.inl (v2_1, v3_2))))
def X_cracksAt_j43 (σ : PS) (v1 : Int32) (v3 : Int32) (x0 : Int32) : Option ((Int32 × Int32) ⊕ Int32) := X_cracksAt_j44 σ v1 v3 0 x0
def X_cracksAt_l4 (σ : PS) (v1 : Int32) (v2 : Int32) (v3 : Int32) : Option ((Int32 × Int32) ⊕ Int32) := if (gI σ 107) ≤ v3 then up (X_cracksAt_j52 σ v2) else bd (X_isSound σ v3) (fun q_3 => if q_3 = 0 then ix v3 6 (bd (X_placeOf σ v3 (rA σ 20 v3)) (fun q_4 => if q_4 = v1 then X_cracksAt_j44 σ v1 v3 1 v2 else X_cracksAt_j43 σ v1 v3 v2)) else X_cracksAt_j43 σ v1 v3 v2)
def X_cracksAt_B4 (σ : PS) (v1 : Int32) : (Int32 × Int32) → Option ((Int32 × Int32) ⊕ Int32) := fun t => X_cracksAt_l4 σ v1 t.1 t.2
def X_cracksAt (σ : PS) (v1 : Int32) : Option Int32 := loop (X_cracksAt_B4 σ v1) fu (0, 0)
set_option maxHeartbeats 4000000 in
theorem kX_cracksAt (l : Launch) {D : va_G} {ty : Nat → ClassId} {A : Nat → Prop} {o : Nat} {ad : Nat → Nat} {rs : va_W} {σ : PS} {v1 : Int32} {r : Int32} (hf : X_cracksAt σ v1 = some r) : KI l yX0_cracksAt cX0_cracksAt 4 .int 1 D ty A (wX ty o ad σ ++ rs) (wX ty o ad σ ++ rs) [.ref o, .int v1] r := by
  refine KI.of (by decide) (Nat.le_of_ble_eq_true rfl) ?_
  intro p e R s m args below meth c Q C hR
  have C : Cx p R s m args c cX0_cracksAt 4 RX0 D ty A 1 := C
  have hR : ∀ (v : Int32), v = r → ∀ (H : Heap) (locs : List Loc) (pc : Nat) (ls : Array Slot), Hw D A s H locs (wX ty o ad σ ++ rs) → narrow .int (.int v) = .int v → decode cX0_cracksAt pc = .ok (.ireturn, 1) → W p l e R s m args below meth c H locs 0 0 Q (F0 m pc ls [.int v]) := by intro v e9; cases e9; exact hR
  have j52 : ∀ (v2 : Int32) (H : Heap) (locs : List Loc) (ls : Array Slot), Hw D A s H locs (wX ty o ad σ ++ rs) → lv_has ls 4 [(2, .int v2)] → X_cracksAt_j52 σ v2 = some r → W p l e R s m args below meth c H locs 0 0 Q (F0 m 52 ls []) := by
    intro v2 H locs ls h hl hf
    unfold X_cracksAt_j52 at hf
    refine lv_iload_n C.x C.b dX0_cracksAt_52 rfl (lv_at hl 0 rfl) ?_
    exact hR _ (some_k hf) _ _ _ _ h rfl dX0_cracksAt_53
  have l4 : ∀ (n4 : Nat) (v2 : Int32) (v3 : Int32) (H : Heap) (locs : List Loc) (ls : Array Slot), Hw D A s H locs (wX ty o ad σ ++ rs) → lv_has ls 4 [(0, .ref o), (1, .int v1), (2, .int v2), (3, .int v3)] → loop (X_cracksAt_B4 σ v1) n4 (v2, v3) = some r → W p l e R s m args below meth c H locs 0 0 Q (F0 m 4 ls []) := by
    intro n4
    induction n4 with
    | zero => intro v2 v3 H locs ls h hl hf; exact (none_k hf).elim
    | succ n4 ih4 =>
      have j44 : ∀ (v3 : Int32) (x0 : Int32) (x1 : Int32) (H : Heap) (locs : List Loc) (ls : Array Slot), Hw D A s H locs (wX ty o ad σ ++ rs) → lv_has ls 4 [(0, .ref o), (1, .int v1), (3, .int v3)] → bl (X_cracksAt_B4 σ v1) n4 (X_cracksAt_j44 σ v1 v3 x0 x1) = some r → W p l e R s m args below meth c H locs 0 0 Q (F0 m 44 ls [.int x0, .int x1]) := by
        intro v3 x0 x1 H locs ls h hl hf
        unfold X_cracksAt_j44 at hf
        refine lv_iadd C.x C.b dX0_cracksAt_44 ?_
        obtain ⟨v2_1, e9, hf⟩ := nm_k (K := bl (X_cracksAt_B4 σ v1) n4) hf
        refine lv_topI e9 ?_
        refine lv_istore_n (lv' := [(2, .int v2_1), (0, .ref o), (1, .int v1), (3, .int v3)]) C.x C.b dX0_cracksAt_45 rfl hl (by decide) rfl (fun ls hl => ?_)
        obtain ⟨v3_2, e9, hf⟩ := nm_k (K := bl (X_cracksAt_B4 σ v1) n4) hf
        refine lv_iinc (v := v3_2) (lv' := [(3, .int v3_2), (2, .int v2_1), (0, .ref o), (1, .int v1)]) C.x C.b dX0_cracksAt_46 hl (k := 3) rfl (iinc_e (k := 1) (by decide) e9) (by decide) rfl (fun ls hl => ?_)
        refine lv_goto (tgt := 4) C.x C.b dX0_cracksAt_49 (by decide) ?_
        exact ih4 v2_1 v3_2 _ _ _ h (lv_sub hl [2, 3, 1, 0] rfl) hf
      have j43 : ∀ (v3 : Int32) (x0 : Int32) (H : Heap) (locs : List Loc) (ls : Array Slot), Hw D A s H locs (wX ty o ad σ ++ rs) → lv_has ls 4 [(0, .ref o), (1, .int v1), (3, .int v3)] → bl (X_cracksAt_B4 σ v1) n4 (X_cracksAt_j43 σ v1 v3 x0) = some r → W p l e R s m args below meth c H locs 0 0 Q (F0 m 43 ls [.int x0]) := by
        intro v3 x0 H locs ls h hl hf
        unfold X_cracksAt_j43 at hf
        refine lv_iconst (v := 0) C.x C.b dX0_cracksAt_43 (by decide) ?_
        exact j44 v3 0 x0 _ _ _ h (lv_sub hl [0, 1, 2] rfl) hf
      intro v2 v3 H locs ls h hl hf
      have hf : bl (X_cracksAt_B4 σ v1) n4 (X_cracksAt_l4 σ v1 v2 v3) = some r := hf
      unfold X_cracksAt_l4 at hf
      refine lv_iload_n C.x C.b dX0_cracksAt_4 rfl (lv_at hl 3 rfl) ?_
      refine lv_aload_n C.x C.b dX0_cracksAt_5 rfl (lv_at hl 0 rfl) ?_
      refine x_g0 C h dX0_cracksAt_6 ?_
      refine x_g107 C h dX0_cracksAt_9 ?_
      refine lv_icmp_ge (tgt := 52) C.x C.b dX0_cracksAt_12 (by decide) (fun c9 => ?_) (fun c9 => ?_)
      · have hf := if_t (K := bl (X_cracksAt_B4 σ v1) n4) c9 hf
        have hf := bl_upK (K := fun x => x) hf
        exact j52 v2 _ _ _ h (lv_sub hl [2] rfl) hf
      · have hf := if_f (K := bl (X_cracksAt_B4 σ v1) n4) c9 hf
        refine lv_iload_n C.x C.b dX0_cracksAt_15 rfl (lv_at hl 2 rfl) ?_
        refine lv_aload_n C.x C.b dX0_cracksAt_16 rfl (lv_at hl 0 rfl) ?_
        refine lv_iload_n C.x C.b dX0_cracksAt_17 rfl (lv_at hl 3 rfl) ?_
        obtain ⟨q_3, hc, hf⟩ := bd_k (K := bl (X_cracksAt_B4 σ v1) n4) rfl hf
        refine cX_isSound C h hc (Nat.le_of_ble_eq_true rfl) hl.1 (Nat.le_of_ble_eq_true rfl) dX0_cracksAt_18 (fun H locs h => ?_)
        refine lv_if_ne (tgt := 43) C.x C.b dX0_cracksAt_21 (by decide) (fun c9 => ?_) (fun c9 => ?_)
        · have hf := if_f (K := bl (X_cracksAt_B4 σ v1) n4) c9 hf
          exact j43 v3 v2 _ _ _ h (lv_sub hl [0, 1, 3] rfl) hf
        · have hf := if_t (K := bl (X_cracksAt_B4 σ v1) n4) c9 hf
          refine lv_aload_n C.x C.b dX0_cracksAt_24 rfl (lv_at hl 0 rfl) ?_
          refine lv_iload_n C.x C.b dX0_cracksAt_25 rfl (lv_at hl 3 rfl) ?_
          refine lv_aload_n C.x C.b dX0_cracksAt_26 rfl (lv_at hl 0 rfl) ?_
          refine x_g20 C h dX0_cracksAt_27 ?_
          refine lv_iload_n C.x C.b dX0_cracksAt_30 rfl (lv_at hl 3 rfl) ?_
          obtain ⟨hi, hf⟩ := ix_k (K := bl (X_cracksAt_B4 σ v1) n4) rfl hf
          refine x_a20 C h hi dX0_cracksAt_31 ?_
          obtain ⟨q_4, hc, hf⟩ := bd_k (K := bl (X_cracksAt_B4 σ v1) n4) rfl hf
          refine cX_placeOf C h hc (Nat.le_of_ble_eq_true rfl) hl.1 (Nat.le_of_ble_eq_true rfl) dX0_cracksAt_32 (fun H locs h => ?_)
          refine lv_iload_n C.x C.b dX0_cracksAt_35 rfl (lv_at hl 1 rfl) ?_
          refine lv_icmp_ne (tgt := 43) C.x C.b dX0_cracksAt_36 (by decide) (fun c9 => ?_) (fun c9 => ?_)
          · have hf := if_f (K := bl (X_cracksAt_B4 σ v1) n4) c9 hf
            exact j43 v3 v2 _ _ _ h (lv_sub hl [0, 1, 3] rfl) hf
          · have hf := if_t (K := bl (X_cracksAt_B4 σ v1) n4) c9 hf
            refine lv_iconst (v := 1) C.x C.b dX0_cracksAt_39 (by decide) ?_
            refine lv_goto (tgt := 44) C.x C.b dX0_cracksAt_40 (by decide) ?_
            exact j44 v3 1 v2 _ _ _ h (lv_sub hl [0, 1, 3] rfl) hf
  intro H locs ls h hl
  have hl : lv_has ls 4 [(0, .ref o), (1, .int v1)] := hl
  unfold X_cracksAt at hf
  refine lv_iconst (v := 0) C.x C.b dX0_cracksAt_0 (by decide) ?_
  refine lv_istore_n (lv' := [(2, .int 0), (0, .ref o), (1, .int v1)]) C.x C.b dX0_cracksAt_1 rfl hl (by decide) rfl (fun ls hl => ?_)
  refine lv_iconst (v := 0) C.x C.b dX0_cracksAt_2 (by decide) ?_
  refine lv_istore_n (lv' := [(3, .int 0), (2, .int 0), (0, .ref o), (1, .int v1)]) C.x C.b dX0_cracksAt_3 rfl hl (by decide) rfl (fun ls hl => ?_)
  exact l4  fu 0 0 _ _ _ h (lv_sub hl [2, 3, 1, 0] rfl) hf
theorem tX_cracksAt : GoodIn lw_all (wsV RX0 311 RX0 yX0_cracksAt (ws_ yX0_cracksAt cX0_cracksAt 4 (some .int))) := lw_V q957 q959 qs42 q137 q960
theorem cX_cracksAt {p : Program} {l : Launch} {e : Env} {R : Room} {s : State} {m : MethodId} {args : Array Value} {below : List Frame} {meth : Method} {c : Code} {H : Heap} {locs : List Loc} {Q : State → Prop} {cc : ByteArray} {pc : Nat} {ls : Array Slot} {st : List Value} {nL d : Nat} {D : va_G} {ty : Nat → ClassId} {A : Nat → Prop} {o : Nat} {ad : Nat → Nat} {rs : va_W} {σ : PS} {v1 : Int32} {q : Int32} (C : Cx p R s m args c cc nL RX0 D ty A d) (h : Hw D A s H locs (wX ty o ad σ ++ rs)) (hc : X_cracksAt σ v1 = some q) (hd : 1 + 1 ≤ d) (hls : ls.size = nL) (hcat : (st.map fun v => v.category).sum ≤ 8) (dec : decode cc pc = .ok (.invokevirtual 311, 3)) (kk : ∀ (H : Heap) (locs : List Loc), Hw D A s H locs (wX ty o ad σ ++ rs) → W p l e R s m args below meth c H locs 0 0 Q (F0 m (pc + 3) ls (.int q :: st))) : W p l e R s m args below meth c H locs 0 0 Q (F0 m pc ls (.int v1 :: .ref o :: st)) := KI.callV (As := [.int v1]) C (kX_cracksAt l hc) tX_cracksAt ⟨rfl, by decide, by decide, by show _ = some 1; decide +kernel⟩ 0 0 rfl rfl rfl hd (by decide) (Nat.zero_le _) (Nat.zero_le _) h hls rfl hcat dec kk
def X_dropOf (σ : PS) (v1 : Int32) (v2 : Int32) : Option Int32 := bd (X_skinOf σ v1 v2) (fun q_1 => bd (X_skinOf σ v1 (v2 + 1)) (fun q_2 => some (q_1 - q_2)))
set_option maxHeartbeats 4000000 in
theorem kX_dropOf (l : Launch) {D : va_G} {ty : Nat → ClassId} {A : Nat → Prop} {o : Nat} {ad : Nat → Nat} {rs : va_W} {σ : PS} {v1 : Int32} {v2 : Int32} {r : Int32} (hf : X_dropOf σ v1 v2 = some r) : KI l yX0_dropOf cX0_dropOf 3 .int 1 D ty A (wX ty o ad σ ++ rs) (wX ty o ad σ ++ rs) [.ref o, .int v1, .int v2] r := by
  refine KI.of (by decide) (Nat.le_of_ble_eq_true rfl) ?_
  intro p e R s m args below meth c Q C hR
  have C : Cx p R s m args c cX0_dropOf 3 RX0 D ty A 1 := C
  have hR : ∀ (v : Int32), v = r → ∀ (H : Heap) (locs : List Loc) (pc : Nat) (ls : Array Slot), Hw D A s H locs (wX ty o ad σ ++ rs) → narrow .int (.int v) = .int v → decode cX0_dropOf pc = .ok (.ireturn, 1) → W p l e R s m args below meth c H locs 0 0 Q (F0 m pc ls [.int v]) := by intro v e9; cases e9; exact hR
  intro H locs ls h hl
  have hl : lv_has ls 3 [(0, .ref o), (1, .int v1), (2, .int v2)] := hl
  unfold X_dropOf at hf
  refine lv_aload_n C.x C.b dX0_dropOf_0 rfl (lv_at hl 0 rfl) ?_
  refine lv_iload_n C.x C.b dX0_dropOf_1 rfl (lv_at hl 1 rfl) ?_
  refine lv_iload_n C.x C.b dX0_dropOf_2 rfl (lv_at hl 2 rfl) ?_
  obtain ⟨q_1, hc, hf⟩ := bd_k (K := fun x => x) rfl hf
  refine cX_skinOf C h hc (Nat.le_of_ble_eq_true rfl) hl.1 (Nat.le_of_ble_eq_true rfl) dX0_dropOf_3 (fun H locs h => ?_)
  refine lv_aload_n C.x C.b dX0_dropOf_6 rfl (lv_at hl 0 rfl) ?_
  refine lv_iload_n C.x C.b dX0_dropOf_7 rfl (lv_at hl 1 rfl) ?_
  refine lv_iload_n C.x C.b dX0_dropOf_8 rfl (lv_at hl 2 rfl) ?_
  refine lv_iconst (v := 1) C.x C.b dX0_dropOf_9 (by decide) ?_
  refine lv_iadd C.x C.b dX0_dropOf_10 ?_
  obtain ⟨q_2, hc, hf⟩ := bd_k (K := fun x => x) rfl hf
  refine cX_skinOf C h hc (Nat.le_of_ble_eq_true rfl) hl.1 (Nat.le_of_ble_eq_true rfl) dX0_dropOf_11 (fun H locs h => ?_)
  refine lv_isub C.x C.b dX0_dropOf_14 ?_
  exact hR _ (some_k hf) _ _ _ _ h rfl dX0_dropOf_15
theorem tX_dropOf : GoodIn lw_all (wsV RX0 323 RX0 yX0_dropOf (ws_ yX0_dropOf cX0_dropOf 3 (some .int))) := lw_V q1018 q1020 qs44 q137 q1021
theorem cX_dropOf {p : Program} {l : Launch} {e : Env} {R : Room} {s : State} {m : MethodId} {args : Array Value} {below : List Frame} {meth : Method} {c : Code} {H : Heap} {locs : List Loc} {Q : State → Prop} {cc : ByteArray} {pc : Nat} {ls : Array Slot} {st : List Value} {nL d : Nat} {D : va_G} {ty : Nat → ClassId} {A : Nat → Prop} {o : Nat} {ad : Nat → Nat} {rs : va_W} {σ : PS} {v1 : Int32} {v2 : Int32} {q : Int32} (C : Cx p R s m args c cc nL RX0 D ty A d) (h : Hw D A s H locs (wX ty o ad σ ++ rs)) (hc : X_dropOf σ v1 v2 = some q) (hd : 1 + 1 ≤ d) (hls : ls.size = nL) (hcat : (st.map fun v => v.category).sum ≤ 8) (dec : decode cc pc = .ok (.invokevirtual 323, 3)) (kk : ∀ (H : Heap) (locs : List Loc), Hw D A s H locs (wX ty o ad σ ++ rs) → W p l e R s m args below meth c H locs 0 0 Q (F0 m (pc + 3) ls (.int q :: st))) : W p l e R s m args below meth c H locs 0 0 Q (F0 m pc ls (.int v2 :: .int v1 :: .ref o :: st)) := KI.callV (As := [.int v1, .int v2]) C (kX_dropOf l hc) tX_dropOf ⟨rfl, by decide, by decide, by show _ = some 2; decide +kernel⟩ 0 0 rfl rfl rfl hd (by decide) (Nat.zero_le _) (Nat.zero_le _) h hls rfl hcat dec kk
def X_isAhead_j31 (σ : PS) (x0 : Int32) : Option Int32 := tz x0 (some x0)
def X_isAhead_j30 (σ : PS) : Option Int32 := X_isAhead_j31 σ 0
def X_isAhead (σ : PS) (v1 : Int32) : Option Int32 := bd (X_isLehr σ) (fun q_1 => if q_1 = 0 then X_isAhead_j30 σ else bd (X_isIn v1.toInt64 0 (((gI σ 100) - 1).toInt64)) (fun q_2 => if q_2 = 0 then X_isAhead_j30 σ else X_isAhead_j31 σ 1))
set_option maxHeartbeats 4000000 in
theorem kX_isAhead (l : Launch) {D : va_G} {ty : Nat → ClassId} {A : Nat → Prop} {o : Nat} {ad : Nat → Nat} {rs : va_W} {σ : PS} {v1 : Int32} {r : Int32} (hf : X_isAhead σ v1 = some r) : KI l yX0_isAhead cX0_isAhead 2 .boolean 1 D ty A (wX ty o ad σ ++ rs) (wX ty o ad σ ++ rs) [.ref o, .int v1] r := by
  refine KI.of (by decide) (Nat.le_of_ble_eq_true rfl) ?_
  intro p e R s m args below meth c Q C hR
  have C : Cx p R s m args c cX0_isAhead 2 RX0 D ty A 1 := C
  have hR : ∀ (v : Int32), v = r → ∀ (H : Heap) (locs : List Loc) (pc : Nat) (ls : Array Slot), Hw D A s H locs (wX ty o ad σ ++ rs) → narrow .boolean (.int v) = .int v → decode cX0_isAhead pc = .ok (.ireturn, 1) → W p l e R s m args below meth c H locs 0 0 Q (F0 m pc ls [.int v]) := by intro v e9; cases e9; exact hR
  have j31 : ∀ (x0 : Int32) (H : Heap) (locs : List Loc) (ls : Array Slot), Hw D A s H locs (wX ty o ad σ ++ rs) → lv_has ls 2 [] → X_isAhead_j31 σ x0 = some r → W p l e R s m args below meth c H locs 0 0 Q (F0 m 31 ls [.int x0]) := by
    intro x0 H locs ls h hl hf
    unfold X_isAhead_j31 at hf
    obtain ⟨hz, hf⟩ := tz_k (K := fun x => x) rfl hf
    exact hR _ (some_k hf) _ _ _ _ h hz dX0_isAhead_31
  have j30 : ∀ (H : Heap) (locs : List Loc) (ls : Array Slot), Hw D A s H locs (wX ty o ad σ ++ rs) → lv_has ls 2 [] → X_isAhead_j30 σ = some r → W p l e R s m args below meth c H locs 0 0 Q (F0 m 30 ls []) := by
    intro  H locs ls h hl hf
    unfold X_isAhead_j30 at hf
    refine lv_iconst (v := 0) C.x C.b dX0_isAhead_30 (by decide) ?_
    exact j31 0 _ _ _ h (lv_sub hl [] rfl) hf
  intro H locs ls h hl
  have hl : lv_has ls 2 [(0, .ref o), (1, .int v1)] := hl
  unfold X_isAhead at hf
  refine lv_aload_n C.x C.b dX0_isAhead_0 rfl (lv_at hl 0 rfl) ?_
  obtain ⟨q_1, hc, hf⟩ := bd_k (K := fun x => x) rfl hf
  refine cX_isLehr C h hc (Nat.le_of_ble_eq_true rfl) hl.1 (Nat.le_of_ble_eq_true rfl) dX0_isAhead_1 (fun H locs h => ?_)
  refine lv_if_eq (tgt := 30) C.x C.b dX0_isAhead_4 (by decide) (fun c9 => ?_) (fun c9 => ?_)
  · have hf := if_t (K := fun x => x) c9 hf
    exact j30  _ _ _ h (lv_sub hl [] rfl) hf
  · have hf := if_f (K := fun x => x) c9 hf
    refine lv_iload_n C.x C.b dX0_isAhead_7 rfl (lv_at hl 1 rfl) ?_
    refine lv_i2l C.x C.b dX0_isAhead_8 rfl ?_
    refine lv_lconst (v := 0) C.x C.b dX0_isAhead_9 (by decide) ?_
    refine lv_aload_n C.x C.b dX0_isAhead_10 rfl (lv_at hl 0 rfl) ?_
    refine x_g0 C h dX0_isAhead_11 ?_
    refine x_g100 C h dX0_isAhead_14 ?_
    refine lv_iconst (v := 1) C.x C.b dX0_isAhead_17 (by decide) ?_
    refine lv_isub C.x C.b dX0_isAhead_18 ?_
    refine lv_i2l C.x C.b dX0_isAhead_19 rfl ?_
    obtain ⟨q_2, hc, hf⟩ := bd_k (K := fun x => x) rfl hf
    refine cX_isIn C h hc (Nat.le_of_ble_eq_true rfl) hl.1 (Nat.le_of_ble_eq_true rfl) dX0_isAhead_20 (fun H locs h => ?_)
    refine lv_if_eq (tgt := 30) C.x C.b dX0_isAhead_23 (by decide) (fun c9 => ?_) (fun c9 => ?_)
    · have hf := if_t (K := fun x => x) c9 hf
      exact j30  _ _ _ h (lv_sub hl [] rfl) hf
    · have hf := if_f (K := fun x => x) c9 hf
      refine lv_iconst (v := 1) C.x C.b dX0_isAhead_26 (by decide) ?_
      refine lv_goto (tgt := 31) C.x C.b dX0_isAhead_27 (by decide) ?_
      exact j31 1 _ _ _ h (lv_sub hl [] rfl) hf
theorem tX_isAhead : GoodIn lw_all (wsV RX0 326 RX0 yX0_isAhead (ws_ yX0_isAhead cX0_isAhead 2 (some .boolean))) := lw_V q1026 q1028 qs45 q137 q1029
theorem cX_isAhead {p : Program} {l : Launch} {e : Env} {R : Room} {s : State} {m : MethodId} {args : Array Value} {below : List Frame} {meth : Method} {c : Code} {H : Heap} {locs : List Loc} {Q : State → Prop} {cc : ByteArray} {pc : Nat} {ls : Array Slot} {st : List Value} {nL d : Nat} {D : va_G} {ty : Nat → ClassId} {A : Nat → Prop} {o : Nat} {ad : Nat → Nat} {rs : va_W} {σ : PS} {v1 : Int32} {q : Int32} (C : Cx p R s m args c cc nL RX0 D ty A d) (h : Hw D A s H locs (wX ty o ad σ ++ rs)) (hc : X_isAhead σ v1 = some q) (hd : 1 + 1 ≤ d) (hls : ls.size = nL) (hcat : (st.map fun v => v.category).sum ≤ 8) (dec : decode cc pc = .ok (.invokevirtual 326, 3)) (kk : ∀ (H : Heap) (locs : List Loc), Hw D A s H locs (wX ty o ad σ ++ rs) → W p l e R s m args below meth c H locs 0 0 Q (F0 m (pc + 3) ls (.int q :: st))) : W p l e R s m args below meth c H locs 0 0 Q (F0 m pc ls (.int v1 :: .ref o :: st)) := KI.callV (As := [.int v1]) C (kX_isAhead l hc) tX_isAhead ⟨rfl, by decide, by decide, by show _ = some 1; decide +kernel⟩ 0 0 rfl rfl rfl hd (by decide) (Nat.zero_le _) (Nat.zero_le _) h hls rfl hcat dec kk
def X_isOneOf (v0 : Int32) (v1 : Int32) : Option Int32 := bd (X_isIn v0.toInt64 0 ((v1 - 1).toInt64)) (fun q_1 => tz q_1 (some q_1))
set_option maxHeartbeats 4000000 in
theorem kX_isOneOf (l : Launch) {D : va_G} {ty : Nat → ClassId} {A : Nat → Prop} {ws : va_W} {v0 : Int32} {v1 : Int32} {r : Int32} (hf : X_isOneOf v0 v1 = some r) : KI l yX0_isOneOf cX0_isOneOf 2 .boolean 1 D ty A ws ws [.int v0, .int v1] r := by
  refine KI.of (by decide) (Nat.le_of_ble_eq_true rfl) ?_
  intro p e R s m args below meth c Q C hR
  have C : Cx p R s m args c cX0_isOneOf 2 RX0 D ty A 1 := C
  have hR : ∀ (v : Int32), v = r → ∀ (H : Heap) (locs : List Loc) (pc : Nat) (ls : Array Slot), Hw D A s H locs ws → narrow .boolean (.int v) = .int v → decode cX0_isOneOf pc = .ok (.ireturn, 1) → W p l e R s m args below meth c H locs 0 0 Q (F0 m pc ls [.int v]) := by intro v e9; cases e9; exact hR
  intro H locs ls h hl
  have hl : lv_has ls 2 [(0, .int v0), (1, .int v1)] := hl
  unfold X_isOneOf at hf
  refine lv_iload_n C.x C.b dX0_isOneOf_0 rfl (lv_at hl 0 rfl) ?_
  refine lv_i2l C.x C.b dX0_isOneOf_1 rfl ?_
  refine lv_lconst (v := 0) C.x C.b dX0_isOneOf_2 (by decide) ?_
  refine lv_iload_n C.x C.b dX0_isOneOf_3 rfl (lv_at hl 1 rfl) ?_
  refine lv_iconst (v := 1) C.x C.b dX0_isOneOf_4 (by decide) ?_
  refine lv_isub C.x C.b dX0_isOneOf_5 ?_
  refine lv_i2l C.x C.b dX0_isOneOf_6 rfl ?_
  obtain ⟨q_1, hc, hf⟩ := bd_k (K := fun x => x) rfl hf
  refine cX_isIn C h hc (Nat.le_of_ble_eq_true rfl) hl.1 (Nat.le_of_ble_eq_true rfl) dX0_isOneOf_7 (fun H locs h => ?_)
  obtain ⟨hz, hf⟩ := tz_k (K := fun x => x) rfl hf
  exact hR _ (some_k hf) _ _ _ _ h hz dX0_isOneOf_10
theorem tX_isOneOf : GoodIn lw_all (va_wsS RX0 330 yX0_isOneOf (ws_ yX0_isOneOf cX0_isOneOf 2 (some .boolean))) := lw_S q1055 q1056 q137 q1057
theorem cX_isOneOf {p : Program} {l : Launch} {e : Env} {R : Room} {s : State} {m : MethodId} {args : Array Value} {below : List Frame} {meth : Method} {c : Code} {H : Heap} {locs : List Loc} {Q : State → Prop} {cc : ByteArray} {pc : Nat} {ls : Array Slot} {st : List Value} {nL d : Nat} {D : va_G} {ty : Nat → ClassId} {A : Nat → Prop} {ws : va_W} {v0 : Int32} {v1 : Int32} {q : Int32} (C : Cx p R s m args c cc nL RX0 D ty A d) (h : Hw D A s H locs ws) (hc : X_isOneOf v0 v1 = some q) (hd : 1 + 1 ≤ d) (hls : ls.size = nL) (hcat : (st.map fun v => v.category).sum ≤ 8) (dec : decode cc pc = .ok (.invokestatic 330, 3)) (kk : ∀ (H : Heap) (locs : List Loc), Hw D A s H locs ws → W p l e R s m args below meth c H locs 0 0 Q (F0 m (pc + 3) ls (.int q :: st))) : W p l e R s m args below meth c H locs 0 0 Q (F0 m pc ls (.int v1 :: .int v0 :: st)) := KI.callS (As := [.int v0, .int v1]) C (kX_isOneOf l hc) tX_isOneOf ⟨by decide, by decide, by show _ = some 2; decide +kernel⟩ hd (by decide) (Nat.zero_le _) (Nat.zero_le _) h hls rfl hcat dec kk
def X_busyOf_j38 (σ : PS) (v2 : Int32) : Option Int32 := some v2
def X_busyOf_j30 (σ : PS) (v1 : Int32) (v3 : Int32) (x0 : Int32) (x1 : Int32) : Option ((Int32 × Int32) ⊕ Int32) := nm (x1 + x0) (fun v2_1 => nm (v3 + 1) (fun v3_2 => some (.inl (v2_1, v3_2))))
def X_busyOf_l4 (σ : PS) (v1 : Int32) (v2 : Int32) (v3 : Int32) : Option ((Int32 × Int32) ⊕ Int32) := if (gI σ 100) < v3 then up (X_busyOf_j38 σ v2) else bd (X_insideOf σ v1 v3) (fun q_3 => if q_3 = 0 then X_busyOf_j30 σ v1 v3 0 v2 else X_busyOf_j30 σ v1 v3 1 v2)
def X_busyOf_B4 (σ : PS) (v1 : Int32) : (Int32 × Int32) → Option ((Int32 × Int32) ⊕ Int32) := fun t => X_busyOf_l4 σ v1 t.1 t.2
def X_busyOf (σ : PS) (v1 : Int32) : Option Int32 := loop (X_busyOf_B4 σ v1) fu (0, 0)
set_option maxHeartbeats 4000000 in
theorem kX_busyOf (l : Launch) {D : va_G} {ty : Nat → ClassId} {A : Nat → Prop} {o : Nat} {ad : Nat → Nat} {rs : va_W} {σ : PS} {v1 : Int32} {r : Int32} (hf : X_busyOf σ v1 = some r) : KI l yX0_busyOf cX0_busyOf 4 .int 2 D ty A (wX ty o ad σ ++ rs) (wX ty o ad σ ++ rs) [.ref o, .int v1] r := by
  refine KI.of (by decide) (Nat.le_of_ble_eq_true rfl) ?_
  intro p e R s m args below meth c Q C hR
  have C : Cx p R s m args c cX0_busyOf 4 RX0 D ty A 2 := C
  have hR : ∀ (v : Int32), v = r → ∀ (H : Heap) (locs : List Loc) (pc : Nat) (ls : Array Slot), Hw D A s H locs (wX ty o ad σ ++ rs) → narrow .int (.int v) = .int v → decode cX0_busyOf pc = .ok (.ireturn, 1) → W p l e R s m args below meth c H locs 0 0 Q (F0 m pc ls [.int v]) := by intro v e9; cases e9; exact hR
  have j38 : ∀ (v2 : Int32) (H : Heap) (locs : List Loc) (ls : Array Slot), Hw D A s H locs (wX ty o ad σ ++ rs) → lv_has ls 4 [(2, .int v2)] → X_busyOf_j38 σ v2 = some r → W p l e R s m args below meth c H locs 0 0 Q (F0 m 38 ls []) := by
    intro v2 H locs ls h hl hf
    unfold X_busyOf_j38 at hf
    refine lv_iload_n C.x C.b dX0_busyOf_38 rfl (lv_at hl 0 rfl) ?_
    exact hR _ (some_k hf) _ _ _ _ h rfl dX0_busyOf_39
  have l4 : ∀ (n4 : Nat) (v2 : Int32) (v3 : Int32) (H : Heap) (locs : List Loc) (ls : Array Slot), Hw D A s H locs (wX ty o ad σ ++ rs) → lv_has ls 4 [(0, .ref o), (1, .int v1), (2, .int v2), (3, .int v3)] → loop (X_busyOf_B4 σ v1) n4 (v2, v3) = some r → W p l e R s m args below meth c H locs 0 0 Q (F0 m 4 ls []) := by
    intro n4
    induction n4 with
    | zero => intro v2 v3 H locs ls h hl hf; exact (none_k hf).elim
    | succ n4 ih4 =>
      have j30 : ∀ (v3 : Int32) (x0 : Int32) (x1 : Int32) (H : Heap) (locs : List Loc) (ls : Array Slot), Hw D A s H locs (wX ty o ad σ ++ rs) → lv_has ls 4 [(0, .ref o), (1, .int v1), (3, .int v3)] → bl (X_busyOf_B4 σ v1) n4 (X_busyOf_j30 σ v1 v3 x0 x1) = some r → W p l e R s m args below meth c H locs 0 0 Q (F0 m 30 ls [.int x0, .int x1]) := by
        intro v3 x0 x1 H locs ls h hl hf
        unfold X_busyOf_j30 at hf
        refine lv_iadd C.x C.b dX0_busyOf_30 ?_
        obtain ⟨v2_1, e9, hf⟩ := nm_k (K := bl (X_busyOf_B4 σ v1) n4) hf
        refine lv_topI e9 ?_
        refine lv_istore_n (lv' := [(2, .int v2_1), (0, .ref o), (1, .int v1), (3, .int v3)]) C.x C.b dX0_busyOf_31 rfl hl (by decide) rfl (fun ls hl => ?_)
        obtain ⟨v3_2, e9, hf⟩ := nm_k (K := bl (X_busyOf_B4 σ v1) n4) hf
        refine lv_iinc (v := v3_2) (lv' := [(3, .int v3_2), (2, .int v2_1), (0, .ref o), (1, .int v1)]) C.x C.b dX0_busyOf_32 hl (k := 3) rfl (iinc_e (k := 1) (by decide) e9) (by decide) rfl (fun ls hl => ?_)
        refine lv_goto (tgt := 4) C.x C.b dX0_busyOf_35 (by decide) ?_
        exact ih4 v2_1 v3_2 _ _ _ h (lv_sub hl [2, 3, 1, 0] rfl) hf
      intro v2 v3 H locs ls h hl hf
      have hf : bl (X_busyOf_B4 σ v1) n4 (X_busyOf_l4 σ v1 v2 v3) = some r := hf
      unfold X_busyOf_l4 at hf
      refine lv_iload_n C.x C.b dX0_busyOf_4 rfl (lv_at hl 3 rfl) ?_
      refine lv_aload_n C.x C.b dX0_busyOf_5 rfl (lv_at hl 0 rfl) ?_
      refine x_g0 C h dX0_busyOf_6 ?_
      refine x_g100 C h dX0_busyOf_9 ?_
      refine lv_icmp_gt (tgt := 38) C.x C.b dX0_busyOf_12 (by decide) (fun c9 => ?_) (fun c9 => ?_)
      · have hf := if_t (K := bl (X_busyOf_B4 σ v1) n4) c9 hf
        have hf := bl_upK (K := fun x => x) hf
        exact j38 v2 _ _ _ h (lv_sub hl [2] rfl) hf
      · have hf := if_f (K := bl (X_busyOf_B4 σ v1) n4) c9 hf
        refine lv_iload_n C.x C.b dX0_busyOf_15 rfl (lv_at hl 2 rfl) ?_
        refine lv_aload_n C.x C.b dX0_busyOf_16 rfl (lv_at hl 0 rfl) ?_
        refine lv_iload_n C.x C.b dX0_busyOf_17 rfl (lv_at hl 1 rfl) ?_
        refine lv_iload_n C.x C.b dX0_busyOf_18 rfl (lv_at hl 3 rfl) ?_
        obtain ⟨q_3, hc, hf⟩ := bd_k (K := bl (X_busyOf_B4 σ v1) n4) rfl hf
        refine cX_insideOf C h hc (Nat.le_of_ble_eq_true rfl) hl.1 (Nat.le_of_ble_eq_true rfl) dX0_busyOf_19 (fun H locs h => ?_)
        refine lv_if_eq (tgt := 29) C.x C.b dX0_busyOf_22 (by decide) (fun c9 => ?_) (fun c9 => ?_)
        · have hf := if_t (K := bl (X_busyOf_B4 σ v1) n4) c9 hf
          refine lv_iconst (v := 0) C.x C.b dX0_busyOf_29 (by decide) ?_
          exact j30 v3 0 v2 _ _ _ h (lv_sub hl [0, 1, 3] rfl) hf
        · have hf := if_f (K := bl (X_busyOf_B4 σ v1) n4) c9 hf
          refine lv_iconst (v := 1) C.x C.b dX0_busyOf_25 (by decide) ?_
          refine lv_goto (tgt := 30) C.x C.b dX0_busyOf_26 (by decide) ?_
          exact j30 v3 1 v2 _ _ _ h (lv_sub hl [0, 1, 3] rfl) hf
  intro H locs ls h hl
  have hl : lv_has ls 4 [(0, .ref o), (1, .int v1)] := hl
  unfold X_busyOf at hf
  refine lv_iconst (v := 0) C.x C.b dX0_busyOf_0 (by decide) ?_
  refine lv_istore_n (lv' := [(2, .int 0), (0, .ref o), (1, .int v1)]) C.x C.b dX0_busyOf_1 rfl hl (by decide) rfl (fun ls hl => ?_)
  refine lv_iconst (v := 0) C.x C.b dX0_busyOf_2 (by decide) ?_
  refine lv_istore_n (lv' := [(3, .int 0), (2, .int 0), (0, .ref o), (1, .int v1)]) C.x C.b dX0_busyOf_3 rfl hl (by decide) rfl (fun ls hl => ?_)
  exact l4  fu 0 0 _ _ _ h (lv_sub hl [2, 3, 1, 0] rfl) hf
theorem tX_busyOf : GoodIn lw_all (wsV RX0 333 RX0 yX0_busyOf (ws_ yX0_busyOf cX0_busyOf 4 (some .int))) := lw_V q1066 q1068 qs46 q137 q1069
theorem cX_busyOf {p : Program} {l : Launch} {e : Env} {R : Room} {s : State} {m : MethodId} {args : Array Value} {below : List Frame} {meth : Method} {c : Code} {H : Heap} {locs : List Loc} {Q : State → Prop} {cc : ByteArray} {pc : Nat} {ls : Array Slot} {st : List Value} {nL d : Nat} {D : va_G} {ty : Nat → ClassId} {A : Nat → Prop} {o : Nat} {ad : Nat → Nat} {rs : va_W} {σ : PS} {v1 : Int32} {q : Int32} (C : Cx p R s m args c cc nL RX0 D ty A d) (h : Hw D A s H locs (wX ty o ad σ ++ rs)) (hc : X_busyOf σ v1 = some q) (hd : 2 + 1 ≤ d) (hls : ls.size = nL) (hcat : (st.map fun v => v.category).sum ≤ 8) (dec : decode cc pc = .ok (.invokevirtual 333, 3)) (kk : ∀ (H : Heap) (locs : List Loc), Hw D A s H locs (wX ty o ad σ ++ rs) → W p l e R s m args below meth c H locs 0 0 Q (F0 m (pc + 3) ls (.int q :: st))) : W p l e R s m args below meth c H locs 0 0 Q (F0 m pc ls (.int v1 :: .ref o :: st)) := KI.callV (As := [.int v1]) C (kX_busyOf l hc) tX_busyOf ⟨rfl, by decide, by decide, by show _ = some 1; decide +kernel⟩ 0 0 rfl rfl rfl hd (by decide) (Nat.zero_le _) (Nat.zero_le _) h hls rfl hcat dec kk
def X_changes (σ : PS) (v1 : Int32) (v2 : Int32) : Option PS := ix v1 7 (nm (rA σ 5 v1) (fun v3_1 => ix v2 7 (ix v1 7 (nm (wA σ 5 v1 (rA σ 5 v2)) (fun σ_2 => ix v2 7 (nm (wA σ_2 5 v2 v3_1) (fun σ_3 => some σ_3)))))))
set_option maxHeartbeats 4000000 in
theorem kX_changes (l : Launch) {D : va_G} {ty : Nat → ClassId} {A : Nat → Prop} {o : Nat} {ad : Nat → Nat} {rs : va_W} {σ : PS} {σ' : PS} {v1 : Int32} {v2 : Int32} (hf : X_changes σ v1 v2 = some σ') : KV l yX0_changes cX0_changes 4 0 D ty A (wX ty o ad σ ++ rs) (wX ty o ad σ' ++ rs) [.ref o, .int v1, .int v2] := by
  refine KV.of (by decide) (Nat.le_of_ble_eq_true rfl) ?_
  intro p e R s m args below meth c Q C hR
  have C : Cx p R s m args c cX0_changes 4 RX0 D ty A 0 := C
  have hR : ∀ (σ2 : PS), σ2 = σ' → ∀ (H : Heap) (locs : List Loc) (pc : Nat) (ls : Array Slot), Hw D A s H locs (wX ty o ad σ2 ++ rs) → decode cX0_changes pc = .ok (.return_, 1) → W p l e R s m args below meth c H locs 0 0 Q (F0 m pc ls []) := by intro σ2 e9; cases e9; exact hR
  intro H locs ls h hl
  have hl : lv_has ls 4 [(0, .ref o), (1, .int v1), (2, .int v2)] := hl
  unfold X_changes at hf
  refine lv_aload_n C.x C.b dX0_changes_0 rfl (lv_at hl 0 rfl) ?_
  refine x_g5 C h dX0_changes_1 ?_
  refine lv_iload_n C.x C.b dX0_changes_4 rfl (lv_at hl 1 rfl) ?_
  obtain ⟨hi, hf⟩ := ix_k (K := fun x => x) rfl hf
  refine x_a5 C h hi dX0_changes_5 ?_
  obtain ⟨v3_1, e9, hf⟩ := nm_k (K := fun x => x) hf
  refine lv_topI e9 ?_
  refine lv_istore_n (lv' := [(3, .int v3_1), (0, .ref o), (1, .int v1), (2, .int v2)]) C.x C.b dX0_changes_6 rfl hl (by decide) rfl (fun ls hl => ?_)
  refine lv_aload_n C.x C.b dX0_changes_7 rfl (lv_at hl 1 rfl) ?_
  refine x_g5 C h dX0_changes_8 ?_
  refine lv_iload_n C.x C.b dX0_changes_11 rfl (lv_at hl 2 rfl) ?_
  refine lv_aload_n C.x C.b dX0_changes_12 rfl (lv_at hl 1 rfl) ?_
  refine x_g5 C h dX0_changes_13 ?_
  refine lv_iload_n C.x C.b dX0_changes_16 rfl (lv_at hl 3 rfl) ?_
  obtain ⟨hi, hf⟩ := ix_k (K := fun x => x) rfl hf
  refine x_a5 C h hi dX0_changes_17 ?_
  obtain ⟨hi, hf⟩ := ix_k (K := fun x => x) rfl hf
  obtain ⟨σ_2, e9, hf⟩ := nm_k (K := fun x => x) hf
  refine x_w5 C h hi e9 dX0_changes_18 (fun H locs h => ?_)
  refine lv_aload_n C.x C.b dX0_changes_19 rfl (lv_at hl 1 rfl) ?_
  refine x_g5 C h dX0_changes_20 ?_
  refine lv_iload_n C.x C.b dX0_changes_23 rfl (lv_at hl 3 rfl) ?_
  refine lv_iload_n C.x C.b dX0_changes_24 rfl (lv_at hl 0 rfl) ?_
  obtain ⟨hi, hf⟩ := ix_k (K := fun x => x) rfl hf
  obtain ⟨σ_3, e9, hf⟩ := nm_k (K := fun x => x) hf
  refine x_w5 C h hi e9 dX0_changes_25 (fun H locs h => ?_)
  exact hR _ (some_k hf) _ _ _ _ h dX0_changes_26
theorem tX_changes : GoodIn lw_all (wsV RX0 354 RX0 yX0_changes (ws_ yX0_changes cX0_changes 4 none)) := lw_V q1134 q1136 qs53 q137 q1137
theorem cX_changes {p : Program} {l : Launch} {e : Env} {R : Room} {s : State} {m : MethodId} {args : Array Value} {below : List Frame} {meth : Method} {c : Code} {H : Heap} {locs : List Loc} {Q : State → Prop} {cc : ByteArray} {pc : Nat} {ls : Array Slot} {st : List Value} {nL d : Nat} {D : va_G} {ty : Nat → ClassId} {A : Nat → Prop} {o : Nat} {ad : Nat → Nat} {rs : va_W} {σ : PS} {v1 : Int32} {v2 : Int32} {q : PS} (C : Cx p R s m args c cc nL RX0 D ty A d) (h : Hw D A s H locs (wX ty o ad σ ++ rs)) (hc : X_changes σ v1 v2 = some q) (hd : 0 + 1 ≤ d) (hls : ls.size = nL) (hcat : (st.map fun v => v.category).sum ≤ 8) (dec : decode cc pc = .ok (.invokevirtual 354, 3)) (kk : ∀ (H : Heap) (locs : List Loc), Hw D A s H locs (wX ty o ad q ++ rs) → W p l e R s m args below meth c H locs 0 0 Q (F0 m (pc + 3) ls (st))) : W p l e R s m args below meth c H locs 0 0 Q (F0 m pc ls (.int v2 :: .int v1 :: .ref o :: st)) := KV.callV (As := [.int v1, .int v2]) C (kX_changes l hc) tX_changes ⟨rfl, by decide, by decide, by show _ = some 2; decide +kernel⟩ 0 0 rfl rfl rfl hd (by decide) (Nat.zero_le _) (Nat.zero_le _) h hls rfl hcat dec kk
def X_isSlot (v0 : Int32) : Option Int32 := bd (X_isIn v0.toInt64 0 3) (fun q_1 => tz q_1 (some q_1))
set_option maxHeartbeats 4000000 in
theorem kX_isSlot (l : Launch) {D : va_G} {ty : Nat → ClassId} {A : Nat → Prop} {ws : va_W} {v0 : Int32} {r : Int32} (hf : X_isSlot v0 = some r) : KI l yX0_isSlot cX0_isSlot 1 .boolean 1 D ty A ws ws [.int v0] r := by
  refine KI.of (by decide) (Nat.le_of_ble_eq_true rfl) ?_
  intro p e R s m args below meth c Q C hR
  have C : Cx p R s m args c cX0_isSlot 1 RX0 D ty A 1 := C
  have hR : ∀ (v : Int32), v = r → ∀ (H : Heap) (locs : List Loc) (pc : Nat) (ls : Array Slot), Hw D A s H locs ws → narrow .boolean (.int v) = .int v → decode cX0_isSlot pc = .ok (.ireturn, 1) → W p l e R s m args below meth c H locs 0 0 Q (F0 m pc ls [.int v]) := by intro v e9; cases e9; exact hR
  intro H locs ls h hl
  have hl : lv_has ls 1 [(0, .int v0)] := hl
  unfold X_isSlot at hf
  refine lv_iload_n C.x C.b dX0_isSlot_0 rfl (lv_at hl 0 rfl) ?_
  refine lv_i2l C.x C.b dX0_isSlot_1 rfl ?_
  refine lv_lconst (v := 0) C.x C.b dX0_isSlot_2 (by decide) ?_
  refine lv_ldc2 (v := 3) C.x C.b C.own (C.ts _ q1184) dX0_isSlot_3 ?_
  obtain ⟨q_1, hc, hf⟩ := bd_k (K := fun x => x) rfl hf
  refine cX_isIn C h hc (Nat.le_of_ble_eq_true rfl) hl.1 (Nat.le_of_ble_eq_true rfl) dX0_isSlot_6 (fun H locs h => ?_)
  obtain ⟨hz, hf⟩ := tz_k (K := fun x => x) rfl hf
  exact hR _ (some_k hf) _ _ _ _ h hz dX0_isSlot_9
theorem tX_isSlot : GoodIn lw_all (va_wsS RX0 361 yX0_isSlot (ws_ yX0_isSlot cX0_isSlot 1 (some .boolean))) := lw_S q1181 q1182 q137 q1183
theorem cX_isSlot {p : Program} {l : Launch} {e : Env} {R : Room} {s : State} {m : MethodId} {args : Array Value} {below : List Frame} {meth : Method} {c : Code} {H : Heap} {locs : List Loc} {Q : State → Prop} {cc : ByteArray} {pc : Nat} {ls : Array Slot} {st : List Value} {nL d : Nat} {D : va_G} {ty : Nat → ClassId} {A : Nat → Prop} {ws : va_W} {v0 : Int32} {q : Int32} (C : Cx p R s m args c cc nL RX0 D ty A d) (h : Hw D A s H locs ws) (hc : X_isSlot v0 = some q) (hd : 1 + 1 ≤ d) (hls : ls.size = nL) (hcat : (st.map fun v => v.category).sum ≤ 8) (dec : decode cc pc = .ok (.invokestatic 361, 3)) (kk : ∀ (H : Heap) (locs : List Loc), Hw D A s H locs ws → W p l e R s m args below meth c H locs 0 0 Q (F0 m (pc + 3) ls (.int q :: st))) : W p l e R s m args below meth c H locs 0 0 Q (F0 m pc ls (.int v0 :: st)) := KI.callS (As := [.int v0]) C (kX_isSlot l hc) tX_isSlot ⟨by decide, by decide, by show _ = some 1; decide +kernel⟩ hd (by decide) (Nat.zero_le _) (Nat.zero_le _) h hls rfl hcat dec kk
def X_isLaw (v0 : Int32) : Option Int32 := bd (X_isIn v0.toInt64 0 3) (fun q_1 => tz q_1 (some q_1))
set_option maxHeartbeats 4000000 in
theorem kX_isLaw (l : Launch) {D : va_G} {ty : Nat → ClassId} {A : Nat → Prop} {ws : va_W} {v0 : Int32} {r : Int32} (hf : X_isLaw v0 = some r) : KI l yX0_isLaw cX0_isLaw 1 .boolean 1 D ty A ws ws [.int v0] r := by
  refine KI.of (by decide) (Nat.le_of_ble_eq_true rfl) ?_
  intro p e R s m args below meth c Q C hR
  have C : Cx p R s m args c cX0_isLaw 1 RX0 D ty A 1 := C
  have hR : ∀ (v : Int32), v = r → ∀ (H : Heap) (locs : List Loc) (pc : Nat) (ls : Array Slot), Hw D A s H locs ws → narrow .boolean (.int v) = .int v → decode cX0_isLaw pc = .ok (.ireturn, 1) → W p l e R s m args below meth c H locs 0 0 Q (F0 m pc ls [.int v]) := by intro v e9; cases e9; exact hR
  intro H locs ls h hl
  have hl : lv_has ls 1 [(0, .int v0)] := hl
  unfold X_isLaw at hf
  refine lv_iload_n C.x C.b dX0_isLaw_0 rfl (lv_at hl 0 rfl) ?_
  refine lv_i2l C.x C.b dX0_isLaw_1 rfl ?_
  refine lv_lconst (v := 0) C.x C.b dX0_isLaw_2 (by decide) ?_
  refine lv_ldc2 (v := 3) C.x C.b C.own (C.ts _ q1184) dX0_isLaw_3 ?_
  obtain ⟨q_1, hc, hf⟩ := bd_k (K := fun x => x) rfl hf
  refine cX_isIn C h hc (Nat.le_of_ble_eq_true rfl) hl.1 (Nat.le_of_ble_eq_true rfl) dX0_isLaw_6 (fun H locs h => ?_)
  obtain ⟨hz, hf⟩ := tz_k (K := fun x => x) rfl hf
  exact hR _ (some_k hf) _ _ _ _ h hz dX0_isLaw_9
theorem tX_isLaw : GoodIn lw_all (va_wsS RX0 386 yX0_isLaw (ws_ yX0_isLaw cX0_isLaw 1 (some .boolean))) := lw_S q1226 q1227 q137 q1228
theorem cX_isLaw {p : Program} {l : Launch} {e : Env} {R : Room} {s : State} {m : MethodId} {args : Array Value} {below : List Frame} {meth : Method} {c : Code} {H : Heap} {locs : List Loc} {Q : State → Prop} {cc : ByteArray} {pc : Nat} {ls : Array Slot} {st : List Value} {nL d : Nat} {D : va_G} {ty : Nat → ClassId} {A : Nat → Prop} {ws : va_W} {v0 : Int32} {q : Int32} (C : Cx p R s m args c cc nL RX0 D ty A d) (h : Hw D A s H locs ws) (hc : X_isLaw v0 = some q) (hd : 1 + 1 ≤ d) (hls : ls.size = nL) (hcat : (st.map fun v => v.category).sum ≤ 8) (dec : decode cc pc = .ok (.invokestatic 386, 3)) (kk : ∀ (H : Heap) (locs : List Loc), Hw D A s H locs ws → W p l e R s m args below meth c H locs 0 0 Q (F0 m (pc + 3) ls (.int q :: st))) : W p l e R s m args below meth c H locs 0 0 Q (F0 m pc ls (.int v0 :: st)) := KI.callS (As := [.int v0]) C (kX_isLaw l hc) tX_isLaw ⟨by decide, by decide, by show _ = some 1; decide +kernel⟩ hd (by decide) (Nat.zero_le _) (Nat.zero_le _) h hls rfl hcat dec kk
def X_everyZone (σ : PS) : Option Int32 := some ((1 <<< ((gI σ 106) &&& 31)) - 1)
set_option maxHeartbeats 4000000 in
theorem kX_everyZone (l : Launch) {D : va_G} {ty : Nat → ClassId} {A : Nat → Prop} {o : Nat} {ad : Nat → Nat} {rs : va_W} {σ : PS} {r : Int32} (hf : X_everyZone σ = some r) : KI l yX0_everyZone cX0_everyZone 1 .int 0 D ty A (wX ty o ad σ ++ rs) (wX ty o ad σ ++ rs) [.ref o] r := by
  refine KI.of (by decide) (Nat.le_of_ble_eq_true rfl) ?_
  intro p e R s m args below meth c Q C hR
  have C : Cx p R s m args c cX0_everyZone 1 RX0 D ty A 0 := C
  have hR : ∀ (v : Int32), v = r → ∀ (H : Heap) (locs : List Loc) (pc : Nat) (ls : Array Slot), Hw D A s H locs (wX ty o ad σ ++ rs) → narrow .int (.int v) = .int v → decode cX0_everyZone pc = .ok (.ireturn, 1) → W p l e R s m args below meth c H locs 0 0 Q (F0 m pc ls [.int v]) := by intro v e9; cases e9; exact hR
  intro H locs ls h hl
  have hl : lv_has ls 1 [(0, .ref o)] := hl
  unfold X_everyZone at hf
  refine lv_iconst (v := 1) C.x C.b dX0_everyZone_0 (by decide) ?_
  refine lv_aload_n C.x C.b dX0_everyZone_1 rfl (lv_at hl 0 rfl) ?_
  refine x_g0 C h dX0_everyZone_2 ?_
  refine x_g106 C h dX0_everyZone_5 ?_
  refine lv_ishl C.x C.b dX0_everyZone_8 ?_
  refine lv_iconst (v := 1) C.x C.b dX0_everyZone_9 (by decide) ?_
  refine lv_isub C.x C.b dX0_everyZone_10 ?_
  exact hR _ (some_k hf) _ _ _ _ h rfl dX0_everyZone_11
theorem tX_everyZone : GoodIn lw_all (wsV RX0 399 RX0 yX0_everyZone (ws_ yX0_everyZone cX0_everyZone 1 (some .int))) := lw_V q1241 q1243 qs59 q137 q1244
theorem cX_everyZone {p : Program} {l : Launch} {e : Env} {R : Room} {s : State} {m : MethodId} {args : Array Value} {below : List Frame} {meth : Method} {c : Code} {H : Heap} {locs : List Loc} {Q : State → Prop} {cc : ByteArray} {pc : Nat} {ls : Array Slot} {st : List Value} {nL d : Nat} {D : va_G} {ty : Nat → ClassId} {A : Nat → Prop} {o : Nat} {ad : Nat → Nat} {rs : va_W} {σ : PS} {q : Int32} (C : Cx p R s m args c cc nL RX0 D ty A d) (h : Hw D A s H locs (wX ty o ad σ ++ rs)) (hc : X_everyZone σ = some q) (hd : 0 + 1 ≤ d) (hls : ls.size = nL) (hcat : (st.map fun v => v.category).sum ≤ 8) (dec : decode cc pc = .ok (.invokevirtual 399, 3)) (kk : ∀ (H : Heap) (locs : List Loc), Hw D A s H locs (wX ty o ad σ ++ rs) → W p l e R s m args below meth c H locs 0 0 Q (F0 m (pc + 3) ls (.int q :: st))) : W p l e R s m args below meth c H locs 0 0 Q (F0 m pc ls (.ref o :: st)) := KI.callV (As := []) C (kX_everyZone l hc) tX_everyZone ⟨rfl, by decide, by decide, by show _ = some 0; decide +kernel⟩ 0 0 rfl rfl rfl hd (by decide) (Nat.zero_le _) (Nat.zero_le _) h hls rfl hcat dec kk
def X_factorial_j20 (v1 : Int64) : Option Int64 := some v1
def X_factorial_l4 (v0 : Int32) (v1 : Int64) (v3 : Int32) : Option ((Int64 × Int32) ⊕ Int64) := if v0 < v3 then up (X_factorial_j20 v1) else nm (v1 * v3.toInt64) (fun v1_1 => nm (v3 + 1) (fun v3_2 => some (.inl (v1_1, v3_2))))
def X_factorial_B4 (v0 : Int32) : (Int64 × Int32) → Option ((Int64 × Int32) ⊕ Int64) := fun t => X_factorial_l4 v0 t.1 t.2
def X_factorial (v0 : Int32) : Option Int64 := loop (X_factorial_B4 v0) fu (1, 2)
set_option maxHeartbeats 4000000 in
theorem kX_factorial (l : Launch) {D : va_G} {ty : Nat → ClassId} {A : Nat → Prop} {ws : va_W} {v0 : Int32} {r : Int64} (hf : X_factorial v0 = some r) : KL l yX0_factorial cX0_factorial 4 0 D ty A ws ws [.int v0] r := by
  refine KL.of (by decide) (Nat.le_of_ble_eq_true rfl) ?_
  intro p e R s m args below meth c Q C hR
  have C : Cx p R s m args c cX0_factorial 4 RX0 D ty A 0 := C
  have hR : ∀ (v : Int64), v = r → ∀ (H : Heap) (locs : List Loc) (pc : Nat) (ls : Array Slot), Hw D A s H locs ws → decode cX0_factorial pc = .ok (.lreturn, 1) → W p l e R s m args below meth c H locs 0 0 Q (F0 m pc ls [.long v]) := by intro v e9; cases e9; exact hR
  have j20 : ∀ (v1 : Int64) (H : Heap) (locs : List Loc) (ls : Array Slot), Hw D A s H locs ws → lv_has ls 4 [(1, .long v1)] → X_factorial_j20 v1 = some r → W p l e R s m args below meth c H locs 0 0 Q (F0 m 20 ls []) := by
    intro v1 H locs ls h hl hf
    unfold X_factorial_j20 at hf
    refine lv_lload_n C.x C.b dX0_factorial_20 rfl (lv_at hl 0 rfl) ?_
    exact hR _ (some_k hf) _ _ _ _ h dX0_factorial_21
  have l4 : ∀ (n4 : Nat) (v1 : Int64) (v3 : Int32) (H : Heap) (locs : List Loc) (ls : Array Slot), Hw D A s H locs ws → lv_has ls 4 [(0, .int v0), (1, .long v1), (3, .int v3)] → loop (X_factorial_B4 v0) n4 (v1, v3) = some r → W p l e R s m args below meth c H locs 0 0 Q (F0 m 4 ls []) := by
    intro n4
    induction n4 with
    | zero => intro v1 v3 H locs ls h hl hf; exact (none_k hf).elim
    | succ n4 ih4 =>
      intro v1 v3 H locs ls h hl hf
      have hf : bl (X_factorial_B4 v0) n4 (X_factorial_l4 v0 v1 v3) = some r := hf
      unfold X_factorial_l4 at hf
      refine lv_iload_n C.x C.b dX0_factorial_4 rfl (lv_at hl 2 rfl) ?_
      refine lv_iload_n C.x C.b dX0_factorial_5 rfl (lv_at hl 0 rfl) ?_
      refine lv_icmp_gt (tgt := 20) C.x C.b dX0_factorial_6 (by decide) (fun c9 => ?_) (fun c9 => ?_)
      · have hf := if_t (K := bl (X_factorial_B4 v0) n4) c9 hf
        have hf := bl_upK (K := fun x => x) hf
        exact j20 v1 _ _ _ h (lv_sub hl [1] rfl) hf
      · have hf := if_f (K := bl (X_factorial_B4 v0) n4) c9 hf
        refine lv_lload_n C.x C.b dX0_factorial_9 rfl (lv_at hl 1 rfl) ?_
        refine lv_iload_n C.x C.b dX0_factorial_10 rfl (lv_at hl 2 rfl) ?_
        refine lv_i2l C.x C.b dX0_factorial_11 rfl ?_
        refine lv_lmul C.x C.b dX0_factorial_12 ?_
        obtain ⟨v1_1, e9, hf⟩ := nm_k (K := bl (X_factorial_B4 v0) n4) hf
        refine lv_topL e9 ?_
        refine lv_lstore_n (lv' := [(1, .long v1_1), (0, .int v0), (3, .int v3)]) C.x C.b dX0_factorial_13 rfl hl (by decide) rfl (fun ls hl => ?_)
        obtain ⟨v3_2, e9, hf⟩ := nm_k (K := bl (X_factorial_B4 v0) n4) hf
        refine lv_iinc (v := v3_2) (lv' := [(3, .int v3_2), (1, .long v1_1), (0, .int v0)]) C.x C.b dX0_factorial_14 hl (k := 2) rfl (iinc_e (k := 1) (by decide) e9) (by decide) rfl (fun ls hl => ?_)
        refine lv_goto (tgt := 4) C.x C.b dX0_factorial_17 (by decide) ?_
        exact ih4 v1_1 v3_2 _ _ _ h (lv_sub hl [2, 1, 0] rfl) hf
  intro H locs ls h hl
  have hl : lv_has ls 4 [(0, .int v0)] := hl
  unfold X_factorial at hf
  refine lv_lconst (v := 1) C.x C.b dX0_factorial_0 (by decide) ?_
  refine lv_lstore_n (lv' := [(1, .long 1), (0, .int v0)]) C.x C.b dX0_factorial_1 rfl hl (by decide) rfl (fun ls hl => ?_)
  refine lv_iconst (v := 2) C.x C.b dX0_factorial_2 (by decide) ?_
  refine lv_istore_n (lv' := [(3, .int 2), (1, .long 1), (0, .int v0)]) C.x C.b dX0_factorial_3 rfl hl (by decide) rfl (fun ls hl => ?_)
  exact l4  fu 1 2 _ _ _ h (lv_sub hl [2, 1, 0] rfl) hf
theorem tX_factorial : GoodIn lw_all (va_wsS RX0 406 yX0_factorial (ws_ yX0_factorial cX0_factorial 4 (some .long))) := lw_S q1254 q1255 q137 q1256
theorem cX_factorial {p : Program} {l : Launch} {e : Env} {R : Room} {s : State} {m : MethodId} {args : Array Value} {below : List Frame} {meth : Method} {c : Code} {H : Heap} {locs : List Loc} {Q : State → Prop} {cc : ByteArray} {pc : Nat} {ls : Array Slot} {st : List Value} {nL d : Nat} {D : va_G} {ty : Nat → ClassId} {A : Nat → Prop} {ws : va_W} {v0 : Int32} {q : Int64} (C : Cx p R s m args c cc nL RX0 D ty A d) (h : Hw D A s H locs ws) (hc : X_factorial v0 = some q) (hd : 0 + 1 ≤ d) (hls : ls.size = nL) (hcat : (st.map fun v => v.category).sum ≤ 8) (dec : decode cc pc = .ok (.invokestatic 406, 3)) (kk : ∀ (H : Heap) (locs : List Loc), Hw D A s H locs ws → W p l e R s m args below meth c H locs 0 0 Q (F0 m (pc + 3) ls (.long q :: st))) : W p l e R s m args below meth c H locs 0 0 Q (F0 m pc ls (.int v0 :: st)) := KL.callS (As := [.int v0]) C (kX_factorial l hc) tX_factorial ⟨by decide, by decide, by show _ = some 1; decide +kernel⟩ hd (by decide) (Nat.zero_le _) (Nat.zero_le _) h hls rfl hcat dec kk
def X_divisor_j34 (v4 : Int64) : Option Int64 := some v4
def X_divisor_l9 (v4 : Int64) (v6 : Int64) : Option ((Int64 × Int64) ⊕ Int64) := if (lg_cmp v6 0) = 0 then up (X_divisor_j34 v4) else nzl v6 (nm (v4 - v4 / v6 * v6) (fun v8_1 => some (.inl (v6, v8_1))))
def X_divisor_B9 : (Int64 × Int64) → Option ((Int64 × Int64) ⊕ Int64) := fun t => X_divisor_l9 t.1 t.2
def X_divisor (v0 : Int64) (v2 : Int64) : Option Int64 := nm (lab v0) (fun v4_2 => loop (X_divisor_B9) fu (v4_2, v2))
set_option maxHeartbeats 4000000 in
theorem kX_divisor (l : Launch) {D : va_G} {ty : Nat → ClassId} {A : Nat → Prop} {ws : va_W} {v0 : Int64} {v2 : Int64} {r : Int64} (hf : X_divisor v0 v2 = some r) : KL l yX0_divisor cX0_divisor 10 1 D ty A ws ws [.long v0, .long v2] r := by
  refine KL.of (by decide) (Nat.le_of_ble_eq_true rfl) ?_
  intro p e R s m args below meth c Q C hR
  have C : Cx p R s m args c cX0_divisor 10 RX0 D ty A 1 := C
  have hR : ∀ (v : Int64), v = r → ∀ (H : Heap) (locs : List Loc) (pc : Nat) (ls : Array Slot), Hw D A s H locs ws → decode cX0_divisor pc = .ok (.lreturn, 1) → W p l e R s m args below meth c H locs 0 0 Q (F0 m pc ls [.long v]) := by intro v e9; cases e9; exact hR
  have j34 : ∀ (v4 : Int64) (H : Heap) (locs : List Loc) (ls : Array Slot), Hw D A s H locs ws → lv_has ls 10 [(4, .long v4)] → X_divisor_j34 v4 = some r → W p l e R s m args below meth c H locs 0 0 Q (F0 m 34 ls []) := by
    intro v4 H locs ls h hl hf
    unfold X_divisor_j34 at hf
    refine lv_lload C.x C.b dX0_divisor_34 (lv_at hl 0 rfl) ?_
    exact hR _ (some_k hf) _ _ _ _ h dX0_divisor_36
  have l9 : ∀ (n9 : Nat) (v4 : Int64) (v6 : Int64) (H : Heap) (locs : List Loc) (ls : Array Slot), Hw D A s H locs ws → lv_has ls 10 [(4, .long v4), (6, .long v6)] → loop (X_divisor_B9) n9 (v4, v6) = some r → W p l e R s m args below meth c H locs 0 0 Q (F0 m 9 ls []) := by
    intro n9
    induction n9 with
    | zero => intro v4 v6 H locs ls h hl hf; exact (none_k hf).elim
    | succ n9 ih9 =>
      intro v4 v6 H locs ls h hl hf
      have hf : bl (X_divisor_B9) n9 (X_divisor_l9 v4 v6) = some r := hf
      unfold X_divisor_l9 at hf
      refine lv_lload C.x C.b dX0_divisor_9 (lv_at hl 1 rfl) ?_
      refine lv_lconst (v := 0) C.x C.b dX0_divisor_11 (by decide) ?_
      refine W.lcmp C.x C.b dX0_divisor_12 ?_
      refine lv_if_eq (tgt := 34) C.x C.b dX0_divisor_13 (by decide) (fun c9 => ?_) (fun c9 => ?_)
      · have hf := if_t (K := bl (X_divisor_B9) n9) c9 hf
        have hf := bl_upK (K := fun x => x) hf
        exact j34 v4 _ _ _ h (lv_sub hl [0] rfl) hf
      · have hf := if_f (K := bl (X_divisor_B9) n9) c9 hf
        refine lv_lload C.x C.b dX0_divisor_16 (lv_at hl 0 rfl) ?_
        refine lv_lload C.x C.b dX0_divisor_18 (lv_at hl 1 rfl) ?_
        obtain ⟨hz, hf⟩ := nzl_k (K := bl (X_divisor_B9) n9) rfl hf
        refine lv_lrem C.x C.b dX0_divisor_20 hz ?_
        obtain ⟨v8_1, e9, hf⟩ := nm_k (K := bl (X_divisor_B9) n9) hf
        refine lv_topL e9 ?_
        refine lv_lstore (lv' := [(8, .long v8_1), (4, .long v4), (6, .long v6)]) C.x C.b dX0_divisor_21 hl (by decide) rfl (fun ls hl => ?_)
        refine lv_lload C.x C.b dX0_divisor_23 (lv_at hl 2 rfl) ?_
        refine lv_lstore (lv' := [(4, .long v6), (8, .long v8_1), (6, .long v6)]) C.x C.b dX0_divisor_25 hl (by decide) rfl (fun ls hl => ?_)
        refine lv_lload C.x C.b dX0_divisor_27 (lv_at hl 1 rfl) ?_
        refine lv_lstore (lv' := [(6, .long v8_1), (4, .long v6), (8, .long v8_1)]) C.x C.b dX0_divisor_29 hl (by decide) rfl (fun ls hl => ?_)
        refine lv_goto (tgt := 9) C.x C.b dX0_divisor_31 (by decide) ?_
        exact ih9 v6 v8_1 _ _ _ h (lv_sub hl [1, 0] rfl) hf
  intro H locs ls h hl
  have hl : lv_has ls 10 [(0, .long v0), (2, .long v2)] := hl
  unfold X_divisor at hf
  refine lv_lload_n C.x C.b dX0_divisor_0 rfl (lv_at hl 0 rfl) ?_
  refine r_labs_X0 C h hl.1 (by decide) (Nat.le_of_ble_eq_true rfl) dX0_divisor_1 ?_
  obtain ⟨v4_2, e9, hf⟩ := nm_k (K := fun x => x) hf
  refine lv_topL e9 ?_
  refine lv_lstore (lv' := [(4, .long v4_2), (0, .long v0), (2, .long v2)]) C.x C.b dX0_divisor_4 hl (by decide) rfl (fun ls hl => ?_)
  refine lv_lload_n C.x C.b dX0_divisor_6 rfl (lv_at hl 2 rfl) ?_
  refine lv_lstore (lv' := [(6, .long v2), (4, .long v4_2), (0, .long v0), (2, .long v2)]) C.x C.b dX0_divisor_7 hl (by decide) rfl (fun ls hl => ?_)
  exact l9  fu v4_2 v2 _ _ _ h (lv_sub hl [1, 0] rfl) hf
theorem tX_divisor : GoodIn lw_all (va_wsS RX0 395 yX0_divisor (ws_ yX0_divisor cX0_divisor 10 (some .long))) := lw_S q1260 q1261 q137 q1262
theorem cX_divisor {p : Program} {l : Launch} {e : Env} {R : Room} {s : State} {m : MethodId} {args : Array Value} {below : List Frame} {meth : Method} {c : Code} {H : Heap} {locs : List Loc} {Q : State → Prop} {cc : ByteArray} {pc : Nat} {ls : Array Slot} {st : List Value} {nL d : Nat} {D : va_G} {ty : Nat → ClassId} {A : Nat → Prop} {ws : va_W} {v0 : Int64} {v2 : Int64} {q : Int64} (C : Cx p R s m args c cc nL RX0 D ty A d) (h : Hw D A s H locs ws) (hc : X_divisor v0 v2 = some q) (hd : 1 + 1 ≤ d) (hls : ls.size = nL) (hcat : (st.map fun v => v.category).sum ≤ 8) (dec : decode cc pc = .ok (.invokestatic 395, 3)) (kk : ∀ (H : Heap) (locs : List Loc), Hw D A s H locs ws → W p l e R s m args below meth c H locs 0 0 Q (F0 m (pc + 3) ls (.long q :: st))) : W p l e R s m args below meth c H locs 0 0 Q (F0 m pc ls (.long v2 :: .long v0 :: st)) := KL.callS (As := [.long v0, .long v2]) C (kX_divisor l hc) tX_divisor ⟨by decide, by decide, by show _ = some 2; decide +kernel⟩ hd (by decide) (Nat.zero_le _) (Nat.zero_le _) h hls rfl hcat dec kk
def X_areTwo_j26 (σ : PS) (x0 : Int32) : Option Int32 := tz x0 (some x0)
def X_areTwo_j25 (σ : PS) : Option Int32 := X_areTwo_j26 σ 0
def X_areTwo (σ : PS) (v1 : Int32) (v2 : Int32) : Option Int32 := bd (X_isZone σ v1) (fun q_1 => if q_1 = 0 then X_areTwo_j25 σ else bd (X_isZone σ v2) (fun q_2 => if q_2 = 0 then X_areTwo_j25 σ else if v1 = v2 then X_areTwo_j25 σ else X_areTwo_j26 σ 1))
set_option maxHeartbeats 4000000 in
theorem kX_areTwo (l : Launch) {D : va_G} {ty : Nat → ClassId} {A : Nat → Prop} {o : Nat} {ad : Nat → Nat} {rs : va_W} {σ : PS} {v1 : Int32} {v2 : Int32} {r : Int32} (hf : X_areTwo σ v1 v2 = some r) : KI l yX0_areTwo cX0_areTwo 3 .boolean 2 D ty A (wX ty o ad σ ++ rs) (wX ty o ad σ ++ rs) [.ref o, .int v1, .int v2] r := by
  refine KI.of (by decide) (Nat.le_of_ble_eq_true rfl) ?_
  intro p e R s m args below meth c Q C hR
  have C : Cx p R s m args c cX0_areTwo 3 RX0 D ty A 2 := C
  have hR : ∀ (v : Int32), v = r → ∀ (H : Heap) (locs : List Loc) (pc : Nat) (ls : Array Slot), Hw D A s H locs (wX ty o ad σ ++ rs) → narrow .boolean (.int v) = .int v → decode cX0_areTwo pc = .ok (.ireturn, 1) → W p l e R s m args below meth c H locs 0 0 Q (F0 m pc ls [.int v]) := by intro v e9; cases e9; exact hR
  have j26 : ∀ (x0 : Int32) (H : Heap) (locs : List Loc) (ls : Array Slot), Hw D A s H locs (wX ty o ad σ ++ rs) → lv_has ls 3 [] → X_areTwo_j26 σ x0 = some r → W p l e R s m args below meth c H locs 0 0 Q (F0 m 26 ls [.int x0]) := by
    intro x0 H locs ls h hl hf
    unfold X_areTwo_j26 at hf
    obtain ⟨hz, hf⟩ := tz_k (K := fun x => x) rfl hf
    exact hR _ (some_k hf) _ _ _ _ h hz dX0_areTwo_26
  have j25 : ∀ (H : Heap) (locs : List Loc) (ls : Array Slot), Hw D A s H locs (wX ty o ad σ ++ rs) → lv_has ls 3 [] → X_areTwo_j25 σ = some r → W p l e R s m args below meth c H locs 0 0 Q (F0 m 25 ls []) := by
    intro  H locs ls h hl hf
    unfold X_areTwo_j25 at hf
    refine lv_iconst (v := 0) C.x C.b dX0_areTwo_25 (by decide) ?_
    exact j26 0 _ _ _ h (lv_sub hl [] rfl) hf
  intro H locs ls h hl
  have hl : lv_has ls 3 [(0, .ref o), (1, .int v1), (2, .int v2)] := hl
  unfold X_areTwo at hf
  refine lv_aload_n C.x C.b dX0_areTwo_0 rfl (lv_at hl 0 rfl) ?_
  refine lv_iload_n C.x C.b dX0_areTwo_1 rfl (lv_at hl 1 rfl) ?_
  obtain ⟨q_1, hc, hf⟩ := bd_k (K := fun x => x) rfl hf
  refine cX_isZone C h hc (Nat.le_of_ble_eq_true rfl) hl.1 (Nat.le_of_ble_eq_true rfl) dX0_areTwo_2 (fun H locs h => ?_)
  refine lv_if_eq (tgt := 25) C.x C.b dX0_areTwo_5 (by decide) (fun c9 => ?_) (fun c9 => ?_)
  · have hf := if_t (K := fun x => x) c9 hf
    exact j25  _ _ _ h (lv_sub hl [] rfl) hf
  · have hf := if_f (K := fun x => x) c9 hf
    refine lv_aload_n C.x C.b dX0_areTwo_8 rfl (lv_at hl 0 rfl) ?_
    refine lv_iload_n C.x C.b dX0_areTwo_9 rfl (lv_at hl 2 rfl) ?_
    obtain ⟨q_2, hc, hf⟩ := bd_k (K := fun x => x) rfl hf
    refine cX_isZone C h hc (Nat.le_of_ble_eq_true rfl) hl.1 (Nat.le_of_ble_eq_true rfl) dX0_areTwo_10 (fun H locs h => ?_)
    refine lv_if_eq (tgt := 25) C.x C.b dX0_areTwo_13 (by decide) (fun c9 => ?_) (fun c9 => ?_)
    · have hf := if_t (K := fun x => x) c9 hf
      exact j25  _ _ _ h (lv_sub hl [] rfl) hf
    · have hf := if_f (K := fun x => x) c9 hf
      refine lv_iload_n C.x C.b dX0_areTwo_16 rfl (lv_at hl 1 rfl) ?_
      refine lv_iload_n C.x C.b dX0_areTwo_17 rfl (lv_at hl 2 rfl) ?_
      refine lv_icmp_eq (tgt := 25) C.x C.b dX0_areTwo_18 (by decide) (fun c9 => ?_) (fun c9 => ?_)
      · have hf := if_t (K := fun x => x) c9 hf
        exact j25  _ _ _ h (lv_sub hl [] rfl) hf
      · have hf := if_f (K := fun x => x) c9 hf
        refine lv_iconst (v := 1) C.x C.b dX0_areTwo_21 (by decide) ?_
        refine lv_goto (tgt := 26) C.x C.b dX0_areTwo_22 (by decide) ?_
        exact j26 1 _ _ _ h (lv_sub hl [] rfl) hf
theorem tX_areTwo : GoodIn lw_all (wsV RX0 413 RX0 yX0_areTwo (ws_ yX0_areTwo cX0_areTwo 3 (some .boolean))) := lw_V q1270 q1272 qs61 q137 q1273
theorem cX_areTwo {p : Program} {l : Launch} {e : Env} {R : Room} {s : State} {m : MethodId} {args : Array Value} {below : List Frame} {meth : Method} {c : Code} {H : Heap} {locs : List Loc} {Q : State → Prop} {cc : ByteArray} {pc : Nat} {ls : Array Slot} {st : List Value} {nL d : Nat} {D : va_G} {ty : Nat → ClassId} {A : Nat → Prop} {o : Nat} {ad : Nat → Nat} {rs : va_W} {σ : PS} {v1 : Int32} {v2 : Int32} {q : Int32} (C : Cx p R s m args c cc nL RX0 D ty A d) (h : Hw D A s H locs (wX ty o ad σ ++ rs)) (hc : X_areTwo σ v1 v2 = some q) (hd : 2 + 1 ≤ d) (hls : ls.size = nL) (hcat : (st.map fun v => v.category).sum ≤ 8) (dec : decode cc pc = .ok (.invokevirtual 413, 3)) (kk : ∀ (H : Heap) (locs : List Loc), Hw D A s H locs (wX ty o ad σ ++ rs) → W p l e R s m args below meth c H locs 0 0 Q (F0 m (pc + 3) ls (.int q :: st))) : W p l e R s m args below meth c H locs 0 0 Q (F0 m pc ls (.int v2 :: .int v1 :: .ref o :: st)) := KI.callV (As := [.int v1, .int v2]) C (kX_areTwo l hc) tX_areTwo ⟨rfl, by decide, by decide, by show _ = some 2; decide +kernel⟩ 0 0 rfl rfl rfl hd (by decide) (Nat.zero_le _) (Nat.zero_le _) h hls rfl hcat dec kk
def X_isChance_j26 (σ : PS) (x0 : Int32) : Option Int32 := tz x0 (some x0)
def X_isChance_j25 (σ : PS) : Option Int32 := X_isChance_j26 σ 0
def X_isChance (σ : PS) (v1 : Int32) : Option Int32 := bd (X_isStep σ v1.toInt64) (fun q_1 => if q_1 = 0 then X_isChance_j25 σ else bd (X_isIn v1.toInt64 1 8) (fun q_2 => if q_2 = 0 then X_isChance_j25 σ else X_isChance_j26 σ 1))
set_option maxHeartbeats 4000000 in
theorem kX_isChance (l : Launch) {D : va_G} {ty : Nat → ClassId} {A : Nat → Prop} {o : Nat} {ad : Nat → Nat} {rs : va_W} {σ : PS} {v1 : Int32} {r : Int32} (hf : X_isChance σ v1 = some r) : KI l yX0_isChance cX0_isChance 2 .boolean 2 D ty A (wX ty o ad σ ++ rs) (wX ty o ad σ ++ rs) [.ref o, .int v1] r := by
  refine KI.of (by decide) (Nat.le_of_ble_eq_true rfl) ?_
  intro p e R s m args below meth c Q C hR
  have C : Cx p R s m args c cX0_isChance 2 RX0 D ty A 2 := C
  have hR : ∀ (v : Int32), v = r → ∀ (H : Heap) (locs : List Loc) (pc : Nat) (ls : Array Slot), Hw D A s H locs (wX ty o ad σ ++ rs) → narrow .boolean (.int v) = .int v → decode cX0_isChance pc = .ok (.ireturn, 1) → W p l e R s m args below meth c H locs 0 0 Q (F0 m pc ls [.int v]) := by intro v e9; cases e9; exact hR
  have j26 : ∀ (x0 : Int32) (H : Heap) (locs : List Loc) (ls : Array Slot), Hw D A s H locs (wX ty o ad σ ++ rs) → lv_has ls 2 [] → X_isChance_j26 σ x0 = some r → W p l e R s m args below meth c H locs 0 0 Q (F0 m 26 ls [.int x0]) := by
    intro x0 H locs ls h hl hf
    unfold X_isChance_j26 at hf
    obtain ⟨hz, hf⟩ := tz_k (K := fun x => x) rfl hf
    exact hR _ (some_k hf) _ _ _ _ h hz dX0_isChance_26
  have j25 : ∀ (H : Heap) (locs : List Loc) (ls : Array Slot), Hw D A s H locs (wX ty o ad σ ++ rs) → lv_has ls 2 [] → X_isChance_j25 σ = some r → W p l e R s m args below meth c H locs 0 0 Q (F0 m 25 ls []) := by
    intro  H locs ls h hl hf
    unfold X_isChance_j25 at hf
    refine lv_iconst (v := 0) C.x C.b dX0_isChance_25 (by decide) ?_
    exact j26 0 _ _ _ h (lv_sub hl [] rfl) hf
  intro H locs ls h hl
  have hl : lv_has ls 2 [(0, .ref o), (1, .int v1)] := hl
  unfold X_isChance at hf
  refine lv_aload_n C.x C.b dX0_isChance_0 rfl (lv_at hl 0 rfl) ?_
  refine lv_iload_n C.x C.b dX0_isChance_1 rfl (lv_at hl 1 rfl) ?_
  refine lv_i2l C.x C.b dX0_isChance_2 rfl ?_
  obtain ⟨q_1, hc, hf⟩ := bd_k (K := fun x => x) rfl hf
  refine cX_isStep C h hc (Nat.le_of_ble_eq_true rfl) hl.1 (Nat.le_of_ble_eq_true rfl) dX0_isChance_3 (fun H locs h => ?_)
  refine lv_if_eq (tgt := 25) C.x C.b dX0_isChance_6 (by decide) (fun c9 => ?_) (fun c9 => ?_)
  · have hf := if_t (K := fun x => x) c9 hf
    exact j25  _ _ _ h (lv_sub hl [] rfl) hf
  · have hf := if_f (K := fun x => x) c9 hf
    refine lv_iload_n C.x C.b dX0_isChance_9 rfl (lv_at hl 1 rfl) ?_
    refine lv_i2l C.x C.b dX0_isChance_10 rfl ?_
    refine lv_lconst (v := 1) C.x C.b dX0_isChance_11 (by decide) ?_
    refine lv_ldc2 (v := 8) C.x C.b C.own (C.ts _ q1290) dX0_isChance_12 ?_
    obtain ⟨q_2, hc, hf⟩ := bd_k (K := fun x => x) rfl hf
    refine cX_isIn C h hc (Nat.le_of_ble_eq_true rfl) hl.1 (Nat.le_of_ble_eq_true rfl) dX0_isChance_15 (fun H locs h => ?_)
    refine lv_if_eq (tgt := 25) C.x C.b dX0_isChance_18 (by decide) (fun c9 => ?_) (fun c9 => ?_)
    · have hf := if_t (K := fun x => x) c9 hf
      exact j25  _ _ _ h (lv_sub hl [] rfl) hf
    · have hf := if_f (K := fun x => x) c9 hf
      refine lv_iconst (v := 1) C.x C.b dX0_isChance_21 (by decide) ?_
      refine lv_goto (tgt := 26) C.x C.b dX0_isChance_22 (by decide) ?_
      exact j26 1 _ _ _ h (lv_sub hl [] rfl) hf
theorem tX_isChance : GoodIn lw_all (wsV RX0 435 RX0 yX0_isChance (ws_ yX0_isChance cX0_isChance 2 (some .boolean))) := lw_V q1286 q1288 qs63 q137 q1289
theorem cX_isChance {p : Program} {l : Launch} {e : Env} {R : Room} {s : State} {m : MethodId} {args : Array Value} {below : List Frame} {meth : Method} {c : Code} {H : Heap} {locs : List Loc} {Q : State → Prop} {cc : ByteArray} {pc : Nat} {ls : Array Slot} {st : List Value} {nL d : Nat} {D : va_G} {ty : Nat → ClassId} {A : Nat → Prop} {o : Nat} {ad : Nat → Nat} {rs : va_W} {σ : PS} {v1 : Int32} {q : Int32} (C : Cx p R s m args c cc nL RX0 D ty A d) (h : Hw D A s H locs (wX ty o ad σ ++ rs)) (hc : X_isChance σ v1 = some q) (hd : 2 + 1 ≤ d) (hls : ls.size = nL) (hcat : (st.map fun v => v.category).sum ≤ 8) (dec : decode cc pc = .ok (.invokevirtual 435, 3)) (kk : ∀ (H : Heap) (locs : List Loc), Hw D A s H locs (wX ty o ad σ ++ rs) → W p l e R s m args below meth c H locs 0 0 Q (F0 m (pc + 3) ls (.int q :: st))) : W p l e R s m args below meth c H locs 0 0 Q (F0 m pc ls (.int v1 :: .ref o :: st)) := KI.callV (As := [.int v1]) C (kX_isChance l hc) tX_isChance ⟨rfl, by decide, by decide, by show _ = some 1; decide +kernel⟩ 0 0 rfl rfl rfl hd (by decide) (Nat.zero_le _) (Nat.zero_le _) h hls rfl hcat dec kk
def X_isSeed (v0 : Int32) : Option Int32 := bd (X_isIn v0.toInt64 0 2000000000) (fun q_1 => tz q_1 (some q_1))
set_option maxHeartbeats 4000000 in
theorem kX_isSeed (l : Launch) {D : va_G} {ty : Nat → ClassId} {A : Nat → Prop} {ws : va_W} {v0 : Int32} {r : Int32} (hf : X_isSeed v0 = some r) : KI l yX0_isSeed cX0_isSeed 1 .boolean 1 D ty A ws ws [.int v0] r := by
  refine KI.of (by decide) (Nat.le_of_ble_eq_true rfl) ?_
  intro p e R s m args below meth c Q C hR
  have C : Cx p R s m args c cX0_isSeed 1 RX0 D ty A 1 := C
  have hR : ∀ (v : Int32), v = r → ∀ (H : Heap) (locs : List Loc) (pc : Nat) (ls : Array Slot), Hw D A s H locs ws → narrow .boolean (.int v) = .int v → decode cX0_isSeed pc = .ok (.ireturn, 1) → W p l e R s m args below meth c H locs 0 0 Q (F0 m pc ls [.int v]) := by intro v e9; cases e9; exact hR
  intro H locs ls h hl
  have hl : lv_has ls 1 [(0, .int v0)] := hl
  unfold X_isSeed at hf
  refine lv_iload_n C.x C.b dX0_isSeed_0 rfl (lv_at hl 0 rfl) ?_
  refine lv_i2l C.x C.b dX0_isSeed_1 rfl ?_
  refine lv_lconst (v := 0) C.x C.b dX0_isSeed_2 (by decide) ?_
  refine lv_ldc2 (v := 2000000000) C.x C.b C.own (C.ts _ q1307) dX0_isSeed_3 ?_
  obtain ⟨q_1, hc, hf⟩ := bd_k (K := fun x => x) rfl hf
  refine cX_isIn C h hc (Nat.le_of_ble_eq_true rfl) hl.1 (Nat.le_of_ble_eq_true rfl) dX0_isSeed_6 (fun H locs h => ?_)
  obtain ⟨hz, hf⟩ := tz_k (K := fun x => x) rfl hf
  exact hR _ (some_k hf) _ _ _ _ h hz dX0_isSeed_9
theorem tX_isSeed : GoodIn lw_all (va_wsS RX0 453 yX0_isSeed (ws_ yX0_isSeed cX0_isSeed 1 (some .boolean))) := lw_S q1304 q1305 q137 q1306
theorem cX_isSeed {p : Program} {l : Launch} {e : Env} {R : Room} {s : State} {m : MethodId} {args : Array Value} {below : List Frame} {meth : Method} {c : Code} {H : Heap} {locs : List Loc} {Q : State → Prop} {cc : ByteArray} {pc : Nat} {ls : Array Slot} {st : List Value} {nL d : Nat} {D : va_G} {ty : Nat → ClassId} {A : Nat → Prop} {ws : va_W} {v0 : Int32} {q : Int32} (C : Cx p R s m args c cc nL RX0 D ty A d) (h : Hw D A s H locs ws) (hc : X_isSeed v0 = some q) (hd : 1 + 1 ≤ d) (hls : ls.size = nL) (hcat : (st.map fun v => v.category).sum ≤ 8) (dec : decode cc pc = .ok (.invokestatic 453, 3)) (kk : ∀ (H : Heap) (locs : List Loc), Hw D A s H locs ws → W p l e R s m args below meth c H locs 0 0 Q (F0 m (pc + 3) ls (.int q :: st))) : W p l e R s m args below meth c H locs 0 0 Q (F0 m pc ls (.int v0 :: st)) := KI.callS (As := [.int v0]) C (kX_isSeed l hc) tX_isSeed ⟨by decide, by decide, by show _ = some 1; decide +kernel⟩ hd (by decide) (Nat.zero_le _) (Nat.zero_le _) h hls rfl hcat dec kk
def X_undo (σ : PS) : Option (Int32 × PS) := bd (X_isLehr σ) (fun q_1 => if q_1 = 0 then some ((-2), σ) else if (gI σ 108) = 0 then some ((-5), σ) else nm (sI σ 108 ((gI σ 108) - 1)) (fun σ_2 => some (gI σ_2 108, σ_2)))
set_option maxHeartbeats 4000000 in
theorem kX_undo (l : Launch) {D : va_G} {ty : Nat → ClassId} {A : Nat → Prop} {o : Nat} {ad : Nat → Nat} {rs : va_W} {σ : PS} {σ' : PS} {r : Int32} (hf : X_undo σ = some (r, σ')) : KI l yX0_undo cX0_undo 1 .int 1 D ty A (wX ty o ad σ ++ rs) (wX ty o ad σ' ++ rs) [.ref o] r := by
  refine KI.of (by decide) (Nat.le_of_ble_eq_true rfl) ?_
  intro p e R s m args below meth c Q C hR
  have C : Cx p R s m args c cX0_undo 1 RX0 D ty A 1 := C
  have hR : ∀ (v : Int32) (σ2 : PS), (v, σ2) = (r, σ') → ∀ (H : Heap) (locs : List Loc) (pc : Nat) (ls : Array Slot), Hw D A s H locs (wX ty o ad σ2 ++ rs) → narrow .int (.int v) = .int v → decode cX0_undo pc = .ok (.ireturn, 1) → W p l e R s m args below meth c H locs 0 0 Q (F0 m pc ls [.int v]) := by intro v σ2 e9; cases e9; exact hR
  intro H locs ls h hl
  have hl : lv_has ls 1 [(0, .ref o)] := hl
  unfold X_undo at hf
  refine lv_aload_n C.x C.b dX0_undo_0 rfl (lv_at hl 0 rfl) ?_
  obtain ⟨q_1, hc, hf⟩ := bd_k (K := fun x => x) rfl hf
  refine cX_isLehr C h hc (Nat.le_of_ble_eq_true rfl) hl.1 (Nat.le_of_ble_eq_true rfl) dX0_undo_1 (fun H locs h => ?_)
  refine lv_if_ne (tgt := 10) C.x C.b dX0_undo_4 (by decide) (fun c9 => ?_) (fun c9 => ?_)
  · have hf := if_f (K := fun x => x) c9 hf
    refine lv_aload_n C.x C.b dX0_undo_10 rfl (lv_at hl 0 rfl) ?_
    refine x_g0 C h dX0_undo_11 ?_
    refine x_g108 C h dX0_undo_14 ?_
    refine lv_if_ne (tgt := 23) C.x C.b dX0_undo_17 (by decide) (fun c9 => ?_) (fun c9 => ?_)
    · have hf := if_f (K := fun x => x) c9 hf
      refine lv_aload_n C.x C.b dX0_undo_23 rfl (lv_at hl 0 rfl) ?_
      refine x_g0 C h dX0_undo_24 ?_
      refine lv_dup C.x C.b dX0_undo_27 rfl ?_
      refine x_g108 C h dX0_undo_28 ?_
      refine lv_iconst (v := 1) C.x C.b dX0_undo_31 (by decide) ?_
      refine lv_isub C.x C.b dX0_undo_32 ?_
      obtain ⟨σ_2, e9, hf⟩ := nm_k (K := fun x => x) hf
      refine x_p108 C h e9 dX0_undo_33 (fun H locs h => ?_)
      refine lv_aload_n C.x C.b dX0_undo_36 rfl (lv_at hl 0 rfl) ?_
      refine x_g0 C h dX0_undo_37 ?_
      refine x_g108 C h dX0_undo_40 ?_
      exact hR _ _ (some_k hf) _ _ _ _ h rfl dX0_undo_43
    · have hf := if_t (K := fun x => x) c9 hf
      refine lv_bipush (v := (-5)) C.x C.b dX0_undo_20 (by decide) ?_
      exact hR _ _ (some_k hf) _ _ _ _ h rfl dX0_undo_22
  · have hf := if_t (K := fun x => x) c9 hf
    refine lv_bipush (v := (-2)) C.x C.b dX0_undo_7 (by decide) ?_
    exact hR _ _ (some_k hf) _ _ _ _ h rfl dX0_undo_9
def X_anew (σ : PS) : Option (Int32 × PS) := bd (X_isLehr σ) (fun q_1 => if q_1 = 0 then some ((-2), σ) else nm (gI σ 108) (fun v1_2 => nm (sI σ 108 0) (fun σ_3 => some (v1_2, σ_3))))
set_option maxHeartbeats 4000000 in
theorem kX_anew (l : Launch) {D : va_G} {ty : Nat → ClassId} {A : Nat → Prop} {o : Nat} {ad : Nat → Nat} {rs : va_W} {σ : PS} {σ' : PS} {r : Int32} (hf : X_anew σ = some (r, σ')) : KI l yX0_anew cX0_anew 2 .int 1 D ty A (wX ty o ad σ ++ rs) (wX ty o ad σ' ++ rs) [.ref o] r := by
  refine KI.of (by decide) (Nat.le_of_ble_eq_true rfl) ?_
  intro p e R s m args below meth c Q C hR
  have C : Cx p R s m args c cX0_anew 2 RX0 D ty A 1 := C
  have hR : ∀ (v : Int32) (σ2 : PS), (v, σ2) = (r, σ') → ∀ (H : Heap) (locs : List Loc) (pc : Nat) (ls : Array Slot), Hw D A s H locs (wX ty o ad σ2 ++ rs) → narrow .int (.int v) = .int v → decode cX0_anew pc = .ok (.ireturn, 1) → W p l e R s m args below meth c H locs 0 0 Q (F0 m pc ls [.int v]) := by intro v σ2 e9; cases e9; exact hR
  intro H locs ls h hl
  have hl : lv_has ls 2 [(0, .ref o)] := hl
  unfold X_anew at hf
  refine lv_aload_n C.x C.b dX0_anew_0 rfl (lv_at hl 0 rfl) ?_
  obtain ⟨q_1, hc, hf⟩ := bd_k (K := fun x => x) rfl hf
  refine cX_isLehr C h hc (Nat.le_of_ble_eq_true rfl) hl.1 (Nat.le_of_ble_eq_true rfl) dX0_anew_1 (fun H locs h => ?_)
  refine lv_if_ne (tgt := 10) C.x C.b dX0_anew_4 (by decide) (fun c9 => ?_) (fun c9 => ?_)
  · have hf := if_f (K := fun x => x) c9 hf
    refine lv_aload_n C.x C.b dX0_anew_10 rfl (lv_at hl 0 rfl) ?_
    refine x_g0 C h dX0_anew_11 ?_
    refine x_g108 C h dX0_anew_14 ?_
    obtain ⟨v1_2, e9, hf⟩ := nm_k (K := fun x => x) hf
    refine lv_topI e9 ?_
    refine lv_istore_n (lv' := [(1, .int v1_2), (0, .ref o)]) C.x C.b dX0_anew_17 rfl hl (by decide) rfl (fun ls hl => ?_)
    refine lv_aload_n C.x C.b dX0_anew_18 rfl (lv_at hl 1 rfl) ?_
    refine x_g0 C h dX0_anew_19 ?_
    refine lv_iconst (v := 0) C.x C.b dX0_anew_22 (by decide) ?_
    obtain ⟨σ_3, e9, hf⟩ := nm_k (K := fun x => x) hf
    refine x_p108 C h e9 dX0_anew_23 (fun H locs h => ?_)
    refine lv_iload_n C.x C.b dX0_anew_26 rfl (lv_at hl 0 rfl) ?_
    exact hR _ _ (some_k hf) _ _ _ _ h rfl dX0_anew_27
  · have hf := if_t (K := fun x => x) c9 hf
    refine lv_bipush (v := (-2)) C.x C.b dX0_anew_7 (by decide) ?_
    exact hR _ _ (some_k hf) _ _ _ _ h rfl dX0_anew_9
def X_rate_j21 (σ : PS) : Option (Int32 × PS) := some ((-2), σ)
def X_rate (σ : PS) (v1 : Int32) (v2 : Int32) : Option (Int32 × PS) := bd (X_isPiece σ v1.toInt64) (fun q_1 => if q_1 = 0 then X_rate_j21 σ else bd (X_isIn v2.toInt64 0 300) (fun q_2 => if q_2 = 0 then X_rate_j21 σ else if (gI σ 108) ≤ 0 then ix v1 6 (nm (rA σ 112 v1) (fun v3_3 => ix v1 6 (nm (wA σ 112 v1 v2) (fun σ_4 => some (v3_3, σ_4))))) else some ((-5), σ)))
set_option maxHeartbeats 4000000 in
theorem kX_rate (l : Launch) {D : va_G} {ty : Nat → ClassId} {A : Nat → Prop} {o : Nat} {ad : Nat → Nat} {rs : va_W} {σ : PS} {σ' : PS} {v1 : Int32} {v2 : Int32} {r : Int32} (hf : X_rate σ v1 v2 = some (r, σ')) : KI l yX0_rate cX0_rate 4 .int 2 D ty A (wX ty o ad σ ++ rs) (wX ty o ad σ' ++ rs) [.ref o, .int v1, .int v2] r := by
  refine KI.of (by decide) (Nat.le_of_ble_eq_true rfl) ?_
  intro p e R s m args below meth c Q C hR
  have C : Cx p R s m args c cX0_rate 4 RX0 D ty A 2 := C
  have hR : ∀ (v : Int32) (σ2 : PS), (v, σ2) = (r, σ') → ∀ (H : Heap) (locs : List Loc) (pc : Nat) (ls : Array Slot), Hw D A s H locs (wX ty o ad σ2 ++ rs) → narrow .int (.int v) = .int v → decode cX0_rate pc = .ok (.ireturn, 1) → W p l e R s m args below meth c H locs 0 0 Q (F0 m pc ls [.int v]) := by intro v σ2 e9; cases e9; exact hR
  have j21 : ∀ (σ : PS) (H : Heap) (locs : List Loc) (ls : Array Slot), Hw D A s H locs (wX ty o ad σ ++ rs) → lv_has ls 4 [] → X_rate_j21 σ = some (r, σ') → W p l e R s m args below meth c H locs 0 0 Q (F0 m 21 ls []) := by
    intro σ H locs ls h hl hf
    unfold X_rate_j21 at hf
    refine lv_bipush (v := (-2)) C.x C.b dX0_rate_21 (by decide) ?_
    exact hR _ _ (some_k hf) _ _ _ _ h rfl dX0_rate_23
  intro H locs ls h hl
  have hl : lv_has ls 4 [(0, .ref o), (1, .int v1), (2, .int v2)] := hl
  unfold X_rate at hf
  refine lv_aload_n C.x C.b dX0_rate_0 rfl (lv_at hl 0 rfl) ?_
  refine lv_iload_n C.x C.b dX0_rate_1 rfl (lv_at hl 1 rfl) ?_
  refine lv_i2l C.x C.b dX0_rate_2 rfl ?_
  obtain ⟨q_1, hc, hf⟩ := bd_k (K := fun x => x) rfl hf
  refine cX_isPiece C h hc (Nat.le_of_ble_eq_true rfl) hl.1 (Nat.le_of_ble_eq_true rfl) dX0_rate_3 (fun H locs h => ?_)
  refine lv_if_eq (tgt := 21) C.x C.b dX0_rate_6 (by decide) (fun c9 => ?_) (fun c9 => ?_)
  · have hf := if_t (K := fun x => x) c9 hf
    exact j21 σ _ _ _ h (lv_sub hl [] rfl) hf
  · have hf := if_f (K := fun x => x) c9 hf
    refine lv_iload_n C.x C.b dX0_rate_9 rfl (lv_at hl 2 rfl) ?_
    refine lv_i2l C.x C.b dX0_rate_10 rfl ?_
    refine lv_lconst (v := 0) C.x C.b dX0_rate_11 (by decide) ?_
    refine lv_ldc2 (v := 300) C.x C.b C.own (C.ts _ q1347) dX0_rate_12 ?_
    obtain ⟨q_2, hc, hf⟩ := bd_k (K := fun x => x) rfl hf
    refine cX_isIn C h hc (Nat.le_of_ble_eq_true rfl) hl.1 (Nat.le_of_ble_eq_true rfl) dX0_rate_15 (fun H locs h => ?_)
    refine lv_if_ne (tgt := 24) C.x C.b dX0_rate_18 (by decide) (fun c9 => ?_) (fun c9 => ?_)
    · have hf := if_f (K := fun x => x) c9 hf
      refine lv_aload_n C.x C.b dX0_rate_24 rfl (lv_at hl 0 rfl) ?_
      refine x_g0 C h dX0_rate_25 ?_
      refine x_g108 C h dX0_rate_28 ?_
      refine lv_if_le (tgt := 37) C.x C.b dX0_rate_31 (by decide) (fun c9 => ?_) (fun c9 => ?_)
      · have hf := if_t (K := fun x => x) c9 hf
        refine lv_aload_n C.x C.b dX0_rate_37 rfl (lv_at hl 0 rfl) ?_
        refine x_g0 C h dX0_rate_38 ?_
        refine x_g112 C h dX0_rate_41 ?_
        refine lv_iload_n C.x C.b dX0_rate_44 rfl (lv_at hl 1 rfl) ?_
        obtain ⟨hi, hf⟩ := ix_k (K := fun x => x) rfl hf
        refine x_a112 C h hi dX0_rate_45 ?_
        obtain ⟨v3_3, e9, hf⟩ := nm_k (K := fun x => x) hf
        refine lv_topI e9 ?_
        refine lv_istore_n (lv' := [(3, .int v3_3), (0, .ref o), (1, .int v1), (2, .int v2)]) C.x C.b dX0_rate_46 rfl hl (by decide) rfl (fun ls hl => ?_)
        refine lv_aload_n C.x C.b dX0_rate_47 rfl (lv_at hl 1 rfl) ?_
        refine x_g0 C h dX0_rate_48 ?_
        refine x_g112 C h dX0_rate_51 ?_
        refine lv_iload_n C.x C.b dX0_rate_54 rfl (lv_at hl 2 rfl) ?_
        refine lv_iload_n C.x C.b dX0_rate_55 rfl (lv_at hl 3 rfl) ?_
        obtain ⟨hi, hf⟩ := ix_k (K := fun x => x) rfl hf
        obtain ⟨σ_4, e9, hf⟩ := nm_k (K := fun x => x) hf
        refine x_w112 C h hi e9 dX0_rate_56 (fun H locs h => ?_)
        refine lv_iload_n C.x C.b dX0_rate_57 rfl (lv_at hl 0 rfl) ?_
        exact hR _ _ (some_k hf) _ _ _ _ h rfl dX0_rate_58
      · have hf := if_f (K := fun x => x) c9 hf
        refine lv_bipush (v := (-5)) C.x C.b dX0_rate_34 (by decide) ?_
        exact hR _ _ (some_k hf) _ _ _ _ h rfl dX0_rate_36
    · have hf := if_t (K := fun x => x) c9 hf
      exact j21 σ _ _ _ h (lv_sub hl [] rfl) hf
def X_feed (σ : PS) (v1 : Int32) (v2 : Int32) (v3 : Int32) (v4 : Int32) (v5 : Int32) : Option (Int32 × PS) := if ((gI σ 2) + 20) ≤ 600 then bd (X_puts σ v1) (fun q_1 => bd (X_puts q_1 v2) (fun q_2 => bd (X_puts q_2 v3) (fun q_3 => bd (X_puts q_3 v4) (fun q_4 => bd (X_puts q_4 v5) (fun q_5 => some (gI q_5 2, q_5)))))) else some ((-1), σ)
set_option maxHeartbeats 4000000 in
theorem kX_feed (l : Launch) {D : va_G} {ty : Nat → ClassId} {A : Nat → Prop} {o : Nat} {ad : Nat → Nat} {rs : va_W} {σ : PS} {σ' : PS} {v1 : Int32} {v2 : Int32} {v3 : Int32} {v4 : Int32} {v5 : Int32} {r : Int32} (hf : X_feed σ v1 v2 v3 v4 v5 = some (r, σ')) : KI l yX0_feed cX0_feed 6 .int 1 D ty A (wX ty o ad σ ++ rs) (wX ty o ad σ' ++ rs) [.ref o, .int v1, .int v2, .int v3, .int v4, .int v5] r := by
  refine KI.of (by decide) (Nat.le_of_ble_eq_true rfl) ?_
  intro p e R s m args below meth c Q C hR
  have C : Cx p R s m args c cX0_feed 6 RX0 D ty A 1 := C
  have hR : ∀ (v : Int32) (σ2 : PS), (v, σ2) = (r, σ') → ∀ (H : Heap) (locs : List Loc) (pc : Nat) (ls : Array Slot), Hw D A s H locs (wX ty o ad σ2 ++ rs) → narrow .int (.int v) = .int v → decode cX0_feed pc = .ok (.ireturn, 1) → W p l e R s m args below meth c H locs 0 0 Q (F0 m pc ls [.int v]) := by intro v σ2 e9; cases e9; exact hR
  intro H locs ls h hl
  have hl : lv_has ls 6 [(0, .ref o), (1, .int v1), (2, .int v2), (3, .int v3), (4, .int v4), (5, .int v5)] := hl
  unfold X_feed at hf
  refine lv_aload_n C.x C.b dX0_feed_0 rfl (lv_at hl 0 rfl) ?_
  refine x_g2 C h dX0_feed_1 ?_
  refine lv_bipush (v := 20) C.x C.b dX0_feed_4 (by decide) ?_
  refine lv_iadd C.x C.b dX0_feed_6 ?_
  refine lv_sipush (v := 600) C.x C.b dX0_feed_7 (by decide) ?_
  refine lv_icmp_le (tgt := 15) C.x C.b dX0_feed_10 (by decide) (fun c9 => ?_) (fun c9 => ?_)
  · have hf := if_t (K := fun x => x) c9 hf
    refine lv_aload_n C.x C.b dX0_feed_15 rfl (lv_at hl 0 rfl) ?_
    refine lv_iload_n C.x C.b dX0_feed_16 rfl (lv_at hl 1 rfl) ?_
    obtain ⟨q_1, hc, hf⟩ := bd_k (K := fun x => x) rfl hf
    refine cX_puts C h hc (Nat.le_of_ble_eq_true rfl) hl.1 (Nat.le_of_ble_eq_true rfl) dX0_feed_17 (fun H locs h => ?_)
    refine lv_aload_n C.x C.b dX0_feed_20 rfl (lv_at hl 0 rfl) ?_
    refine lv_iload_n C.x C.b dX0_feed_21 rfl (lv_at hl 2 rfl) ?_
    obtain ⟨q_2, hc, hf⟩ := bd_k (K := fun x => x) rfl hf
    refine cX_puts C h hc (Nat.le_of_ble_eq_true rfl) hl.1 (Nat.le_of_ble_eq_true rfl) dX0_feed_22 (fun H locs h => ?_)
    refine lv_aload_n C.x C.b dX0_feed_25 rfl (lv_at hl 0 rfl) ?_
    refine lv_iload_n C.x C.b dX0_feed_26 rfl (lv_at hl 3 rfl) ?_
    obtain ⟨q_3, hc, hf⟩ := bd_k (K := fun x => x) rfl hf
    refine cX_puts C h hc (Nat.le_of_ble_eq_true rfl) hl.1 (Nat.le_of_ble_eq_true rfl) dX0_feed_27 (fun H locs h => ?_)
    refine lv_aload_n C.x C.b dX0_feed_30 rfl (lv_at hl 0 rfl) ?_
    refine lv_iload C.x C.b dX0_feed_31 (lv_at hl 4 rfl) ?_
    obtain ⟨q_4, hc, hf⟩ := bd_k (K := fun x => x) rfl hf
    refine cX_puts C h hc (Nat.le_of_ble_eq_true rfl) hl.1 (Nat.le_of_ble_eq_true rfl) dX0_feed_33 (fun H locs h => ?_)
    refine lv_aload_n C.x C.b dX0_feed_36 rfl (lv_at hl 0 rfl) ?_
    refine lv_iload C.x C.b dX0_feed_37 (lv_at hl 5 rfl) ?_
    obtain ⟨q_5, hc, hf⟩ := bd_k (K := fun x => x) rfl hf
    refine cX_puts C h hc (Nat.le_of_ble_eq_true rfl) hl.1 (Nat.le_of_ble_eq_true rfl) dX0_feed_39 (fun H locs h => ?_)
    refine lv_aload_n C.x C.b dX0_feed_42 rfl (lv_at hl 0 rfl) ?_
    refine x_g2 C h dX0_feed_43 ?_
    exact hR _ _ (some_k hf) _ _ _ _ h rfl dX0_feed_46
  · have hf := if_f (K := fun x => x) c9 hf
    refine lv_iconst (v := (-1)) C.x C.b dX0_feed_13 (by decide) ?_
    exact hR _ _ (some_k hf) _ _ _ _ h rfl dX0_feed_14
def X_end (σ : PS) (v1 : Int32) : Option (Int32 × PS) := bd (X_isIn v1.toInt64 0 ((gI σ 2).toInt64)) (fun q_1 => if q_1 = 0 then some ((-1), σ) else nm (sI σ 2 v1) (fun σ_2 => some (v1, σ_2)))
set_option maxHeartbeats 4000000 in
theorem kX_end (l : Launch) {D : va_G} {ty : Nat → ClassId} {A : Nat → Prop} {o : Nat} {ad : Nat → Nat} {rs : va_W} {σ : PS} {σ' : PS} {v1 : Int32} {r : Int32} (hf : X_end σ v1 = some (r, σ')) : KI l yX0_end cX0_end 2 .int 1 D ty A (wX ty o ad σ ++ rs) (wX ty o ad σ' ++ rs) [.ref o, .int v1] r := by
  refine KI.of (by decide) (Nat.le_of_ble_eq_true rfl) ?_
  intro p e R s m args below meth c Q C hR
  have C : Cx p R s m args c cX0_end 2 RX0 D ty A 1 := C
  have hR : ∀ (v : Int32) (σ2 : PS), (v, σ2) = (r, σ') → ∀ (H : Heap) (locs : List Loc) (pc : Nat) (ls : Array Slot), Hw D A s H locs (wX ty o ad σ2 ++ rs) → narrow .int (.int v) = .int v → decode cX0_end pc = .ok (.ireturn, 1) → W p l e R s m args below meth c H locs 0 0 Q (F0 m pc ls [.int v]) := by intro v σ2 e9; cases e9; exact hR
  intro H locs ls h hl
  have hl : lv_has ls 2 [(0, .ref o), (1, .int v1)] := hl
  unfold X_end at hf
  refine lv_iload_n C.x C.b dX0_end_0 rfl (lv_at hl 1 rfl) ?_
  refine lv_i2l C.x C.b dX0_end_1 rfl ?_
  refine lv_lconst (v := 0) C.x C.b dX0_end_2 (by decide) ?_
  refine lv_aload_n C.x C.b dX0_end_3 rfl (lv_at hl 0 rfl) ?_
  refine x_g2 C h dX0_end_4 ?_
  refine lv_i2l C.x C.b dX0_end_7 rfl ?_
  obtain ⟨q_1, hc, hf⟩ := bd_k (K := fun x => x) rfl hf
  refine cX_isIn C h hc (Nat.le_of_ble_eq_true rfl) hl.1 (Nat.le_of_ble_eq_true rfl) dX0_end_8 (fun H locs h => ?_)
  refine lv_if_ne (tgt := 16) C.x C.b dX0_end_11 (by decide) (fun c9 => ?_) (fun c9 => ?_)
  · have hf := if_f (K := fun x => x) c9 hf
    refine lv_aload_n C.x C.b dX0_end_16 rfl (lv_at hl 0 rfl) ?_
    refine lv_iload_n C.x C.b dX0_end_17 rfl (lv_at hl 1 rfl) ?_
    obtain ⟨σ_2, e9, hf⟩ := nm_k (K := fun x => x) hf
    refine x_p2 C h e9 dX0_end_18 (fun H locs h => ?_)
    refine lv_iload_n C.x C.b dX0_end_21 rfl (lv_at hl 1 rfl) ?_
    exact hR _ _ (some_k hf) _ _ _ _ h rfl dX0_end_22
  · have hf := if_t (K := fun x => x) c9 hf
    refine lv_iconst (v := (-1)) C.x C.b dX0_end_14 (by decide) ?_
    exact hR _ _ (some_k hf) _ _ _ _ h rfl dX0_end_15
def X_zone_j22 (σ : PS) (x0 : Int32) : Option Int32 := some x0
def X_zone (σ : PS) (v1 : Int32) : Option Int32 := bd (X_isZone σ v1) (fun q_1 => if q_1 = 0 then X_zone_j22 σ ((-2)) else ix v1 7 (X_zone_j22 σ (rA σ 109 v1)))
set_option maxHeartbeats 4000000 in
theorem kX_zone (l : Launch) {D : va_G} {ty : Nat → ClassId} {A : Nat → Prop} {o : Nat} {ad : Nat → Nat} {rs : va_W} {σ : PS} {v1 : Int32} {r : Int32} (hf : X_zone σ v1 = some r) : KI l yX0_zone cX0_zone 2 .int 2 D ty A (wX ty o ad σ ++ rs) (wX ty o ad σ ++ rs) [.ref o, .int v1] r := by
  refine KI.of (by decide) (Nat.le_of_ble_eq_true rfl) ?_
  intro p e R s m args below meth c Q C hR
  have C : Cx p R s m args c cX0_zone 2 RX0 D ty A 2 := C
  have hR : ∀ (v : Int32), v = r → ∀ (H : Heap) (locs : List Loc) (pc : Nat) (ls : Array Slot), Hw D A s H locs (wX ty o ad σ ++ rs) → narrow .int (.int v) = .int v → decode cX0_zone pc = .ok (.ireturn, 1) → W p l e R s m args below meth c H locs 0 0 Q (F0 m pc ls [.int v]) := by intro v e9; cases e9; exact hR
  have j22 : ∀ (x0 : Int32) (H : Heap) (locs : List Loc) (ls : Array Slot), Hw D A s H locs (wX ty o ad σ ++ rs) → lv_has ls 2 [] → X_zone_j22 σ x0 = some r → W p l e R s m args below meth c H locs 0 0 Q (F0 m 22 ls [.int x0]) := by
    intro x0 H locs ls h hl hf
    unfold X_zone_j22 at hf
    exact hR _ (some_k hf) _ _ _ _ h rfl dX0_zone_22
  intro H locs ls h hl
  have hl : lv_has ls 2 [(0, .ref o), (1, .int v1)] := hl
  unfold X_zone at hf
  refine lv_aload_n C.x C.b dX0_zone_0 rfl (lv_at hl 0 rfl) ?_
  refine lv_iload_n C.x C.b dX0_zone_1 rfl (lv_at hl 1 rfl) ?_
  obtain ⟨q_1, hc, hf⟩ := bd_k (K := fun x => x) rfl hf
  refine cX_isZone C h hc (Nat.le_of_ble_eq_true rfl) hl.1 (Nat.le_of_ble_eq_true rfl) dX0_zone_2 (fun H locs h => ?_)
  refine lv_if_eq (tgt := 20) C.x C.b dX0_zone_5 (by decide) (fun c9 => ?_) (fun c9 => ?_)
  · have hf := if_t (K := fun x => x) c9 hf
    refine lv_bipush (v := (-2)) C.x C.b dX0_zone_20 (by decide) ?_
    exact j22 ((-2)) _ _ _ h (lv_sub hl [] rfl) hf
  · have hf := if_f (K := fun x => x) c9 hf
    refine lv_aload_n C.x C.b dX0_zone_8 rfl (lv_at hl 0 rfl) ?_
    refine x_g0 C h dX0_zone_9 ?_
    refine x_g109 C h dX0_zone_12 ?_
    refine lv_iload_n C.x C.b dX0_zone_15 rfl (lv_at hl 1 rfl) ?_
    obtain ⟨hi, hf⟩ := ix_k (K := fun x => x) rfl hf
    refine x_a109 C h hi dX0_zone_16 ?_
    refine lv_goto (tgt := 22) C.x C.b dX0_zone_17 (by decide) ?_
    exact j22 (rA σ 109 v1) _ _ _ h (lv_sub hl [] rfl) hf
def X_piece (σ : PS) (v1 : Int32) (v2 : Int32) : Option Int32 := bd (X_isPiece σ v1.toInt64) (fun q_1 => if q_1 = 0 then some ((-2)) else if v2 = 0 then ix v1 6 (some (rA σ 110 v1)) else (if v2 = 1 then ix v1 6 (some (rA σ 111 v1)) else (if v2 = 2 then ix v1 6 (some (rA σ 112 v1)) else (if v2 = 3 then ix v1 6 (some (rA σ 113 v1)) else (some ((-2)))))))
set_option maxHeartbeats 4000000 in
theorem kX_piece (l : Launch) {D : va_G} {ty : Nat → ClassId} {A : Nat → Prop} {o : Nat} {ad : Nat → Nat} {rs : va_W} {σ : PS} {v1 : Int32} {v2 : Int32} {r : Int32} (hf : X_piece σ v1 v2 = some r) : KI l yX0_piece cX0_piece 3 .int 2 D ty A (wX ty o ad σ ++ rs) (wX ty o ad σ ++ rs) [.ref o, .int v1, .int v2] r := by
  refine KI.of (by decide) (Nat.le_of_ble_eq_true rfl) ?_
  intro p e R s m args below meth c Q C hR
  have C : Cx p R s m args c cX0_piece 3 RX0 D ty A 2 := C
  have hR : ∀ (v : Int32), v = r → ∀ (H : Heap) (locs : List Loc) (pc : Nat) (ls : Array Slot), Hw D A s H locs (wX ty o ad σ ++ rs) → narrow .int (.int v) = .int v → decode cX0_piece pc = .ok (.ireturn, 1) → W p l e R s m args below meth c H locs 0 0 Q (F0 m pc ls [.int v]) := by intro v e9; cases e9; exact hR
  intro H locs ls h hl
  have hl : lv_has ls 3 [(0, .ref o), (1, .int v1), (2, .int v2)] := hl
  unfold X_piece at hf
  refine lv_aload_n C.x C.b dX0_piece_0 rfl (lv_at hl 0 rfl) ?_
  refine lv_iload_n C.x C.b dX0_piece_1 rfl (lv_at hl 1 rfl) ?_
  refine lv_i2l C.x C.b dX0_piece_2 rfl ?_
  obtain ⟨q_1, hc, hf⟩ := bd_k (K := fun x => x) rfl hf
  refine cX_isPiece C h hc (Nat.le_of_ble_eq_true rfl) hl.1 (Nat.le_of_ble_eq_true rfl) dX0_piece_3 (fun H locs h => ?_)
  refine lv_if_ne (tgt := 12) C.x C.b dX0_piece_6 (by decide) (fun c9 => ?_) (fun c9 => ?_)
  · have hf := if_f (K := fun x => x) c9 hf
    refine lv_iload_n C.x C.b dX0_piece_12 rfl (lv_at hl 2 rfl) ?_
    by_cases c9_0 : v2 = 0
    · have hf := if_t (K := fun x => x) c9_0 hf
      refine lv_tableIn (tgt := 44) C.x C.b dX0_piece_13 (by rw [c9_0]; decide) (by rw [c9_0]; decide) (off := 31) (by rw [c9_0]; rfl) (by decide) ?_
      refine lv_aload_n C.x C.b dX0_piece_44 rfl (lv_at hl 0 rfl) ?_
      refine x_g0 C h dX0_piece_45 ?_
      refine x_g110 C h dX0_piece_48 ?_
      refine lv_iload_n C.x C.b dX0_piece_51 rfl (lv_at hl 1 rfl) ?_
      obtain ⟨hi, hf⟩ := ix_k (K := fun x => x) rfl hf
      refine x_a110 C h hi dX0_piece_52 ?_
      exact hR _ (some_k hf) _ _ _ _ h rfl dX0_piece_53
    · have hf := if_f (K := fun x => x) c9_0 hf
      by_cases c9_1 : v2 = 1
      · have hf := if_t (K := fun x => x) c9_1 hf
        refine lv_tableIn (tgt := 54) C.x C.b dX0_piece_13 (by rw [c9_1]; decide) (by rw [c9_1]; decide) (off := 41) (by rw [c9_1]; rfl) (by decide) ?_
        refine lv_aload_n C.x C.b dX0_piece_54 rfl (lv_at hl 0 rfl) ?_
        refine x_g0 C h dX0_piece_55 ?_
        refine x_g111 C h dX0_piece_58 ?_
        refine lv_iload_n C.x C.b dX0_piece_61 rfl (lv_at hl 1 rfl) ?_
        obtain ⟨hi, hf⟩ := ix_k (K := fun x => x) rfl hf
        refine x_a111 C h hi dX0_piece_62 ?_
        exact hR _ (some_k hf) _ _ _ _ h rfl dX0_piece_63
      · have hf := if_f (K := fun x => x) c9_1 hf
        by_cases c9_2 : v2 = 2
        · have hf := if_t (K := fun x => x) c9_2 hf
          refine lv_tableIn (tgt := 64) C.x C.b dX0_piece_13 (by rw [c9_2]; decide) (by rw [c9_2]; decide) (off := 51) (by rw [c9_2]; rfl) (by decide) ?_
          refine lv_aload_n C.x C.b dX0_piece_64 rfl (lv_at hl 0 rfl) ?_
          refine x_g0 C h dX0_piece_65 ?_
          refine x_g112 C h dX0_piece_68 ?_
          refine lv_iload_n C.x C.b dX0_piece_71 rfl (lv_at hl 1 rfl) ?_
          obtain ⟨hi, hf⟩ := ix_k (K := fun x => x) rfl hf
          refine x_a112 C h hi dX0_piece_72 ?_
          exact hR _ (some_k hf) _ _ _ _ h rfl dX0_piece_73
        · have hf := if_f (K := fun x => x) c9_2 hf
          by_cases c9_3 : v2 = 3
          · have hf := if_t (K := fun x => x) c9_3 hf
            refine lv_tableIn (tgt := 74) C.x C.b dX0_piece_13 (by rw [c9_3]; decide) (by rw [c9_3]; decide) (off := 61) (by rw [c9_3]; rfl) (by decide) ?_
            refine lv_aload_n C.x C.b dX0_piece_74 rfl (lv_at hl 0 rfl) ?_
            refine x_g0 C h dX0_piece_75 ?_
            refine x_g113 C h dX0_piece_78 ?_
            refine lv_iload_n C.x C.b dX0_piece_81 rfl (lv_at hl 1 rfl) ?_
            obtain ⟨hi, hf⟩ := ix_k (K := fun x => x) rfl hf
            refine x_a113 C h hi dX0_piece_82 ?_
            exact hR _ (some_k hf) _ _ _ _ h rfl dX0_piece_83
          · have hf := if_f (K := fun x => x) c9_3 hf
            refine lv_tableOut (tgt := 84) C.x C.b dX0_piece_13 (by have := lv_neT c9_0 (a := 0) (by decide); have := lv_neT c9_1 (a := 1) (by decide); have := lv_neT c9_2 (a := 2) (by decide); have := lv_neT c9_3 (a := 3) (by decide); omega) (by decide) ?_
            refine lv_bipush (v := (-2)) C.x C.b dX0_piece_84 (by decide) ?_
            exact hR _ (some_k hf) _ _ _ _ h rfl dX0_piece_86
  · have hf := if_t (K := fun x => x) c9 hf
    refine lv_bipush (v := (-2)) C.x C.b dX0_piece_9 (by decide) ?_
    exact hR _ (some_k hf) _ _ _ _ h rfl dX0_piece_11
def X_strainNow (σ : PS) (v1 : Int32) : Option Int32 := ix v1 6 (ix v1 6 (bd (X_apart (rA σ 14 v1) (rA σ 15 v1)) (fun q_1 => some q_1)))
set_option maxHeartbeats 4000000 in
theorem kX_strainNow (l : Launch) {D : va_G} {ty : Nat → ClassId} {A : Nat → Prop} {o : Nat} {ad : Nat → Nat} {rs : va_W} {σ : PS} {v1 : Int32} {r : Int32} (hf : X_strainNow σ v1 = some r) : KI l yX0_strainNow cX0_strainNow 2 .int 2 D ty A (wX ty o ad σ ++ rs) (wX ty o ad σ ++ rs) [.ref o, .int v1] r := by
  refine KI.of (by decide) (Nat.le_of_ble_eq_true rfl) ?_
  intro p e R s m args below meth c Q C hR
  have C : Cx p R s m args c cX0_strainNow 2 RX0 D ty A 2 := C
  have hR : ∀ (v : Int32), v = r → ∀ (H : Heap) (locs : List Loc) (pc : Nat) (ls : Array Slot), Hw D A s H locs (wX ty o ad σ ++ rs) → narrow .int (.int v) = .int v → decode cX0_strainNow pc = .ok (.ireturn, 1) → W p l e R s m args below meth c H locs 0 0 Q (F0 m pc ls [.int v]) := by intro v e9; cases e9; exact hR
  intro H locs ls h hl
  have hl : lv_has ls 2 [(0, .ref o), (1, .int v1)] := hl
  unfold X_strainNow at hf
  refine lv_aload_n C.x C.b dX0_strainNow_0 rfl (lv_at hl 0 rfl) ?_
  refine x_g14 C h dX0_strainNow_1 ?_
  refine lv_iload_n C.x C.b dX0_strainNow_4 rfl (lv_at hl 1 rfl) ?_
  obtain ⟨hi, hf⟩ := ix_k (K := fun x => x) rfl hf
  refine x_a14 C h hi dX0_strainNow_5 ?_
  refine lv_aload_n C.x C.b dX0_strainNow_6 rfl (lv_at hl 0 rfl) ?_
  refine x_g15 C h dX0_strainNow_7 ?_
  refine lv_iload_n C.x C.b dX0_strainNow_10 rfl (lv_at hl 1 rfl) ?_
  obtain ⟨hi, hf⟩ := ix_k (K := fun x => x) rfl hf
  refine x_a15 C h hi dX0_strainNow_11 ?_
  obtain ⟨q_1, hc, hf⟩ := bd_k (K := fun x => x) rfl hf
  refine cX_apart C h hc (Nat.le_of_ble_eq_true rfl) hl.1 (Nat.le_of_ble_eq_true rfl) dX0_strainNow_12 (fun H locs h => ?_)
  exact hR _ (some_k hf) _ _ _ _ h rfl dX0_strainNow_15
theorem tX_strainNow : GoodIn lw_all (wsV RX0 241 RX0 yX0_strainNow (ws_ yX0_strainNow cX0_strainNow 2 (some .int))) := lw_V q764 q766 qs25 q137 q767
theorem cX_strainNow {p : Program} {l : Launch} {e : Env} {R : Room} {s : State} {m : MethodId} {args : Array Value} {below : List Frame} {meth : Method} {c : Code} {H : Heap} {locs : List Loc} {Q : State → Prop} {cc : ByteArray} {pc : Nat} {ls : Array Slot} {st : List Value} {nL d : Nat} {D : va_G} {ty : Nat → ClassId} {A : Nat → Prop} {o : Nat} {ad : Nat → Nat} {rs : va_W} {σ : PS} {v1 : Int32} {q : Int32} (C : Cx p R s m args c cc nL RX0 D ty A d) (h : Hw D A s H locs (wX ty o ad σ ++ rs)) (hc : X_strainNow σ v1 = some q) (hd : 2 + 1 ≤ d) (hls : ls.size = nL) (hcat : (st.map fun v => v.category).sum ≤ 8) (dec : decode cc pc = .ok (.invokevirtual 241, 3)) (kk : ∀ (H : Heap) (locs : List Loc), Hw D A s H locs (wX ty o ad σ ++ rs) → W p l e R s m args below meth c H locs 0 0 Q (F0 m (pc + 3) ls (.int q :: st))) : W p l e R s m args below meth c H locs 0 0 Q (F0 m pc ls (.int v1 :: .ref o :: st)) := KI.callV (As := [.int v1]) C (kX_strainNow l hc) tX_strainNow ⟨rfl, by decide, by decide, by show _ = some 1; decide +kernel⟩ 0 0 rfl rfl rfl hd (by decide) (Nat.zero_le _) (Nat.zero_le _) h hls rfl hcat dec kk
def X_isGust_j51 (σ : PS) (v2 : Int32) : Option Int32 := tz v2 (some v2)
def X_isGust_j44 (σ : PS) (v1 : Int32) (v3 : Int32) (x0 : Int32) : Option ((Int32 × Int32) ⊕ Int32) := nm (v3 + 1) (fun v3_1 => some (.inl (x0, v3_1)))
def X_isGust_j39 (σ : PS) (v1 : Int32) (v3 : Int32) : Option ((Int32 × Int32) ⊕ Int32) := X_isGust_j44 σ v1 v3 1
def X_isGust_l11 (σ : PS) (v1 : Int32) (v2 : Int32) (v3 : Int32) : Option ((Int32 × Int32) ⊕ Int32) := if (gI σ 108) ≤ v3 then up (X_isGust_j51 σ v2) else if v2 = 0 then ix v3 30 (if (rA σ 114 v3) = v1 then X_isGust_j39 σ v1 v3 else X_isGust_j44 σ v1 v3 0) else X_isGust_j39 σ v1 v3
def X_isGust_B11 (σ : PS) (v1 : Int32) : (Int32 × Int32) → Option ((Int32 × Int32) ⊕ Int32) := fun t => X_isGust_l11 σ v1 t.1 t.2
def X_isGust (σ : PS) (v1 : Int32) : Option Int32 := bd (X_isOf (gI σ 12) v1) (fun q_2 => loop (X_isGust_B11 σ v1) fu (q_2, 0))
set_option maxHeartbeats 4000000 in
theorem kX_isGust (l : Launch) {D : va_G} {ty : Nat → ClassId} {A : Nat → Prop} {o : Nat} {ad : Nat → Nat} {rs : va_W} {σ : PS} {v1 : Int32} {r : Int32} (hf : X_isGust σ v1 = some r) : KI l yX0_isGust cX0_isGust 4 .boolean 1 D ty A (wX ty o ad σ ++ rs) (wX ty o ad σ ++ rs) [.ref o, .int v1] r := by
  refine KI.of (by decide) (Nat.le_of_ble_eq_true rfl) ?_
  intro p e R s m args below meth c Q C hR
  have C : Cx p R s m args c cX0_isGust 4 RX0 D ty A 1 := C
  have hR : ∀ (v : Int32), v = r → ∀ (H : Heap) (locs : List Loc) (pc : Nat) (ls : Array Slot), Hw D A s H locs (wX ty o ad σ ++ rs) → narrow .boolean (.int v) = .int v → decode cX0_isGust pc = .ok (.ireturn, 1) → W p l e R s m args below meth c H locs 0 0 Q (F0 m pc ls [.int v]) := by intro v e9; cases e9; exact hR
  have j51 : ∀ (v2 : Int32) (H : Heap) (locs : List Loc) (ls : Array Slot), Hw D A s H locs (wX ty o ad σ ++ rs) → lv_has ls 4 [(2, .int v2)] → X_isGust_j51 σ v2 = some r → W p l e R s m args below meth c H locs 0 0 Q (F0 m 51 ls []) := by
    intro v2 H locs ls h hl hf
    unfold X_isGust_j51 at hf
    refine lv_iload_n C.x C.b dX0_isGust_51 rfl (lv_at hl 0 rfl) ?_
    obtain ⟨hz, hf⟩ := tz_k (K := fun x => x) rfl hf
    exact hR _ (some_k hf) _ _ _ _ h hz dX0_isGust_52
  have l11 : ∀ (n11 : Nat) (v2 : Int32) (v3 : Int32) (H : Heap) (locs : List Loc) (ls : Array Slot), Hw D A s H locs (wX ty o ad σ ++ rs) → lv_has ls 4 [(0, .ref o), (1, .int v1), (2, .int v2), (3, .int v3)] → loop (X_isGust_B11 σ v1) n11 (v2, v3) = some r → W p l e R s m args below meth c H locs 0 0 Q (F0 m 11 ls []) := by
    intro n11
    induction n11 with
    | zero => intro v2 v3 H locs ls h hl hf; exact (none_k hf).elim
    | succ n11 ih11 =>
      have j44 : ∀ (v3 : Int32) (x0 : Int32) (H : Heap) (locs : List Loc) (ls : Array Slot), Hw D A s H locs (wX ty o ad σ ++ rs) → lv_has ls 4 [(0, .ref o), (1, .int v1), (3, .int v3)] → bl (X_isGust_B11 σ v1) n11 (X_isGust_j44 σ v1 v3 x0) = some r → W p l e R s m args below meth c H locs 0 0 Q (F0 m 44 ls [.int x0]) := by
        intro v3 x0 H locs ls h hl hf
        unfold X_isGust_j44 at hf
        refine lv_istore_n (lv' := [(2, .int x0), (0, .ref o), (1, .int v1), (3, .int v3)]) C.x C.b dX0_isGust_44 rfl hl (by decide) rfl (fun ls hl => ?_)
        obtain ⟨v3_1, e9, hf⟩ := nm_k (K := bl (X_isGust_B11 σ v1) n11) hf
        refine lv_iinc (v := v3_1) (lv' := [(3, .int v3_1), (2, .int x0), (0, .ref o), (1, .int v1)]) C.x C.b dX0_isGust_45 hl (k := 3) rfl (iinc_e (k := 1) (by decide) e9) (by decide) rfl (fun ls hl => ?_)
        refine lv_goto (tgt := 11) C.x C.b dX0_isGust_48 (by decide) ?_
        exact ih11 x0 v3_1 _ _ _ h (lv_sub hl [2, 3, 1, 0] rfl) hf
      have j39 : ∀ (v3 : Int32) (H : Heap) (locs : List Loc) (ls : Array Slot), Hw D A s H locs (wX ty o ad σ ++ rs) → lv_has ls 4 [(0, .ref o), (1, .int v1), (3, .int v3)] → bl (X_isGust_B11 σ v1) n11 (X_isGust_j39 σ v1 v3) = some r → W p l e R s m args below meth c H locs 0 0 Q (F0 m 39 ls []) := by
        intro v3 H locs ls h hl hf
        unfold X_isGust_j39 at hf
        refine lv_iconst (v := 1) C.x C.b dX0_isGust_39 (by decide) ?_
        refine lv_goto (tgt := 44) C.x C.b dX0_isGust_40 (by decide) ?_
        exact j44 v3 1 _ _ _ h (lv_sub hl [0, 1, 2] rfl) hf
      intro v2 v3 H locs ls h hl hf
      have hf : bl (X_isGust_B11 σ v1) n11 (X_isGust_l11 σ v1 v2 v3) = some r := hf
      unfold X_isGust_l11 at hf
      refine lv_iload_n C.x C.b dX0_isGust_11 rfl (lv_at hl 3 rfl) ?_
      refine lv_aload_n C.x C.b dX0_isGust_12 rfl (lv_at hl 0 rfl) ?_
      refine x_g0 C h dX0_isGust_13 ?_
      refine x_g108 C h dX0_isGust_16 ?_
      refine lv_icmp_ge (tgt := 51) C.x C.b dX0_isGust_19 (by decide) (fun c9 => ?_) (fun c9 => ?_)
      · have hf := if_t (K := bl (X_isGust_B11 σ v1) n11) c9 hf
        have hf := bl_upK (K := fun x => x) hf
        exact j51 v2 _ _ _ h (lv_sub hl [2] rfl) hf
      · have hf := if_f (K := bl (X_isGust_B11 σ v1) n11) c9 hf
        refine lv_iload_n C.x C.b dX0_isGust_22 rfl (lv_at hl 2 rfl) ?_
        refine lv_if_ne (tgt := 39) C.x C.b dX0_isGust_23 (by decide) (fun c9 => ?_) (fun c9 => ?_)
        · have hf := if_f (K := bl (X_isGust_B11 σ v1) n11) c9 hf
          exact j39 v3 _ _ _ h (lv_sub hl [0, 1, 3] rfl) hf
        · have hf := if_t (K := bl (X_isGust_B11 σ v1) n11) c9 hf
          refine lv_aload_n C.x C.b dX0_isGust_26 rfl (lv_at hl 0 rfl) ?_
          refine x_g0 C h dX0_isGust_27 ?_
          refine x_g114 C h dX0_isGust_30 ?_
          refine lv_iload_n C.x C.b dX0_isGust_33 rfl (lv_at hl 3 rfl) ?_
          obtain ⟨hi, hf⟩ := ix_k (K := bl (X_isGust_B11 σ v1) n11) rfl hf
          refine x_a114 C h hi dX0_isGust_34 ?_
          refine lv_iload_n C.x C.b dX0_isGust_35 rfl (lv_at hl 1 rfl) ?_
          refine lv_icmp_ne (tgt := 43) C.x C.b dX0_isGust_36 (by decide) (fun c9 => ?_) (fun c9 => ?_)
          · have hf := if_f (K := bl (X_isGust_B11 σ v1) n11) c9 hf
            refine lv_iconst (v := 0) C.x C.b dX0_isGust_43 (by decide) ?_
            exact j44 v3 0 _ _ _ h (lv_sub hl [0, 1, 3] rfl) hf
          · have hf := if_t (K := bl (X_isGust_B11 σ v1) n11) c9 hf
            exact j39 v3 _ _ _ h (lv_sub hl [0, 1, 3] rfl) hf
  intro H locs ls h hl
  have hl : lv_has ls 4 [(0, .ref o), (1, .int v1)] := hl
  unfold X_isGust at hf
  refine lv_aload_n C.x C.b dX0_isGust_0 rfl (lv_at hl 0 rfl) ?_
  refine x_g12 C h dX0_isGust_1 ?_
  refine lv_iload_n C.x C.b dX0_isGust_4 rfl (lv_at hl 1 rfl) ?_
  obtain ⟨q_2, hc, hf⟩ := bd_k (K := fun x => x) rfl hf
  refine cX_isOf C h hc (Nat.le_of_ble_eq_true rfl) hl.1 (Nat.le_of_ble_eq_true rfl) dX0_isGust_5 (fun H locs h => ?_)
  refine lv_istore_n (lv' := [(2, .int q_2), (0, .ref o), (1, .int v1)]) C.x C.b dX0_isGust_8 rfl hl (by decide) rfl (fun ls hl => ?_)
  refine lv_iconst (v := 0) C.x C.b dX0_isGust_9 (by decide) ?_
  refine lv_istore_n (lv' := [(3, .int 0), (2, .int q_2), (0, .ref o), (1, .int v1)]) C.x C.b dX0_isGust_10 rfl hl (by decide) rfl (fun ls hl => ?_)
  exact l11  fu q_2 0 _ _ _ h (lv_sub hl [2, 3, 1, 0] rfl) hf
theorem tX_isGust : GoodIn lw_all (wsV RX0 212 RX0 yX0_isGust (ws_ yX0_isGust cX0_isGust 4 (some .boolean))) := lw_V q795 q797 qs28 q137 q798
theorem cX_isGust {p : Program} {l : Launch} {e : Env} {R : Room} {s : State} {m : MethodId} {args : Array Value} {below : List Frame} {meth : Method} {c : Code} {H : Heap} {locs : List Loc} {Q : State → Prop} {cc : ByteArray} {pc : Nat} {ls : Array Slot} {st : List Value} {nL d : Nat} {D : va_G} {ty : Nat → ClassId} {A : Nat → Prop} {o : Nat} {ad : Nat → Nat} {rs : va_W} {σ : PS} {v1 : Int32} {q : Int32} (C : Cx p R s m args c cc nL RX0 D ty A d) (h : Hw D A s H locs (wX ty o ad σ ++ rs)) (hc : X_isGust σ v1 = some q) (hd : 1 + 1 ≤ d) (hls : ls.size = nL) (hcat : (st.map fun v => v.category).sum ≤ 8) (dec : decode cc pc = .ok (.invokevirtual 212, 3)) (kk : ∀ (H : Heap) (locs : List Loc), Hw D A s H locs (wX ty o ad σ ++ rs) → W p l e R s m args below meth c H locs 0 0 Q (F0 m (pc + 3) ls (.int q :: st))) : W p l e R s m args below meth c H locs 0 0 Q (F0 m pc ls (.int v1 :: .ref o :: st)) := KI.callV (As := [.int v1]) C (kX_isGust l hc) tX_isGust ⟨rfl, by decide, by decide, by show _ = some 1; decide +kernel⟩ 0 0 rfl rfl rfl hd (by decide) (Nat.zero_le _) (Nat.zero_le _) h hls rfl hcat dec kk
def X_soundNow_j39 (σ : PS) (v1 : Int32) : Option Int32 := some v1
def X_soundNow_j31 (σ : PS) (v2 : Int32) (x0 : Int32) (x1 : Int32) : Option ((Int32 × Int32) ⊕ Int32) := nm (x1 ||| x0) (fun v1_1 => nm (v2 + 1) (fun v2_2 => some (.inl (v1_1, v2_2))))
def X_soundNow_l4 (σ : PS) (v1 : Int32) (v2 : Int32) : Option ((Int32 × Int32) ⊕ Int32) := if (gI σ 107) ≤ v2 then up (X_soundNow_j39 σ v1) else bd (X_isSound σ v2) (fun q_3 => if q_3 = 0 then X_soundNow_j31 σ v2 0 v1 else X_soundNow_j31 σ v2 (1 <<< (v2 &&& 31)) v1)
def X_soundNow_B4 (σ : PS) : (Int32 × Int32) → Option ((Int32 × Int32) ⊕ Int32) := fun t => X_soundNow_l4 σ t.1 t.2
def X_soundNow (σ : PS) : Option Int32 := loop (X_soundNow_B4 σ) fu (0, 0)
set_option maxHeartbeats 4000000 in
theorem kX_soundNow (l : Launch) {D : va_G} {ty : Nat → ClassId} {A : Nat → Prop} {o : Nat} {ad : Nat → Nat} {rs : va_W} {σ : PS} {r : Int32} (hf : X_soundNow σ = some r) : KI l yX0_soundNow cX0_soundNow 3 .int 1 D ty A (wX ty o ad σ ++ rs) (wX ty o ad σ ++ rs) [.ref o] r := by
  refine KI.of (by decide) (Nat.le_of_ble_eq_true rfl) ?_
  intro p e R s m args below meth c Q C hR
  have C : Cx p R s m args c cX0_soundNow 3 RX0 D ty A 1 := C
  have hR : ∀ (v : Int32), v = r → ∀ (H : Heap) (locs : List Loc) (pc : Nat) (ls : Array Slot), Hw D A s H locs (wX ty o ad σ ++ rs) → narrow .int (.int v) = .int v → decode cX0_soundNow pc = .ok (.ireturn, 1) → W p l e R s m args below meth c H locs 0 0 Q (F0 m pc ls [.int v]) := by intro v e9; cases e9; exact hR
  have j39 : ∀ (v1 : Int32) (H : Heap) (locs : List Loc) (ls : Array Slot), Hw D A s H locs (wX ty o ad σ ++ rs) → lv_has ls 3 [(1, .int v1)] → X_soundNow_j39 σ v1 = some r → W p l e R s m args below meth c H locs 0 0 Q (F0 m 39 ls []) := by
    intro v1 H locs ls h hl hf
    unfold X_soundNow_j39 at hf
    refine lv_iload_n C.x C.b dX0_soundNow_39 rfl (lv_at hl 0 rfl) ?_
    exact hR _ (some_k hf) _ _ _ _ h rfl dX0_soundNow_40
  have l4 : ∀ (n4 : Nat) (v1 : Int32) (v2 : Int32) (H : Heap) (locs : List Loc) (ls : Array Slot), Hw D A s H locs (wX ty o ad σ ++ rs) → lv_has ls 3 [(0, .ref o), (1, .int v1), (2, .int v2)] → loop (X_soundNow_B4 σ) n4 (v1, v2) = some r → W p l e R s m args below meth c H locs 0 0 Q (F0 m 4 ls []) := by
    intro n4
    induction n4 with
    | zero => intro v1 v2 H locs ls h hl hf; exact (none_k hf).elim
    | succ n4 ih4 =>
      have j31 : ∀ (v2 : Int32) (x0 : Int32) (x1 : Int32) (H : Heap) (locs : List Loc) (ls : Array Slot), Hw D A s H locs (wX ty o ad σ ++ rs) → lv_has ls 3 [(0, .ref o), (2, .int v2)] → bl (X_soundNow_B4 σ) n4 (X_soundNow_j31 σ v2 x0 x1) = some r → W p l e R s m args below meth c H locs 0 0 Q (F0 m 31 ls [.int x0, .int x1]) := by
        intro v2 x0 x1 H locs ls h hl hf
        unfold X_soundNow_j31 at hf
        refine lv_ior C.x C.b dX0_soundNow_31 ?_
        obtain ⟨v1_1, e9, hf⟩ := nm_k (K := bl (X_soundNow_B4 σ) n4) hf
        refine lv_topI e9 ?_
        refine lv_istore_n (lv' := [(1, .int v1_1), (0, .ref o), (2, .int v2)]) C.x C.b dX0_soundNow_32 rfl hl (by decide) rfl (fun ls hl => ?_)
        obtain ⟨v2_2, e9, hf⟩ := nm_k (K := bl (X_soundNow_B4 σ) n4) hf
        refine lv_iinc (v := v2_2) (lv' := [(2, .int v2_2), (1, .int v1_1), (0, .ref o)]) C.x C.b dX0_soundNow_33 hl (k := 2) rfl (iinc_e (k := 1) (by decide) e9) (by decide) rfl (fun ls hl => ?_)
        refine lv_goto (tgt := 4) C.x C.b dX0_soundNow_36 (by decide) ?_
        exact ih4 v1_1 v2_2 _ _ _ h (lv_sub hl [2, 1, 0] rfl) hf
      intro v1 v2 H locs ls h hl hf
      have hf : bl (X_soundNow_B4 σ) n4 (X_soundNow_l4 σ v1 v2) = some r := hf
      unfold X_soundNow_l4 at hf
      refine lv_iload_n C.x C.b dX0_soundNow_4 rfl (lv_at hl 2 rfl) ?_
      refine lv_aload_n C.x C.b dX0_soundNow_5 rfl (lv_at hl 0 rfl) ?_
      refine x_g0 C h dX0_soundNow_6 ?_
      refine x_g107 C h dX0_soundNow_9 ?_
      refine lv_icmp_ge (tgt := 39) C.x C.b dX0_soundNow_12 (by decide) (fun c9 => ?_) (fun c9 => ?_)
      · have hf := if_t (K := bl (X_soundNow_B4 σ) n4) c9 hf
        have hf := bl_upK (K := fun x => x) hf
        exact j39 v1 _ _ _ h (lv_sub hl [1] rfl) hf
      · have hf := if_f (K := bl (X_soundNow_B4 σ) n4) c9 hf
        refine lv_iload_n C.x C.b dX0_soundNow_15 rfl (lv_at hl 1 rfl) ?_
        refine lv_aload_n C.x C.b dX0_soundNow_16 rfl (lv_at hl 0 rfl) ?_
        refine lv_iload_n C.x C.b dX0_soundNow_17 rfl (lv_at hl 2 rfl) ?_
        obtain ⟨q_3, hc, hf⟩ := bd_k (K := bl (X_soundNow_B4 σ) n4) rfl hf
        refine cX_isSound C h hc (Nat.le_of_ble_eq_true rfl) hl.1 (Nat.le_of_ble_eq_true rfl) dX0_soundNow_18 (fun H locs h => ?_)
        refine lv_if_eq (tgt := 30) C.x C.b dX0_soundNow_21 (by decide) (fun c9 => ?_) (fun c9 => ?_)
        · have hf := if_t (K := bl (X_soundNow_B4 σ) n4) c9 hf
          refine lv_iconst (v := 0) C.x C.b dX0_soundNow_30 (by decide) ?_
          exact j31 v2 0 v1 _ _ _ h (lv_sub hl [0, 2] rfl) hf
        · have hf := if_f (K := bl (X_soundNow_B4 σ) n4) c9 hf
          refine lv_iconst (v := 1) C.x C.b dX0_soundNow_24 (by decide) ?_
          refine lv_iload_n C.x C.b dX0_soundNow_25 rfl (lv_at hl 2 rfl) ?_
          refine lv_ishl C.x C.b dX0_soundNow_26 ?_
          refine lv_goto (tgt := 31) C.x C.b dX0_soundNow_27 (by decide) ?_
          exact j31 v2 (1 <<< (v2 &&& 31)) v1 _ _ _ h (lv_sub hl [0, 2] rfl) hf
  intro H locs ls h hl
  have hl : lv_has ls 3 [(0, .ref o)] := hl
  unfold X_soundNow at hf
  refine lv_iconst (v := 0) C.x C.b dX0_soundNow_0 (by decide) ?_
  refine lv_istore_n (lv' := [(1, .int 0), (0, .ref o)]) C.x C.b dX0_soundNow_1 rfl hl (by decide) rfl (fun ls hl => ?_)
  refine lv_iconst (v := 0) C.x C.b dX0_soundNow_2 (by decide) ?_
  refine lv_istore_n (lv' := [(2, .int 0), (1, .int 0), (0, .ref o)]) C.x C.b dX0_soundNow_3 rfl hl (by decide) rfl (fun ls hl => ?_)
  exact l4  fu 0 0 _ _ _ h (lv_sub hl [2, 1, 0] rfl) hf
theorem tX_soundNow : GoodIn lw_all (wsV RX0 275 RX0 yX0_soundNow (ws_ yX0_soundNow cX0_soundNow 3 (some .int))) := lw_V q921 q923 qs39 q137 q924
theorem cX_soundNow {p : Program} {l : Launch} {e : Env} {R : Room} {s : State} {m : MethodId} {args : Array Value} {below : List Frame} {meth : Method} {c : Code} {H : Heap} {locs : List Loc} {Q : State → Prop} {cc : ByteArray} {pc : Nat} {ls : Array Slot} {st : List Value} {nL d : Nat} {D : va_G} {ty : Nat → ClassId} {A : Nat → Prop} {o : Nat} {ad : Nat → Nat} {rs : va_W} {σ : PS} {q : Int32} (C : Cx p R s m args c cc nL RX0 D ty A d) (h : Hw D A s H locs (wX ty o ad σ ++ rs)) (hc : X_soundNow σ = some q) (hd : 1 + 1 ≤ d) (hls : ls.size = nL) (hcat : (st.map fun v => v.category).sum ≤ 8) (dec : decode cc pc = .ok (.invokevirtual 275, 3)) (kk : ∀ (H : Heap) (locs : List Loc), Hw D A s H locs (wX ty o ad σ ++ rs) → W p l e R s m args below meth c H locs 0 0 Q (F0 m (pc + 3) ls (.int q :: st))) : W p l e R s m args below meth c H locs 0 0 Q (F0 m pc ls (.ref o :: st)) := KI.callV (As := []) C (kX_soundNow l hc) tX_soundNow ⟨rfl, by decide, by decide, by show _ = some 0; decide +kernel⟩ 0 0 rfl rfl rfl hd (by decide) (Nat.zero_le _) (Nat.zero_le _) h hls rfl hcat dec kk
def X_soundMany (σ : PS) : Option Int32 := bd (X_soundNow σ) (fun q_1 => bd (J_bitCount q_1) (fun q_2 => some q_2))
set_option maxHeartbeats 4000000 in
theorem kX_soundMany (l : Launch) {D : va_G} {ty : Nat → ClassId} {A : Nat → Prop} {o : Nat} {ad : Nat → Nat} {rs : va_W} {σ : PS} {r : Int32} (hf : X_soundMany σ = some r) : KI l yX0_soundMany cX0_soundMany 1 .int 2 D ty A (wX ty o ad σ ++ rs) (wX ty o ad σ ++ rs) [.ref o] r := by
  refine KI.of (by decide) (Nat.le_of_ble_eq_true rfl) ?_
  intro p e R s m args below meth c Q C hR
  have C : Cx p R s m args c cX0_soundMany 1 RX0 D ty A 2 := C
  have hR : ∀ (v : Int32), v = r → ∀ (H : Heap) (locs : List Loc) (pc : Nat) (ls : Array Slot), Hw D A s H locs (wX ty o ad σ ++ rs) → narrow .int (.int v) = .int v → decode cX0_soundMany pc = .ok (.ireturn, 1) → W p l e R s m args below meth c H locs 0 0 Q (F0 m pc ls [.int v]) := by intro v e9; cases e9; exact hR
  intro H locs ls h hl
  have hl : lv_has ls 1 [(0, .ref o)] := hl
  unfold X_soundMany at hf
  refine lv_aload_n C.x C.b dX0_soundMany_0 rfl (lv_at hl 0 rfl) ?_
  obtain ⟨q_1, hc, hf⟩ := bd_k (K := fun x => x) rfl hf
  refine cX_soundNow C h hc (Nat.le_of_ble_eq_true rfl) hl.1 (Nat.le_of_ble_eq_true rfl) dX0_soundMany_1 (fun H locs h => ?_)
  obtain ⟨q_2, hc, hf⟩ := bd_k (K := fun x => x) rfl hf
  refine cJ_bitCount_RX0 C h hc (Nat.le_of_ble_eq_true rfl) hl.1 (Nat.le_of_ble_eq_true rfl) dX0_soundMany_4 (fun H locs h => ?_)
  exact hR _ (some_k hf) _ _ _ _ h rfl dX0_soundMany_7
theorem tX_soundMany : GoodIn lw_all (wsV RX0 342 RX0 yX0_soundMany (ws_ yX0_soundMany cX0_soundMany 1 (some .int))) := lw_V q1110 q1112 qs51 q137 q1113
theorem cX_soundMany {p : Program} {l : Launch} {e : Env} {R : Room} {s : State} {m : MethodId} {args : Array Value} {below : List Frame} {meth : Method} {c : Code} {H : Heap} {locs : List Loc} {Q : State → Prop} {cc : ByteArray} {pc : Nat} {ls : Array Slot} {st : List Value} {nL d : Nat} {D : va_G} {ty : Nat → ClassId} {A : Nat → Prop} {o : Nat} {ad : Nat → Nat} {rs : va_W} {σ : PS} {q : Int32} (C : Cx p R s m args c cc nL RX0 D ty A d) (h : Hw D A s H locs (wX ty o ad σ ++ rs)) (hc : X_soundMany σ = some q) (hd : 2 + 1 ≤ d) (hls : ls.size = nL) (hcat : (st.map fun v => v.category).sum ≤ 8) (dec : decode cc pc = .ok (.invokevirtual 342, 3)) (kk : ∀ (H : Heap) (locs : List Loc), Hw D A s H locs (wX ty o ad σ ++ rs) → W p l e R s m args below meth c H locs 0 0 Q (F0 m (pc + 3) ls (.int q :: st))) : W p l e R s m args below meth c H locs 0 0 Q (F0 m pc ls (.ref o :: st)) := KI.callV (As := []) C (kX_soundMany l hc) tX_soundMany ⟨rfl, by decide, by decide, by show _ = some 0; decide +kernel⟩ 0 0 rfl rfl rfl hd (by decide) (Nat.zero_le _) (Nat.zero_le _) h hls rfl hcat dec kk
def X_part_j10 (v0 : Int64) (v2 : Int64) (x0 : Int64) : Option Int64 := bd (X_divisor v0 v2) (fun q_1 => nzl q_1 (some (x0 / q_1)))
def X_part (v0 : Int64) (v2 : Int64) (v4 : Int32) : Option Int64 := if v4 = 0 then X_part_j10 v0 v2 v0 else X_part_j10 v0 v2 v2
set_option maxHeartbeats 4000000 in
theorem kX_part (l : Launch) {D : va_G} {ty : Nat → ClassId} {A : Nat → Prop} {ws : va_W} {v0 : Int64} {v2 : Int64} {v4 : Int32} {r : Int64} (hf : X_part v0 v2 v4 = some r) : KL l yX0_part cX0_part 5 2 D ty A ws ws [.long v0, .long v2, .int v4] r := by
  refine KL.of (by decide) (Nat.le_of_ble_eq_true rfl) ?_
  intro p e R s m args below meth c Q C hR
  have C : Cx p R s m args c cX0_part 5 RX0 D ty A 2 := C
  have hR : ∀ (v : Int64), v = r → ∀ (H : Heap) (locs : List Loc) (pc : Nat) (ls : Array Slot), Hw D A s H locs ws → decode cX0_part pc = .ok (.lreturn, 1) → W p l e R s m args below meth c H locs 0 0 Q (F0 m pc ls [.long v]) := by intro v e9; cases e9; exact hR
  have j10 : ∀ (x0 : Int64) (H : Heap) (locs : List Loc) (ls : Array Slot), Hw D A s H locs ws → lv_has ls 5 [(0, .long v0), (2, .long v2)] → X_part_j10 v0 v2 x0 = some r → W p l e R s m args below meth c H locs 0 0 Q (F0 m 10 ls [.long x0]) := by
    intro x0 H locs ls h hl hf
    unfold X_part_j10 at hf
    refine lv_lload_n C.x C.b dX0_part_10 rfl (lv_at hl 0 rfl) ?_
    refine lv_lload_n C.x C.b dX0_part_11 rfl (lv_at hl 1 rfl) ?_
    obtain ⟨q_1, hc, hf⟩ := bd_k (K := fun x => x) rfl hf
    refine cX_divisor C h hc (Nat.le_of_ble_eq_true rfl) hl.1 (Nat.le_of_ble_eq_true rfl) dX0_part_12 (fun H locs h => ?_)
    obtain ⟨hz, hf⟩ := nzl_k (K := fun x => x) rfl hf
    refine lv_ldiv C.x C.b dX0_part_15 hz ?_
    exact hR _ (some_k hf) _ _ _ _ h dX0_part_16
  intro H locs ls h hl
  have hl : lv_has ls 5 [(0, .long v0), (2, .long v2), (4, .int v4)] := hl
  unfold X_part at hf
  refine lv_iload C.x C.b dX0_part_0 (lv_at hl 2 rfl) ?_
  refine lv_if_ne (tgt := 9) C.x C.b dX0_part_2 (by decide) (fun c9 => ?_) (fun c9 => ?_)
  · have hf := if_f (K := fun x => x) c9 hf
    refine lv_lload_n C.x C.b dX0_part_9 rfl (lv_at hl 1 rfl) ?_
    exact j10 v2 _ _ _ h (lv_sub hl [0, 1] rfl) hf
  · have hf := if_t (K := fun x => x) c9 hf
    refine lv_lload_n C.x C.b dX0_part_5 rfl (lv_at hl 0 rfl) ?_
    refine lv_goto (tgt := 10) C.x C.b dX0_part_6 (by decide) ?_
    exact j10 v0 _ _ _ h (lv_sub hl [0, 1] rfl) hf
theorem tX_part : GoodIn lw_all (va_wsS RX0 409 yX0_part (ws_ yX0_part cX0_part 5 (some .long))) := lw_S q1257 q1258 q137 q1259
theorem cX_part {p : Program} {l : Launch} {e : Env} {R : Room} {s : State} {m : MethodId} {args : Array Value} {below : List Frame} {meth : Method} {c : Code} {H : Heap} {locs : List Loc} {Q : State → Prop} {cc : ByteArray} {pc : Nat} {ls : Array Slot} {st : List Value} {nL d : Nat} {D : va_G} {ty : Nat → ClassId} {A : Nat → Prop} {ws : va_W} {v0 : Int64} {v2 : Int64} {v4 : Int32} {q : Int64} (C : Cx p R s m args c cc nL RX0 D ty A d) (h : Hw D A s H locs ws) (hc : X_part v0 v2 v4 = some q) (hd : 2 + 1 ≤ d) (hls : ls.size = nL) (hcat : (st.map fun v => v.category).sum ≤ 8) (dec : decode cc pc = .ok (.invokestatic 409, 3)) (kk : ∀ (H : Heap) (locs : List Loc), Hw D A s H locs ws → W p l e R s m args below meth c H locs 0 0 Q (F0 m (pc + 3) ls (.long q :: st))) : W p l e R s m args below meth c H locs 0 0 Q (F0 m pc ls (.int v4 :: .long v2 :: .long v0 :: st)) := KL.callS (As := [.long v0, .long v2, .int v4]) C (kX_part l hc) tX_part ⟨by decide, by decide, by show _ = some 3; decide +kernel⟩ hd (by decide) (Nat.zero_le _) (Nat.zero_le _) h hls rfl hcat dec kk
def X_mayCrack_j133 (σ : PS) : Option PS := some σ
def X_mayCrack_j116 (σ : PS) (v1 : Int32) (v2 : Int32) (x0 : Int32) (x1 : Int32) : Option PS := ix x1 6 (nm (wA σ 21 x1 x0) (fun σ_1 => ix v1 6 (if (rA σ_1 21 v1) ≤ 0 then X_mayCrack_j133 σ_1 else ix v1 6 (nm (wA σ_1 20 v1 v2) (fun σ_2 => X_mayCrack_j133 σ_2)))))
def X_mayCrack_j115 (σ : PS) (v1 : Int32) (v2 : Int32) (x0 : Int32) : Option PS := X_mayCrack_j116 σ v1 v2 0 x0
def X_mayCrack_j66 (σ : PS) (v1 : Int32) (v2 : Int32) (x0 : Int32) : Option PS := bd (X_strainNow σ v1) (fun q_3 => ix v1 6 (if q_3 ≤ (rA σ 9 v1) then if x0 = 0 then X_mayCrack_j115 σ v1 v2 v1 else ix v1 6 (ix v1 6 (if (rA σ 22 v1) ≤ ((rA σ 9 v1) / 2) then X_mayCrack_j115 σ v1 v2 v1 else X_mayCrack_j116 σ v1 v2 2 v1)) else X_mayCrack_j116 σ v1 v2 1 v1))
def X_mayCrack_j65 (σ : PS) (v1 : Int32) (v2 : Int32) : Option PS := X_mayCrack_j66 σ v1 v2 0
def X_mayCrack_j61 (σ : PS) (v1 : Int32) (v2 : Int32) : Option PS := X_mayCrack_j66 σ v1 v2 1
def X_mayCrack_j23 (σ : PS) : Option PS := some σ
def X_mayCrack (σ : PS) (v1 : Int32) (v2 : Int32) : Option PS := ix v1 6 (if (rA σ 20 v1) = ((-1)) then ix v1 6 (if (rA σ 113 v1) ≤ v2 then bd (X_placeOf σ v1 v2) (fun q_4 => if q_4 = 10 then ix v1 6 (if v2 = (rA σ 113 v1) then X_mayCrack_j61 σ v1 v2 else bd (X_placeOf σ v1 (v2 - 1)) (fun q_5 => if q_5 = 10 then X_mayCrack_j65 σ v1 v2 else X_mayCrack_j61 σ v1 v2)) else X_mayCrack_j65 σ v1 v2) else X_mayCrack_j23 σ) else X_mayCrack_j23 σ)
set_option maxHeartbeats 4000000 in
theorem kX_mayCrack (l : Launch) {D : va_G} {ty : Nat → ClassId} {A : Nat → Prop} {o : Nat} {ad : Nat → Nat} {rs : va_W} {σ : PS} {σ' : PS} {v1 : Int32} {v2 : Int32} (hf : X_mayCrack σ v1 v2 = some σ') : KV l yX0_mayCrack cX0_mayCrack 4 3 D ty A (wX ty o ad σ ++ rs) (wX ty o ad σ' ++ rs) [.ref o, .int v1, .int v2] := by
  refine KV.of (by decide) (Nat.le_of_ble_eq_true rfl) ?_
  intro p e R s m args below meth c Q C hR
  have C : Cx p R s m args c cX0_mayCrack 4 RX0 D ty A 3 := C
  have hR : ∀ (σ2 : PS), σ2 = σ' → ∀ (H : Heap) (locs : List Loc) (pc : Nat) (ls : Array Slot), Hw D A s H locs (wX ty o ad σ2 ++ rs) → decode cX0_mayCrack pc = .ok (.return_, 1) → W p l e R s m args below meth c H locs 0 0 Q (F0 m pc ls []) := by intro σ2 e9; cases e9; exact hR
  have j133 : ∀ (σ : PS) (H : Heap) (locs : List Loc) (ls : Array Slot), Hw D A s H locs (wX ty o ad σ ++ rs) → lv_has ls 4 [] → X_mayCrack_j133 σ = some σ' → W p l e R s m args below meth c H locs 0 0 Q (F0 m 133 ls []) := by
    intro σ H locs ls h hl hf
    unfold X_mayCrack_j133 at hf
    exact hR _ (some_k hf) _ _ _ _ h dX0_mayCrack_133
  have j116 : ∀ (σ : PS) (x0 : Int32) (x1 : Int32) (H : Heap) (locs : List Loc) (ls : Array Slot), Hw D A s H locs (wX ty o ad σ ++ rs) → lv_has ls 4 [(0, .ref o), (1, .int v1), (2, .int v2)] → X_mayCrack_j116 σ v1 v2 x0 x1 = some σ' → W p l e R s m args below meth c H locs 0 0 Q (F0 m 116 ls [.int x0, .int x1, .ref (ad 21)]) := by
    intro σ x0 x1 H locs ls h hl hf
    unfold X_mayCrack_j116 at hf
    obtain ⟨hi, hf⟩ := ix_k (K := fun x => x) rfl hf
    obtain ⟨σ_1, e9, hf⟩ := nm_k (K := fun x => x) hf
    refine x_w21 C h hi e9 dX0_mayCrack_116 (fun H locs h => ?_)
    refine lv_aload_n C.x C.b dX0_mayCrack_117 rfl (lv_at hl 0 rfl) ?_
    refine x_g21 C h dX0_mayCrack_118 ?_
    refine lv_iload_n C.x C.b dX0_mayCrack_121 rfl (lv_at hl 1 rfl) ?_
    obtain ⟨hi, hf⟩ := ix_k (K := fun x => x) rfl hf
    refine x_a21 C h hi dX0_mayCrack_122 ?_
    refine lv_if_le (tgt := 133) C.x C.b dX0_mayCrack_123 (by decide) (fun c9 => ?_) (fun c9 => ?_)
    · have hf := if_t (K := fun x => x) c9 hf
      exact j133 σ_1 _ _ _ h (lv_sub hl [] rfl) hf
    · have hf := if_f (K := fun x => x) c9 hf
      refine lv_aload_n C.x C.b dX0_mayCrack_126 rfl (lv_at hl 0 rfl) ?_
      refine x_g20 C h dX0_mayCrack_127 ?_
      refine lv_iload_n C.x C.b dX0_mayCrack_130 rfl (lv_at hl 1 rfl) ?_
      refine lv_iload_n C.x C.b dX0_mayCrack_131 rfl (lv_at hl 2 rfl) ?_
      obtain ⟨hi, hf⟩ := ix_k (K := fun x => x) rfl hf
      obtain ⟨σ_2, e9, hf⟩ := nm_k (K := fun x => x) hf
      refine x_w20 C h hi e9 dX0_mayCrack_132 (fun H locs h => ?_)
      exact j133 σ_2 _ _ _ h (lv_sub hl [] rfl) hf
  have j115 : ∀ (σ : PS) (x0 : Int32) (H : Heap) (locs : List Loc) (ls : Array Slot), Hw D A s H locs (wX ty o ad σ ++ rs) → lv_has ls 4 [(0, .ref o), (1, .int v1), (2, .int v2)] → X_mayCrack_j115 σ v1 v2 x0 = some σ' → W p l e R s m args below meth c H locs 0 0 Q (F0 m 115 ls [.int x0, .ref (ad 21)]) := by
    intro σ x0 H locs ls h hl hf
    unfold X_mayCrack_j115 at hf
    refine lv_iconst (v := 0) C.x C.b dX0_mayCrack_115 (by decide) ?_
    exact j116 σ 0 x0 _ _ _ h (lv_sub hl [0, 1, 2] rfl) hf
  have j66 : ∀ (σ : PS) (x0 : Int32) (H : Heap) (locs : List Loc) (ls : Array Slot), Hw D A s H locs (wX ty o ad σ ++ rs) → lv_has ls 4 [(0, .ref o), (1, .int v1), (2, .int v2)] → X_mayCrack_j66 σ v1 v2 x0 = some σ' → W p l e R s m args below meth c H locs 0 0 Q (F0 m 66 ls [.int x0]) := by
    intro σ x0 H locs ls h hl hf
    unfold X_mayCrack_j66 at hf
    refine lv_istore_n (lv' := [(3, .int x0), (0, .ref o), (1, .int v1), (2, .int v2)]) C.x C.b dX0_mayCrack_66 rfl hl (by decide) rfl (fun ls hl => ?_)
    refine lv_aload_n C.x C.b dX0_mayCrack_67 rfl (lv_at hl 1 rfl) ?_
    refine x_g21 C h dX0_mayCrack_68 ?_
    refine lv_iload_n C.x C.b dX0_mayCrack_71 rfl (lv_at hl 2 rfl) ?_
    refine lv_aload_n C.x C.b dX0_mayCrack_72 rfl (lv_at hl 1 rfl) ?_
    refine lv_iload_n C.x C.b dX0_mayCrack_73 rfl (lv_at hl 2 rfl) ?_
    obtain ⟨q_3, hc, hf⟩ := bd_k (K := fun x => x) rfl hf
    refine cX_strainNow C h hc (Nat.le_of_ble_eq_true rfl) hl.1 (Nat.le_of_ble_eq_true rfl) dX0_mayCrack_74 (fun H locs h => ?_)
    refine lv_aload_n C.x C.b dX0_mayCrack_77 rfl (lv_at hl 1 rfl) ?_
    refine x_g9 C h dX0_mayCrack_78 ?_
    refine lv_iload_n C.x C.b dX0_mayCrack_81 rfl (lv_at hl 2 rfl) ?_
    obtain ⟨hi, hf⟩ := ix_k (K := fun x => x) rfl hf
    refine x_a9 C h hi dX0_mayCrack_82 ?_
    refine lv_icmp_le (tgt := 90) C.x C.b dX0_mayCrack_83 (by decide) (fun c9 => ?_) (fun c9 => ?_)
    · have hf := if_t (K := fun x => x) c9 hf
      refine lv_iload_n C.x C.b dX0_mayCrack_90 rfl (lv_at hl 0 rfl) ?_
      refine lv_if_eq (tgt := 115) C.x C.b dX0_mayCrack_91 (by decide) (fun c9 => ?_) (fun c9 => ?_)
      · have hf := if_t (K := fun x => x) c9 hf
        exact j115 σ v1 _ _ _ h (lv_sub hl [1, 2, 3] rfl) hf
      · have hf := if_f (K := fun x => x) c9 hf
        refine lv_aload_n C.x C.b dX0_mayCrack_94 rfl (lv_at hl 1 rfl) ?_
        refine x_g22 C h dX0_mayCrack_95 ?_
        refine lv_iload_n C.x C.b dX0_mayCrack_98 rfl (lv_at hl 2 rfl) ?_
        obtain ⟨hi, hf⟩ := ix_k (K := fun x => x) rfl hf
        refine x_a22 C h hi dX0_mayCrack_99 ?_
        refine lv_aload_n C.x C.b dX0_mayCrack_100 rfl (lv_at hl 1 rfl) ?_
        refine x_g9 C h dX0_mayCrack_101 ?_
        refine lv_iload_n C.x C.b dX0_mayCrack_104 rfl (lv_at hl 2 rfl) ?_
        obtain ⟨hi, hf⟩ := ix_k (K := fun x => x) rfl hf
        refine x_a9 C h hi dX0_mayCrack_105 ?_
        refine lv_iconst (v := 2) C.x C.b dX0_mayCrack_106 (by decide) ?_
        refine lv_idiv C.x C.b dX0_mayCrack_107 (by decide) ?_
        refine lv_icmp_le (tgt := 115) C.x C.b dX0_mayCrack_108 (by decide) (fun c9 => ?_) (fun c9 => ?_)
        · have hf := if_t (K := fun x => x) c9 hf
          exact j115 σ v1 _ _ _ h (lv_sub hl [1, 2, 3] rfl) hf
        · have hf := if_f (K := fun x => x) c9 hf
          refine lv_iconst (v := 2) C.x C.b dX0_mayCrack_111 (by decide) ?_
          refine lv_goto (tgt := 116) C.x C.b dX0_mayCrack_112 (by decide) ?_
          exact j116 σ 2 v1 _ _ _ h (lv_sub hl [1, 2, 3] rfl) hf
    · have hf := if_f (K := fun x => x) c9 hf
      refine lv_iconst (v := 1) C.x C.b dX0_mayCrack_86 (by decide) ?_
      refine lv_goto (tgt := 116) C.x C.b dX0_mayCrack_87 (by decide) ?_
      exact j116 σ 1 v1 _ _ _ h (lv_sub hl [1, 2, 3] rfl) hf
  have j65 : ∀ (σ : PS) (H : Heap) (locs : List Loc) (ls : Array Slot), Hw D A s H locs (wX ty o ad σ ++ rs) → lv_has ls 4 [(0, .ref o), (1, .int v1), (2, .int v2)] → X_mayCrack_j65 σ v1 v2 = some σ' → W p l e R s m args below meth c H locs 0 0 Q (F0 m 65 ls []) := by
    intro σ H locs ls h hl hf
    unfold X_mayCrack_j65 at hf
    refine lv_iconst (v := 0) C.x C.b dX0_mayCrack_65 (by decide) ?_
    exact j66 σ 0 _ _ _ h (lv_sub hl [0, 1, 2] rfl) hf
  have j61 : ∀ (σ : PS) (H : Heap) (locs : List Loc) (ls : Array Slot), Hw D A s H locs (wX ty o ad σ ++ rs) → lv_has ls 4 [(0, .ref o), (1, .int v1), (2, .int v2)] → X_mayCrack_j61 σ v1 v2 = some σ' → W p l e R s m args below meth c H locs 0 0 Q (F0 m 61 ls []) := by
    intro σ H locs ls h hl hf
    unfold X_mayCrack_j61 at hf
    refine lv_iconst (v := 1) C.x C.b dX0_mayCrack_61 (by decide) ?_
    refine lv_goto (tgt := 66) C.x C.b dX0_mayCrack_62 (by decide) ?_
    exact j66 σ 1 _ _ _ h (lv_sub hl [0, 1, 2] rfl) hf
  have j23 : ∀ (σ : PS) (H : Heap) (locs : List Loc) (ls : Array Slot), Hw D A s H locs (wX ty o ad σ ++ rs) → lv_has ls 4 [] → X_mayCrack_j23 σ = some σ' → W p l e R s m args below meth c H locs 0 0 Q (F0 m 23 ls []) := by
    intro σ H locs ls h hl hf
    unfold X_mayCrack_j23 at hf
    exact hR _ (some_k hf) _ _ _ _ h dX0_mayCrack_23
  intro H locs ls h hl
  have hl : lv_has ls 4 [(0, .ref o), (1, .int v1), (2, .int v2)] := hl
  unfold X_mayCrack at hf
  refine lv_aload_n C.x C.b dX0_mayCrack_0 rfl (lv_at hl 0 rfl) ?_
  refine x_g20 C h dX0_mayCrack_1 ?_
  refine lv_iload_n C.x C.b dX0_mayCrack_4 rfl (lv_at hl 1 rfl) ?_
  obtain ⟨hi, hf⟩ := ix_k (K := fun x => x) rfl hf
  refine x_a20 C h hi dX0_mayCrack_5 ?_
  refine lv_iconst (v := (-1)) C.x C.b dX0_mayCrack_6 (by decide) ?_
  refine lv_icmp_ne (tgt := 23) C.x C.b dX0_mayCrack_7 (by decide) (fun c9 => ?_) (fun c9 => ?_)
  · have hf := if_f (K := fun x => x) c9 hf
    exact j23 σ _ _ _ h (lv_sub hl [] rfl) hf
  · have hf := if_t (K := fun x => x) c9 hf
    refine lv_iload_n C.x C.b dX0_mayCrack_10 rfl (lv_at hl 2 rfl) ?_
    refine lv_aload_n C.x C.b dX0_mayCrack_11 rfl (lv_at hl 0 rfl) ?_
    refine x_g0 C h dX0_mayCrack_12 ?_
    refine x_g113 C h dX0_mayCrack_15 ?_
    refine lv_iload_n C.x C.b dX0_mayCrack_18 rfl (lv_at hl 1 rfl) ?_
    obtain ⟨hi, hf⟩ := ix_k (K := fun x => x) rfl hf
    refine x_a113 C h hi dX0_mayCrack_19 ?_
    refine lv_icmp_ge (tgt := 24) C.x C.b dX0_mayCrack_20 (by decide) (fun c9 => ?_) (fun c9 => ?_)
    · have hf := if_t (K := fun x => x) c9 hf
      refine lv_aload_n C.x C.b dX0_mayCrack_24 rfl (lv_at hl 0 rfl) ?_
      refine lv_iload_n C.x C.b dX0_mayCrack_25 rfl (lv_at hl 1 rfl) ?_
      refine lv_iload_n C.x C.b dX0_mayCrack_26 rfl (lv_at hl 2 rfl) ?_
      obtain ⟨q_4, hc, hf⟩ := bd_k (K := fun x => x) rfl hf
      refine cX_placeOf C h hc (Nat.le_of_ble_eq_true rfl) hl.1 (Nat.le_of_ble_eq_true rfl) dX0_mayCrack_27 (fun H locs h => ?_)
      refine lv_bipush (v := 10) C.x C.b dX0_mayCrack_30 (by decide) ?_
      refine lv_icmp_ne (tgt := 65) C.x C.b dX0_mayCrack_32 (by decide) (fun c9 => ?_) (fun c9 => ?_)
      · have hf := if_f (K := fun x => x) c9 hf
        exact j65 σ _ _ _ h (lv_sub hl [0, 1, 2] rfl) hf
      · have hf := if_t (K := fun x => x) c9 hf
        refine lv_iload_n C.x C.b dX0_mayCrack_35 rfl (lv_at hl 2 rfl) ?_
        refine lv_aload_n C.x C.b dX0_mayCrack_36 rfl (lv_at hl 0 rfl) ?_
        refine x_g0 C h dX0_mayCrack_37 ?_
        refine x_g113 C h dX0_mayCrack_40 ?_
        refine lv_iload_n C.x C.b dX0_mayCrack_43 rfl (lv_at hl 1 rfl) ?_
        obtain ⟨hi, hf⟩ := ix_k (K := fun x => x) rfl hf
        refine x_a113 C h hi dX0_mayCrack_44 ?_
        refine lv_icmp_eq (tgt := 61) C.x C.b dX0_mayCrack_45 (by decide) (fun c9 => ?_) (fun c9 => ?_)
        · have hf := if_t (K := fun x => x) c9 hf
          exact j61 σ _ _ _ h (lv_sub hl [0, 1, 2] rfl) hf
        · have hf := if_f (K := fun x => x) c9 hf
          refine lv_aload_n C.x C.b dX0_mayCrack_48 rfl (lv_at hl 0 rfl) ?_
          refine lv_iload_n C.x C.b dX0_mayCrack_49 rfl (lv_at hl 1 rfl) ?_
          refine lv_iload_n C.x C.b dX0_mayCrack_50 rfl (lv_at hl 2 rfl) ?_
          refine lv_iconst (v := 1) C.x C.b dX0_mayCrack_51 (by decide) ?_
          refine lv_isub C.x C.b dX0_mayCrack_52 ?_
          obtain ⟨q_5, hc, hf⟩ := bd_k (K := fun x => x) rfl hf
          refine cX_placeOf C h hc (Nat.le_of_ble_eq_true rfl) hl.1 (Nat.le_of_ble_eq_true rfl) dX0_mayCrack_53 (fun H locs h => ?_)
          refine lv_bipush (v := 10) C.x C.b dX0_mayCrack_56 (by decide) ?_
          refine lv_icmp_eq (tgt := 65) C.x C.b dX0_mayCrack_58 (by decide) (fun c9 => ?_) (fun c9 => ?_)
          · have hf := if_t (K := fun x => x) c9 hf
            exact j65 σ _ _ _ h (lv_sub hl [0, 1, 2] rfl) hf
          · have hf := if_f (K := fun x => x) c9 hf
            exact j61 σ _ _ _ h (lv_sub hl [0, 1, 2] rfl) hf
    · have hf := if_f (K := fun x => x) c9 hf
      exact j23 σ _ _ _ h (lv_sub hl [] rfl) hf
theorem tX_mayCrack : GoodIn lw_all (wsV RX0 244 RX0 yX0_mayCrack (ws_ yX0_mayCrack cX0_mayCrack 4 none)) := lw_V q756 q758 qs23 q137 q759
theorem cX_mayCrack {p : Program} {l : Launch} {e : Env} {R : Room} {s : State} {m : MethodId} {args : Array Value} {below : List Frame} {meth : Method} {c : Code} {H : Heap} {locs : List Loc} {Q : State → Prop} {cc : ByteArray} {pc : Nat} {ls : Array Slot} {st : List Value} {nL d : Nat} {D : va_G} {ty : Nat → ClassId} {A : Nat → Prop} {o : Nat} {ad : Nat → Nat} {rs : va_W} {σ : PS} {v1 : Int32} {v2 : Int32} {q : PS} (C : Cx p R s m args c cc nL RX0 D ty A d) (h : Hw D A s H locs (wX ty o ad σ ++ rs)) (hc : X_mayCrack σ v1 v2 = some q) (hd : 3 + 1 ≤ d) (hls : ls.size = nL) (hcat : (st.map fun v => v.category).sum ≤ 8) (dec : decode cc pc = .ok (.invokevirtual 244, 3)) (kk : ∀ (H : Heap) (locs : List Loc), Hw D A s H locs (wX ty o ad q ++ rs) → W p l e R s m args below meth c H locs 0 0 Q (F0 m (pc + 3) ls (st))) : W p l e R s m args below meth c H locs 0 0 Q (F0 m pc ls (.int v2 :: .int v1 :: .ref o :: st)) := KV.callV (As := [.int v1, .int v2]) C (kX_mayCrack l hc) tX_mayCrack ⟨rfl, by decide, by decide, by show _ = some 2; decide +kernel⟩ 0 0 rfl rfl rfl hd (by decide) (Nat.zero_le _) (Nat.zero_le _) h hls rfl hcat dec kk
def X_airOf_j104 (σ : PS) (x0 : Int32) : Option Int32 := some x0
def X_airOf_j84 (σ : PS) (v2 : Int32) (v3 : Int32) : Option Int32 := bd (X_isGust σ v2) (fun q_1 => if q_1 = 0 then X_airOf_j104 σ v3 else X_airOf_j104 σ (mx 0 (v3 - 80)))
def X_airOf_j78 (σ : PS) (v1 : Int32) (v2 : Int32) (v3 : Int32) (v4 : Int32) : Option ((Int32 × Int32) ⊕ Int32) := nm (v4 + 1) (fun v4_2 => some (.inl (v3, v4_2)))
def X_airOf_l17 (σ : PS) (v1 : Int32) (v2 : Int32) (v3 : Int32) (v4 : Int32) : Option ((Int32 × Int32) ⊕ Int32) := if (gI σ 108) ≤ v4 then up (X_airOf_j84 σ v2 v3) else ix v4 30 (nm (rA σ 114 v4) (fun v5_3 => if v5_3 < 100000 then X_airOf_j78 σ v1 v2 v3 v4 else if ((v5_3 / 100) - (v5_3 / 100) / 1000 * 1000) = v1 then if v2 < (v5_3 - v5_3 / 100 * 100) then X_airOf_j78 σ v1 v2 v3 v4 else nm (v3 + (v5_3 / 100000)) (fun v3_4 => X_airOf_j78 σ v1 v2 v3_4 v4) else X_airOf_j78 σ v1 v2 v3 v4))
def X_airOf_B17 (σ : PS) (v1 : Int32) (v2 : Int32) : (Int32 × Int32) → Option ((Int32 × Int32) ⊕ Int32) := fun t => X_airOf_l17 σ v1 v2 t.1 t.2
def X_airOf (σ : PS) (v1 : Int32) (v2 : Int32) : Option Int32 := ix v1 7 (ix v1 7 (nm ((rA σ 5 v1) + (rA σ 6 v1)) (fun v3_5 => loop (X_airOf_B17 σ v1 v2) fu (v3_5, 0))))
set_option maxHeartbeats 4000000 in
theorem kX_airOf (l : Launch) {D : va_G} {ty : Nat → ClassId} {A : Nat → Prop} {o : Nat} {ad : Nat → Nat} {rs : va_W} {σ : PS} {v1 : Int32} {v2 : Int32} {r : Int32} (hf : X_airOf σ v1 v2 = some r) : KI l yX0_airOf cX0_airOf 6 .int 2 D ty A (wX ty o ad σ ++ rs) (wX ty o ad σ ++ rs) [.ref o, .int v1, .int v2] r := by
  refine KI.of (by decide) (Nat.le_of_ble_eq_true rfl) ?_
  intro p e R s m args below meth c Q C hR
  have C : Cx p R s m args c cX0_airOf 6 RX0 D ty A 2 := C
  have hR : ∀ (v : Int32), v = r → ∀ (H : Heap) (locs : List Loc) (pc : Nat) (ls : Array Slot), Hw D A s H locs (wX ty o ad σ ++ rs) → narrow .int (.int v) = .int v → decode cX0_airOf pc = .ok (.ireturn, 1) → W p l e R s m args below meth c H locs 0 0 Q (F0 m pc ls [.int v]) := by intro v e9; cases e9; exact hR
  have j104 : ∀ (x0 : Int32) (H : Heap) (locs : List Loc) (ls : Array Slot), Hw D A s H locs (wX ty o ad σ ++ rs) → lv_has ls 6 [] → X_airOf_j104 σ x0 = some r → W p l e R s m args below meth c H locs 0 0 Q (F0 m 104 ls [.int x0]) := by
    intro x0 H locs ls h hl hf
    unfold X_airOf_j104 at hf
    exact hR _ (some_k hf) _ _ _ _ h rfl dX0_airOf_104
  have j84 : ∀ (v3 : Int32) (H : Heap) (locs : List Loc) (ls : Array Slot), Hw D A s H locs (wX ty o ad σ ++ rs) → lv_has ls 6 [(0, .ref o), (2, .int v2), (3, .int v3)] → X_airOf_j84 σ v2 v3 = some r → W p l e R s m args below meth c H locs 0 0 Q (F0 m 84 ls []) := by
    intro v3 H locs ls h hl hf
    unfold X_airOf_j84 at hf
    refine lv_aload_n C.x C.b dX0_airOf_84 rfl (lv_at hl 0 rfl) ?_
    refine lv_iload_n C.x C.b dX0_airOf_85 rfl (lv_at hl 1 rfl) ?_
    obtain ⟨q_1, hc, hf⟩ := bd_k (K := fun x => x) rfl hf
    refine cX_isGust C h hc (Nat.le_of_ble_eq_true rfl) hl.1 (Nat.le_of_ble_eq_true rfl) dX0_airOf_86 (fun H locs h => ?_)
    refine lv_if_eq (tgt := 103) C.x C.b dX0_airOf_89 (by decide) (fun c9 => ?_) (fun c9 => ?_)
    · have hf := if_t (K := fun x => x) c9 hf
      refine lv_iload_n C.x C.b dX0_airOf_103 rfl (lv_at hl 2 rfl) ?_
      exact j104 v3 _ _ _ h (lv_sub hl [] rfl) hf
    · have hf := if_f (K := fun x => x) c9 hf
      refine lv_iconst (v := 0) C.x C.b dX0_airOf_92 (by decide) ?_
      refine lv_iload_n C.x C.b dX0_airOf_93 rfl (lv_at hl 2 rfl) ?_
      refine lv_bipush (v := 80) C.x C.b dX0_airOf_94 (by decide) ?_
      refine lv_isub C.x C.b dX0_airOf_96 ?_
      refine r_max_X0 C h hl.1 (by decide) (Nat.le_of_ble_eq_true rfl) dX0_airOf_97 ?_
      refine lv_goto (tgt := 104) C.x C.b dX0_airOf_100 (by decide) ?_
      exact j104 (mx 0 (v3 - 80)) _ _ _ h (lv_sub hl [] rfl) hf
  have l17 : ∀ (n17 : Nat) (v3 : Int32) (v4 : Int32) (H : Heap) (locs : List Loc) (ls : Array Slot), Hw D A s H locs (wX ty o ad σ ++ rs) → lv_has ls 6 [(0, .ref o), (1, .int v1), (2, .int v2), (3, .int v3), (4, .int v4)] → loop (X_airOf_B17 σ v1 v2) n17 (v3, v4) = some r → W p l e R s m args below meth c H locs 0 0 Q (F0 m 17 ls []) := by
    intro n17
    induction n17 with
    | zero => intro v3 v4 H locs ls h hl hf; exact (none_k hf).elim
    | succ n17 ih17 =>
      have j78 : ∀ (v3 : Int32) (v4 : Int32) (H : Heap) (locs : List Loc) (ls : Array Slot), Hw D A s H locs (wX ty o ad σ ++ rs) → lv_has ls 6 [(0, .ref o), (1, .int v1), (2, .int v2), (3, .int v3), (4, .int v4)] → bl (X_airOf_B17 σ v1 v2) n17 (X_airOf_j78 σ v1 v2 v3 v4) = some r → W p l e R s m args below meth c H locs 0 0 Q (F0 m 78 ls []) := by
        intro v3 v4 H locs ls h hl hf
        unfold X_airOf_j78 at hf
        obtain ⟨v4_2, e9, hf⟩ := nm_k (K := bl (X_airOf_B17 σ v1 v2) n17) hf
        refine lv_iinc (v := v4_2) (lv' := [(4, .int v4_2), (0, .ref o), (1, .int v1), (2, .int v2), (3, .int v3)]) C.x C.b dX0_airOf_78 hl (k := 4) rfl (iinc_e (k := 1) (by decide) e9) (by decide) rfl (fun ls hl => ?_)
        refine lv_goto (tgt := 17) C.x C.b dX0_airOf_81 (by decide) ?_
        exact ih17 v3 v4_2 _ _ _ h (lv_sub hl [1, 2, 3, 4, 0] rfl) hf
      intro v3 v4 H locs ls h hl hf
      have hf : bl (X_airOf_B17 σ v1 v2) n17 (X_airOf_l17 σ v1 v2 v3 v4) = some r := hf
      unfold X_airOf_l17 at hf
      refine lv_iload C.x C.b dX0_airOf_17 (lv_at hl 4 rfl) ?_
      refine lv_aload_n C.x C.b dX0_airOf_19 rfl (lv_at hl 0 rfl) ?_
      refine x_g0 C h dX0_airOf_20 ?_
      refine x_g108 C h dX0_airOf_23 ?_
      refine lv_icmp_ge (tgt := 84) C.x C.b dX0_airOf_26 (by decide) (fun c9 => ?_) (fun c9 => ?_)
      · have hf := if_t (K := bl (X_airOf_B17 σ v1 v2) n17) c9 hf
        have hf := bl_upK (K := fun x => x) hf
        exact j84 v3 _ _ _ h (lv_sub hl [0, 2, 3] rfl) hf
      · have hf := if_f (K := bl (X_airOf_B17 σ v1 v2) n17) c9 hf
        refine lv_aload_n C.x C.b dX0_airOf_29 rfl (lv_at hl 0 rfl) ?_
        refine x_g0 C h dX0_airOf_30 ?_
        refine x_g114 C h dX0_airOf_33 ?_
        refine lv_iload C.x C.b dX0_airOf_36 (lv_at hl 4 rfl) ?_
        obtain ⟨hi, hf⟩ := ix_k (K := bl (X_airOf_B17 σ v1 v2) n17) rfl hf
        refine x_a114 C h hi dX0_airOf_38 ?_
        obtain ⟨v5_3, e9, hf⟩ := nm_k (K := bl (X_airOf_B17 σ v1 v2) n17) hf
        refine lv_topI e9 ?_
        refine lv_istore (lv' := [(5, .int v5_3), (0, .ref o), (1, .int v1), (2, .int v2), (3, .int v3), (4, .int v4)]) C.x C.b dX0_airOf_39 hl (by decide) rfl (fun ls hl => ?_)
        refine lv_iload C.x C.b dX0_airOf_41 (lv_at hl 0 rfl) ?_
        refine lv_ldc (v := 100000) C.x C.b C.own (C.ts _ q794) dX0_airOf_43 ?_
        refine lv_icmp_lt (tgt := 78) C.x C.b dX0_airOf_45 (by decide) (fun c9 => ?_) (fun c9 => ?_)
        · have hf := if_t (K := bl (X_airOf_B17 σ v1 v2) n17) c9 hf
          exact j78 v3 v4 _ _ _ h (lv_sub hl [1, 2, 3, 4, 5] rfl) hf
        · have hf := if_f (K := bl (X_airOf_B17 σ v1 v2) n17) c9 hf
          refine lv_iload C.x C.b dX0_airOf_48 (lv_at hl 0 rfl) ?_
          refine lv_bipush (v := 100) C.x C.b dX0_airOf_50 (by decide) ?_
          refine lv_idiv C.x C.b dX0_airOf_52 (by decide) ?_
          refine lv_sipush (v := 1000) C.x C.b dX0_airOf_53 (by decide) ?_
          refine lv_irem C.x C.b dX0_airOf_56 (by decide) ?_
          refine lv_iload_n C.x C.b dX0_airOf_57 rfl (lv_at hl 2 rfl) ?_
          refine lv_icmp_ne (tgt := 78) C.x C.b dX0_airOf_58 (by decide) (fun c9 => ?_) (fun c9 => ?_)
          · have hf := if_f (K := bl (X_airOf_B17 σ v1 v2) n17) c9 hf
            exact j78 v3 v4 _ _ _ h (lv_sub hl [1, 2, 3, 4, 5] rfl) hf
          · have hf := if_t (K := bl (X_airOf_B17 σ v1 v2) n17) c9 hf
            refine lv_iload C.x C.b dX0_airOf_61 (lv_at hl 0 rfl) ?_
            refine lv_bipush (v := 100) C.x C.b dX0_airOf_63 (by decide) ?_
            refine lv_irem C.x C.b dX0_airOf_65 (by decide) ?_
            refine lv_iload_n C.x C.b dX0_airOf_66 rfl (lv_at hl 3 rfl) ?_
            refine lv_icmp_gt (tgt := 78) C.x C.b dX0_airOf_67 (by decide) (fun c9 => ?_) (fun c9 => ?_)
            · have hf := if_t (K := bl (X_airOf_B17 σ v1 v2) n17) c9 hf
              exact j78 v3 v4 _ _ _ h (lv_sub hl [1, 2, 3, 4, 5] rfl) hf
            · have hf := if_f (K := bl (X_airOf_B17 σ v1 v2) n17) c9 hf
              refine lv_iload_n C.x C.b dX0_airOf_70 rfl (lv_at hl 4 rfl) ?_
              refine lv_iload C.x C.b dX0_airOf_71 (lv_at hl 0 rfl) ?_
              refine lv_ldc (v := 100000) C.x C.b C.own (C.ts _ q794) dX0_airOf_73 ?_
              refine lv_idiv C.x C.b dX0_airOf_75 (by decide) ?_
              refine lv_iadd C.x C.b dX0_airOf_76 ?_
              obtain ⟨v3_4, e9, hf⟩ := nm_k (K := bl (X_airOf_B17 σ v1 v2) n17) hf
              refine lv_topI e9 ?_
              refine lv_istore_n (lv' := [(3, .int v3_4), (5, .int v5_3), (0, .ref o), (1, .int v1), (2, .int v2), (4, .int v4)]) C.x C.b dX0_airOf_77 rfl hl (by decide) rfl (fun ls hl => ?_)
              exact j78 v3_4 v4 _ _ _ h (lv_sub hl [2, 3, 4, 0, 5] rfl) hf
  intro H locs ls h hl
  have hl : lv_has ls 6 [(0, .ref o), (1, .int v1), (2, .int v2)] := hl
  unfold X_airOf at hf
  refine lv_aload_n C.x C.b dX0_airOf_0 rfl (lv_at hl 0 rfl) ?_
  refine x_g5 C h dX0_airOf_1 ?_
  refine lv_iload_n C.x C.b dX0_airOf_4 rfl (lv_at hl 1 rfl) ?_
  obtain ⟨hi, hf⟩ := ix_k (K := fun x => x) rfl hf
  refine x_a5 C h hi dX0_airOf_5 ?_
  refine lv_aload_n C.x C.b dX0_airOf_6 rfl (lv_at hl 0 rfl) ?_
  refine x_g6 C h dX0_airOf_7 ?_
  refine lv_iload_n C.x C.b dX0_airOf_10 rfl (lv_at hl 1 rfl) ?_
  obtain ⟨hi, hf⟩ := ix_k (K := fun x => x) rfl hf
  refine x_a6 C h hi dX0_airOf_11 ?_
  refine lv_iadd C.x C.b dX0_airOf_12 ?_
  obtain ⟨v3_5, e9, hf⟩ := nm_k (K := fun x => x) hf
  refine lv_topI e9 ?_
  refine lv_istore_n (lv' := [(3, .int v3_5), (0, .ref o), (1, .int v1), (2, .int v2)]) C.x C.b dX0_airOf_13 rfl hl (by decide) rfl (fun ls hl => ?_)
  refine lv_iconst (v := 0) C.x C.b dX0_airOf_14 (by decide) ?_
  refine lv_istore (lv' := [(4, .int 0), (3, .int v3_5), (0, .ref o), (1, .int v1), (2, .int v2)]) C.x C.b dX0_airOf_15 hl (by decide) rfl (fun ls hl => ?_)
  exact l17  fu v3_5 0 _ _ _ h (lv_sub hl [2, 3, 4, 1, 0] rfl) hf
theorem tX_airOf : GoodIn lw_all (wsV RX0 287 RX0 yX0_airOf (ws_ yX0_airOf cX0_airOf 6 (some .int))) := lw_V q828 q792 qs27 q137 q793
theorem cX_airOf {p : Program} {l : Launch} {e : Env} {R : Room} {s : State} {m : MethodId} {args : Array Value} {below : List Frame} {meth : Method} {c : Code} {H : Heap} {locs : List Loc} {Q : State → Prop} {cc : ByteArray} {pc : Nat} {ls : Array Slot} {st : List Value} {nL d : Nat} {D : va_G} {ty : Nat → ClassId} {A : Nat → Prop} {o : Nat} {ad : Nat → Nat} {rs : va_W} {σ : PS} {v1 : Int32} {v2 : Int32} {q : Int32} (C : Cx p R s m args c cc nL RX0 D ty A d) (h : Hw D A s H locs (wX ty o ad σ ++ rs)) (hc : X_airOf σ v1 v2 = some q) (hd : 2 + 1 ≤ d) (hls : ls.size = nL) (hcat : (st.map fun v => v.category).sum ≤ 8) (dec : decode cc pc = .ok (.invokevirtual 287, 3)) (kk : ∀ (H : Heap) (locs : List Loc), Hw D A s H locs (wX ty o ad σ ++ rs) → W p l e R s m args below meth c H locs 0 0 Q (F0 m (pc + 3) ls (.int q :: st))) : W p l e R s m args below meth c H locs 0 0 Q (F0 m pc ls (.int v2 :: .int v1 :: .ref o :: st)) := KI.callV (As := [.int v1, .int v2]) C (kX_airOf l hc) tX_airOf ⟨rfl, by decide, by decide, by show _ = some 2; decide +kernel⟩ 0 0 rfl rfl rfl hd (by decide) (Nat.zero_le _) (Nat.zero_le _) h hls rfl hcat dec kk
def X_fallOf (σ : PS) (v1 : Int32) (v2 : Int32) : Option Int32 := bd (X_airOf σ v1 v2) (fun q_1 => bd (X_airOf σ (v1 + 1) v2) (fun q_2 => some (q_1 - q_2)))
set_option maxHeartbeats 4000000 in
theorem kX_fallOf (l : Launch) {D : va_G} {ty : Nat → ClassId} {A : Nat → Prop} {o : Nat} {ad : Nat → Nat} {rs : va_W} {σ : PS} {v1 : Int32} {v2 : Int32} {r : Int32} (hf : X_fallOf σ v1 v2 = some r) : KI l yX0_fallOf cX0_fallOf 3 .int 3 D ty A (wX ty o ad σ ++ rs) (wX ty o ad σ ++ rs) [.ref o, .int v1, .int v2] r := by
  refine KI.of (by decide) (Nat.le_of_ble_eq_true rfl) ?_
  intro p e R s m args below meth c Q C hR
  have C : Cx p R s m args c cX0_fallOf 3 RX0 D ty A 3 := C
  have hR : ∀ (v : Int32), v = r → ∀ (H : Heap) (locs : List Loc) (pc : Nat) (ls : Array Slot), Hw D A s H locs (wX ty o ad σ ++ rs) → narrow .int (.int v) = .int v → decode cX0_fallOf pc = .ok (.ireturn, 1) → W p l e R s m args below meth c H locs 0 0 Q (F0 m pc ls [.int v]) := by intro v e9; cases e9; exact hR
  intro H locs ls h hl
  have hl : lv_has ls 3 [(0, .ref o), (1, .int v1), (2, .int v2)] := hl
  unfold X_fallOf at hf
  refine lv_aload_n C.x C.b dX0_fallOf_0 rfl (lv_at hl 0 rfl) ?_
  refine lv_iload_n C.x C.b dX0_fallOf_1 rfl (lv_at hl 1 rfl) ?_
  refine lv_iload_n C.x C.b dX0_fallOf_2 rfl (lv_at hl 2 rfl) ?_
  obtain ⟨q_1, hc, hf⟩ := bd_k (K := fun x => x) rfl hf
  refine cX_airOf C h hc (Nat.le_of_ble_eq_true rfl) hl.1 (Nat.le_of_ble_eq_true rfl) dX0_fallOf_3 (fun H locs h => ?_)
  refine lv_aload_n C.x C.b dX0_fallOf_6 rfl (lv_at hl 0 rfl) ?_
  refine lv_iload_n C.x C.b dX0_fallOf_7 rfl (lv_at hl 1 rfl) ?_
  refine lv_iconst (v := 1) C.x C.b dX0_fallOf_8 (by decide) ?_
  refine lv_iadd C.x C.b dX0_fallOf_9 ?_
  refine lv_iload_n C.x C.b dX0_fallOf_10 rfl (lv_at hl 2 rfl) ?_
  obtain ⟨q_2, hc, hf⟩ := bd_k (K := fun x => x) rfl hf
  refine cX_airOf C h hc (Nat.le_of_ble_eq_true rfl) hl.1 (Nat.le_of_ble_eq_true rfl) dX0_fallOf_11 (fun H locs h => ?_)
  refine lv_isub C.x C.b dX0_fallOf_14 ?_
  exact hR _ (some_k hf) _ _ _ _ h rfl dX0_fallOf_15
theorem tX_fallOf : GoodIn lw_all (wsV RX0 316 RX0 yX0_fallOf (ws_ yX0_fallOf cX0_fallOf 3 (some .int))) := lw_V q1000 q1002 qs43 q137 q1003
theorem cX_fallOf {p : Program} {l : Launch} {e : Env} {R : Room} {s : State} {m : MethodId} {args : Array Value} {below : List Frame} {meth : Method} {c : Code} {H : Heap} {locs : List Loc} {Q : State → Prop} {cc : ByteArray} {pc : Nat} {ls : Array Slot} {st : List Value} {nL d : Nat} {D : va_G} {ty : Nat → ClassId} {A : Nat → Prop} {o : Nat} {ad : Nat → Nat} {rs : va_W} {σ : PS} {v1 : Int32} {v2 : Int32} {q : Int32} (C : Cx p R s m args c cc nL RX0 D ty A d) (h : Hw D A s H locs (wX ty o ad σ ++ rs)) (hc : X_fallOf σ v1 v2 = some q) (hd : 3 + 1 ≤ d) (hls : ls.size = nL) (hcat : (st.map fun v => v.category).sum ≤ 8) (dec : decode cc pc = .ok (.invokevirtual 316, 3)) (kk : ∀ (H : Heap) (locs : List Loc), Hw D A s H locs (wX ty o ad σ ++ rs) → W p l e R s m args below meth c H locs 0 0 Q (F0 m (pc + 3) ls (.int q :: st))) : W p l e R s m args below meth c H locs 0 0 Q (F0 m pc ls (.int v2 :: .int v1 :: .ref o :: st)) := KI.callV (As := [.int v1, .int v2]) C (kX_fallOf l hc) tX_fallOf ⟨rfl, by decide, by decide, by show _ = some 2; decide +kernel⟩ 0 0 rfl rfl rfl hd (by decide) (Nat.zero_le _) (Nat.zero_le _) h hls rfl hcat dec kk
def X_laysStep_j25 (σ : PS) (v1 : Int32) : Option PS := cpg 0 6 (6 * v1) 90 6 (nm (cpA σ 14 0 18 (6 * v1) 6) (fun σ_1 => cpg 0 6 (6 * v1) 90 6 (nm (cpA σ_1 15 0 19 (6 * v1) 6) (fun σ_2 => some σ_2))))
def X_laysStep_l2 (v1 : Int32) (v2 : Int32) (σ : PS) : Option ((Int32 × PS) ⊕ PS) := if (gI σ 107) ≤ v2 then up (X_laysStep_j25 σ v1) else bd (X_mayCrack σ v2 v1) (fun q_3 => nm (v2 + 1) (fun v2_4 => some (.inl (v2_4, q_3))))
def X_laysStep_B2 (v1 : Int32) : (Int32 × PS) → Option ((Int32 × PS) ⊕ PS) := fun t => X_laysStep_l2 v1 t.1 t.2
def X_laysStep (σ : PS) (v1 : Int32) : Option PS := loop (X_laysStep_B2 v1) fu (0, σ)
set_option maxHeartbeats 4000000 in
theorem kX_laysStep (l : Launch) {D : va_G} {ty : Nat → ClassId} {A : Nat → Prop} {o : Nat} {ad : Nat → Nat} {rs : va_W} {σ : PS} {σ' : PS} {v1 : Int32} (hf : X_laysStep σ v1 = some σ') : KV l yX0_laysStep cX0_laysStep 3 4 D ty A (wX ty o ad σ ++ rs) (wX ty o ad σ' ++ rs) [.ref o, .int v1] := by
  refine KV.of (by decide) (Nat.le_of_ble_eq_true rfl) ?_
  intro p e R s m args below meth c Q C hR
  have C : Cx p R s m args c cX0_laysStep 3 RX0 D ty A 4 := C
  have hR : ∀ (σ2 : PS), σ2 = σ' → ∀ (H : Heap) (locs : List Loc) (pc : Nat) (ls : Array Slot), Hw D A s H locs (wX ty o ad σ2 ++ rs) → decode cX0_laysStep pc = .ok (.return_, 1) → W p l e R s m args below meth c H locs 0 0 Q (F0 m pc ls []) := by intro σ2 e9; cases e9; exact hR
  have j25 : ∀ (σ : PS) (H : Heap) (locs : List Loc) (ls : Array Slot), Hw D A s H locs (wX ty o ad σ ++ rs) → lv_has ls 3 [(0, .ref o), (1, .int v1)] → X_laysStep_j25 σ v1 = some σ' → W p l e R s m args below meth c H locs 0 0 Q (F0 m 25 ls []) := by
    intro σ H locs ls h hl hf
    unfold X_laysStep_j25 at hf
    refine lv_aload_n C.x C.b dX0_laysStep_25 rfl (lv_at hl 0 rfl) ?_
    refine x_g14 C h dX0_laysStep_26 ?_
    refine lv_iconst (v := 0) C.x C.b dX0_laysStep_29 (by decide) ?_
    refine lv_aload_n C.x C.b dX0_laysStep_30 rfl (lv_at hl 0 rfl) ?_
    refine x_g18 C h dX0_laysStep_31 ?_
    refine lv_bipush (v := 6) C.x C.b dX0_laysStep_34 (by decide) ?_
    refine lv_iload_n C.x C.b dX0_laysStep_36 rfl (lv_at hl 1 rfl) ?_
    refine lv_imul C.x C.b dX0_laysStep_37 ?_
    refine lv_bipush (v := 6) C.x C.b dX0_laysStep_38 (by decide) ?_
    obtain ⟨hg, hf⟩ := cpg_k (K := fun x => x) rfl hf
    obtain ⟨σ_1, e9, hf⟩ := nm_k (K := fun x => x) hf
    refine x_cp14_18 C h hg e9 hl.1 (by decide) (Nat.le_of_ble_eq_true rfl) dX0_laysStep_40 (fun H locs h => ?_)
    refine lv_aload_n C.x C.b dX0_laysStep_43 rfl (lv_at hl 0 rfl) ?_
    refine x_g15 C h dX0_laysStep_44 ?_
    refine lv_iconst (v := 0) C.x C.b dX0_laysStep_47 (by decide) ?_
    refine lv_aload_n C.x C.b dX0_laysStep_48 rfl (lv_at hl 0 rfl) ?_
    refine x_g19 C h dX0_laysStep_49 ?_
    refine lv_bipush (v := 6) C.x C.b dX0_laysStep_52 (by decide) ?_
    refine lv_iload_n C.x C.b dX0_laysStep_54 rfl (lv_at hl 1 rfl) ?_
    refine lv_imul C.x C.b dX0_laysStep_55 ?_
    refine lv_bipush (v := 6) C.x C.b dX0_laysStep_56 (by decide) ?_
    obtain ⟨hg, hf⟩ := cpg_k (K := fun x => x) rfl hf
    obtain ⟨σ_2, e9, hf⟩ := nm_k (K := fun x => x) hf
    refine x_cp15_19 C h hg e9 hl.1 (by decide) (Nat.le_of_ble_eq_true rfl) dX0_laysStep_58 (fun H locs h => ?_)
    exact hR _ (some_k hf) _ _ _ _ h dX0_laysStep_61
  have l2 : ∀ (n2 : Nat) (v2 : Int32) (σ : PS) (H : Heap) (locs : List Loc) (ls : Array Slot), Hw D A s H locs (wX ty o ad σ ++ rs) → lv_has ls 3 [(0, .ref o), (1, .int v1), (2, .int v2)] → loop (X_laysStep_B2 v1) n2 (v2, σ) = some σ' → W p l e R s m args below meth c H locs 0 0 Q (F0 m 2 ls []) := by
    intro n2
    induction n2 with
    | zero => intro v2 σ H locs ls h hl hf; exact (none_k hf).elim
    | succ n2 ih2 =>
      intro v2 σ H locs ls h hl hf
      have hf : bl (X_laysStep_B2 v1) n2 (X_laysStep_l2 v1 v2 σ) = some σ' := hf
      unfold X_laysStep_l2 at hf
      refine lv_iload_n C.x C.b dX0_laysStep_2 rfl (lv_at hl 2 rfl) ?_
      refine lv_aload_n C.x C.b dX0_laysStep_3 rfl (lv_at hl 0 rfl) ?_
      refine x_g0 C h dX0_laysStep_4 ?_
      refine x_g107 C h dX0_laysStep_7 ?_
      refine lv_icmp_ge (tgt := 25) C.x C.b dX0_laysStep_10 (by decide) (fun c9 => ?_) (fun c9 => ?_)
      · have hf := if_t (K := bl (X_laysStep_B2 v1) n2) c9 hf
        have hf := bl_upK (K := fun x => x) hf
        exact j25 σ _ _ _ h (lv_sub hl [0, 1] rfl) hf
      · have hf := if_f (K := bl (X_laysStep_B2 v1) n2) c9 hf
        refine lv_aload_n C.x C.b dX0_laysStep_13 rfl (lv_at hl 0 rfl) ?_
        refine lv_iload_n C.x C.b dX0_laysStep_14 rfl (lv_at hl 2 rfl) ?_
        refine lv_iload_n C.x C.b dX0_laysStep_15 rfl (lv_at hl 1 rfl) ?_
        obtain ⟨q_3, hc, hf⟩ := bd_k (K := bl (X_laysStep_B2 v1) n2) rfl hf
        refine cX_mayCrack C h hc (Nat.le_of_ble_eq_true rfl) hl.1 (Nat.le_of_ble_eq_true rfl) dX0_laysStep_16 (fun H locs h => ?_)
        obtain ⟨v2_4, e9, hf⟩ := nm_k (K := bl (X_laysStep_B2 v1) n2) hf
        refine lv_iinc (v := v2_4) (lv' := [(2, .int v2_4), (0, .ref o), (1, .int v1)]) C.x C.b dX0_laysStep_19 hl (k := 2) rfl (iinc_e (k := 1) (by decide) e9) (by decide) rfl (fun ls hl => ?_)
        refine lv_goto (tgt := 2) C.x C.b dX0_laysStep_22 (by decide) ?_
        exact ih2 v2_4 q_3 _ _ _ h (lv_sub hl [1, 2, 0] rfl) hf
  intro H locs ls h hl
  have hl : lv_has ls 3 [(0, .ref o), (1, .int v1)] := hl
  unfold X_laysStep at hf
  refine lv_iconst (v := 0) C.x C.b dX0_laysStep_0 (by decide) ?_
  refine lv_istore_n (lv' := [(2, .int 0), (0, .ref o), (1, .int v1)]) C.x C.b dX0_laysStep_1 rfl hl (by decide) rfl (fun ls hl => ?_)
  exact l2  fu 0 σ _ _ _ h (lv_sub hl [1, 2, 0] rfl) hf
theorem tX_laysStep : GoodIn lw_all (wsV RX0 248 RX0 yX0_laysStep (ws_ yX0_laysStep cX0_laysStep 3 none)) := lw_V q752 q754 qs22 q137 q755
theorem cX_laysStep {p : Program} {l : Launch} {e : Env} {R : Room} {s : State} {m : MethodId} {args : Array Value} {below : List Frame} {meth : Method} {c : Code} {H : Heap} {locs : List Loc} {Q : State → Prop} {cc : ByteArray} {pc : Nat} {ls : Array Slot} {st : List Value} {nL d : Nat} {D : va_G} {ty : Nat → ClassId} {A : Nat → Prop} {o : Nat} {ad : Nat → Nat} {rs : va_W} {σ : PS} {v1 : Int32} {q : PS} (C : Cx p R s m args c cc nL RX0 D ty A d) (h : Hw D A s H locs (wX ty o ad σ ++ rs)) (hc : X_laysStep σ v1 = some q) (hd : 4 + 1 ≤ d) (hls : ls.size = nL) (hcat : (st.map fun v => v.category).sum ≤ 8) (dec : decode cc pc = .ok (.invokevirtual 248, 3)) (kk : ∀ (H : Heap) (locs : List Loc), Hw D A s H locs (wX ty o ad q ++ rs) → W p l e R s m args below meth c H locs 0 0 Q (F0 m (pc + 3) ls (st))) : W p l e R s m args below meth c H locs 0 0 Q (F0 m pc ls (.int v1 :: .ref o :: st)) := KV.callV (As := [.int v1]) C (kX_laysStep l hc) tX_laysStep ⟨rfl, by decide, by decide, by show _ = some 1; decide +kernel⟩ 0 0 rfl rfl rfl hd (by decide) (Nat.zero_le _) (Nat.zero_le _) h hls rfl hcat dec kk
