set_option maxRecDepth 100000
def M_in_j18 (x0 : Int32) : Option Int32 := tz x0 (some x0)
def M_in_j17 : Option Int32 := M_in_j18 0
def M_in (v0 : Int64) (v2 : Int64) (v4 : Int64) : Option Int32 := if (lg_cmp v0 v2) < 0 then M_in_j17 else if 0 < (lg_cmp v0 v4) then M_in_j17 else M_in_j18 1
set_option maxHeartbeats 4000000 in
theorem kM_in (l : Launch) {D : va_G} {ty : Nat → ClassId} {A : Nat → Prop} {ws : va_W} {v0 : Int64} {v2 : Int64} {v4 : Int64} {r : Int32} (hf : M_in v0 v2 v4 = some r) : KI l yX7_in cX7_in 6 .boolean 0 D ty A ws ws [.long v0, .long v2, .long v4] r := by
  refine KI.of (by decide) (Nat.le_of_ble_eq_true rfl) ?_
  intro p e R s m args below meth c Q C hR
  have C : Cx p R s m args c cX7_in 6 RX7 D ty A 0 := C
  have hR : ∀ (v : Int32), v = r → ∀ (H : Heap) (locs : List Loc) (pc : Nat) (ls : Array Slot), Hw D A s H locs ws → narrow .boolean (.int v) = .int v → decode cX7_in pc = .ok (.ireturn, 1) → W p l e R s m args below meth c H locs 0 0 Q (F0 m pc ls [.int v]) := by intro v e9; cases e9; exact hR
  have j18 : ∀ (x0 : Int32) (H : Heap) (locs : List Loc) (ls : Array Slot), Hw D A s H locs ws → lv_has ls 6 [] → M_in_j18 x0 = some r → W p l e R s m args below meth c H locs 0 0 Q (F0 m 18 ls [.int x0]) := by
    intro x0 H locs ls h hl hf
    unfold M_in_j18 at hf
    obtain ⟨hz, hf⟩ := tz_k (K := fun x => x) rfl hf
    exact hR _ (some_k hf) _ _ _ _ h hz dX7_in_18
  have j17 : ∀ (H : Heap) (locs : List Loc) (ls : Array Slot), Hw D A s H locs ws → lv_has ls 6 [] → M_in_j17 = some r → W p l e R s m args below meth c H locs 0 0 Q (F0 m 17 ls []) := by
    intro  H locs ls h hl hf
    unfold M_in_j17 at hf
    refine lv_iconst (v := 0) C.x C.b dX7_in_17 (by decide) ?_
    exact j18 0 _ _ _ h (lv_sub hl [] rfl) hf
  intro H locs ls h hl
  have hl : lv_has ls 6 [(0, .long v0), (2, .long v2), (4, .long v4)] := hl
  unfold M_in at hf
  refine lv_lload_n C.x C.b dX7_in_0 rfl (lv_at hl 0 rfl) ?_
  refine lv_lload_n C.x C.b dX7_in_1 rfl (lv_at hl 1 rfl) ?_
  refine W.lcmp C.x C.b dX7_in_2 ?_
  refine lv_if_lt (tgt := 17) C.x C.b dX7_in_3 (by decide) (fun c9 => ?_) (fun c9 => ?_)
  · have hf := if_t (K := fun x => x) c9 hf
    exact j17  _ _ _ h (lv_sub hl [] rfl) hf
  · have hf := if_f (K := fun x => x) c9 hf
    refine lv_lload_n C.x C.b dX7_in_6 rfl (lv_at hl 0 rfl) ?_
    refine lv_lload C.x C.b dX7_in_7 (lv_at hl 2 rfl) ?_
    refine W.lcmp C.x C.b dX7_in_9 ?_
    refine lv_if_gt (tgt := 17) C.x C.b dX7_in_10 (by decide) (fun c9 => ?_) (fun c9 => ?_)
    · have hf := if_t (K := fun x => x) c9 hf
      exact j17  _ _ _ h (lv_sub hl [] rfl) hf
    · have hf := if_f (K := fun x => x) c9 hf
      refine lv_iconst (v := 1) C.x C.b dX7_in_13 (by decide) ?_
      refine lv_goto (tgt := 18) C.x C.b dX7_in_14 (by decide) ?_
      exact j18 1 _ _ _ h (lv_sub hl [] rfl) hf
theorem tM_in : GoodIn lw_all (va_wsS RX7 82 yX7_in (ws_ yX7_in cX7_in 6 (some .boolean))) := lw_S q1665 q1666 q147 q1667
theorem cM_in {p : Program} {l : Launch} {e : Env} {R : Room} {s : State} {m : MethodId} {args : Array Value} {below : List Frame} {meth : Method} {c : Code} {H : Heap} {locs : List Loc} {Q : State → Prop} {cc : ByteArray} {pc : Nat} {ls : Array Slot} {st : List Value} {nL d : Nat} {D : va_G} {ty : Nat → ClassId} {A : Nat → Prop} {ws : va_W} {v0 : Int64} {v2 : Int64} {v4 : Int64} {q : Int32} (C : Cx p R s m args c cc nL RX7 D ty A d) (h : Hw D A s H locs ws) (hc : M_in v0 v2 v4 = some q) (hd : 0 + 1 ≤ d) (hls : ls.size = nL) (hcat : (st.map fun v => v.category).sum ≤ 8) (dec : decode cc pc = .ok (.invokestatic 82, 3)) (kk : ∀ (H : Heap) (locs : List Loc), Hw D A s H locs ws → W p l e R s m args below meth c H locs 0 0 Q (F0 m (pc + 3) ls (.int q :: st))) : W p l e R s m args below meth c H locs 0 0 Q (F0 m pc ls (.long v4 :: .long v2 :: .long v0 :: st)) := KI.callS (As := [.long v0, .long v2, .long v4]) C (kM_in l hc) tM_in ⟨by decide, by decide, by show _ = some 3; decide +kernel⟩ hd (by decide) (Nat.zero_le _) (Nat.zero_le _) h hls rfl hcat dec kk
def M_cut_j35 (x0 : Int64) : Option Int64 := some x0
def M_cut (v0 : Int64) (v2 : Int32) : Option Int64 := if v2 = 0 then M_cut_j35 v0.toInt32.toInt8.toInt32.toInt64 else if v2 = 1 then M_cut_j35 v0.toInt32.toInt16.toInt32.toInt64 else if v2 = 2 then M_cut_j35 v0.toInt32.toInt64 else M_cut_j35 v0
set_option maxHeartbeats 4000000 in
theorem kM_cut (l : Launch) {D : va_G} {ty : Nat → ClassId} {A : Nat → Prop} {ws : va_W} {v0 : Int64} {v2 : Int32} {r : Int64} (hf : M_cut v0 v2 = some r) : KL l yX7_cut cX7_cut 3 0 D ty A ws ws [.long v0, .int v2] r := by
  refine KL.of (by decide) (Nat.le_of_ble_eq_true rfl) ?_
  intro p e R s m args below meth c Q C hR
  have C : Cx p R s m args c cX7_cut 3 RX7 D ty A 0 := C
  have hR : ∀ (v : Int64), v = r → ∀ (H : Heap) (locs : List Loc) (pc : Nat) (ls : Array Slot), Hw D A s H locs ws → decode cX7_cut pc = .ok (.lreturn, 1) → W p l e R s m args below meth c H locs 0 0 Q (F0 m pc ls [.long v]) := by intro v e9; cases e9; exact hR
  have j35 : ∀ (x0 : Int64) (H : Heap) (locs : List Loc) (ls : Array Slot), Hw D A s H locs ws → lv_has ls 3 [] → M_cut_j35 x0 = some r → W p l e R s m args below meth c H locs 0 0 Q (F0 m 35 ls [.long x0]) := by
    intro x0 H locs ls h hl hf
    unfold M_cut_j35 at hf
    exact hR _ (some_k hf) _ _ _ _ h dX7_cut_35
  intro H locs ls h hl
  have hl : lv_has ls 3 [(0, .long v0), (2, .int v2)] := hl
  unfold M_cut at hf
  refine lv_iload_n C.x C.b dX7_cut_0 rfl (lv_at hl 1 rfl) ?_
  refine lv_if_ne (tgt := 11) C.x C.b dX7_cut_1 (by decide) (fun c9 => ?_) (fun c9 => ?_)
  · have hf := if_f (K := fun x => x) c9 hf
    refine lv_iload_n C.x C.b dX7_cut_11 rfl (lv_at hl 1 rfl) ?_
    refine lv_iconst (v := 1) C.x C.b dX7_cut_12 (by decide) ?_
    refine lv_icmp_ne (tgt := 23) C.x C.b dX7_cut_13 (by decide) (fun c9 => ?_) (fun c9 => ?_)
    · have hf := if_f (K := fun x => x) c9 hf
      refine lv_iload_n C.x C.b dX7_cut_23 rfl (lv_at hl 1 rfl) ?_
      refine lv_iconst (v := 2) C.x C.b dX7_cut_24 (by decide) ?_
      refine lv_icmp_ne (tgt := 34) C.x C.b dX7_cut_25 (by decide) (fun c9 => ?_) (fun c9 => ?_)
      · have hf := if_f (K := fun x => x) c9 hf
        refine lv_lload_n C.x C.b dX7_cut_34 rfl (lv_at hl 0 rfl) ?_
        exact j35 v0 _ _ _ h (lv_sub hl [] rfl) hf
      · have hf := if_t (K := fun x => x) c9 hf
        refine lv_lload_n C.x C.b dX7_cut_28 rfl (lv_at hl 0 rfl) ?_
        refine lv_l2i C.x C.b dX7_cut_29 rfl ?_
        refine lv_i2l C.x C.b dX7_cut_30 rfl ?_
        refine lv_goto (tgt := 35) C.x C.b dX7_cut_31 (by decide) ?_
        exact j35 v0.toInt32.toInt64 _ _ _ h (lv_sub hl [] rfl) hf
    · have hf := if_t (K := fun x => x) c9 hf
      refine lv_lload_n C.x C.b dX7_cut_16 rfl (lv_at hl 0 rfl) ?_
      refine lv_l2i C.x C.b dX7_cut_17 rfl ?_
      refine lv_i2s C.x C.b dX7_cut_18 rfl ?_
      refine lv_i2l C.x C.b dX7_cut_19 rfl ?_
      refine lv_goto (tgt := 35) C.x C.b dX7_cut_20 (by decide) ?_
      exact j35 v0.toInt32.toInt16.toInt32.toInt64 _ _ _ h (lv_sub hl [] rfl) hf
  · have hf := if_t (K := fun x => x) c9 hf
    refine lv_lload_n C.x C.b dX7_cut_4 rfl (lv_at hl 0 rfl) ?_
    refine lv_l2i C.x C.b dX7_cut_5 rfl ?_
    refine lv_i2b C.x C.b dX7_cut_6 rfl ?_
    refine lv_i2l C.x C.b dX7_cut_7 rfl ?_
    refine lv_goto (tgt := 35) C.x C.b dX7_cut_8 (by decide) ?_
    exact j35 v0.toInt32.toInt8.toInt32.toInt64 _ _ _ h (lv_sub hl [] rfl) hf
theorem tM_cut : GoodIn lw_all (va_wsS RX7 90 yX7_cut (ws_ yX7_cut cX7_cut 3 (some .long))) := lw_S q1672 q1673 q147 q1674
theorem cM_cut {p : Program} {l : Launch} {e : Env} {R : Room} {s : State} {m : MethodId} {args : Array Value} {below : List Frame} {meth : Method} {c : Code} {H : Heap} {locs : List Loc} {Q : State → Prop} {cc : ByteArray} {pc : Nat} {ls : Array Slot} {st : List Value} {nL d : Nat} {D : va_G} {ty : Nat → ClassId} {A : Nat → Prop} {ws : va_W} {v0 : Int64} {v2 : Int32} {q : Int64} (C : Cx p R s m args c cc nL RX7 D ty A d) (h : Hw D A s H locs ws) (hc : M_cut v0 v2 = some q) (hd : 0 + 1 ≤ d) (hls : ls.size = nL) (hcat : (st.map fun v => v.category).sum ≤ 8) (dec : decode cc pc = .ok (.invokestatic 90, 3)) (kk : ∀ (H : Heap) (locs : List Loc), Hw D A s H locs ws → W p l e R s m args below meth c H locs 0 0 Q (F0 m (pc + 3) ls (.long q :: st))) : W p l e R s m args below meth c H locs 0 0 Q (F0 m pc ls (.int v2 :: .long v0 :: st)) := KL.callS (As := [.long v0, .int v2]) C (kM_cut l hc) tM_cut ⟨by decide, by decide, by show _ = some 2; decide +kernel⟩ hd (by decide) (Nat.zero_le _) (Nat.zero_le _) h hls rfl hcat dec kk
def M_four_j36 (σ : PS) : Option PS := some σ
def M_four_l3 (v1 : Int32) (v2 : Int32) (σ : PS) : Option ((Int32 × PS) ⊕ PS) := if v2 < 0 then up (M_four_j36 σ) else ix (gI σ 6) 600 (nm (wA σ 5 (gI σ 6) (vp_nar .byte ((v1 >>> (v2 &&& 31)).toInt8.toInt32))) (fun σ_1 => nm (sI σ_1 6 ((gI σ_1 6) + 1)) (fun σ_2 => nm (v2 + (-8)) (fun v2_3 => some (.inl (v2_3, σ_2))))))
def M_four_B3 (v1 : Int32) : (Int32 × PS) → Option ((Int32 × PS) ⊕ PS) := fun t => M_four_l3 v1 t.1 t.2
def M_four (σ : PS) (v1 : Int32) : Option PS := loop (M_four_B3 v1) fu (24, σ)
set_option maxHeartbeats 4000000 in
theorem kM_four (l : Launch) {D : va_G} {ty : Nat → ClassId} {A : Nat → Prop} {o : Nat} {ad : Nat → Nat} {rs : va_W} {σ : PS} {σ' : PS} {v1 : Int32} (hf : M_four σ v1 = some σ') : KV l yX7_four cX7_four 3 0 D ty A (wM ty o ad σ ++ rs) (wM ty o ad σ' ++ rs) [.ref o, .int v1] := by
  refine KV.of (by decide) (Nat.le_of_ble_eq_true rfl) ?_
  intro p e R s m args below meth c Q C hR
  have C : Cx p R s m args c cX7_four 3 RX7 D ty A 0 := C
  have hR : ∀ (σ2 : PS), σ2 = σ' → ∀ (H : Heap) (locs : List Loc) (pc : Nat) (ls : Array Slot), Hw D A s H locs (wM ty o ad σ2 ++ rs) → decode cX7_four pc = .ok (.return_, 1) → W p l e R s m args below meth c H locs 0 0 Q (F0 m pc ls []) := by intro σ2 e9; cases e9; exact hR
  have j36 : ∀ (σ : PS) (H : Heap) (locs : List Loc) (ls : Array Slot), Hw D A s H locs (wM ty o ad σ ++ rs) → lv_has ls 3 [] → M_four_j36 σ = some σ' → W p l e R s m args below meth c H locs 0 0 Q (F0 m 36 ls []) := by
    intro σ H locs ls h hl hf
    unfold M_four_j36 at hf
    exact hR _ (some_k hf) _ _ _ _ h dX7_four_36
  have l3 : ∀ (n3 : Nat) (v2 : Int32) (σ : PS) (H : Heap) (locs : List Loc) (ls : Array Slot), Hw D A s H locs (wM ty o ad σ ++ rs) → lv_has ls 3 [(0, .ref o), (1, .int v1), (2, .int v2)] → loop (M_four_B3 v1) n3 (v2, σ) = some σ' → W p l e R s m args below meth c H locs 0 0 Q (F0 m 3 ls []) := by
    intro n3
    induction n3 with
    | zero => intro v2 σ H locs ls h hl hf; exact (none_k hf).elim
    | succ n3 ih3 =>
      intro v2 σ H locs ls h hl hf
      have hf : bl (M_four_B3 v1) n3 (M_four_l3 v1 v2 σ) = some σ' := hf
      unfold M_four_l3 at hf
      refine lv_iload_n C.x C.b dX7_four_3 rfl (lv_at hl 2 rfl) ?_
      refine lv_if_lt (tgt := 36) C.x C.b dX7_four_4 (by decide) (fun c9 => ?_) (fun c9 => ?_)
      · have hf := if_t (K := bl (M_four_B3 v1) n3) c9 hf
        have hf := bl_upK (K := fun x => x) hf
        exact j36 σ _ _ _ h (lv_sub hl [] rfl) hf
      · have hf := if_f (K := bl (M_four_B3 v1) n3) c9 hf
        refine lv_aload_n C.x C.b dX7_four_7 rfl (lv_at hl 0 rfl) ?_
        refine m_g5 C h dX7_four_8 ?_
        refine lv_aload_n C.x C.b dX7_four_11 rfl (lv_at hl 0 rfl) ?_
        refine m_g6 C h dX7_four_12 ?_
        refine lv_iload_n C.x C.b dX7_four_15 rfl (lv_at hl 1 rfl) ?_
        refine lv_iload_n C.x C.b dX7_four_16 rfl (lv_at hl 2 rfl) ?_
        refine lv_ishr C.x C.b dX7_four_17 ?_
        refine lv_i2b C.x C.b dX7_four_18 rfl ?_
        obtain ⟨hi, hf⟩ := ix_k (K := bl (M_four_B3 v1) n3) rfl hf
        obtain ⟨σ_1, e9, hf⟩ := nm_k (K := bl (M_four_B3 v1) n3) hf
        refine m_w5 C h hi e9 dX7_four_19 (fun H locs h => ?_)
        refine lv_aload_n C.x C.b dX7_four_20 rfl (lv_at hl 0 rfl) ?_
        refine lv_dup C.x C.b dX7_four_21 rfl ?_
        refine m_g6 C h dX7_four_22 ?_
        refine lv_iconst (v := 1) C.x C.b dX7_four_25 (by decide) ?_
        refine lv_iadd C.x C.b dX7_four_26 ?_
        obtain ⟨σ_2, e9, hf⟩ := nm_k (K := bl (M_four_B3 v1) n3) hf
        refine m_p6 C h e9 dX7_four_27 (fun H locs h => ?_)
        obtain ⟨v2_3, e9, hf⟩ := nm_k (K := bl (M_four_B3 v1) n3) hf
        refine lv_iinc (v := v2_3) (lv' := [(2, .int v2_3), (0, .ref o), (1, .int v1)]) C.x C.b dX7_four_30 hl (k := 2) rfl (iinc_e (k := (-8)) (by decide) e9) (by decide) rfl (fun ls hl => ?_)
        refine lv_goto (tgt := 3) C.x C.b dX7_four_33 (by decide) ?_
        exact ih3 v2_3 σ_2 _ _ _ h (lv_sub hl [1, 2, 0] rfl) hf
  intro H locs ls h hl
  have hl : lv_has ls 3 [(0, .ref o), (1, .int v1)] := hl
  unfold M_four at hf
  refine lv_bipush (v := 24) C.x C.b dX7_four_0 (by decide) ?_
  refine lv_istore_n (lv' := [(2, .int 24), (0, .ref o), (1, .int v1)]) C.x C.b dX7_four_2 rfl hl (by decide) rfl (fun ls hl => ?_)
  exact l3  fu 24 σ _ _ _ h (lv_sub hl [1, 2, 0] rfl) hf
theorem tM_four : GoodIn lw_all (wsV RX7 97 RX7 yX7_four (ws_ yX7_four cX7_four 3 none)) := lw_V q1683 q1685 qs70 q147 q1686
theorem cM_four {p : Program} {l : Launch} {e : Env} {R : Room} {s : State} {m : MethodId} {args : Array Value} {below : List Frame} {meth : Method} {c : Code} {H : Heap} {locs : List Loc} {Q : State → Prop} {cc : ByteArray} {pc : Nat} {ls : Array Slot} {st : List Value} {nL d : Nat} {D : va_G} {ty : Nat → ClassId} {A : Nat → Prop} {o : Nat} {ad : Nat → Nat} {rs : va_W} {σ : PS} {v1 : Int32} {q : PS} (C : Cx p R s m args c cc nL RX7 D ty A d) (h : Hw D A s H locs (wM ty o ad σ ++ rs)) (hc : M_four σ v1 = some q) (hd : 0 + 1 ≤ d) (hls : ls.size = nL) (hcat : (st.map fun v => v.category).sum ≤ 8) (dec : decode cc pc = .ok (.invokevirtual 97, 3)) (kk : ∀ (H : Heap) (locs : List Loc), Hw D A s H locs (wM ty o ad q ++ rs) → W p l e R s m args below meth c H locs 0 0 Q (F0 m (pc + 3) ls (st))) : W p l e R s m args below meth c H locs 0 0 Q (F0 m pc ls (.int v1 :: .ref o :: st)) := KV.callV (As := [.int v1]) C (kM_four l hc) tM_four ⟨rfl, by decide, by decide, by show _ = some 1; decide +kernel⟩ 0 7 rfl rfl rfl hd (by decide) (Nat.zero_le _) (Nat.zero_le _) h hls rfl hcat dec kk
def M_end (σ : PS) (v1 : Int32) : Option (Int32 × PS) := nm (sI σ 0 0) (fun σ_1 => bd (M_in v1.toInt64 0 ((gI σ_1 6).toInt64)) (fun q_2 => if q_2 = 0 then some ((-1), σ_1) else nm (sI σ_1 6 v1) (fun σ_3 => some (v1, σ_3))))
set_option maxHeartbeats 4000000 in
theorem kM_end (l : Launch) {D : va_G} {ty : Nat → ClassId} {A : Nat → Prop} {o : Nat} {ad : Nat → Nat} {rs : va_W} {σ : PS} {σ' : PS} {v1 : Int32} {r : Int32} (hf : M_end σ v1 = some (r, σ')) : KI l yX7_end cX7_end 2 .int 1 D ty A (wM ty o ad σ ++ rs) (wM ty o ad σ' ++ rs) [.ref o, .int v1] r := by
  refine KI.of (by decide) (Nat.le_of_ble_eq_true rfl) ?_
  intro p e R s m args below meth c Q C hR
  have C : Cx p R s m args c cX7_end 2 RX7 D ty A 1 := C
  have hR : ∀ (v : Int32) (σ2 : PS), (v, σ2) = (r, σ') → ∀ (H : Heap) (locs : List Loc) (pc : Nat) (ls : Array Slot), Hw D A s H locs (wM ty o ad σ2 ++ rs) → narrow .int (.int v) = .int v → decode cX7_end pc = .ok (.ireturn, 1) → W p l e R s m args below meth c H locs 0 0 Q (F0 m pc ls [.int v]) := by intro v σ2 e9; cases e9; exact hR
  intro H locs ls h hl
  have hl : lv_has ls 2 [(0, .ref o), (1, .int v1)] := hl
  unfold M_end at hf
  refine lv_aload_n C.x C.b dX7_end_0 rfl (lv_at hl 0 rfl) ?_
  refine lv_iconst (v := 0) C.x C.b dX7_end_1 (by decide) ?_
  obtain ⟨σ_1, e9, hf⟩ := nm_k (K := fun x => x) hf
  refine m_p0 C h e9 dX7_end_2 (fun H locs h => ?_)
  refine lv_iload_n C.x C.b dX7_end_5 rfl (lv_at hl 1 rfl) ?_
  refine lv_i2l C.x C.b dX7_end_6 rfl ?_
  refine lv_lconst (v := 0) C.x C.b dX7_end_7 (by decide) ?_
  refine lv_aload_n C.x C.b dX7_end_8 rfl (lv_at hl 0 rfl) ?_
  refine m_g6 C h dX7_end_9 ?_
  refine lv_i2l C.x C.b dX7_end_12 rfl ?_
  obtain ⟨q_2, hc, hf⟩ := bd_k (K := fun x => x) rfl hf
  refine cM_in C h hc (Nat.le_of_ble_eq_true rfl) hl.1 (Nat.le_of_ble_eq_true rfl) dX7_end_13 (fun H locs h => ?_)
  refine lv_if_ne (tgt := 21) C.x C.b dX7_end_16 (by decide) (fun c9 => ?_) (fun c9 => ?_)
  · have hf := if_f (K := fun x => x) c9 hf
    refine lv_aload_n C.x C.b dX7_end_21 rfl (lv_at hl 0 rfl) ?_
    refine lv_iload_n C.x C.b dX7_end_22 rfl (lv_at hl 1 rfl) ?_
    obtain ⟨σ_3, e9, hf⟩ := nm_k (K := fun x => x) hf
    refine m_p6 C h e9 dX7_end_23 (fun H locs h => ?_)
    refine lv_iload_n C.x C.b dX7_end_26 rfl (lv_at hl 1 rfl) ?_
    exact hR _ _ (some_k hf) _ _ _ _ h rfl dX7_end_27
  · have hf := if_t (K := fun x => x) c9 hf
    refine lv_iconst (v := (-1)) C.x C.b dX7_end_19 (by decide) ?_
    exact hR _ _ (some_k hf) _ _ _ _ h rfl dX7_end_20
def M_fault_j29 (σ : PS) (x0 : Int32) : Option (Int32 × PS) := some (x0, σ)
def M_fault (σ : PS) (v1 : Int32) : Option (Int32 × PS) := nm (sI σ 0 0) (fun σ_1 => if v1 = 0 then M_fault_j29 σ_1 (gI σ_1 14) else if v1 = 1 then M_fault_j29 σ_1 (gI σ_1 15) else M_fault_j29 σ_1 ((-1)))
set_option maxHeartbeats 4000000 in
theorem kM_fault (l : Launch) {D : va_G} {ty : Nat → ClassId} {A : Nat → Prop} {o : Nat} {ad : Nat → Nat} {rs : va_W} {σ : PS} {σ' : PS} {v1 : Int32} {r : Int32} (hf : M_fault σ v1 = some (r, σ')) : KI l yX7_fault cX7_fault 2 .int 0 D ty A (wM ty o ad σ ++ rs) (wM ty o ad σ' ++ rs) [.ref o, .int v1] r := by
  refine KI.of (by decide) (Nat.le_of_ble_eq_true rfl) ?_
  intro p e R s m args below meth c Q C hR
  have C : Cx p R s m args c cX7_fault 2 RX7 D ty A 0 := C
  have hR : ∀ (v : Int32) (σ2 : PS), (v, σ2) = (r, σ') → ∀ (H : Heap) (locs : List Loc) (pc : Nat) (ls : Array Slot), Hw D A s H locs (wM ty o ad σ2 ++ rs) → narrow .int (.int v) = .int v → decode cX7_fault pc = .ok (.ireturn, 1) → W p l e R s m args below meth c H locs 0 0 Q (F0 m pc ls [.int v]) := by intro v σ2 e9; cases e9; exact hR
  have j29 : ∀ (σ : PS) (x0 : Int32) (H : Heap) (locs : List Loc) (ls : Array Slot), Hw D A s H locs (wM ty o ad σ ++ rs) → lv_has ls 2 [] → M_fault_j29 σ x0 = some (r, σ') → W p l e R s m args below meth c H locs 0 0 Q (F0 m 29 ls [.int x0]) := by
    intro σ x0 H locs ls h hl hf
    unfold M_fault_j29 at hf
    exact hR _ _ (some_k hf) _ _ _ _ h rfl dX7_fault_29
  intro H locs ls h hl
  have hl : lv_has ls 2 [(0, .ref o), (1, .int v1)] := hl
  unfold M_fault at hf
  refine lv_aload_n C.x C.b dX7_fault_0 rfl (lv_at hl 0 rfl) ?_
  refine lv_iconst (v := 0) C.x C.b dX7_fault_1 (by decide) ?_
  obtain ⟨σ_1, e9, hf⟩ := nm_k (K := fun x => x) hf
  refine m_p0 C h e9 dX7_fault_2 (fun H locs h => ?_)
  refine lv_iload_n C.x C.b dX7_fault_5 rfl (lv_at hl 1 rfl) ?_
  refine lv_if_ne (tgt := 16) C.x C.b dX7_fault_6 (by decide) (fun c9 => ?_) (fun c9 => ?_)
  · have hf := if_f (K := fun x => x) c9 hf
    refine lv_iload_n C.x C.b dX7_fault_16 rfl (lv_at hl 1 rfl) ?_
    refine lv_iconst (v := 1) C.x C.b dX7_fault_17 (by decide) ?_
    refine lv_icmp_ne (tgt := 28) C.x C.b dX7_fault_18 (by decide) (fun c9 => ?_) (fun c9 => ?_)
    · have hf := if_f (K := fun x => x) c9 hf
      refine lv_iconst (v := (-1)) C.x C.b dX7_fault_28 (by decide) ?_
      exact j29 σ_1 ((-1)) _ _ _ h (lv_sub hl [] rfl) hf
    · have hf := if_t (K := fun x => x) c9 hf
      refine lv_aload_n C.x C.b dX7_fault_21 rfl (lv_at hl 0 rfl) ?_
      refine m_g15 C h dX7_fault_22 ?_
      refine lv_goto (tgt := 29) C.x C.b dX7_fault_25 (by decide) ?_
      exact j29 σ_1 (gI σ_1 15) _ _ _ h (lv_sub hl [] rfl) hf
  · have hf := if_t (K := fun x => x) c9 hf
    refine lv_aload_n C.x C.b dX7_fault_9 rfl (lv_at hl 0 rfl) ?_
    refine m_g14 C h dX7_fault_10 ?_
    refine lv_goto (tgt := 29) C.x C.b dX7_fault_13 (by decide) ?_
    exact j29 σ_1 (gI σ_1 14) _ _ _ h (lv_sub hl [] rfl) hf
def M_tells (σ : PS) (v1 : Int32) (v2 : Int32) : Option PS := ix (32 + v1) 40 (nm (wA σ 17 (32 + v1) v2) (fun σ_1 => some σ_1))
set_option maxHeartbeats 4000000 in
theorem kM_tells (l : Launch) {D : va_G} {ty : Nat → ClassId} {A : Nat → Prop} {o : Nat} {ad : Nat → Nat} {rs : va_W} {σ : PS} {σ' : PS} {v1 : Int32} {v2 : Int32} (hf : M_tells σ v1 v2 = some σ') : KV l yX7_tells cX7_tells 3 0 D ty A (wM ty o ad σ ++ rs) (wM ty o ad σ' ++ rs) [.ref o, .int v1, .int v2] := by
  refine KV.of (by decide) (Nat.le_of_ble_eq_true rfl) ?_
  intro p e R s m args below meth c Q C hR
  have C : Cx p R s m args c cX7_tells 3 RX7 D ty A 0 := C
  have hR : ∀ (σ2 : PS), σ2 = σ' → ∀ (H : Heap) (locs : List Loc) (pc : Nat) (ls : Array Slot), Hw D A s H locs (wM ty o ad σ2 ++ rs) → decode cX7_tells pc = .ok (.return_, 1) → W p l e R s m args below meth c H locs 0 0 Q (F0 m pc ls []) := by intro σ2 e9; cases e9; exact hR
  intro H locs ls h hl
  have hl : lv_has ls 3 [(0, .ref o), (1, .int v1), (2, .int v2)] := hl
  unfold M_tells at hf
  refine lv_aload_n C.x C.b dX7_tells_0 rfl (lv_at hl 0 rfl) ?_
  refine m_g17 C h dX7_tells_1 ?_
  refine lv_bipush (v := 32) C.x C.b dX7_tells_4 (by decide) ?_
  refine lv_iload_n C.x C.b dX7_tells_6 rfl (lv_at hl 1 rfl) ?_
  refine lv_iadd C.x C.b dX7_tells_7 ?_
  refine lv_iload_n C.x C.b dX7_tells_8 rfl (lv_at hl 2 rfl) ?_
  obtain ⟨hi, hf⟩ := ix_k (K := fun x => x) rfl hf
  obtain ⟨σ_1, e9, hf⟩ := nm_k (K := fun x => x) hf
  refine m_w17 C h hi e9 dX7_tells_9 (fun H locs h => ?_)
  exact hR _ (some_k hf) _ _ _ _ h dX7_tells_10
theorem tM_tells : GoodIn lw_all (wsV RX7 174 RX7 yX7_tells (ws_ yX7_tells cX7_tells 3 none)) := lw_V q1703 q1705 qs72 q147 q1706
theorem cM_tells {p : Program} {l : Launch} {e : Env} {R : Room} {s : State} {m : MethodId} {args : Array Value} {below : List Frame} {meth : Method} {c : Code} {H : Heap} {locs : List Loc} {Q : State → Prop} {cc : ByteArray} {pc : Nat} {ls : Array Slot} {st : List Value} {nL d : Nat} {D : va_G} {ty : Nat → ClassId} {A : Nat → Prop} {o : Nat} {ad : Nat → Nat} {rs : va_W} {σ : PS} {v1 : Int32} {v2 : Int32} {q : PS} (C : Cx p R s m args c cc nL RX7 D ty A d) (h : Hw D A s H locs (wM ty o ad σ ++ rs)) (hc : M_tells σ v1 v2 = some q) (hd : 0 + 1 ≤ d) (hls : ls.size = nL) (hcat : (st.map fun v => v.category).sum ≤ 8) (dec : decode cc pc = .ok (.invokevirtual 174, 3)) (kk : ∀ (H : Heap) (locs : List Loc), Hw D A s H locs (wM ty o ad q ++ rs) → W p l e R s m args below meth c H locs 0 0 Q (F0 m (pc + 3) ls (st))) : W p l e R s m args below meth c H locs 0 0 Q (F0 m pc ls (.int v2 :: .int v1 :: .ref o :: st)) := KV.callV (As := [.int v1, .int v2]) C (kM_tells l hc) tM_tells ⟨rfl, by decide, by decide, by show _ = some 2; decide +kernel⟩ 0 7 rfl rfl rfl hd (by decide) (Nat.zero_le _) (Nat.zero_le _) h hls rfl hcat dec kk
def M_isByte_j33 (σ : PS) (x0 : Int32) : Option Int32 := tz x0 (some x0)
def M_isByte_j32 (σ : PS) : Option Int32 := M_isByte_j33 σ 0
def M_isByte (σ : PS) (v1 : Int32) (v2 : Int32) (v3 : Int32) : Option Int32 := if (gI σ 6) ≤ v1 then M_isByte_j32 σ else ix v1 600 (if (rA σ 5 v1) < v2 then M_isByte_j32 σ else ix v1 600 (if v3 < (rA σ 5 v1) then M_isByte_j32 σ else M_isByte_j33 σ 1))
set_option maxHeartbeats 4000000 in
theorem kM_isByte (l : Launch) {D : va_G} {ty : Nat → ClassId} {A : Nat → Prop} {o : Nat} {ad : Nat → Nat} {rs : va_W} {σ : PS} {v1 : Int32} {v2 : Int32} {v3 : Int32} {r : Int32} (hf : M_isByte σ v1 v2 v3 = some r) : KI l yX7_isByte cX7_isByte 4 .boolean 0 D ty A (wM ty o ad σ ++ rs) (wM ty o ad σ ++ rs) [.ref o, .int v1, .int v2, .int v3] r := by
  refine KI.of (by decide) (Nat.le_of_ble_eq_true rfl) ?_
  intro p e R s m args below meth c Q C hR
  have C : Cx p R s m args c cX7_isByte 4 RX7 D ty A 0 := C
  have hR : ∀ (v : Int32), v = r → ∀ (H : Heap) (locs : List Loc) (pc : Nat) (ls : Array Slot), Hw D A s H locs (wM ty o ad σ ++ rs) → narrow .boolean (.int v) = .int v → decode cX7_isByte pc = .ok (.ireturn, 1) → W p l e R s m args below meth c H locs 0 0 Q (F0 m pc ls [.int v]) := by intro v e9; cases e9; exact hR
  have j33 : ∀ (x0 : Int32) (H : Heap) (locs : List Loc) (ls : Array Slot), Hw D A s H locs (wM ty o ad σ ++ rs) → lv_has ls 4 [] → M_isByte_j33 σ x0 = some r → W p l e R s m args below meth c H locs 0 0 Q (F0 m 33 ls [.int x0]) := by
    intro x0 H locs ls h hl hf
    unfold M_isByte_j33 at hf
    obtain ⟨hz, hf⟩ := tz_k (K := fun x => x) rfl hf
    exact hR _ (some_k hf) _ _ _ _ h hz dX7_isByte_33
  have j32 : ∀ (H : Heap) (locs : List Loc) (ls : Array Slot), Hw D A s H locs (wM ty o ad σ ++ rs) → lv_has ls 4 [] → M_isByte_j32 σ = some r → W p l e R s m args below meth c H locs 0 0 Q (F0 m 32 ls []) := by
    intro  H locs ls h hl hf
    unfold M_isByte_j32 at hf
    refine lv_iconst (v := 0) C.x C.b dX7_isByte_32 (by decide) ?_
    exact j33 0 _ _ _ h (lv_sub hl [] rfl) hf
  intro H locs ls h hl
  have hl : lv_has ls 4 [(0, .ref o), (1, .int v1), (2, .int v2), (3, .int v3)] := hl
  unfold M_isByte at hf
  refine lv_iload_n C.x C.b dX7_isByte_0 rfl (lv_at hl 1 rfl) ?_
  refine lv_aload_n C.x C.b dX7_isByte_1 rfl (lv_at hl 0 rfl) ?_
  refine m_g6 C h dX7_isByte_2 ?_
  refine lv_icmp_ge (tgt := 32) C.x C.b dX7_isByte_5 (by decide) (fun c9 => ?_) (fun c9 => ?_)
  · have hf := if_t (K := fun x => x) c9 hf
    exact j32  _ _ _ h (lv_sub hl [] rfl) hf
  · have hf := if_f (K := fun x => x) c9 hf
    refine lv_aload_n C.x C.b dX7_isByte_8 rfl (lv_at hl 0 rfl) ?_
    refine m_g5 C h dX7_isByte_9 ?_
    refine lv_iload_n C.x C.b dX7_isByte_12 rfl (lv_at hl 1 rfl) ?_
    obtain ⟨hi, hf⟩ := ix_k (K := fun x => x) rfl hf
    refine m_a5 C h hi dX7_isByte_13 ?_
    refine lv_iload_n C.x C.b dX7_isByte_14 rfl (lv_at hl 2 rfl) ?_
    refine lv_icmp_lt (tgt := 32) C.x C.b dX7_isByte_15 (by decide) (fun c9 => ?_) (fun c9 => ?_)
    · have hf := if_t (K := fun x => x) c9 hf
      exact j32  _ _ _ h (lv_sub hl [] rfl) hf
    · have hf := if_f (K := fun x => x) c9 hf
      refine lv_aload_n C.x C.b dX7_isByte_18 rfl (lv_at hl 0 rfl) ?_
      refine m_g5 C h dX7_isByte_19 ?_
      refine lv_iload_n C.x C.b dX7_isByte_22 rfl (lv_at hl 1 rfl) ?_
      obtain ⟨hi, hf⟩ := ix_k (K := fun x => x) rfl hf
      refine m_a5 C h hi dX7_isByte_23 ?_
      refine lv_iload_n C.x C.b dX7_isByte_24 rfl (lv_at hl 3 rfl) ?_
      refine lv_icmp_gt (tgt := 32) C.x C.b dX7_isByte_25 (by decide) (fun c9 => ?_) (fun c9 => ?_)
      · have hf := if_t (K := fun x => x) c9 hf
        exact j32  _ _ _ h (lv_sub hl [] rfl) hf
      · have hf := if_f (K := fun x => x) c9 hf
        refine lv_iconst (v := 1) C.x C.b dX7_isByte_28 (by decide) ?_
        refine lv_goto (tgt := 33) C.x C.b dX7_isByte_29 (by decide) ?_
        exact j33 1 _ _ _ h (lv_sub hl [] rfl) hf
theorem tM_isByte : GoodIn lw_all (wsV RX7 104 RX7 yX7_isByte (ws_ yX7_isByte cX7_isByte 4 (some .boolean))) := lw_V q1715 q1717 qs75 q147 q1718
theorem cM_isByte {p : Program} {l : Launch} {e : Env} {R : Room} {s : State} {m : MethodId} {args : Array Value} {below : List Frame} {meth : Method} {c : Code} {H : Heap} {locs : List Loc} {Q : State → Prop} {cc : ByteArray} {pc : Nat} {ls : Array Slot} {st : List Value} {nL d : Nat} {D : va_G} {ty : Nat → ClassId} {A : Nat → Prop} {o : Nat} {ad : Nat → Nat} {rs : va_W} {σ : PS} {v1 : Int32} {v2 : Int32} {v3 : Int32} {q : Int32} (C : Cx p R s m args c cc nL RX7 D ty A d) (h : Hw D A s H locs (wM ty o ad σ ++ rs)) (hc : M_isByte σ v1 v2 v3 = some q) (hd : 0 + 1 ≤ d) (hls : ls.size = nL) (hcat : (st.map fun v => v.category).sum ≤ 8) (dec : decode cc pc = .ok (.invokevirtual 104, 3)) (kk : ∀ (H : Heap) (locs : List Loc), Hw D A s H locs (wM ty o ad σ ++ rs) → W p l e R s m args below meth c H locs 0 0 Q (F0 m (pc + 3) ls (.int q :: st))) : W p l e R s m args below meth c H locs 0 0 Q (F0 m pc ls (.int v3 :: .int v2 :: .int v1 :: .ref o :: st)) := KI.callV (As := [.int v1, .int v2, .int v3]) C (kM_isByte l hc) tM_isByte ⟨rfl, by decide, by decide, by show _ = some 3; decide +kernel⟩ 0 7 rfl rfl rfl hd (by decide) (Nat.zero_le _) (Nat.zero_le _) h hls rfl hcat dec kk
def M_isGood_j12 (σ : PS) (x0 : Int32) : Option Int32 := tz x0 (some x0)
def M_isGood (σ : PS) : Option Int32 := if (gI σ 12) = 0 then M_isGood_j12 σ 1 else M_isGood_j12 σ 0
set_option maxHeartbeats 4000000 in
theorem kM_isGood (l : Launch) {D : va_G} {ty : Nat → ClassId} {A : Nat → Prop} {o : Nat} {ad : Nat → Nat} {rs : va_W} {σ : PS} {r : Int32} (hf : M_isGood σ = some r) : KI l yX7_isGood cX7_isGood 1 .boolean 0 D ty A (wM ty o ad σ ++ rs) (wM ty o ad σ ++ rs) [.ref o] r := by
  refine KI.of (by decide) (Nat.le_of_ble_eq_true rfl) ?_
  intro p e R s m args below meth c Q C hR
  have C : Cx p R s m args c cX7_isGood 1 RX7 D ty A 0 := C
  have hR : ∀ (v : Int32), v = r → ∀ (H : Heap) (locs : List Loc) (pc : Nat) (ls : Array Slot), Hw D A s H locs (wM ty o ad σ ++ rs) → narrow .boolean (.int v) = .int v → decode cX7_isGood pc = .ok (.ireturn, 1) → W p l e R s m args below meth c H locs 0 0 Q (F0 m pc ls [.int v]) := by intro v e9; cases e9; exact hR
  have j12 : ∀ (x0 : Int32) (H : Heap) (locs : List Loc) (ls : Array Slot), Hw D A s H locs (wM ty o ad σ ++ rs) → lv_has ls 1 [] → M_isGood_j12 σ x0 = some r → W p l e R s m args below meth c H locs 0 0 Q (F0 m 12 ls [.int x0]) := by
    intro x0 H locs ls h hl hf
    unfold M_isGood_j12 at hf
    obtain ⟨hz, hf⟩ := tz_k (K := fun x => x) rfl hf
    exact hR _ (some_k hf) _ _ _ _ h hz dX7_isGood_12
  intro H locs ls h hl
  have hl : lv_has ls 1 [(0, .ref o)] := hl
  unfold M_isGood at hf
  refine lv_aload_n C.x C.b dX7_isGood_0 rfl (lv_at hl 0 rfl) ?_
  refine m_g12 C h dX7_isGood_1 ?_
  refine lv_if_ne (tgt := 11) C.x C.b dX7_isGood_4 (by decide) (fun c9 => ?_) (fun c9 => ?_)
  · have hf := if_f (K := fun x => x) c9 hf
    refine lv_iconst (v := 0) C.x C.b dX7_isGood_11 (by decide) ?_
    exact j12 0 _ _ _ h (lv_sub hl [] rfl) hf
  · have hf := if_t (K := fun x => x) c9 hf
    refine lv_iconst (v := 1) C.x C.b dX7_isGood_7 (by decide) ?_
    refine lv_goto (tgt := 12) C.x C.b dX7_isGood_8 (by decide) ?_
    exact j12 1 _ _ _ h (lv_sub hl [] rfl) hf
theorem tM_isGood : GoodIn lw_all (wsV RX7 195 RX7 yX7_isGood (ws_ yX7_isGood cX7_isGood 1 (some .boolean))) := lw_V q1724 q1726 qs76 q147 q1727
theorem cM_isGood {p : Program} {l : Launch} {e : Env} {R : Room} {s : State} {m : MethodId} {args : Array Value} {below : List Frame} {meth : Method} {c : Code} {H : Heap} {locs : List Loc} {Q : State → Prop} {cc : ByteArray} {pc : Nat} {ls : Array Slot} {st : List Value} {nL d : Nat} {D : va_G} {ty : Nat → ClassId} {A : Nat → Prop} {o : Nat} {ad : Nat → Nat} {rs : va_W} {σ : PS} {q : Int32} (C : Cx p R s m args c cc nL RX7 D ty A d) (h : Hw D A s H locs (wM ty o ad σ ++ rs)) (hc : M_isGood σ = some q) (hd : 0 + 1 ≤ d) (hls : ls.size = nL) (hcat : (st.map fun v => v.category).sum ≤ 8) (dec : decode cc pc = .ok (.invokevirtual 195, 3)) (kk : ∀ (H : Heap) (locs : List Loc), Hw D A s H locs (wM ty o ad σ ++ rs) → W p l e R s m args below meth c H locs 0 0 Q (F0 m (pc + 3) ls (.int q :: st))) : W p l e R s m args below meth c H locs 0 0 Q (F0 m pc ls (.ref o :: st)) := KI.callV (As := []) C (kM_isGood l hc) tM_isGood ⟨rfl, by decide, by decide, by show _ = some 0; decide +kernel⟩ 0 7 rfl rfl rfl hd (by decide) (Nat.zero_le _) (Nat.zero_le _) h hls rfl hcat dec kk
def M_is_j29 (σ : PS) (x0 : Int32) : Option Int32 := tz x0 (some x0)
def M_is_j28 (σ : PS) : Option Int32 := M_is_j29 σ 0
def M_is (σ : PS) (v1 : Int64) : Option Int32 := if (gI σ 12) = 0 then if (gI σ 8) = 1 then if (lg_cmp (gL σ 11) v1) = 0 then M_is_j29 σ 1 else M_is_j28 σ else M_is_j28 σ else M_is_j28 σ
set_option maxHeartbeats 4000000 in
theorem kM_is (l : Launch) {D : va_G} {ty : Nat → ClassId} {A : Nat → Prop} {o : Nat} {ad : Nat → Nat} {rs : va_W} {σ : PS} {v1 : Int64} {r : Int32} (hf : M_is σ v1 = some r) : KI l yX7_is cX7_is 3 .boolean 0 D ty A (wM ty o ad σ ++ rs) (wM ty o ad σ ++ rs) [.ref o, .long v1] r := by
  refine KI.of (by decide) (Nat.le_of_ble_eq_true rfl) ?_
  intro p e R s m args below meth c Q C hR
  have C : Cx p R s m args c cX7_is 3 RX7 D ty A 0 := C
  have hR : ∀ (v : Int32), v = r → ∀ (H : Heap) (locs : List Loc) (pc : Nat) (ls : Array Slot), Hw D A s H locs (wM ty o ad σ ++ rs) → narrow .boolean (.int v) = .int v → decode cX7_is pc = .ok (.ireturn, 1) → W p l e R s m args below meth c H locs 0 0 Q (F0 m pc ls [.int v]) := by intro v e9; cases e9; exact hR
  have j29 : ∀ (x0 : Int32) (H : Heap) (locs : List Loc) (ls : Array Slot), Hw D A s H locs (wM ty o ad σ ++ rs) → lv_has ls 3 [] → M_is_j29 σ x0 = some r → W p l e R s m args below meth c H locs 0 0 Q (F0 m 29 ls [.int x0]) := by
    intro x0 H locs ls h hl hf
    unfold M_is_j29 at hf
    obtain ⟨hz, hf⟩ := tz_k (K := fun x => x) rfl hf
    exact hR _ (some_k hf) _ _ _ _ h hz dX7_is_29
  have j28 : ∀ (H : Heap) (locs : List Loc) (ls : Array Slot), Hw D A s H locs (wM ty o ad σ ++ rs) → lv_has ls 3 [] → M_is_j28 σ = some r → W p l e R s m args below meth c H locs 0 0 Q (F0 m 28 ls []) := by
    intro  H locs ls h hl hf
    unfold M_is_j28 at hf
    refine lv_iconst (v := 0) C.x C.b dX7_is_28 (by decide) ?_
    exact j29 0 _ _ _ h (lv_sub hl [] rfl) hf
  intro H locs ls h hl
  have hl : lv_has ls 3 [(0, .ref o), (1, .long v1)] := hl
  unfold M_is at hf
  refine lv_aload_n C.x C.b dX7_is_0 rfl (lv_at hl 0 rfl) ?_
  refine m_g12 C h dX7_is_1 ?_
  refine lv_if_ne (tgt := 28) C.x C.b dX7_is_4 (by decide) (fun c9 => ?_) (fun c9 => ?_)
  · have hf := if_f (K := fun x => x) c9 hf
    exact j28  _ _ _ h (lv_sub hl [] rfl) hf
  · have hf := if_t (K := fun x => x) c9 hf
    refine lv_aload_n C.x C.b dX7_is_7 rfl (lv_at hl 0 rfl) ?_
    refine m_g8 C h dX7_is_8 ?_
    refine lv_iconst (v := 1) C.x C.b dX7_is_11 (by decide) ?_
    refine lv_icmp_ne (tgt := 28) C.x C.b dX7_is_12 (by decide) (fun c9 => ?_) (fun c9 => ?_)
    · have hf := if_f (K := fun x => x) c9 hf
      exact j28  _ _ _ h (lv_sub hl [] rfl) hf
    · have hf := if_t (K := fun x => x) c9 hf
      refine lv_aload_n C.x C.b dX7_is_15 rfl (lv_at hl 0 rfl) ?_
      refine m_g11 C h dX7_is_16 ?_
      refine lv_lload_n C.x C.b dX7_is_19 rfl (lv_at hl 1 rfl) ?_
      refine W.lcmp C.x C.b dX7_is_20 ?_
      refine lv_if_ne (tgt := 28) C.x C.b dX7_is_21 (by decide) (fun c9 => ?_) (fun c9 => ?_)
      · have hf := if_f (K := fun x => x) c9 hf
        exact j28  _ _ _ h (lv_sub hl [] rfl) hf
      · have hf := if_t (K := fun x => x) c9 hf
        refine lv_iconst (v := 1) C.x C.b dX7_is_24 (by decide) ?_
        refine lv_goto (tgt := 29) C.x C.b dX7_is_25 (by decide) ?_
        exact j29 1 _ _ _ h (lv_sub hl [] rfl) hf
theorem tM_is : GoodIn lw_all (wsV RX7 135 RX7 yX7_is (ws_ yX7_is cX7_is 3 (some .boolean))) := lw_V q1737 q1739 qs79 q147 q1740
theorem cM_is {p : Program} {l : Launch} {e : Env} {R : Room} {s : State} {m : MethodId} {args : Array Value} {below : List Frame} {meth : Method} {c : Code} {H : Heap} {locs : List Loc} {Q : State → Prop} {cc : ByteArray} {pc : Nat} {ls : Array Slot} {st : List Value} {nL d : Nat} {D : va_G} {ty : Nat → ClassId} {A : Nat → Prop} {o : Nat} {ad : Nat → Nat} {rs : va_W} {σ : PS} {v1 : Int64} {q : Int32} (C : Cx p R s m args c cc nL RX7 D ty A d) (h : Hw D A s H locs (wM ty o ad σ ++ rs)) (hc : M_is σ v1 = some q) (hd : 0 + 1 ≤ d) (hls : ls.size = nL) (hcat : (st.map fun v => v.category).sum ≤ 8) (dec : decode cc pc = .ok (.invokevirtual 135, 3)) (kk : ∀ (H : Heap) (locs : List Loc), Hw D A s H locs (wM ty o ad σ ++ rs) → W p l e R s m args below meth c H locs 0 0 Q (F0 m (pc + 3) ls (.int q :: st))) : W p l e R s m args below meth c H locs 0 0 Q (F0 m pc ls (.long v1 :: .ref o :: st)) := KI.callV (As := [.long v1]) C (kM_is l hc) tM_is ⟨rfl, by decide, by decide, by show _ = some 1; decide +kernel⟩ 0 7 rfl rfl rfl hd (by decide) (Nat.zero_le _) (Nat.zero_le _) h hls rfl hcat dec kk
def M_fails (σ : PS) (v1 : Int32) : Option PS := if (gI σ 12) = 0 then nm (sI σ 12 v1) (fun σ_1 => nm (sI σ_1 13 (gI σ_1 9)) (fun σ_2 => some σ_2)) else some σ
set_option maxHeartbeats 4000000 in
theorem kM_fails (l : Launch) {D : va_G} {ty : Nat → ClassId} {A : Nat → Prop} {o : Nat} {ad : Nat → Nat} {rs : va_W} {σ : PS} {σ' : PS} {v1 : Int32} (hf : M_fails σ v1 = some σ') : KV l yX7_fails cX7_fails 2 0 D ty A (wM ty o ad σ ++ rs) (wM ty o ad σ' ++ rs) [.ref o, .int v1] := by
  refine KV.of (by decide) (Nat.le_of_ble_eq_true rfl) ?_
  intro p e R s m args below meth c Q C hR
  have C : Cx p R s m args c cX7_fails 2 RX7 D ty A 0 := C
  have hR : ∀ (σ2 : PS), σ2 = σ' → ∀ (H : Heap) (locs : List Loc) (pc : Nat) (ls : Array Slot), Hw D A s H locs (wM ty o ad σ2 ++ rs) → decode cX7_fails pc = .ok (.return_, 1) → W p l e R s m args below meth c H locs 0 0 Q (F0 m pc ls []) := by intro σ2 e9; cases e9; exact hR
  intro H locs ls h hl
  have hl : lv_has ls 2 [(0, .ref o), (1, .int v1)] := hl
  unfold M_fails at hf
  refine lv_aload_n C.x C.b dX7_fails_0 rfl (lv_at hl 0 rfl) ?_
  refine m_g12 C h dX7_fails_1 ?_
  refine lv_if_eq (tgt := 8) C.x C.b dX7_fails_4 (by decide) (fun c9 => ?_) (fun c9 => ?_)
  · have hf := if_t (K := fun x => x) c9 hf
    refine lv_aload_n C.x C.b dX7_fails_8 rfl (lv_at hl 0 rfl) ?_
    refine lv_iload_n C.x C.b dX7_fails_9 rfl (lv_at hl 1 rfl) ?_
    obtain ⟨σ_1, e9, hf⟩ := nm_k (K := fun x => x) hf
    refine m_p12 C h e9 dX7_fails_10 (fun H locs h => ?_)
    refine lv_aload_n C.x C.b dX7_fails_13 rfl (lv_at hl 0 rfl) ?_
    refine lv_aload_n C.x C.b dX7_fails_14 rfl (lv_at hl 0 rfl) ?_
    refine m_g9 C h dX7_fails_15 ?_
    obtain ⟨σ_2, e9, hf⟩ := nm_k (K := fun x => x) hf
    refine m_p13 C h e9 dX7_fails_18 (fun H locs h => ?_)
    exact hR _ (some_k hf) _ _ _ _ h dX7_fails_21
  · have hf := if_f (K := fun x => x) c9 hf
    exact hR _ (some_k hf) _ _ _ _ h dX7_fails_7
theorem tM_fails : GoodIn lw_all (wsV RX7 145 RX7 yX7_fails (ws_ yX7_fails cX7_fails 2 none)) := lw_V q1741 q1743 qs80 q147 q1744
theorem cM_fails {p : Program} {l : Launch} {e : Env} {R : Room} {s : State} {m : MethodId} {args : Array Value} {below : List Frame} {meth : Method} {c : Code} {H : Heap} {locs : List Loc} {Q : State → Prop} {cc : ByteArray} {pc : Nat} {ls : Array Slot} {st : List Value} {nL d : Nat} {D : va_G} {ty : Nat → ClassId} {A : Nat → Prop} {o : Nat} {ad : Nat → Nat} {rs : va_W} {σ : PS} {v1 : Int32} {q : PS} (C : Cx p R s m args c cc nL RX7 D ty A d) (h : Hw D A s H locs (wM ty o ad σ ++ rs)) (hc : M_fails σ v1 = some q) (hd : 0 + 1 ≤ d) (hls : ls.size = nL) (hcat : (st.map fun v => v.category).sum ≤ 8) (dec : decode cc pc = .ok (.invokevirtual 145, 3)) (kk : ∀ (H : Heap) (locs : List Loc), Hw D A s H locs (wM ty o ad q ++ rs) → W p l e R s m args below meth c H locs 0 0 Q (F0 m (pc + 3) ls (st))) : W p l e R s m args below meth c H locs 0 0 Q (F0 m pc ls (.int v1 :: .ref o :: st)) := KV.callV (As := [.int v1]) C (kM_fails l hc) tM_fails ⟨rfl, by decide, by decide, by show _ = some 1; decide +kernel⟩ 0 7 rfl rfl rfl hd (by decide) (Nat.zero_le _) (Nat.zero_le _) h hls rfl hcat dec kk
def M_hasRead (σ : PS) (v1 : Int32) : Option Int32 := ix (32 + v1) 40 (some (rA σ 17 (32 + v1)))
set_option maxHeartbeats 4000000 in
theorem kM_hasRead (l : Launch) {D : va_G} {ty : Nat → ClassId} {A : Nat → Prop} {o : Nat} {ad : Nat → Nat} {rs : va_W} {σ : PS} {v1 : Int32} {r : Int32} (hf : M_hasRead σ v1 = some r) : KI l yX7_hasRead cX7_hasRead 2 .int 0 D ty A (wM ty o ad σ ++ rs) (wM ty o ad σ ++ rs) [.ref o, .int v1] r := by
  refine KI.of (by decide) (Nat.le_of_ble_eq_true rfl) ?_
  intro p e R s m args below meth c Q C hR
  have C : Cx p R s m args c cX7_hasRead 2 RX7 D ty A 0 := C
  have hR : ∀ (v : Int32), v = r → ∀ (H : Heap) (locs : List Loc) (pc : Nat) (ls : Array Slot), Hw D A s H locs (wM ty o ad σ ++ rs) → narrow .int (.int v) = .int v → decode cX7_hasRead pc = .ok (.ireturn, 1) → W p l e R s m args below meth c H locs 0 0 Q (F0 m pc ls [.int v]) := by intro v e9; cases e9; exact hR
  intro H locs ls h hl
  have hl : lv_has ls 2 [(0, .ref o), (1, .int v1)] := hl
  unfold M_hasRead at hf
  refine lv_aload_n C.x C.b dX7_hasRead_0 rfl (lv_at hl 0 rfl) ?_
  refine m_g17 C h dX7_hasRead_1 ?_
  refine lv_bipush (v := 32) C.x C.b dX7_hasRead_4 (by decide) ?_
  refine lv_iload_n C.x C.b dX7_hasRead_6 rfl (lv_at hl 1 rfl) ?_
  refine lv_iadd C.x C.b dX7_hasRead_7 ?_
  obtain ⟨hi, hf⟩ := ix_k (K := fun x => x) rfl hf
  refine m_a17 C h hi dX7_hasRead_8 ?_
  exact hR _ (some_k hf) _ _ _ _ h rfl dX7_hasRead_9
theorem tM_hasRead : GoodIn lw_all (wsV RX7 159 RX7 yX7_hasRead (ws_ yX7_hasRead cX7_hasRead 2 (some .int))) := lw_V q1767 q1769 qs85 q147 q1770
theorem cM_hasRead {p : Program} {l : Launch} {e : Env} {R : Room} {s : State} {m : MethodId} {args : Array Value} {below : List Frame} {meth : Method} {c : Code} {H : Heap} {locs : List Loc} {Q : State → Prop} {cc : ByteArray} {pc : Nat} {ls : Array Slot} {st : List Value} {nL d : Nat} {D : va_G} {ty : Nat → ClassId} {A : Nat → Prop} {o : Nat} {ad : Nat → Nat} {rs : va_W} {σ : PS} {v1 : Int32} {q : Int32} (C : Cx p R s m args c cc nL RX7 D ty A d) (h : Hw D A s H locs (wM ty o ad σ ++ rs)) (hc : M_hasRead σ v1 = some q) (hd : 0 + 1 ≤ d) (hls : ls.size = nL) (hcat : (st.map fun v => v.category).sum ≤ 8) (dec : decode cc pc = .ok (.invokevirtual 159, 3)) (kk : ∀ (H : Heap) (locs : List Loc), Hw D A s H locs (wM ty o ad σ ++ rs) → W p l e R s m args below meth c H locs 0 0 Q (F0 m (pc + 3) ls (.int q :: st))) : W p l e R s m args below meth c H locs 0 0 Q (F0 m pc ls (.int v1 :: .ref o :: st)) := KI.callV (As := [.int v1]) C (kM_hasRead l hc) tM_hasRead ⟨rfl, by decide, by decide, by show _ = some 1; decide +kernel⟩ 0 7 rfl rfl rfl hd (by decide) (Nat.zero_le _) (Nat.zero_le _) h hls rfl hcat dec kk
def M_isOver_j29 (σ : PS) (x0 : Int32) : Option PS := nm (sI σ 15 x0) (fun σ_1 => some σ_1)
def M_isOver (σ : PS) : Option PS := nm (sI σ 6 0) (fun σ_2 => nm (sI σ_2 14 (gI σ_2 12)) (fun σ_3 => if (gI σ_3 12) = 0 then M_isOver_j29 σ_3 ((-1)) else M_isOver_j29 σ_3 (gI σ_3 13)))
set_option maxHeartbeats 4000000 in
theorem kM_isOver (l : Launch) {D : va_G} {ty : Nat → ClassId} {A : Nat → Prop} {o : Nat} {ad : Nat → Nat} {rs : va_W} {σ : PS} {σ' : PS} (hf : M_isOver σ = some σ') : KV l yX7_isOver cX7_isOver 1 0 D ty A (wM ty o ad σ ++ rs) (wM ty o ad σ' ++ rs) [.ref o] := by
  refine KV.of (by decide) (Nat.le_of_ble_eq_true rfl) ?_
  intro p e R s m args below meth c Q C hR
  have C : Cx p R s m args c cX7_isOver 1 RX7 D ty A 0 := C
  have hR : ∀ (σ2 : PS), σ2 = σ' → ∀ (H : Heap) (locs : List Loc) (pc : Nat) (ls : Array Slot), Hw D A s H locs (wM ty o ad σ2 ++ rs) → decode cX7_isOver pc = .ok (.return_, 1) → W p l e R s m args below meth c H locs 0 0 Q (F0 m pc ls []) := by intro σ2 e9; cases e9; exact hR
  have j29 : ∀ (σ : PS) (x0 : Int32) (H : Heap) (locs : List Loc) (ls : Array Slot), Hw D A s H locs (wM ty o ad σ ++ rs) → lv_has ls 1 [] → M_isOver_j29 σ x0 = some σ' → W p l e R s m args below meth c H locs 0 0 Q (F0 m 29 ls [.int x0, .ref o]) := by
    intro σ x0 H locs ls h hl hf
    unfold M_isOver_j29 at hf
    obtain ⟨σ_1, e9, hf⟩ := nm_k (K := fun x => x) hf
    refine m_p15 C h e9 dX7_isOver_29 (fun H locs h => ?_)
    exact hR _ (some_k hf) _ _ _ _ h dX7_isOver_32
  intro H locs ls h hl
  have hl : lv_has ls 1 [(0, .ref o)] := hl
  unfold M_isOver at hf
  refine lv_aload_n C.x C.b dX7_isOver_0 rfl (lv_at hl 0 rfl) ?_
  refine lv_iconst (v := 0) C.x C.b dX7_isOver_1 (by decide) ?_
  obtain ⟨σ_2, e9, hf⟩ := nm_k (K := fun x => x) hf
  refine m_p6 C h e9 dX7_isOver_2 (fun H locs h => ?_)
  refine lv_aload_n C.x C.b dX7_isOver_5 rfl (lv_at hl 0 rfl) ?_
  refine lv_aload_n C.x C.b dX7_isOver_6 rfl (lv_at hl 0 rfl) ?_
  refine m_g12 C h dX7_isOver_7 ?_
  obtain ⟨σ_3, e9, hf⟩ := nm_k (K := fun x => x) hf
  refine m_p14 C h e9 dX7_isOver_10 (fun H locs h => ?_)
  refine lv_aload_n C.x C.b dX7_isOver_13 rfl (lv_at hl 0 rfl) ?_
  refine lv_aload_n C.x C.b dX7_isOver_14 rfl (lv_at hl 0 rfl) ?_
  refine m_g12 C h dX7_isOver_15 ?_
  refine lv_if_ne (tgt := 25) C.x C.b dX7_isOver_18 (by decide) (fun c9 => ?_) (fun c9 => ?_)
  · have hf := if_f (K := fun x => x) c9 hf
    refine lv_aload_n C.x C.b dX7_isOver_25 rfl (lv_at hl 0 rfl) ?_
    refine m_g13 C h dX7_isOver_26 ?_
    exact j29 σ_3 (gI σ_3 13) _ _ _ h (lv_sub hl [] rfl) hf
  · have hf := if_t (K := fun x => x) c9 hf
    refine lv_iconst (v := (-1)) C.x C.b dX7_isOver_21 (by decide) ?_
    refine lv_goto (tgt := 29) C.x C.b dX7_isOver_22 (by decide) ?_
    exact j29 σ_3 ((-1)) _ _ _ h (lv_sub hl [] rfl) hf
theorem tM_isOver : GoodIn lw_all (wsV RX7 217 RX7 yX7_isOver (ws_ yX7_isOver cX7_isOver 1 none)) := lw_V q1784 q1786 qs88 q147 q1787
theorem cM_isOver {p : Program} {l : Launch} {e : Env} {R : Room} {s : State} {m : MethodId} {args : Array Value} {below : List Frame} {meth : Method} {c : Code} {H : Heap} {locs : List Loc} {Q : State → Prop} {cc : ByteArray} {pc : Nat} {ls : Array Slot} {st : List Value} {nL d : Nat} {D : va_G} {ty : Nat → ClassId} {A : Nat → Prop} {o : Nat} {ad : Nat → Nat} {rs : va_W} {σ : PS} {q : PS} (C : Cx p R s m args c cc nL RX7 D ty A d) (h : Hw D A s H locs (wM ty o ad σ ++ rs)) (hc : M_isOver σ = some q) (hd : 0 + 1 ≤ d) (hls : ls.size = nL) (hcat : (st.map fun v => v.category).sum ≤ 8) (dec : decode cc pc = .ok (.invokevirtual 217, 3)) (kk : ∀ (H : Heap) (locs : List Loc), Hw D A s H locs (wM ty o ad q ++ rs) → W p l e R s m args below meth c H locs 0 0 Q (F0 m (pc + 3) ls (st))) : W p l e R s m args below meth c H locs 0 0 Q (F0 m pc ls (.ref o :: st)) := KV.callV (As := []) C (kM_isOver l hc) tM_isOver ⟨rfl, by decide, by decide, by show _ = some 0; decide +kernel⟩ 0 7 rfl rfl rfl hd (by decide) (Nat.zero_le _) (Nat.zero_le _) h hls rfl hcat dec kk
def M_isZone (σ : PS) (v1 : Int32) : Option Int32 := ix 5 40 (bd (M_in v1.toInt64 0 (((rA σ 17 5).toInt64) - 1)) (fun q_1 => tz q_1 (some q_1)))
set_option maxHeartbeats 4000000 in
theorem kM_isZone (l : Launch) {D : va_G} {ty : Nat → ClassId} {A : Nat → Prop} {o : Nat} {ad : Nat → Nat} {rs : va_W} {σ : PS} {v1 : Int32} {r : Int32} (hf : M_isZone σ v1 = some r) : KI l yX7_isZone cX7_isZone 2 .boolean 1 D ty A (wM ty o ad σ ++ rs) (wM ty o ad σ ++ rs) [.ref o, .int v1] r := by
  refine KI.of (by decide) (Nat.le_of_ble_eq_true rfl) ?_
  intro p e R s m args below meth c Q C hR
  have C : Cx p R s m args c cX7_isZone 2 RX7 D ty A 1 := C
  have hR : ∀ (v : Int32), v = r → ∀ (H : Heap) (locs : List Loc) (pc : Nat) (ls : Array Slot), Hw D A s H locs (wM ty o ad σ ++ rs) → narrow .boolean (.int v) = .int v → decode cX7_isZone pc = .ok (.ireturn, 1) → W p l e R s m args below meth c H locs 0 0 Q (F0 m pc ls [.int v]) := by intro v e9; cases e9; exact hR
  intro H locs ls h hl
  have hl : lv_has ls 2 [(0, .ref o), (1, .int v1)] := hl
  unfold M_isZone at hf
  refine lv_iload_n C.x C.b dX7_isZone_0 rfl (lv_at hl 1 rfl) ?_
  refine lv_i2l C.x C.b dX7_isZone_1 rfl ?_
  refine lv_lconst (v := 0) C.x C.b dX7_isZone_2 (by decide) ?_
  refine lv_aload_n C.x C.b dX7_isZone_3 rfl (lv_at hl 0 rfl) ?_
  refine m_g17 C h dX7_isZone_4 ?_
  refine lv_iconst (v := 5) C.x C.b dX7_isZone_7 (by decide) ?_
  obtain ⟨hi, hf⟩ := ix_k (K := fun x => x) rfl hf
  refine m_a17 C h hi dX7_isZone_8 ?_
  refine lv_i2l C.x C.b dX7_isZone_9 rfl ?_
  refine lv_lconst (v := 1) C.x C.b dX7_isZone_10 (by decide) ?_
  refine lv_lsub C.x C.b dX7_isZone_11 ?_
  obtain ⟨q_1, hc, hf⟩ := bd_k (K := fun x => x) rfl hf
  refine cM_in C h hc (Nat.le_of_ble_eq_true rfl) hl.1 (Nat.le_of_ble_eq_true rfl) dX7_isZone_12 (fun H locs h => ?_)
  obtain ⟨hz, hf⟩ := tz_k (K := fun x => x) rfl hf
  exact hR _ (some_k hf) _ _ _ _ h hz dX7_isZone_15
theorem tM_isZone : GoodIn lw_all (wsV RX7 302 RX7 yX7_isZone (ws_ yX7_isZone cX7_isZone 2 (some .boolean))) := lw_V q1799 q1801 qs90 q147 q1802
theorem cM_isZone {p : Program} {l : Launch} {e : Env} {R : Room} {s : State} {m : MethodId} {args : Array Value} {below : List Frame} {meth : Method} {c : Code} {H : Heap} {locs : List Loc} {Q : State → Prop} {cc : ByteArray} {pc : Nat} {ls : Array Slot} {st : List Value} {nL d : Nat} {D : va_G} {ty : Nat → ClassId} {A : Nat → Prop} {o : Nat} {ad : Nat → Nat} {rs : va_W} {σ : PS} {v1 : Int32} {q : Int32} (C : Cx p R s m args c cc nL RX7 D ty A d) (h : Hw D A s H locs (wM ty o ad σ ++ rs)) (hc : M_isZone σ v1 = some q) (hd : 1 + 1 ≤ d) (hls : ls.size = nL) (hcat : (st.map fun v => v.category).sum ≤ 8) (dec : decode cc pc = .ok (.invokevirtual 302, 3)) (kk : ∀ (H : Heap) (locs : List Loc), Hw D A s H locs (wM ty o ad σ ++ rs) → W p l e R s m args below meth c H locs 0 0 Q (F0 m (pc + 3) ls (.int q :: st))) : W p l e R s m args below meth c H locs 0 0 Q (F0 m pc ls (.int v1 :: .ref o :: st)) := KI.callV (As := [.int v1]) C (kM_isZone l hc) tM_isZone ⟨rfl, by decide, by decide, by show _ = some 1; decide +kernel⟩ 0 7 rfl rfl rfl hd (by decide) (Nat.zero_le _) (Nat.zero_le _) h hls rfl hcat dec kk
def M_pieces (σ : PS) : Option Int32 := ix 6 40 (some (rA σ 17 6))
set_option maxHeartbeats 4000000 in
theorem kM_pieces (l : Launch) {D : va_G} {ty : Nat → ClassId} {A : Nat → Prop} {o : Nat} {ad : Nat → Nat} {rs : va_W} {σ : PS} {r : Int32} (hf : M_pieces σ = some r) : KI l yX7_pieces cX7_pieces 1 .int 0 D ty A (wM ty o ad σ ++ rs) (wM ty o ad σ ++ rs) [.ref o] r := by
  refine KI.of (by decide) (Nat.le_of_ble_eq_true rfl) ?_
  intro p e R s m args below meth c Q C hR
  have C : Cx p R s m args c cX7_pieces 1 RX7 D ty A 0 := C
  have hR : ∀ (v : Int32), v = r → ∀ (H : Heap) (locs : List Loc) (pc : Nat) (ls : Array Slot), Hw D A s H locs (wM ty o ad σ ++ rs) → narrow .int (.int v) = .int v → decode cX7_pieces pc = .ok (.ireturn, 1) → W p l e R s m args below meth c H locs 0 0 Q (F0 m pc ls [.int v]) := by intro v e9; cases e9; exact hR
  intro H locs ls h hl
  have hl : lv_has ls 1 [(0, .ref o)] := hl
  unfold M_pieces at hf
  refine lv_aload_n C.x C.b dX7_pieces_0 rfl (lv_at hl 0 rfl) ?_
  refine m_g17 C h dX7_pieces_1 ?_
  refine lv_bipush (v := 6) C.x C.b dX7_pieces_4 (by decide) ?_
  obtain ⟨hi, hf⟩ := ix_k (K := fun x => x) rfl hf
  refine m_a17 C h hi dX7_pieces_6 ?_
  exact hR _ (some_k hf) _ _ _ _ h rfl dX7_pieces_7
theorem tM_pieces : GoodIn lw_all (wsV RX7 227 RX7 yX7_pieces (ws_ yX7_pieces cX7_pieces 1 (some .int))) := lw_V q1811 q1813 qs92 q147 q1814
theorem cM_pieces {p : Program} {l : Launch} {e : Env} {R : Room} {s : State} {m : MethodId} {args : Array Value} {below : List Frame} {meth : Method} {c : Code} {H : Heap} {locs : List Loc} {Q : State → Prop} {cc : ByteArray} {pc : Nat} {ls : Array Slot} {st : List Value} {nL d : Nat} {D : va_G} {ty : Nat → ClassId} {A : Nat → Prop} {o : Nat} {ad : Nat → Nat} {rs : va_W} {σ : PS} {q : Int32} (C : Cx p R s m args c cc nL RX7 D ty A d) (h : Hw D A s H locs (wM ty o ad σ ++ rs)) (hc : M_pieces σ = some q) (hd : 0 + 1 ≤ d) (hls : ls.size = nL) (hcat : (st.map fun v => v.category).sum ≤ 8) (dec : decode cc pc = .ok (.invokevirtual 227, 3)) (kk : ∀ (H : Heap) (locs : List Loc), Hw D A s H locs (wM ty o ad σ ++ rs) → W p l e R s m args below meth c H locs 0 0 Q (F0 m (pc + 3) ls (.int q :: st))) : W p l e R s m args below meth c H locs 0 0 Q (F0 m pc ls (.ref o :: st)) := KI.callV (As := []) C (kM_pieces l hc) tM_pieces ⟨rfl, by decide, by decide, by show _ = some 0; decide +kernel⟩ 0 7 rfl rfl rfl hd (by decide) (Nat.zero_le _) (Nat.zero_le _) h hls rfl hcat dec kk
def M_isLehr_j14 (σ : PS) (x0 : Int32) : Option Int32 := tz x0 (some x0)
def M_isLehr (σ : PS) : Option Int32 := ix 0 5 (if (rA σ 16 0) ≤ 0 then M_isLehr_j14 σ 0 else M_isLehr_j14 σ 1)
set_option maxHeartbeats 4000000 in
theorem kM_isLehr (l : Launch) {D : va_G} {ty : Nat → ClassId} {A : Nat → Prop} {o : Nat} {ad : Nat → Nat} {rs : va_W} {σ : PS} {r : Int32} (hf : M_isLehr σ = some r) : KI l yX7_isLehr cX7_isLehr 1 .boolean 0 D ty A (wM ty o ad σ ++ rs) (wM ty o ad σ ++ rs) [.ref o] r := by
  refine KI.of (by decide) (Nat.le_of_ble_eq_true rfl) ?_
  intro p e R s m args below meth c Q C hR
  have C : Cx p R s m args c cX7_isLehr 1 RX7 D ty A 0 := C
  have hR : ∀ (v : Int32), v = r → ∀ (H : Heap) (locs : List Loc) (pc : Nat) (ls : Array Slot), Hw D A s H locs (wM ty o ad σ ++ rs) → narrow .boolean (.int v) = .int v → decode cX7_isLehr pc = .ok (.ireturn, 1) → W p l e R s m args below meth c H locs 0 0 Q (F0 m pc ls [.int v]) := by intro v e9; cases e9; exact hR
  have j14 : ∀ (x0 : Int32) (H : Heap) (locs : List Loc) (ls : Array Slot), Hw D A s H locs (wM ty o ad σ ++ rs) → lv_has ls 1 [] → M_isLehr_j14 σ x0 = some r → W p l e R s m args below meth c H locs 0 0 Q (F0 m 14 ls [.int x0]) := by
    intro x0 H locs ls h hl hf
    unfold M_isLehr_j14 at hf
    obtain ⟨hz, hf⟩ := tz_k (K := fun x => x) rfl hf
    exact hR _ (some_k hf) _ _ _ _ h hz dX7_isLehr_14
  intro H locs ls h hl
  have hl : lv_has ls 1 [(0, .ref o)] := hl
  unfold M_isLehr at hf
  refine lv_aload_n C.x C.b dX7_isLehr_0 rfl (lv_at hl 0 rfl) ?_
  refine m_g16 C h dX7_isLehr_1 ?_
  refine lv_iconst (v := 0) C.x C.b dX7_isLehr_4 (by decide) ?_
  obtain ⟨hi, hf⟩ := ix_k (K := fun x => x) rfl hf
  refine m_a16 C h hi dX7_isLehr_5 ?_
  refine lv_if_le (tgt := 13) C.x C.b dX7_isLehr_6 (by decide) (fun c9 => ?_) (fun c9 => ?_)
  · have hf := if_t (K := fun x => x) c9 hf
    refine lv_iconst (v := 0) C.x C.b dX7_isLehr_13 (by decide) ?_
    exact j14 0 _ _ _ h (lv_sub hl [] rfl) hf
  · have hf := if_f (K := fun x => x) c9 hf
    refine lv_iconst (v := 1) C.x C.b dX7_isLehr_9 (by decide) ?_
    refine lv_goto (tgt := 14) C.x C.b dX7_isLehr_10 (by decide) ?_
    exact j14 1 _ _ _ h (lv_sub hl [] rfl) hf
theorem tM_isLehr : GoodIn lw_all (wsV RX7 231 RX7 yX7_isLehr (ws_ yX7_isLehr cX7_isLehr 1 (some .boolean))) := lw_V q1823 q1825 qs94 q147 q1826
theorem cM_isLehr {p : Program} {l : Launch} {e : Env} {R : Room} {s : State} {m : MethodId} {args : Array Value} {below : List Frame} {meth : Method} {c : Code} {H : Heap} {locs : List Loc} {Q : State → Prop} {cc : ByteArray} {pc : Nat} {ls : Array Slot} {st : List Value} {nL d : Nat} {D : va_G} {ty : Nat → ClassId} {A : Nat → Prop} {o : Nat} {ad : Nat → Nat} {rs : va_W} {σ : PS} {q : Int32} (C : Cx p R s m args c cc nL RX7 D ty A d) (h : Hw D A s H locs (wM ty o ad σ ++ rs)) (hc : M_isLehr σ = some q) (hd : 0 + 1 ≤ d) (hls : ls.size = nL) (hcat : (st.map fun v => v.category).sum ≤ 8) (dec : decode cc pc = .ok (.invokevirtual 231, 3)) (kk : ∀ (H : Heap) (locs : List Loc), Hw D A s H locs (wM ty o ad σ ++ rs) → W p l e R s m args below meth c H locs 0 0 Q (F0 m (pc + 3) ls (.int q :: st))) : W p l e R s m args below meth c H locs 0 0 Q (F0 m pc ls (.ref o :: st)) := KI.callV (As := []) C (kM_isLehr l hc) tM_isLehr ⟨rfl, by decide, by decide, by show _ = some 0; decide +kernel⟩ 0 7 rfl rfl rfl hd (by decide) (Nat.zero_le _) (Nat.zero_le _) h hls rfl hcat dec kk
def M_steps (σ : PS) : Option Int32 := ix 0 40 (some (rA σ 17 0))
set_option maxHeartbeats 4000000 in
theorem kM_steps (l : Launch) {D : va_G} {ty : Nat → ClassId} {A : Nat → Prop} {o : Nat} {ad : Nat → Nat} {rs : va_W} {σ : PS} {r : Int32} (hf : M_steps σ = some r) : KI l yX7_steps cX7_steps 1 .int 0 D ty A (wM ty o ad σ ++ rs) (wM ty o ad σ ++ rs) [.ref o] r := by
  refine KI.of (by decide) (Nat.le_of_ble_eq_true rfl) ?_
  intro p e R s m args below meth c Q C hR
  have C : Cx p R s m args c cX7_steps 1 RX7 D ty A 0 := C
  have hR : ∀ (v : Int32), v = r → ∀ (H : Heap) (locs : List Loc) (pc : Nat) (ls : Array Slot), Hw D A s H locs (wM ty o ad σ ++ rs) → narrow .int (.int v) = .int v → decode cX7_steps pc = .ok (.ireturn, 1) → W p l e R s m args below meth c H locs 0 0 Q (F0 m pc ls [.int v]) := by intro v e9; cases e9; exact hR
  intro H locs ls h hl
  have hl : lv_has ls 1 [(0, .ref o)] := hl
  unfold M_steps at hf
  refine lv_aload_n C.x C.b dX7_steps_0 rfl (lv_at hl 0 rfl) ?_
  refine m_g17 C h dX7_steps_1 ?_
  refine lv_iconst (v := 0) C.x C.b dX7_steps_4 (by decide) ?_
  obtain ⟨hi, hf⟩ := ix_k (K := fun x => x) rfl hf
  refine m_a17 C h hi dX7_steps_5 ?_
  exact hR _ (some_k hf) _ _ _ _ h rfl dX7_steps_6
theorem tM_steps : GoodIn lw_all (wsV RX7 234 RX7 yX7_steps (ws_ yX7_steps cX7_steps 1 (some .int))) := lw_V q1827 q1829 qs95 q147 q1830
theorem cM_steps {p : Program} {l : Launch} {e : Env} {R : Room} {s : State} {m : MethodId} {args : Array Value} {below : List Frame} {meth : Method} {c : Code} {H : Heap} {locs : List Loc} {Q : State → Prop} {cc : ByteArray} {pc : Nat} {ls : Array Slot} {st : List Value} {nL d : Nat} {D : va_G} {ty : Nat → ClassId} {A : Nat → Prop} {o : Nat} {ad : Nat → Nat} {rs : va_W} {σ : PS} {q : Int32} (C : Cx p R s m args c cc nL RX7 D ty A d) (h : Hw D A s H locs (wM ty o ad σ ++ rs)) (hc : M_steps σ = some q) (hd : 0 + 1 ≤ d) (hls : ls.size = nL) (hcat : (st.map fun v => v.category).sum ≤ 8) (dec : decode cc pc = .ok (.invokevirtual 234, 3)) (kk : ∀ (H : Heap) (locs : List Loc), Hw D A s H locs (wM ty o ad σ ++ rs) → W p l e R s m args below meth c H locs 0 0 Q (F0 m (pc + 3) ls (.int q :: st))) : W p l e R s m args below meth c H locs 0 0 Q (F0 m pc ls (.ref o :: st)) := KI.callV (As := []) C (kM_steps l hc) tM_steps ⟨rfl, by decide, by decide, by show _ = some 0; decide +kernel⟩ 0 7 rfl rfl rfl hd (by decide) (Nat.zero_le _) (Nat.zero_le _) h hls rfl hcat dec kk
def M_lays_j119 (σ : PS) : Option PS := some σ
def M_lays_l73 (v1 : Int32) (σ : PS) : Option ((Int32 × PS) ⊕ PS) := bd (M_pieces σ) (fun q_1 => if q_1 ≤ v1 then up (M_lays_j119 σ) else ix ((4 * v1) + 1) 120 (ix v1 6 (nm (wA σ 28 v1 (rA σ 19 ((4 * v1) + 1))) (fun σ_2 => ix ((4 * v1) + 2) 120 (ix v1 6 (nm (wA σ_2 29 v1 (rA σ_2 19 ((4 * v1) + 2))) (fun σ_3 => nm (v1 + 1) (fun v1_4 => some (.inl (v1_4, σ_3))))))))))
def M_lays_B73 : (Int32 × PS) → Option ((Int32 × PS) ⊕ PS) := fun t => M_lays_l73 t.1 t.2
def M_lays_j71 (σ : PS) : Option PS := loop (M_lays_B73) fu (0, σ)
def M_lays_l45 (v1 : Int32) (σ : PS) : Option ((Int32 × PS) ⊕ PS) := if (gI σ 25) ≤ v1 then up (M_lays_j71 σ) else ix v1 35 (ix v1 7 (nm (wA σ 27 v1 (rA σ 18 v1)) (fun σ_5 => nm (v1 + 1) (fun v1_6 => some (.inl (v1_6, σ_5))))))
def M_lays_B45 : (Int32 × PS) → Option ((Int32 × PS) ⊕ PS) := fun t => M_lays_l45 t.1 t.2
def M_lays (σ : PS) : Option PS := ix 1 40 (nm (sI σ 22 (rA σ 17 1)) (fun σ_7 => ix 3 40 (nm (sI σ_7 23 (rA σ_7 17 3)) (fun σ_8 => nm (sI σ_8 24 0) (fun σ_9 => ix 5 40 (nm (sI σ_9 25 (rA σ_9 17 5)) (fun σ_10 => nm (sI σ_10 26 (gI σ_10 25)) (fun σ_11 => loop (M_lays_B45) fu (0, σ_11)))))))))
set_option maxHeartbeats 4000000 in
theorem kM_lays (l : Launch) {D : va_G} {ty : Nat → ClassId} {A : Nat → Prop} {o : Nat} {ad : Nat → Nat} {rs : va_W} {σ : PS} {σ' : PS} (hf : M_lays σ = some σ') : KV l yX7_lays cX7_lays 2 1 D ty A (wM ty o ad σ ++ rs) (wM ty o ad σ' ++ rs) [.ref o] := by
  refine KV.of (by decide) (Nat.le_of_ble_eq_true rfl) ?_
  intro p e R s m args below meth c Q C hR
  have C : Cx p R s m args c cX7_lays 2 RX7 D ty A 1 := C
  have hR : ∀ (σ2 : PS), σ2 = σ' → ∀ (H : Heap) (locs : List Loc) (pc : Nat) (ls : Array Slot), Hw D A s H locs (wM ty o ad σ2 ++ rs) → decode cX7_lays pc = .ok (.return_, 1) → W p l e R s m args below meth c H locs 0 0 Q (F0 m pc ls []) := by intro σ2 e9; cases e9; exact hR
  have j119 : ∀ (σ : PS) (H : Heap) (locs : List Loc) (ls : Array Slot), Hw D A s H locs (wM ty o ad σ ++ rs) → lv_has ls 2 [] → M_lays_j119 σ = some σ' → W p l e R s m args below meth c H locs 0 0 Q (F0 m 119 ls []) := by
    intro σ H locs ls h hl hf
    unfold M_lays_j119 at hf
    exact hR _ (some_k hf) _ _ _ _ h dX7_lays_119
  have l73 : ∀ (n73 : Nat) (v1 : Int32) (σ : PS) (H : Heap) (locs : List Loc) (ls : Array Slot), Hw D A s H locs (wM ty o ad σ ++ rs) → lv_has ls 2 [(0, .ref o), (1, .int v1)] → loop (M_lays_B73) n73 (v1, σ) = some σ' → W p l e R s m args below meth c H locs 0 0 Q (F0 m 73 ls []) := by
    intro n73
    induction n73 with
    | zero => intro v1 σ H locs ls h hl hf; exact (none_k hf).elim
    | succ n73 ih73 =>
      intro v1 σ H locs ls h hl hf
      have hf : bl (M_lays_B73) n73 (M_lays_l73 v1 σ) = some σ' := hf
      unfold M_lays_l73 at hf
      refine lv_iload_n C.x C.b dX7_lays_73 rfl (lv_at hl 1 rfl) ?_
      refine lv_aload_n C.x C.b dX7_lays_74 rfl (lv_at hl 0 rfl) ?_
      obtain ⟨q_1, hc, hf⟩ := bd_k (K := bl (M_lays_B73) n73) rfl hf
      refine cM_pieces C h hc (Nat.le_of_ble_eq_true rfl) hl.1 (Nat.le_of_ble_eq_true rfl) dX7_lays_75 (fun H locs h => ?_)
      refine lv_icmp_ge (tgt := 119) C.x C.b dX7_lays_78 (by decide) (fun c9 => ?_) (fun c9 => ?_)
      · have hf := if_t (K := bl (M_lays_B73) n73) c9 hf
        have hf := bl_upK (K := fun x => x) hf
        exact j119 σ _ _ _ h (lv_sub hl [] rfl) hf
      · have hf := if_f (K := bl (M_lays_B73) n73) c9 hf
        refine lv_aload_n C.x C.b dX7_lays_81 rfl (lv_at hl 0 rfl) ?_
        refine m_g28 C h dX7_lays_82 ?_
        refine lv_iload_n C.x C.b dX7_lays_85 rfl (lv_at hl 1 rfl) ?_
        refine lv_aload_n C.x C.b dX7_lays_86 rfl (lv_at hl 0 rfl) ?_
        refine m_g19 C h dX7_lays_87 ?_
        refine lv_iconst (v := 4) C.x C.b dX7_lays_90 (by decide) ?_
        refine lv_iload_n C.x C.b dX7_lays_91 rfl (lv_at hl 1 rfl) ?_
        refine lv_imul C.x C.b dX7_lays_92 ?_
        refine lv_iconst (v := 1) C.x C.b dX7_lays_93 (by decide) ?_
        refine lv_iadd C.x C.b dX7_lays_94 ?_
        obtain ⟨hi, hf⟩ := ix_k (K := bl (M_lays_B73) n73) rfl hf
        refine m_a19 C h hi dX7_lays_95 ?_
        obtain ⟨hi, hf⟩ := ix_k (K := bl (M_lays_B73) n73) rfl hf
        obtain ⟨σ_2, e9, hf⟩ := nm_k (K := bl (M_lays_B73) n73) hf
        refine m_w28 C h hi e9 dX7_lays_96 (fun H locs h => ?_)
        refine lv_aload_n C.x C.b dX7_lays_97 rfl (lv_at hl 0 rfl) ?_
        refine m_g29 C h dX7_lays_98 ?_
        refine lv_iload_n C.x C.b dX7_lays_101 rfl (lv_at hl 1 rfl) ?_
        refine lv_aload_n C.x C.b dX7_lays_102 rfl (lv_at hl 0 rfl) ?_
        refine m_g19 C h dX7_lays_103 ?_
        refine lv_iconst (v := 4) C.x C.b dX7_lays_106 (by decide) ?_
        refine lv_iload_n C.x C.b dX7_lays_107 rfl (lv_at hl 1 rfl) ?_
        refine lv_imul C.x C.b dX7_lays_108 ?_
        refine lv_iconst (v := 2) C.x C.b dX7_lays_109 (by decide) ?_
        refine lv_iadd C.x C.b dX7_lays_110 ?_
        obtain ⟨hi, hf⟩ := ix_k (K := bl (M_lays_B73) n73) rfl hf
        refine m_a19 C h hi dX7_lays_111 ?_
        obtain ⟨hi, hf⟩ := ix_k (K := bl (M_lays_B73) n73) rfl hf
        obtain ⟨σ_3, e9, hf⟩ := nm_k (K := bl (M_lays_B73) n73) hf
        refine m_w29 C h hi e9 dX7_lays_112 (fun H locs h => ?_)
        obtain ⟨v1_4, e9, hf⟩ := nm_k (K := bl (M_lays_B73) n73) hf
        refine lv_iinc (v := v1_4) (lv' := [(1, .int v1_4), (0, .ref o)]) C.x C.b dX7_lays_113 hl (k := 1) rfl (iinc_e (k := 1) (by decide) e9) (by decide) rfl (fun ls hl => ?_)
        refine lv_goto (tgt := 73) C.x C.b dX7_lays_116 (by decide) ?_
        exact ih73 v1_4 σ_3 _ _ _ h (lv_sub hl [1, 0] rfl) hf
  have j71 : ∀ (σ : PS) (H : Heap) (locs : List Loc) (ls : Array Slot), Hw D A s H locs (wM ty o ad σ ++ rs) → lv_has ls 2 [(0, .ref o)] → M_lays_j71 σ = some σ' → W p l e R s m args below meth c H locs 0 0 Q (F0 m 71 ls []) := by
    intro σ H locs ls h hl hf
    unfold M_lays_j71 at hf
    refine lv_iconst (v := 0) C.x C.b dX7_lays_71 (by decide) ?_
    refine lv_istore_n (lv' := [(1, .int 0), (0, .ref o)]) C.x C.b dX7_lays_72 rfl hl (by decide) rfl (fun ls hl => ?_)
    exact l73  fu 0 σ _ _ _ h (lv_sub hl [1, 0] rfl) hf
  have l45 : ∀ (n45 : Nat) (v1 : Int32) (σ : PS) (H : Heap) (locs : List Loc) (ls : Array Slot), Hw D A s H locs (wM ty o ad σ ++ rs) → lv_has ls 2 [(0, .ref o), (1, .int v1)] → loop (M_lays_B45) n45 (v1, σ) = some σ' → W p l e R s m args below meth c H locs 0 0 Q (F0 m 45 ls []) := by
    intro n45
    induction n45 with
    | zero => intro v1 σ H locs ls h hl hf; exact (none_k hf).elim
    | succ n45 ih45 =>
      intro v1 σ H locs ls h hl hf
      have hf : bl (M_lays_B45) n45 (M_lays_l45 v1 σ) = some σ' := hf
      unfold M_lays_l45 at hf
      refine lv_iload_n C.x C.b dX7_lays_45 rfl (lv_at hl 1 rfl) ?_
      refine lv_aload_n C.x C.b dX7_lays_46 rfl (lv_at hl 0 rfl) ?_
      refine m_g25 C h dX7_lays_47 ?_
      refine lv_icmp_ge (tgt := 71) C.x C.b dX7_lays_50 (by decide) (fun c9 => ?_) (fun c9 => ?_)
      · have hf := if_t (K := bl (M_lays_B45) n45) c9 hf
        have hf := bl_upK (K := fun x => x) hf
        exact j71 σ _ _ _ h (lv_sub hl [0] rfl) hf
      · have hf := if_f (K := bl (M_lays_B45) n45) c9 hf
        refine lv_aload_n C.x C.b dX7_lays_53 rfl (lv_at hl 0 rfl) ?_
        refine m_g27 C h dX7_lays_54 ?_
        refine lv_iload_n C.x C.b dX7_lays_57 rfl (lv_at hl 1 rfl) ?_
        refine lv_aload_n C.x C.b dX7_lays_58 rfl (lv_at hl 0 rfl) ?_
        refine m_g18 C h dX7_lays_59 ?_
        refine lv_iload_n C.x C.b dX7_lays_62 rfl (lv_at hl 1 rfl) ?_
        obtain ⟨hi, hf⟩ := ix_k (K := bl (M_lays_B45) n45) rfl hf
        refine m_a18 C h hi dX7_lays_63 ?_
        obtain ⟨hi, hf⟩ := ix_k (K := bl (M_lays_B45) n45) rfl hf
        obtain ⟨σ_5, e9, hf⟩ := nm_k (K := bl (M_lays_B45) n45) hf
        refine m_w27 C h hi e9 dX7_lays_64 (fun H locs h => ?_)
        obtain ⟨v1_6, e9, hf⟩ := nm_k (K := bl (M_lays_B45) n45) hf
        refine lv_iinc (v := v1_6) (lv' := [(1, .int v1_6), (0, .ref o)]) C.x C.b dX7_lays_65 hl (k := 1) rfl (iinc_e (k := 1) (by decide) e9) (by decide) rfl (fun ls hl => ?_)
        refine lv_goto (tgt := 45) C.x C.b dX7_lays_68 (by decide) ?_
        exact ih45 v1_6 σ_5 _ _ _ h (lv_sub hl [1, 0] rfl) hf
  intro H locs ls h hl
  have hl : lv_has ls 2 [(0, .ref o)] := hl
  unfold M_lays at hf
  refine lv_aload_n C.x C.b dX7_lays_0 rfl (lv_at hl 0 rfl) ?_
  refine lv_aload_n C.x C.b dX7_lays_1 rfl (lv_at hl 0 rfl) ?_
  refine m_g17 C h dX7_lays_2 ?_
  refine lv_iconst (v := 1) C.x C.b dX7_lays_5 (by decide) ?_
  obtain ⟨hi, hf⟩ := ix_k (K := fun x => x) rfl hf
  refine m_a17 C h hi dX7_lays_6 ?_
  obtain ⟨σ_7, e9, hf⟩ := nm_k (K := fun x => x) hf
  refine m_p22 C h e9 dX7_lays_7 (fun H locs h => ?_)
  refine lv_aload_n C.x C.b dX7_lays_10 rfl (lv_at hl 0 rfl) ?_
  refine lv_aload_n C.x C.b dX7_lays_11 rfl (lv_at hl 0 rfl) ?_
  refine m_g17 C h dX7_lays_12 ?_
  refine lv_iconst (v := 3) C.x C.b dX7_lays_15 (by decide) ?_
  obtain ⟨hi, hf⟩ := ix_k (K := fun x => x) rfl hf
  refine m_a17 C h hi dX7_lays_16 ?_
  obtain ⟨σ_8, e9, hf⟩ := nm_k (K := fun x => x) hf
  refine m_p23 C h e9 dX7_lays_17 (fun H locs h => ?_)
  refine lv_aload_n C.x C.b dX7_lays_20 rfl (lv_at hl 0 rfl) ?_
  refine lv_iconst (v := 0) C.x C.b dX7_lays_21 (by decide) ?_
  obtain ⟨σ_9, e9, hf⟩ := nm_k (K := fun x => x) hf
  refine m_p24 C h e9 dX7_lays_22 (fun H locs h => ?_)
  refine lv_aload_n C.x C.b dX7_lays_25 rfl (lv_at hl 0 rfl) ?_
  refine lv_aload_n C.x C.b dX7_lays_26 rfl (lv_at hl 0 rfl) ?_
  refine m_g17 C h dX7_lays_27 ?_
  refine lv_iconst (v := 5) C.x C.b dX7_lays_30 (by decide) ?_
  obtain ⟨hi, hf⟩ := ix_k (K := fun x => x) rfl hf
  refine m_a17 C h hi dX7_lays_31 ?_
  obtain ⟨σ_10, e9, hf⟩ := nm_k (K := fun x => x) hf
  refine m_p25 C h e9 dX7_lays_32 (fun H locs h => ?_)
  refine lv_aload_n C.x C.b dX7_lays_35 rfl (lv_at hl 0 rfl) ?_
  refine lv_aload_n C.x C.b dX7_lays_36 rfl (lv_at hl 0 rfl) ?_
  refine m_g25 C h dX7_lays_37 ?_
  obtain ⟨σ_11, e9, hf⟩ := nm_k (K := fun x => x) hf
  refine m_p26 C h e9 dX7_lays_40 (fun H locs h => ?_)
  refine lv_iconst (v := 0) C.x C.b dX7_lays_43 (by decide) ?_
  refine lv_istore_n (lv' := [(1, .int 0), (0, .ref o)]) C.x C.b dX7_lays_44 rfl hl (by decide) rfl (fun ls hl => ?_)
  exact l45  fu 0 σ_11 _ _ _ h (lv_sub hl [1, 0] rfl) hf
theorem tM_lays : GoodIn lw_all (wsV RX7 296 RX7 yX7_lays (ws_ yX7_lays cX7_lays 2 none)) := lw_V q1831 q1833 qs96 q147 q1834
theorem cM_lays {p : Program} {l : Launch} {e : Env} {R : Room} {s : State} {m : MethodId} {args : Array Value} {below : List Frame} {meth : Method} {c : Code} {H : Heap} {locs : List Loc} {Q : State → Prop} {cc : ByteArray} {pc : Nat} {ls : Array Slot} {st : List Value} {nL d : Nat} {D : va_G} {ty : Nat → ClassId} {A : Nat → Prop} {o : Nat} {ad : Nat → Nat} {rs : va_W} {σ : PS} {q : PS} (C : Cx p R s m args c cc nL RX7 D ty A d) (h : Hw D A s H locs (wM ty o ad σ ++ rs)) (hc : M_lays σ = some q) (hd : 1 + 1 ≤ d) (hls : ls.size = nL) (hcat : (st.map fun v => v.category).sum ≤ 8) (dec : decode cc pc = .ok (.invokevirtual 296, 3)) (kk : ∀ (H : Heap) (locs : List Loc), Hw D A s H locs (wM ty o ad q ++ rs) → W p l e R s m args below meth c H locs 0 0 Q (F0 m (pc + 3) ls (st))) : W p l e R s m args below meth c H locs 0 0 Q (F0 m pc ls (.ref o :: st)) := KV.callV (As := []) C (kM_lays l hc) tM_lays ⟨rfl, by decide, by decide, by show _ = some 0; decide +kernel⟩ 0 7 rfl rfl rfl hd (by decide) (Nat.zero_le _) (Nat.zero_le _) h hls rfl hcat dec kk
def M_isBit_j14 (x0 : Int32) : Option Int32 := tz x0 (some x0)
def M_isBit (v0 : Int32) (v1 : Int32) : Option Int32 := if ((v0 >>> (v1 &&& 31)) &&& 1) = 1 then M_isBit_j14 1 else M_isBit_j14 0
set_option maxHeartbeats 4000000 in
theorem kM_isBit (l : Launch) {D : va_G} {ty : Nat → ClassId} {A : Nat → Prop} {ws : va_W} {v0 : Int32} {v1 : Int32} {r : Int32} (hf : M_isBit v0 v1 = some r) : KI l yX7_isBit cX7_isBit 2 .boolean 0 D ty A ws ws [.int v0, .int v1] r := by
  refine KI.of (by decide) (Nat.le_of_ble_eq_true rfl) ?_
  intro p e R s m args below meth c Q C hR
  have C : Cx p R s m args c cX7_isBit 2 RX7 D ty A 0 := C
  have hR : ∀ (v : Int32), v = r → ∀ (H : Heap) (locs : List Loc) (pc : Nat) (ls : Array Slot), Hw D A s H locs ws → narrow .boolean (.int v) = .int v → decode cX7_isBit pc = .ok (.ireturn, 1) → W p l e R s m args below meth c H locs 0 0 Q (F0 m pc ls [.int v]) := by intro v e9; cases e9; exact hR
  have j14 : ∀ (x0 : Int32) (H : Heap) (locs : List Loc) (ls : Array Slot), Hw D A s H locs ws → lv_has ls 2 [] → M_isBit_j14 x0 = some r → W p l e R s m args below meth c H locs 0 0 Q (F0 m 14 ls [.int x0]) := by
    intro x0 H locs ls h hl hf
    unfold M_isBit_j14 at hf
    obtain ⟨hz, hf⟩ := tz_k (K := fun x => x) rfl hf
    exact hR _ (some_k hf) _ _ _ _ h hz dX7_isBit_14
  intro H locs ls h hl
  have hl : lv_has ls 2 [(0, .int v0), (1, .int v1)] := hl
  unfold M_isBit at hf
  refine lv_iload_n C.x C.b dX7_isBit_0 rfl (lv_at hl 0 rfl) ?_
  refine lv_iload_n C.x C.b dX7_isBit_1 rfl (lv_at hl 1 rfl) ?_
  refine lv_ishr C.x C.b dX7_isBit_2 ?_
  refine lv_iconst (v := 1) C.x C.b dX7_isBit_3 (by decide) ?_
  refine lv_iand C.x C.b dX7_isBit_4 ?_
  refine lv_iconst (v := 1) C.x C.b dX7_isBit_5 (by decide) ?_
  refine lv_icmp_ne (tgt := 13) C.x C.b dX7_isBit_6 (by decide) (fun c9 => ?_) (fun c9 => ?_)
  · have hf := if_f (K := fun x => x) c9 hf
    refine lv_iconst (v := 0) C.x C.b dX7_isBit_13 (by decide) ?_
    exact j14 0 _ _ _ h (lv_sub hl [] rfl) hf
  · have hf := if_t (K := fun x => x) c9 hf
    refine lv_iconst (v := 1) C.x C.b dX7_isBit_9 (by decide) ?_
    refine lv_goto (tgt := 14) C.x C.b dX7_isBit_10 (by decide) ?_
    exact j14 1 _ _ _ h (lv_sub hl [] rfl) hf
theorem tM_isBit : GoodIn lw_all (va_wsS RX7 258 yX7_isBit (ws_ yX7_isBit cX7_isBit 2 (some .boolean))) := lw_S q1839 q1840 q147 q1841
theorem cM_isBit {p : Program} {l : Launch} {e : Env} {R : Room} {s : State} {m : MethodId} {args : Array Value} {below : List Frame} {meth : Method} {c : Code} {H : Heap} {locs : List Loc} {Q : State → Prop} {cc : ByteArray} {pc : Nat} {ls : Array Slot} {st : List Value} {nL d : Nat} {D : va_G} {ty : Nat → ClassId} {A : Nat → Prop} {ws : va_W} {v0 : Int32} {v1 : Int32} {q : Int32} (C : Cx p R s m args c cc nL RX7 D ty A d) (h : Hw D A s H locs ws) (hc : M_isBit v0 v1 = some q) (hd : 0 + 1 ≤ d) (hls : ls.size = nL) (hcat : (st.map fun v => v.category).sum ≤ 8) (dec : decode cc pc = .ok (.invokestatic 258, 3)) (kk : ∀ (H : Heap) (locs : List Loc), Hw D A s H locs ws → W p l e R s m args below meth c H locs 0 0 Q (F0 m (pc + 3) ls (.int q :: st))) : W p l e R s m args below meth c H locs 0 0 Q (F0 m pc ls (.int v1 :: .int v0 :: st)) := KI.callS (As := [.int v0, .int v1]) C (kM_isBit l hc) tM_isBit ⟨by decide, by decide, by show _ = some 2; decide +kernel⟩ hd (by decide) (Nat.zero_le _) (Nat.zero_le _) h hls rfl hcat dec kk
def M_moreOf_j10 (x0 : Int32) : Option Int32 := some x0
def M_moreOf (v0 : Int32) (v1 : Int32) : Option Int32 := if v0 ≤ v1 then M_moreOf_j10 v1 else M_moreOf_j10 v0
set_option maxHeartbeats 4000000 in
theorem kM_moreOf (l : Launch) {D : va_G} {ty : Nat → ClassId} {A : Nat → Prop} {ws : va_W} {v0 : Int32} {v1 : Int32} {r : Int32} (hf : M_moreOf v0 v1 = some r) : KI l yX7_moreOf cX7_moreOf 2 .int 0 D ty A ws ws [.int v0, .int v1] r := by
  refine KI.of (by decide) (Nat.le_of_ble_eq_true rfl) ?_
  intro p e R s m args below meth c Q C hR
  have C : Cx p R s m args c cX7_moreOf 2 RX7 D ty A 0 := C
  have hR : ∀ (v : Int32), v = r → ∀ (H : Heap) (locs : List Loc) (pc : Nat) (ls : Array Slot), Hw D A s H locs ws → narrow .int (.int v) = .int v → decode cX7_moreOf pc = .ok (.ireturn, 1) → W p l e R s m args below meth c H locs 0 0 Q (F0 m pc ls [.int v]) := by intro v e9; cases e9; exact hR
  have j10 : ∀ (x0 : Int32) (H : Heap) (locs : List Loc) (ls : Array Slot), Hw D A s H locs ws → lv_has ls 2 [] → M_moreOf_j10 x0 = some r → W p l e R s m args below meth c H locs 0 0 Q (F0 m 10 ls [.int x0]) := by
    intro x0 H locs ls h hl hf
    unfold M_moreOf_j10 at hf
    exact hR _ (some_k hf) _ _ _ _ h rfl dX7_moreOf_10
  intro H locs ls h hl
  have hl : lv_has ls 2 [(0, .int v0), (1, .int v1)] := hl
  unfold M_moreOf at hf
  refine lv_iload_n C.x C.b dX7_moreOf_0 rfl (lv_at hl 0 rfl) ?_
  refine lv_iload_n C.x C.b dX7_moreOf_1 rfl (lv_at hl 1 rfl) ?_
  refine lv_icmp_le (tgt := 9) C.x C.b dX7_moreOf_2 (by decide) (fun c9 => ?_) (fun c9 => ?_)
  · have hf := if_t (K := fun x => x) c9 hf
    refine lv_iload_n C.x C.b dX7_moreOf_9 rfl (lv_at hl 1 rfl) ?_
    exact j10 v1 _ _ _ h (lv_sub hl [] rfl) hf
  · have hf := if_f (K := fun x => x) c9 hf
    refine lv_iload_n C.x C.b dX7_moreOf_5 rfl (lv_at hl 0 rfl) ?_
    refine lv_goto (tgt := 10) C.x C.b dX7_moreOf_6 (by decide) ?_
    exact j10 v0 _ _ _ h (lv_sub hl [] rfl) hf
theorem tM_moreOf : GoodIn lw_all (va_wsS RX7 262 yX7_moreOf (ws_ yX7_moreOf cX7_moreOf 2 (some .int))) := lw_S q1842 q1843 q147 q1844
theorem cM_moreOf {p : Program} {l : Launch} {e : Env} {R : Room} {s : State} {m : MethodId} {args : Array Value} {below : List Frame} {meth : Method} {c : Code} {H : Heap} {locs : List Loc} {Q : State → Prop} {cc : ByteArray} {pc : Nat} {ls : Array Slot} {st : List Value} {nL d : Nat} {D : va_G} {ty : Nat → ClassId} {A : Nat → Prop} {ws : va_W} {v0 : Int32} {v1 : Int32} {q : Int32} (C : Cx p R s m args c cc nL RX7 D ty A d) (h : Hw D A s H locs ws) (hc : M_moreOf v0 v1 = some q) (hd : 0 + 1 ≤ d) (hls : ls.size = nL) (hcat : (st.map fun v => v.category).sum ≤ 8) (dec : decode cc pc = .ok (.invokestatic 262, 3)) (kk : ∀ (H : Heap) (locs : List Loc), Hw D A s H locs ws → W p l e R s m args below meth c H locs 0 0 Q (F0 m (pc + 3) ls (.int q :: st))) : W p l e R s m args below meth c H locs 0 0 Q (F0 m pc ls (.int v1 :: .int v0 :: st)) := KI.callS (As := [.int v0, .int v1]) C (kM_moreOf l hc) tM_moreOf ⟨by decide, by decide, by show _ = some 2; decide +kernel⟩ hd (by decide) (Nat.zero_le _) (Nat.zero_le _) h hls rfl hcat dec kk
def M_comes (σ : PS) (v1 : Int32) : Option Int32 := ix ((4 * v1) + 3) 120 (some (rA σ 19 ((4 * v1) + 3)))
set_option maxHeartbeats 4000000 in
theorem kM_comes (l : Launch) {D : va_G} {ty : Nat → ClassId} {A : Nat → Prop} {o : Nat} {ad : Nat → Nat} {rs : va_W} {σ : PS} {v1 : Int32} {r : Int32} (hf : M_comes σ v1 = some r) : KI l yX7_comes cX7_comes 2 .int 0 D ty A (wM ty o ad σ ++ rs) (wM ty o ad σ ++ rs) [.ref o, .int v1] r := by
  refine KI.of (by decide) (Nat.le_of_ble_eq_true rfl) ?_
  intro p e R s m args below meth c Q C hR
  have C : Cx p R s m args c cX7_comes 2 RX7 D ty A 0 := C
  have hR : ∀ (v : Int32), v = r → ∀ (H : Heap) (locs : List Loc) (pc : Nat) (ls : Array Slot), Hw D A s H locs (wM ty o ad σ ++ rs) → narrow .int (.int v) = .int v → decode cX7_comes pc = .ok (.ireturn, 1) → W p l e R s m args below meth c H locs 0 0 Q (F0 m pc ls [.int v]) := by intro v e9; cases e9; exact hR
  intro H locs ls h hl
  have hl : lv_has ls 2 [(0, .ref o), (1, .int v1)] := hl
  unfold M_comes at hf
  refine lv_aload_n C.x C.b dX7_comes_0 rfl (lv_at hl 0 rfl) ?_
  refine m_g19 C h dX7_comes_1 ?_
  refine lv_iconst (v := 4) C.x C.b dX7_comes_4 (by decide) ?_
  refine lv_iload_n C.x C.b dX7_comes_5 rfl (lv_at hl 1 rfl) ?_
  refine lv_imul C.x C.b dX7_comes_6 ?_
  refine lv_iconst (v := 3) C.x C.b dX7_comes_7 (by decide) ?_
  refine lv_iadd C.x C.b dX7_comes_8 ?_
  obtain ⟨hi, hf⟩ := ix_k (K := fun x => x) rfl hf
  refine m_a19 C h hi dX7_comes_9 ?_
  exact hR _ (some_k hf) _ _ _ _ h rfl dX7_comes_10
theorem tM_comes : GoodIn lw_all (wsV RX7 265 RX7 yX7_comes (ws_ yX7_comes cX7_comes 2 (some .int))) := lw_V q1857 q1859 qs100 q147 q1860
theorem cM_comes {p : Program} {l : Launch} {e : Env} {R : Room} {s : State} {m : MethodId} {args : Array Value} {below : List Frame} {meth : Method} {c : Code} {H : Heap} {locs : List Loc} {Q : State → Prop} {cc : ByteArray} {pc : Nat} {ls : Array Slot} {st : List Value} {nL d : Nat} {D : va_G} {ty : Nat → ClassId} {A : Nat → Prop} {o : Nat} {ad : Nat → Nat} {rs : va_W} {σ : PS} {v1 : Int32} {q : Int32} (C : Cx p R s m args c cc nL RX7 D ty A d) (h : Hw D A s H locs (wM ty o ad σ ++ rs)) (hc : M_comes σ v1 = some q) (hd : 0 + 1 ≤ d) (hls : ls.size = nL) (hcat : (st.map fun v => v.category).sum ≤ 8) (dec : decode cc pc = .ok (.invokevirtual 265, 3)) (kk : ∀ (H : Heap) (locs : List Loc), Hw D A s H locs (wM ty o ad σ ++ rs) → W p l e R s m args below meth c H locs 0 0 Q (F0 m (pc + 3) ls (.int q :: st))) : W p l e R s m args below meth c H locs 0 0 Q (F0 m pc ls (.int v1 :: .ref o :: st)) := KI.callV (As := [.int v1]) C (kM_comes l hc) tM_comes ⟨rfl, by decide, by decide, by show _ = some 1; decide +kernel⟩ 0 7 rfl rfl rfl hd (by decide) (Nat.zero_le _) (Nat.zero_le _) h hls rfl hcat dec kk
def M_skinOf (σ : PS) (v1 : Int32) (v2 : Int32) : Option Int32 := ix ((6 * v2) + v1) 90 (some (rA σ 30 ((6 * v2) + v1)))
set_option maxHeartbeats 4000000 in
theorem kM_skinOf (l : Launch) {D : va_G} {ty : Nat → ClassId} {A : Nat → Prop} {o : Nat} {ad : Nat → Nat} {rs : va_W} {σ : PS} {v1 : Int32} {v2 : Int32} {r : Int32} (hf : M_skinOf σ v1 v2 = some r) : KI l yX7_skinOf cX7_skinOf 3 .int 0 D ty A (wM ty o ad σ ++ rs) (wM ty o ad σ ++ rs) [.ref o, .int v1, .int v2] r := by
  refine KI.of (by decide) (Nat.le_of_ble_eq_true rfl) ?_
  intro p e R s m args below meth c Q C hR
  have C : Cx p R s m args c cX7_skinOf 3 RX7 D ty A 0 := C
  have hR : ∀ (v : Int32), v = r → ∀ (H : Heap) (locs : List Loc) (pc : Nat) (ls : Array Slot), Hw D A s H locs (wM ty o ad σ ++ rs) → narrow .int (.int v) = .int v → decode cX7_skinOf pc = .ok (.ireturn, 1) → W p l e R s m args below meth c H locs 0 0 Q (F0 m pc ls [.int v]) := by intro v e9; cases e9; exact hR
  intro H locs ls h hl
  have hl : lv_has ls 3 [(0, .ref o), (1, .int v1), (2, .int v2)] := hl
  unfold M_skinOf at hf
  refine lv_aload_n C.x C.b dX7_skinOf_0 rfl (lv_at hl 0 rfl) ?_
  refine m_g30 C h dX7_skinOf_1 ?_
  refine lv_bipush (v := 6) C.x C.b dX7_skinOf_4 (by decide) ?_
  refine lv_iload_n C.x C.b dX7_skinOf_6 rfl (lv_at hl 2 rfl) ?_
  refine lv_imul C.x C.b dX7_skinOf_7 ?_
  refine lv_iload_n C.x C.b dX7_skinOf_8 rfl (lv_at hl 1 rfl) ?_
  refine lv_iadd C.x C.b dX7_skinOf_9 ?_
  obtain ⟨hi, hf⟩ := ix_k (K := fun x => x) rfl hf
  refine m_a30 C h hi dX7_skinOf_10 ?_
  exact hR _ (some_k hf) _ _ _ _ h rfl dX7_skinOf_11
theorem tM_skinOf : GoodIn lw_all (wsV RX7 268 RX7 yX7_skinOf (ws_ yX7_skinOf cX7_skinOf 3 (some .int))) := lw_V q1893 q1895 qs105 q147 q1896
theorem cM_skinOf {p : Program} {l : Launch} {e : Env} {R : Room} {s : State} {m : MethodId} {args : Array Value} {below : List Frame} {meth : Method} {c : Code} {H : Heap} {locs : List Loc} {Q : State → Prop} {cc : ByteArray} {pc : Nat} {ls : Array Slot} {st : List Value} {nL d : Nat} {D : va_G} {ty : Nat → ClassId} {A : Nat → Prop} {o : Nat} {ad : Nat → Nat} {rs : va_W} {σ : PS} {v1 : Int32} {v2 : Int32} {q : Int32} (C : Cx p R s m args c cc nL RX7 D ty A d) (h : Hw D A s H locs (wM ty o ad σ ++ rs)) (hc : M_skinOf σ v1 v2 = some q) (hd : 0 + 1 ≤ d) (hls : ls.size = nL) (hcat : (st.map fun v => v.category).sum ≤ 8) (dec : decode cc pc = .ok (.invokevirtual 268, 3)) (kk : ∀ (H : Heap) (locs : List Loc), Hw D A s H locs (wM ty o ad σ ++ rs) → W p l e R s m args below meth c H locs 0 0 Q (F0 m (pc + 3) ls (.int q :: st))) : W p l e R s m args below meth c H locs 0 0 Q (F0 m pc ls (.int v2 :: .int v1 :: .ref o :: st)) := KI.callV (As := [.int v1, .int v2]) C (kM_skinOf l hc) tM_skinOf ⟨rfl, by decide, by decide, by show _ = some 2; decide +kernel⟩ 0 7 rfl rfl rfl hd (by decide) (Nat.zero_le _) (Nat.zero_le _) h hls rfl hcat dec kk
def M_coreOf (σ : PS) (v1 : Int32) (v2 : Int32) : Option Int32 := ix ((6 * v2) + v1) 90 (some (rA σ 31 ((6 * v2) + v1)))
set_option maxHeartbeats 4000000 in
theorem kM_coreOf (l : Launch) {D : va_G} {ty : Nat → ClassId} {A : Nat → Prop} {o : Nat} {ad : Nat → Nat} {rs : va_W} {σ : PS} {v1 : Int32} {v2 : Int32} {r : Int32} (hf : M_coreOf σ v1 v2 = some r) : KI l yX7_coreOf cX7_coreOf 3 .int 0 D ty A (wM ty o ad σ ++ rs) (wM ty o ad σ ++ rs) [.ref o, .int v1, .int v2] r := by
  refine KI.of (by decide) (Nat.le_of_ble_eq_true rfl) ?_
  intro p e R s m args below meth c Q C hR
  have C : Cx p R s m args c cX7_coreOf 3 RX7 D ty A 0 := C
  have hR : ∀ (v : Int32), v = r → ∀ (H : Heap) (locs : List Loc) (pc : Nat) (ls : Array Slot), Hw D A s H locs (wM ty o ad σ ++ rs) → narrow .int (.int v) = .int v → decode cX7_coreOf pc = .ok (.ireturn, 1) → W p l e R s m args below meth c H locs 0 0 Q (F0 m pc ls [.int v]) := by intro v e9; cases e9; exact hR
  intro H locs ls h hl
  have hl : lv_has ls 3 [(0, .ref o), (1, .int v1), (2, .int v2)] := hl
  unfold M_coreOf at hf
  refine lv_aload_n C.x C.b dX7_coreOf_0 rfl (lv_at hl 0 rfl) ?_
  refine m_g31 C h dX7_coreOf_1 ?_
  refine lv_bipush (v := 6) C.x C.b dX7_coreOf_4 (by decide) ?_
  refine lv_iload_n C.x C.b dX7_coreOf_6 rfl (lv_at hl 2 rfl) ?_
  refine lv_imul C.x C.b dX7_coreOf_7 ?_
  refine lv_iload_n C.x C.b dX7_coreOf_8 rfl (lv_at hl 1 rfl) ?_
  refine lv_iadd C.x C.b dX7_coreOf_9 ?_
  obtain ⟨hi, hf⟩ := ix_k (K := fun x => x) rfl hf
  refine m_a31 C h hi dX7_coreOf_10 ?_
  exact hR _ (some_k hf) _ _ _ _ h rfl dX7_coreOf_11
theorem tM_coreOf : GoodIn lw_all (wsV RX7 271 RX7 yX7_coreOf (ws_ yX7_coreOf cX7_coreOf 3 (some .int))) := lw_V q1897 q1899 qs106 q147 q1900
theorem cM_coreOf {p : Program} {l : Launch} {e : Env} {R : Room} {s : State} {m : MethodId} {args : Array Value} {below : List Frame} {meth : Method} {c : Code} {H : Heap} {locs : List Loc} {Q : State → Prop} {cc : ByteArray} {pc : Nat} {ls : Array Slot} {st : List Value} {nL d : Nat} {D : va_G} {ty : Nat → ClassId} {A : Nat → Prop} {o : Nat} {ad : Nat → Nat} {rs : va_W} {σ : PS} {v1 : Int32} {v2 : Int32} {q : Int32} (C : Cx p R s m args c cc nL RX7 D ty A d) (h : Hw D A s H locs (wM ty o ad σ ++ rs)) (hc : M_coreOf σ v1 v2 = some q) (hd : 0 + 1 ≤ d) (hls : ls.size = nL) (hcat : (st.map fun v => v.category).sum ≤ 8) (dec : decode cc pc = .ok (.invokevirtual 271, 3)) (kk : ∀ (H : Heap) (locs : List Loc), Hw D A s H locs (wM ty o ad σ ++ rs) → W p l e R s m args below meth c H locs 0 0 Q (F0 m (pc + 3) ls (.int q :: st))) : W p l e R s m args below meth c H locs 0 0 Q (F0 m pc ls (.int v2 :: .int v1 :: .ref o :: st)) := KI.callV (As := [.int v1, .int v2]) C (kM_coreOf l hc) tM_coreOf ⟨rfl, by decide, by decide, by show _ = some 2; decide +kernel⟩ 0 7 rfl rfl rfl hd (by decide) (Nat.zero_le _) (Nat.zero_le _) h hls rfl hcat dec kk
def M_lessOf_j10 (x0 : Int32) : Option Int32 := some x0
def M_lessOf (v0 : Int32) (v1 : Int32) : Option Int32 := if v1 ≤ v0 then M_lessOf_j10 v1 else M_lessOf_j10 v0
set_option maxHeartbeats 4000000 in
theorem kM_lessOf (l : Launch) {D : va_G} {ty : Nat → ClassId} {A : Nat → Prop} {ws : va_W} {v0 : Int32} {v1 : Int32} {r : Int32} (hf : M_lessOf v0 v1 = some r) : KI l yX7_lessOf cX7_lessOf 2 .int 0 D ty A ws ws [.int v0, .int v1] r := by
  refine KI.of (by decide) (Nat.le_of_ble_eq_true rfl) ?_
  intro p e R s m args below meth c Q C hR
  have C : Cx p R s m args c cX7_lessOf 2 RX7 D ty A 0 := C
  have hR : ∀ (v : Int32), v = r → ∀ (H : Heap) (locs : List Loc) (pc : Nat) (ls : Array Slot), Hw D A s H locs ws → narrow .int (.int v) = .int v → decode cX7_lessOf pc = .ok (.ireturn, 1) → W p l e R s m args below meth c H locs 0 0 Q (F0 m pc ls [.int v]) := by intro v e9; cases e9; exact hR
  have j10 : ∀ (x0 : Int32) (H : Heap) (locs : List Loc) (ls : Array Slot), Hw D A s H locs ws → lv_has ls 2 [] → M_lessOf_j10 x0 = some r → W p l e R s m args below meth c H locs 0 0 Q (F0 m 10 ls [.int x0]) := by
    intro x0 H locs ls h hl hf
    unfold M_lessOf_j10 at hf
    exact hR _ (some_k hf) _ _ _ _ h rfl dX7_lessOf_10
  intro H locs ls h hl
  have hl : lv_has ls 2 [(0, .int v0), (1, .int v1)] := hl
  unfold M_lessOf at hf
  refine lv_iload_n C.x C.b dX7_lessOf_0 rfl (lv_at hl 0 rfl) ?_
  refine lv_iload_n C.x C.b dX7_lessOf_1 rfl (lv_at hl 1 rfl) ?_
  refine lv_icmp_ge (tgt := 9) C.x C.b dX7_lessOf_2 (by decide) (fun c9 => ?_) (fun c9 => ?_)
  · have hf := if_t (K := fun x => x) c9 hf
    refine lv_iload_n C.x C.b dX7_lessOf_9 rfl (lv_at hl 1 rfl) ?_
    exact j10 v1 _ _ _ h (lv_sub hl [] rfl) hf
  · have hf := if_f (K := fun x => x) c9 hf
    refine lv_iload_n C.x C.b dX7_lessOf_5 rfl (lv_at hl 0 rfl) ?_
    refine lv_goto (tgt := 10) C.x C.b dX7_lessOf_6 (by decide) ?_
    exact j10 v0 _ _ _ h (lv_sub hl [] rfl) hf
theorem tM_lessOf : GoodIn lw_all (va_wsS RX7 283 yX7_lessOf (ws_ yX7_lessOf cX7_lessOf 2 (some .int))) := lw_S q1905 q1906 q147 q1907
theorem cM_lessOf {p : Program} {l : Launch} {e : Env} {R : Room} {s : State} {m : MethodId} {args : Array Value} {below : List Frame} {meth : Method} {c : Code} {H : Heap} {locs : List Loc} {Q : State → Prop} {cc : ByteArray} {pc : Nat} {ls : Array Slot} {st : List Value} {nL d : Nat} {D : va_G} {ty : Nat → ClassId} {A : Nat → Prop} {ws : va_W} {v0 : Int32} {v1 : Int32} {q : Int32} (C : Cx p R s m args c cc nL RX7 D ty A d) (h : Hw D A s H locs ws) (hc : M_lessOf v0 v1 = some q) (hd : 0 + 1 ≤ d) (hls : ls.size = nL) (hcat : (st.map fun v => v.category).sum ≤ 8) (dec : decode cc pc = .ok (.invokestatic 283, 3)) (kk : ∀ (H : Heap) (locs : List Loc), Hw D A s H locs ws → W p l e R s m args below meth c H locs 0 0 Q (F0 m (pc + 3) ls (.int q :: st))) : W p l e R s m args below meth c H locs 0 0 Q (F0 m pc ls (.int v1 :: .int v0 :: st)) := KI.callS (As := [.int v0, .int v1]) C (kM_lessOf l hc) tM_lessOf ⟨by decide, by decide, by show _ = some 2; decide +kernel⟩ hd (by decide) (Nat.zero_le _) (Nat.zero_le _) h hls rfl hcat dec kk
def M_apart_j14 (x0 : Int32) : Option Int32 := some x0
def M_apart (v0 : Int32) (v1 : Int32) : Option Int32 := if v1 ≤ v0 then M_apart_j14 (v0 - v1) else M_apart_j14 (v1 - v0)
set_option maxHeartbeats 4000000 in
theorem kM_apart (l : Launch) {D : va_G} {ty : Nat → ClassId} {A : Nat → Prop} {ws : va_W} {v0 : Int32} {v1 : Int32} {r : Int32} (hf : M_apart v0 v1 = some r) : KI l yX7_apart cX7_apart 2 .int 0 D ty A ws ws [.int v0, .int v1] r := by
  refine KI.of (by decide) (Nat.le_of_ble_eq_true rfl) ?_
  intro p e R s m args below meth c Q C hR
  have C : Cx p R s m args c cX7_apart 2 RX7 D ty A 0 := C
  have hR : ∀ (v : Int32), v = r → ∀ (H : Heap) (locs : List Loc) (pc : Nat) (ls : Array Slot), Hw D A s H locs ws → narrow .int (.int v) = .int v → decode cX7_apart pc = .ok (.ireturn, 1) → W p l e R s m args below meth c H locs 0 0 Q (F0 m pc ls [.int v]) := by intro v e9; cases e9; exact hR
  have j14 : ∀ (x0 : Int32) (H : Heap) (locs : List Loc) (ls : Array Slot), Hw D A s H locs ws → lv_has ls 2 [] → M_apart_j14 x0 = some r → W p l e R s m args below meth c H locs 0 0 Q (F0 m 14 ls [.int x0]) := by
    intro x0 H locs ls h hl hf
    unfold M_apart_j14 at hf
    exact hR _ (some_k hf) _ _ _ _ h rfl dX7_apart_14
  intro H locs ls h hl
  have hl : lv_has ls 2 [(0, .int v0), (1, .int v1)] := hl
  unfold M_apart at hf
  refine lv_iload_n C.x C.b dX7_apart_0 rfl (lv_at hl 0 rfl) ?_
  refine lv_iload_n C.x C.b dX7_apart_1 rfl (lv_at hl 1 rfl) ?_
  refine lv_icmp_ge (tgt := 11) C.x C.b dX7_apart_2 (by decide) (fun c9 => ?_) (fun c9 => ?_)
  · have hf := if_t (K := fun x => x) c9 hf
    refine lv_iload_n C.x C.b dX7_apart_11 rfl (lv_at hl 0 rfl) ?_
    refine lv_iload_n C.x C.b dX7_apart_12 rfl (lv_at hl 1 rfl) ?_
    refine lv_isub C.x C.b dX7_apart_13 ?_
    exact j14 (v0 - v1) _ _ _ h (lv_sub hl [] rfl) hf
  · have hf := if_f (K := fun x => x) c9 hf
    refine lv_iload_n C.x C.b dX7_apart_5 rfl (lv_at hl 1 rfl) ?_
    refine lv_iload_n C.x C.b dX7_apart_6 rfl (lv_at hl 0 rfl) ?_
    refine lv_isub C.x C.b dX7_apart_7 ?_
    refine lv_goto (tgt := 14) C.x C.b dX7_apart_8 (by decide) ?_
    exact j14 (v1 - v0) _ _ _ h (lv_sub hl [] rfl) hf
theorem tM_apart : GoodIn lw_all (va_wsS RX7 274 yX7_apart (ws_ yX7_apart cX7_apart 2 (some .int))) := lw_S q1912 q1913 q147 q1914
theorem cM_apart {p : Program} {l : Launch} {e : Env} {R : Room} {s : State} {m : MethodId} {args : Array Value} {below : List Frame} {meth : Method} {c : Code} {H : Heap} {locs : List Loc} {Q : State → Prop} {cc : ByteArray} {pc : Nat} {ls : Array Slot} {st : List Value} {nL d : Nat} {D : va_G} {ty : Nat → ClassId} {A : Nat → Prop} {ws : va_W} {v0 : Int32} {v1 : Int32} {q : Int32} (C : Cx p R s m args c cc nL RX7 D ty A d) (h : Hw D A s H locs ws) (hc : M_apart v0 v1 = some q) (hd : 0 + 1 ≤ d) (hls : ls.size = nL) (hcat : (st.map fun v => v.category).sum ≤ 8) (dec : decode cc pc = .ok (.invokestatic 274, 3)) (kk : ∀ (H : Heap) (locs : List Loc), Hw D A s H locs ws → W p l e R s m args below meth c H locs 0 0 Q (F0 m (pc + 3) ls (.int q :: st))) : W p l e R s m args below meth c H locs 0 0 Q (F0 m pc ls (.int v1 :: .int v0 :: st)) := KI.callS (As := [.int v0, .int v1]) C (kM_apart l hc) tM_apart ⟨by decide, by decide, by show _ = some 2; decide +kernel⟩ hd (by decide) (Nat.zero_le _) (Nat.zero_le _) h hls rfl hcat dec kk
def M_hasCome_j14 (σ : PS) (x0 : Int32) : Option Int32 := tz x0 (some x0)
def M_hasCome (σ : PS) (v1 : Int32) (v2 : Int32) : Option Int32 := bd (M_comes σ v1) (fun q_1 => if v2 < q_1 then M_hasCome_j14 σ 0 else M_hasCome_j14 σ 1)
set_option maxHeartbeats 4000000 in
theorem kM_hasCome (l : Launch) {D : va_G} {ty : Nat → ClassId} {A : Nat → Prop} {o : Nat} {ad : Nat → Nat} {rs : va_W} {σ : PS} {v1 : Int32} {v2 : Int32} {r : Int32} (hf : M_hasCome σ v1 v2 = some r) : KI l yX7_hasCome cX7_hasCome 3 .boolean 1 D ty A (wM ty o ad σ ++ rs) (wM ty o ad σ ++ rs) [.ref o, .int v1, .int v2] r := by
  refine KI.of (by decide) (Nat.le_of_ble_eq_true rfl) ?_
  intro p e R s m args below meth c Q C hR
  have C : Cx p R s m args c cX7_hasCome 3 RX7 D ty A 1 := C
  have hR : ∀ (v : Int32), v = r → ∀ (H : Heap) (locs : List Loc) (pc : Nat) (ls : Array Slot), Hw D A s H locs (wM ty o ad σ ++ rs) → narrow .boolean (.int v) = .int v → decode cX7_hasCome pc = .ok (.ireturn, 1) → W p l e R s m args below meth c H locs 0 0 Q (F0 m pc ls [.int v]) := by intro v e9; cases e9; exact hR
  have j14 : ∀ (x0 : Int32) (H : Heap) (locs : List Loc) (ls : Array Slot), Hw D A s H locs (wM ty o ad σ ++ rs) → lv_has ls 3 [] → M_hasCome_j14 σ x0 = some r → W p l e R s m args below meth c H locs 0 0 Q (F0 m 14 ls [.int x0]) := by
    intro x0 H locs ls h hl hf
    unfold M_hasCome_j14 at hf
    obtain ⟨hz, hf⟩ := tz_k (K := fun x => x) rfl hf
    exact hR _ (some_k hf) _ _ _ _ h hz dX7_hasCome_14
  intro H locs ls h hl
  have hl : lv_has ls 3 [(0, .ref o), (1, .int v1), (2, .int v2)] := hl
  unfold M_hasCome at hf
  refine lv_iload_n C.x C.b dX7_hasCome_0 rfl (lv_at hl 2 rfl) ?_
  refine lv_aload_n C.x C.b dX7_hasCome_1 rfl (lv_at hl 0 rfl) ?_
  refine lv_iload_n C.x C.b dX7_hasCome_2 rfl (lv_at hl 1 rfl) ?_
  obtain ⟨q_1, hc, hf⟩ := bd_k (K := fun x => x) rfl hf
  refine cM_comes C h hc (Nat.le_of_ble_eq_true rfl) hl.1 (Nat.le_of_ble_eq_true rfl) dX7_hasCome_3 (fun H locs h => ?_)
  refine lv_icmp_lt (tgt := 13) C.x C.b dX7_hasCome_6 (by decide) (fun c9 => ?_) (fun c9 => ?_)
  · have hf := if_t (K := fun x => x) c9 hf
    refine lv_iconst (v := 0) C.x C.b dX7_hasCome_13 (by decide) ?_
    exact j14 0 _ _ _ h (lv_sub hl [] rfl) hf
  · have hf := if_f (K := fun x => x) c9 hf
    refine lv_iconst (v := 1) C.x C.b dX7_hasCome_9 (by decide) ?_
    refine lv_goto (tgt := 14) C.x C.b dX7_hasCome_10 (by decide) ?_
    exact j14 1 _ _ _ h (lv_sub hl [] rfl) hf
theorem tM_hasCome : GoodIn lw_all (wsV RX7 317 RX7 yX7_hasCome (ws_ yX7_hasCome cX7_hasCome 3 (some .boolean))) := lw_V q1955 q1957 qs110 q147 q1958
theorem cM_hasCome {p : Program} {l : Launch} {e : Env} {R : Room} {s : State} {m : MethodId} {args : Array Value} {below : List Frame} {meth : Method} {c : Code} {H : Heap} {locs : List Loc} {Q : State → Prop} {cc : ByteArray} {pc : Nat} {ls : Array Slot} {st : List Value} {nL d : Nat} {D : va_G} {ty : Nat → ClassId} {A : Nat → Prop} {o : Nat} {ad : Nat → Nat} {rs : va_W} {σ : PS} {v1 : Int32} {v2 : Int32} {q : Int32} (C : Cx p R s m args c cc nL RX7 D ty A d) (h : Hw D A s H locs (wM ty o ad σ ++ rs)) (hc : M_hasCome σ v1 v2 = some q) (hd : 1 + 1 ≤ d) (hls : ls.size = nL) (hcat : (st.map fun v => v.category).sum ≤ 8) (dec : decode cc pc = .ok (.invokevirtual 317, 3)) (kk : ∀ (H : Heap) (locs : List Loc), Hw D A s H locs (wM ty o ad σ ++ rs) → W p l e R s m args below meth c H locs 0 0 Q (F0 m (pc + 3) ls (.int q :: st))) : W p l e R s m args below meth c H locs 0 0 Q (F0 m pc ls (.int v2 :: .int v1 :: .ref o :: st)) := KI.callV (As := [.int v1, .int v2]) C (kM_hasCome l hc) tM_hasCome ⟨rfl, by decide, by decide, by show _ = some 2; decide +kernel⟩ 0 7 rfl rfl rfl hd (by decide) (Nat.zero_le _) (Nat.zero_le _) h hls rfl hcat dec kk
def M_isWhole_j25 (σ : PS) (x0 : Int32) : Option Int32 := tz x0 (some x0)
def M_isWhole_j20 (σ : PS) : Option Int32 := M_isWhole_j25 σ 1
def M_isWhole (σ : PS) (v1 : Int32) (v2 : Int32) : Option Int32 := ix v1 6 (if (rA σ 34 v1) = ((-1)) then M_isWhole_j20 σ else ix v1 6 (if (rA σ 34 v1) ≤ v2 then M_isWhole_j25 σ 0 else M_isWhole_j20 σ))
set_option maxHeartbeats 4000000 in
theorem kM_isWhole (l : Launch) {D : va_G} {ty : Nat → ClassId} {A : Nat → Prop} {o : Nat} {ad : Nat → Nat} {rs : va_W} {σ : PS} {v1 : Int32} {v2 : Int32} {r : Int32} (hf : M_isWhole σ v1 v2 = some r) : KI l yX7_isWhole cX7_isWhole 3 .boolean 0 D ty A (wM ty o ad σ ++ rs) (wM ty o ad σ ++ rs) [.ref o, .int v1, .int v2] r := by
  refine KI.of (by decide) (Nat.le_of_ble_eq_true rfl) ?_
  intro p e R s m args below meth c Q C hR
  have C : Cx p R s m args c cX7_isWhole 3 RX7 D ty A 0 := C
  have hR : ∀ (v : Int32), v = r → ∀ (H : Heap) (locs : List Loc) (pc : Nat) (ls : Array Slot), Hw D A s H locs (wM ty o ad σ ++ rs) → narrow .boolean (.int v) = .int v → decode cX7_isWhole pc = .ok (.ireturn, 1) → W p l e R s m args below meth c H locs 0 0 Q (F0 m pc ls [.int v]) := by intro v e9; cases e9; exact hR
  have j25 : ∀ (x0 : Int32) (H : Heap) (locs : List Loc) (ls : Array Slot), Hw D A s H locs (wM ty o ad σ ++ rs) → lv_has ls 3 [] → M_isWhole_j25 σ x0 = some r → W p l e R s m args below meth c H locs 0 0 Q (F0 m 25 ls [.int x0]) := by
    intro x0 H locs ls h hl hf
    unfold M_isWhole_j25 at hf
    obtain ⟨hz, hf⟩ := tz_k (K := fun x => x) rfl hf
    exact hR _ (some_k hf) _ _ _ _ h hz dX7_isWhole_25
  have j20 : ∀ (H : Heap) (locs : List Loc) (ls : Array Slot), Hw D A s H locs (wM ty o ad σ ++ rs) → lv_has ls 3 [] → M_isWhole_j20 σ = some r → W p l e R s m args below meth c H locs 0 0 Q (F0 m 20 ls []) := by
    intro  H locs ls h hl hf
    unfold M_isWhole_j20 at hf
    refine lv_iconst (v := 1) C.x C.b dX7_isWhole_20 (by decide) ?_
    refine lv_goto (tgt := 25) C.x C.b dX7_isWhole_21 (by decide) ?_
    exact j25 1 _ _ _ h (lv_sub hl [] rfl) hf
  intro H locs ls h hl
  have hl : lv_has ls 3 [(0, .ref o), (1, .int v1), (2, .int v2)] := hl
  unfold M_isWhole at hf
  refine lv_aload_n C.x C.b dX7_isWhole_0 rfl (lv_at hl 0 rfl) ?_
  refine m_g34 C h dX7_isWhole_1 ?_
  refine lv_iload_n C.x C.b dX7_isWhole_4 rfl (lv_at hl 1 rfl) ?_
  obtain ⟨hi, hf⟩ := ix_k (K := fun x => x) rfl hf
  refine m_a34 C h hi dX7_isWhole_5 ?_
  refine lv_iconst (v := (-1)) C.x C.b dX7_isWhole_6 (by decide) ?_
  refine lv_icmp_eq (tgt := 20) C.x C.b dX7_isWhole_7 (by decide) (fun c9 => ?_) (fun c9 => ?_)
  · have hf := if_t (K := fun x => x) c9 hf
    exact j20  _ _ _ h (lv_sub hl [] rfl) hf
  · have hf := if_f (K := fun x => x) c9 hf
    refine lv_aload_n C.x C.b dX7_isWhole_10 rfl (lv_at hl 0 rfl) ?_
    refine m_g34 C h dX7_isWhole_11 ?_
    refine lv_iload_n C.x C.b dX7_isWhole_14 rfl (lv_at hl 1 rfl) ?_
    obtain ⟨hi, hf⟩ := ix_k (K := fun x => x) rfl hf
    refine m_a34 C h hi dX7_isWhole_15 ?_
    refine lv_iload_n C.x C.b dX7_isWhole_16 rfl (lv_at hl 2 rfl) ?_
    refine lv_icmp_le (tgt := 24) C.x C.b dX7_isWhole_17 (by decide) (fun c9 => ?_) (fun c9 => ?_)
    · have hf := if_t (K := fun x => x) c9 hf
      refine lv_iconst (v := 0) C.x C.b dX7_isWhole_24 (by decide) ?_
      exact j25 0 _ _ _ h (lv_sub hl [] rfl) hf
    · have hf := if_f (K := fun x => x) c9 hf
      exact j20  _ _ _ h (lv_sub hl [] rfl) hf
theorem tM_isWhole : GoodIn lw_all (wsV RX7 320 RX7 yX7_isWhole (ws_ yX7_isWhole cX7_isWhole 3 (some .boolean))) := lw_V q1959 q1961 qs111 q147 q1962
theorem cM_isWhole {p : Program} {l : Launch} {e : Env} {R : Room} {s : State} {m : MethodId} {args : Array Value} {below : List Frame} {meth : Method} {c : Code} {H : Heap} {locs : List Loc} {Q : State → Prop} {cc : ByteArray} {pc : Nat} {ls : Array Slot} {st : List Value} {nL d : Nat} {D : va_G} {ty : Nat → ClassId} {A : Nat → Prop} {o : Nat} {ad : Nat → Nat} {rs : va_W} {σ : PS} {v1 : Int32} {v2 : Int32} {q : Int32} (C : Cx p R s m args c cc nL RX7 D ty A d) (h : Hw D A s H locs (wM ty o ad σ ++ rs)) (hc : M_isWhole σ v1 v2 = some q) (hd : 0 + 1 ≤ d) (hls : ls.size = nL) (hcat : (st.map fun v => v.category).sum ≤ 8) (dec : decode cc pc = .ok (.invokevirtual 320, 3)) (kk : ∀ (H : Heap) (locs : List Loc), Hw D A s H locs (wM ty o ad σ ++ rs) → W p l e R s m args below meth c H locs 0 0 Q (F0 m (pc + 3) ls (.int q :: st))) : W p l e R s m args below meth c H locs 0 0 Q (F0 m pc ls (.int v2 :: .int v1 :: .ref o :: st)) := KI.callV (As := [.int v1, .int v2]) C (kM_isWhole l hc) tM_isWhole ⟨rfl, by decide, by decide, by show _ = some 2; decide +kernel⟩ 0 7 rfl rfl rfl hd (by decide) (Nat.zero_le _) (Nat.zero_le _) h hls rfl hcat dec kk
def M_soundNow_j38 (σ : PS) (v1 : Int32) : Option Int32 := some v1
def M_soundNow_j30 (σ : PS) (v2 : Int32) (x0 : Int32) (x1 : Int32) : Option ((Int32 × Int32) ⊕ Int32) := nm (x1 ||| x0) (fun v1_1 => nm (v2 + 1) (fun v2_2 => some (.inl (v1_1, v2_2))))
def M_soundNow_l4 (σ : PS) (v1 : Int32) (v2 : Int32) : Option ((Int32 × Int32) ⊕ Int32) := bd (M_pieces σ) (fun q_3 => if q_3 ≤ v2 then up (M_soundNow_j38 σ v1) else ix v2 6 (if (rA σ 34 v2) = ((-1)) then M_soundNow_j30 σ v2 (1 <<< (v2 &&& 31)) v1 else M_soundNow_j30 σ v2 0 v1))
def M_soundNow_B4 (σ : PS) : (Int32 × Int32) → Option ((Int32 × Int32) ⊕ Int32) := fun t => M_soundNow_l4 σ t.1 t.2
def M_soundNow (σ : PS) : Option Int32 := loop (M_soundNow_B4 σ) fu (0, 0)
set_option maxHeartbeats 4000000 in
theorem kM_soundNow (l : Launch) {D : va_G} {ty : Nat → ClassId} {A : Nat → Prop} {o : Nat} {ad : Nat → Nat} {rs : va_W} {σ : PS} {r : Int32} (hf : M_soundNow σ = some r) : KI l yX7_soundNow cX7_soundNow 3 .int 1 D ty A (wM ty o ad σ ++ rs) (wM ty o ad σ ++ rs) [.ref o] r := by
  refine KI.of (by decide) (Nat.le_of_ble_eq_true rfl) ?_
  intro p e R s m args below meth c Q C hR
  have C : Cx p R s m args c cX7_soundNow 3 RX7 D ty A 1 := C
  have hR : ∀ (v : Int32), v = r → ∀ (H : Heap) (locs : List Loc) (pc : Nat) (ls : Array Slot), Hw D A s H locs (wM ty o ad σ ++ rs) → narrow .int (.int v) = .int v → decode cX7_soundNow pc = .ok (.ireturn, 1) → W p l e R s m args below meth c H locs 0 0 Q (F0 m pc ls [.int v]) := by intro v e9; cases e9; exact hR
  have j38 : ∀ (v1 : Int32) (H : Heap) (locs : List Loc) (ls : Array Slot), Hw D A s H locs (wM ty o ad σ ++ rs) → lv_has ls 3 [(1, .int v1)] → M_soundNow_j38 σ v1 = some r → W p l e R s m args below meth c H locs 0 0 Q (F0 m 38 ls []) := by
    intro v1 H locs ls h hl hf
    unfold M_soundNow_j38 at hf
    refine lv_iload_n C.x C.b dX7_soundNow_38 rfl (lv_at hl 0 rfl) ?_
    exact hR _ (some_k hf) _ _ _ _ h rfl dX7_soundNow_39
  have l4 : ∀ (n4 : Nat) (v1 : Int32) (v2 : Int32) (H : Heap) (locs : List Loc) (ls : Array Slot), Hw D A s H locs (wM ty o ad σ ++ rs) → lv_has ls 3 [(0, .ref o), (1, .int v1), (2, .int v2)] → loop (M_soundNow_B4 σ) n4 (v1, v2) = some r → W p l e R s m args below meth c H locs 0 0 Q (F0 m 4 ls []) := by
    intro n4
    induction n4 with
    | zero => intro v1 v2 H locs ls h hl hf; exact (none_k hf).elim
    | succ n4 ih4 =>
      have j30 : ∀ (v2 : Int32) (x0 : Int32) (x1 : Int32) (H : Heap) (locs : List Loc) (ls : Array Slot), Hw D A s H locs (wM ty o ad σ ++ rs) → lv_has ls 3 [(0, .ref o), (2, .int v2)] → bl (M_soundNow_B4 σ) n4 (M_soundNow_j30 σ v2 x0 x1) = some r → W p l e R s m args below meth c H locs 0 0 Q (F0 m 30 ls [.int x0, .int x1]) := by
        intro v2 x0 x1 H locs ls h hl hf
        unfold M_soundNow_j30 at hf
        refine lv_ior C.x C.b dX7_soundNow_30 ?_
        obtain ⟨v1_1, e9, hf⟩ := nm_k (K := bl (M_soundNow_B4 σ) n4) hf
        refine lv_topI e9 ?_
        refine lv_istore_n (lv' := [(1, .int v1_1), (0, .ref o), (2, .int v2)]) C.x C.b dX7_soundNow_31 rfl hl (by decide) rfl (fun ls hl => ?_)
        obtain ⟨v2_2, e9, hf⟩ := nm_k (K := bl (M_soundNow_B4 σ) n4) hf
        refine lv_iinc (v := v2_2) (lv' := [(2, .int v2_2), (1, .int v1_1), (0, .ref o)]) C.x C.b dX7_soundNow_32 hl (k := 2) rfl (iinc_e (k := 1) (by decide) e9) (by decide) rfl (fun ls hl => ?_)
        refine lv_goto (tgt := 4) C.x C.b dX7_soundNow_35 (by decide) ?_
        exact ih4 v1_1 v2_2 _ _ _ h (lv_sub hl [2, 1, 0] rfl) hf
      intro v1 v2 H locs ls h hl hf
      have hf : bl (M_soundNow_B4 σ) n4 (M_soundNow_l4 σ v1 v2) = some r := hf
      unfold M_soundNow_l4 at hf
      refine lv_iload_n C.x C.b dX7_soundNow_4 rfl (lv_at hl 2 rfl) ?_
      refine lv_aload_n C.x C.b dX7_soundNow_5 rfl (lv_at hl 0 rfl) ?_
      obtain ⟨q_3, hc, hf⟩ := bd_k (K := bl (M_soundNow_B4 σ) n4) rfl hf
      refine cM_pieces C h hc (Nat.le_of_ble_eq_true rfl) hl.1 (Nat.le_of_ble_eq_true rfl) dX7_soundNow_6 (fun H locs h => ?_)
      refine lv_icmp_ge (tgt := 38) C.x C.b dX7_soundNow_9 (by decide) (fun c9 => ?_) (fun c9 => ?_)
      · have hf := if_t (K := bl (M_soundNow_B4 σ) n4) c9 hf
        have hf := bl_upK (K := fun x => x) hf
        exact j38 v1 _ _ _ h (lv_sub hl [1] rfl) hf
      · have hf := if_f (K := bl (M_soundNow_B4 σ) n4) c9 hf
        refine lv_iload_n C.x C.b dX7_soundNow_12 rfl (lv_at hl 1 rfl) ?_
        refine lv_aload_n C.x C.b dX7_soundNow_13 rfl (lv_at hl 0 rfl) ?_
        refine m_g34 C h dX7_soundNow_14 ?_
        refine lv_iload_n C.x C.b dX7_soundNow_17 rfl (lv_at hl 2 rfl) ?_
        obtain ⟨hi, hf⟩ := ix_k (K := bl (M_soundNow_B4 σ) n4) rfl hf
        refine m_a34 C h hi dX7_soundNow_18 ?_
        refine lv_iconst (v := (-1)) C.x C.b dX7_soundNow_19 (by decide) ?_
        refine lv_icmp_ne (tgt := 29) C.x C.b dX7_soundNow_20 (by decide) (fun c9 => ?_) (fun c9 => ?_)
        · have hf := if_f (K := bl (M_soundNow_B4 σ) n4) c9 hf
          refine lv_iconst (v := 0) C.x C.b dX7_soundNow_29 (by decide) ?_
          exact j30 v2 0 v1 _ _ _ h (lv_sub hl [0, 2] rfl) hf
        · have hf := if_t (K := bl (M_soundNow_B4 σ) n4) c9 hf
          refine lv_iconst (v := 1) C.x C.b dX7_soundNow_23 (by decide) ?_
          refine lv_iload_n C.x C.b dX7_soundNow_24 rfl (lv_at hl 2 rfl) ?_
          refine lv_ishl C.x C.b dX7_soundNow_25 ?_
          refine lv_goto (tgt := 30) C.x C.b dX7_soundNow_26 (by decide) ?_
          exact j30 v2 (1 <<< (v2 &&& 31)) v1 _ _ _ h (lv_sub hl [0, 2] rfl) hf
  intro H locs ls h hl
  have hl : lv_has ls 3 [(0, .ref o)] := hl
  unfold M_soundNow at hf
  refine lv_iconst (v := 0) C.x C.b dX7_soundNow_0 (by decide) ?_
  refine lv_istore_n (lv' := [(1, .int 0), (0, .ref o)]) C.x C.b dX7_soundNow_1 rfl hl (by decide) rfl (fun ls hl => ?_)
  refine lv_iconst (v := 0) C.x C.b dX7_soundNow_2 (by decide) ?_
  refine lv_istore_n (lv' := [(2, .int 0), (1, .int 0), (0, .ref o)]) C.x C.b dX7_soundNow_3 rfl hl (by decide) rfl (fun ls hl => ?_)
  exact l4  fu 0 0 _ _ _ h (lv_sub hl [2, 1, 0] rfl) hf
theorem tM_soundNow : GoodIn lw_all (wsV RX7 323 RX7 yX7_soundNow (ws_ yX7_soundNow cX7_soundNow 3 (some .int))) := lw_V q1967 q1969 qs112 q147 q1970
theorem cM_soundNow {p : Program} {l : Launch} {e : Env} {R : Room} {s : State} {m : MethodId} {args : Array Value} {below : List Frame} {meth : Method} {c : Code} {H : Heap} {locs : List Loc} {Q : State → Prop} {cc : ByteArray} {pc : Nat} {ls : Array Slot} {st : List Value} {nL d : Nat} {D : va_G} {ty : Nat → ClassId} {A : Nat → Prop} {o : Nat} {ad : Nat → Nat} {rs : va_W} {σ : PS} {q : Int32} (C : Cx p R s m args c cc nL RX7 D ty A d) (h : Hw D A s H locs (wM ty o ad σ ++ rs)) (hc : M_soundNow σ = some q) (hd : 1 + 1 ≤ d) (hls : ls.size = nL) (hcat : (st.map fun v => v.category).sum ≤ 8) (dec : decode cc pc = .ok (.invokevirtual 323, 3)) (kk : ∀ (H : Heap) (locs : List Loc), Hw D A s H locs (wM ty o ad σ ++ rs) → W p l e R s m args below meth c H locs 0 0 Q (F0 m (pc + 3) ls (.int q :: st))) : W p l e R s m args below meth c H locs 0 0 Q (F0 m pc ls (.ref o :: st)) := KI.callV (As := []) C (kM_soundNow l hc) tM_soundNow ⟨rfl, by decide, by decide, by show _ = some 0; decide +kernel⟩ 0 7 rfl rfl rfl hd (by decide) (Nat.zero_le _) (Nat.zero_le _) h hls rfl hcat dec kk
def M_crackedIn_j38 (σ : PS) (v2 : Int32) : Option Int32 := some v2
def M_crackedIn_j30 (σ : PS) (v1 : Int32) (v3 : Int32) (x0 : Int32) (x1 : Int32) : Option ((Int32 × Int32) ⊕ Int32) := nm (x1 ||| x0) (fun v2_1 => nm (v3 + 1) (fun v3_2 => some (.inl (v2_1, v3_2))))
def M_crackedIn_l4 (σ : PS) (v1 : Int32) (v2 : Int32) (v3 : Int32) : Option ((Int32 × Int32) ⊕ Int32) := bd (M_pieces σ) (fun q_3 => if q_3 ≤ v3 then up (M_crackedIn_j38 σ v2) else ix v3 6 (if (rA σ 34 v3) = v1 then M_crackedIn_j30 σ v1 v3 (1 <<< (v3 &&& 31)) v2 else M_crackedIn_j30 σ v1 v3 0 v2))
def M_crackedIn_B4 (σ : PS) (v1 : Int32) : (Int32 × Int32) → Option ((Int32 × Int32) ⊕ Int32) := fun t => M_crackedIn_l4 σ v1 t.1 t.2
def M_crackedIn (σ : PS) (v1 : Int32) : Option Int32 := loop (M_crackedIn_B4 σ v1) fu (0, 0)
set_option maxHeartbeats 4000000 in
theorem kM_crackedIn (l : Launch) {D : va_G} {ty : Nat → ClassId} {A : Nat → Prop} {o : Nat} {ad : Nat → Nat} {rs : va_W} {σ : PS} {v1 : Int32} {r : Int32} (hf : M_crackedIn σ v1 = some r) : KI l yX7_crackedIn cX7_crackedIn 4 .int 1 D ty A (wM ty o ad σ ++ rs) (wM ty o ad σ ++ rs) [.ref o, .int v1] r := by
  refine KI.of (by decide) (Nat.le_of_ble_eq_true rfl) ?_
  intro p e R s m args below meth c Q C hR
  have C : Cx p R s m args c cX7_crackedIn 4 RX7 D ty A 1 := C
  have hR : ∀ (v : Int32), v = r → ∀ (H : Heap) (locs : List Loc) (pc : Nat) (ls : Array Slot), Hw D A s H locs (wM ty o ad σ ++ rs) → narrow .int (.int v) = .int v → decode cX7_crackedIn pc = .ok (.ireturn, 1) → W p l e R s m args below meth c H locs 0 0 Q (F0 m pc ls [.int v]) := by intro v e9; cases e9; exact hR
  have j38 : ∀ (v2 : Int32) (H : Heap) (locs : List Loc) (ls : Array Slot), Hw D A s H locs (wM ty o ad σ ++ rs) → lv_has ls 4 [(2, .int v2)] → M_crackedIn_j38 σ v2 = some r → W p l e R s m args below meth c H locs 0 0 Q (F0 m 38 ls []) := by
    intro v2 H locs ls h hl hf
    unfold M_crackedIn_j38 at hf
    refine lv_iload_n C.x C.b dX7_crackedIn_38 rfl (lv_at hl 0 rfl) ?_
    exact hR _ (some_k hf) _ _ _ _ h rfl dX7_crackedIn_39
  have l4 : ∀ (n4 : Nat) (v2 : Int32) (v3 : Int32) (H : Heap) (locs : List Loc) (ls : Array Slot), Hw D A s H locs (wM ty o ad σ ++ rs) → lv_has ls 4 [(0, .ref o), (1, .int v1), (2, .int v2), (3, .int v3)] → loop (M_crackedIn_B4 σ v1) n4 (v2, v3) = some r → W p l e R s m args below meth c H locs 0 0 Q (F0 m 4 ls []) := by
    intro n4
    induction n4 with
    | zero => intro v2 v3 H locs ls h hl hf; exact (none_k hf).elim
    | succ n4 ih4 =>
      have j30 : ∀ (v3 : Int32) (x0 : Int32) (x1 : Int32) (H : Heap) (locs : List Loc) (ls : Array Slot), Hw D A s H locs (wM ty o ad σ ++ rs) → lv_has ls 4 [(0, .ref o), (1, .int v1), (3, .int v3)] → bl (M_crackedIn_B4 σ v1) n4 (M_crackedIn_j30 σ v1 v3 x0 x1) = some r → W p l e R s m args below meth c H locs 0 0 Q (F0 m 30 ls [.int x0, .int x1]) := by
        intro v3 x0 x1 H locs ls h hl hf
        unfold M_crackedIn_j30 at hf
        refine lv_ior C.x C.b dX7_crackedIn_30 ?_
        obtain ⟨v2_1, e9, hf⟩ := nm_k (K := bl (M_crackedIn_B4 σ v1) n4) hf
        refine lv_topI e9 ?_
        refine lv_istore_n (lv' := [(2, .int v2_1), (0, .ref o), (1, .int v1), (3, .int v3)]) C.x C.b dX7_crackedIn_31 rfl hl (by decide) rfl (fun ls hl => ?_)
        obtain ⟨v3_2, e9, hf⟩ := nm_k (K := bl (M_crackedIn_B4 σ v1) n4) hf
        refine lv_iinc (v := v3_2) (lv' := [(3, .int v3_2), (2, .int v2_1), (0, .ref o), (1, .int v1)]) C.x C.b dX7_crackedIn_32 hl (k := 3) rfl (iinc_e (k := 1) (by decide) e9) (by decide) rfl (fun ls hl => ?_)
        refine lv_goto (tgt := 4) C.x C.b dX7_crackedIn_35 (by decide) ?_
        exact ih4 v2_1 v3_2 _ _ _ h (lv_sub hl [2, 3, 1, 0] rfl) hf
      intro v2 v3 H locs ls h hl hf
      have hf : bl (M_crackedIn_B4 σ v1) n4 (M_crackedIn_l4 σ v1 v2 v3) = some r := hf
      unfold M_crackedIn_l4 at hf
      refine lv_iload_n C.x C.b dX7_crackedIn_4 rfl (lv_at hl 3 rfl) ?_
      refine lv_aload_n C.x C.b dX7_crackedIn_5 rfl (lv_at hl 0 rfl) ?_
      obtain ⟨q_3, hc, hf⟩ := bd_k (K := bl (M_crackedIn_B4 σ v1) n4) rfl hf
      refine cM_pieces C h hc (Nat.le_of_ble_eq_true rfl) hl.1 (Nat.le_of_ble_eq_true rfl) dX7_crackedIn_6 (fun H locs h => ?_)
      refine lv_icmp_ge (tgt := 38) C.x C.b dX7_crackedIn_9 (by decide) (fun c9 => ?_) (fun c9 => ?_)
      · have hf := if_t (K := bl (M_crackedIn_B4 σ v1) n4) c9 hf
        have hf := bl_upK (K := fun x => x) hf
        exact j38 v2 _ _ _ h (lv_sub hl [2] rfl) hf
      · have hf := if_f (K := bl (M_crackedIn_B4 σ v1) n4) c9 hf
        refine lv_iload_n C.x C.b dX7_crackedIn_12 rfl (lv_at hl 2 rfl) ?_
        refine lv_aload_n C.x C.b dX7_crackedIn_13 rfl (lv_at hl 0 rfl) ?_
        refine m_g34 C h dX7_crackedIn_14 ?_
        refine lv_iload_n C.x C.b dX7_crackedIn_17 rfl (lv_at hl 3 rfl) ?_
        obtain ⟨hi, hf⟩ := ix_k (K := bl (M_crackedIn_B4 σ v1) n4) rfl hf
        refine m_a34 C h hi dX7_crackedIn_18 ?_
        refine lv_iload_n C.x C.b dX7_crackedIn_19 rfl (lv_at hl 1 rfl) ?_
        refine lv_icmp_ne (tgt := 29) C.x C.b dX7_crackedIn_20 (by decide) (fun c9 => ?_) (fun c9 => ?_)
        · have hf := if_f (K := bl (M_crackedIn_B4 σ v1) n4) c9 hf
          refine lv_iconst (v := 0) C.x C.b dX7_crackedIn_29 (by decide) ?_
          exact j30 v3 0 v2 _ _ _ h (lv_sub hl [0, 1, 3] rfl) hf
        · have hf := if_t (K := bl (M_crackedIn_B4 σ v1) n4) c9 hf
          refine lv_iconst (v := 1) C.x C.b dX7_crackedIn_23 (by decide) ?_
          refine lv_iload_n C.x C.b dX7_crackedIn_24 rfl (lv_at hl 3 rfl) ?_
          refine lv_ishl C.x C.b dX7_crackedIn_25 ?_
          refine lv_goto (tgt := 30) C.x C.b dX7_crackedIn_26 (by decide) ?_
          exact j30 v3 (1 <<< (v3 &&& 31)) v2 _ _ _ h (lv_sub hl [0, 1, 3] rfl) hf
  intro H locs ls h hl
  have hl : lv_has ls 4 [(0, .ref o), (1, .int v1)] := hl
  unfold M_crackedIn at hf
  refine lv_iconst (v := 0) C.x C.b dX7_crackedIn_0 (by decide) ?_
  refine lv_istore_n (lv' := [(2, .int 0), (0, .ref o), (1, .int v1)]) C.x C.b dX7_crackedIn_1 rfl hl (by decide) rfl (fun ls hl => ?_)
  refine lv_iconst (v := 0) C.x C.b dX7_crackedIn_2 (by decide) ?_
  refine lv_istore_n (lv' := [(3, .int 0), (2, .int 0), (0, .ref o), (1, .int v1)]) C.x C.b dX7_crackedIn_3 rfl hl (by decide) rfl (fun ls hl => ?_)
  exact l4  fu 0 0 _ _ _ h (lv_sub hl [2, 3, 1, 0] rfl) hf
theorem tM_crackedIn : GoodIn lw_all (wsV RX7 332 RX7 yX7_crackedIn (ws_ yX7_crackedIn cX7_crackedIn 4 (some .int))) := lw_V q2003 q2005 qs115 q147 q2006
theorem cM_crackedIn {p : Program} {l : Launch} {e : Env} {R : Room} {s : State} {m : MethodId} {args : Array Value} {below : List Frame} {meth : Method} {c : Code} {H : Heap} {locs : List Loc} {Q : State → Prop} {cc : ByteArray} {pc : Nat} {ls : Array Slot} {st : List Value} {nL d : Nat} {D : va_G} {ty : Nat → ClassId} {A : Nat → Prop} {o : Nat} {ad : Nat → Nat} {rs : va_W} {σ : PS} {v1 : Int32} {q : Int32} (C : Cx p R s m args c cc nL RX7 D ty A d) (h : Hw D A s H locs (wM ty o ad σ ++ rs)) (hc : M_crackedIn σ v1 = some q) (hd : 1 + 1 ≤ d) (hls : ls.size = nL) (hcat : (st.map fun v => v.category).sum ≤ 8) (dec : decode cc pc = .ok (.invokevirtual 332, 3)) (kk : ∀ (H : Heap) (locs : List Loc), Hw D A s H locs (wM ty o ad σ ++ rs) → W p l e R s m args below meth c H locs 0 0 Q (F0 m (pc + 3) ls (.int q :: st))) : W p l e R s m args below meth c H locs 0 0 Q (F0 m pc ls (.int v1 :: .ref o :: st)) := KI.callV (As := [.int v1]) C (kM_crackedIn l hc) tM_crackedIn ⟨rfl, by decide, by decide, by show _ = some 1; decide +kernel⟩ 0 7 rfl rfl rfl hd (by decide) (Nat.zero_le _) (Nat.zero_le _) h hls rfl hcat dec kk
def M_sizeOf_j20 (v1 : Int32) : Option Int32 := some v1
def M_sizeOf_l4 (v1 : Int32) (v2 : Int32) : Option ((Int32 × Int32) ⊕ Int32) := if v2 = 0 then up (M_sizeOf_j20 v1) else nm (v1 + 1) (fun v1_1 => nm (v2 &&& (v2 - 1)) (fun v2_2 => some (.inl (v1_1, v2_2))))
def M_sizeOf_B4 : (Int32 × Int32) → Option ((Int32 × Int32) ⊕ Int32) := fun t => M_sizeOf_l4 t.1 t.2
def M_sizeOf (v0 : Int32) : Option Int32 := loop (M_sizeOf_B4) fu (0, v0)
set_option maxHeartbeats 4000000 in
theorem kM_sizeOf (l : Launch) {D : va_G} {ty : Nat → ClassId} {A : Nat → Prop} {ws : va_W} {v0 : Int32} {r : Int32} (hf : M_sizeOf v0 = some r) : KI l yX7_sizeOf cX7_sizeOf 3 .int 0 D ty A ws ws [.int v0] r := by
  refine KI.of (by decide) (Nat.le_of_ble_eq_true rfl) ?_
  intro p e R s m args below meth c Q C hR
  have C : Cx p R s m args c cX7_sizeOf 3 RX7 D ty A 0 := C
  have hR : ∀ (v : Int32), v = r → ∀ (H : Heap) (locs : List Loc) (pc : Nat) (ls : Array Slot), Hw D A s H locs ws → narrow .int (.int v) = .int v → decode cX7_sizeOf pc = .ok (.ireturn, 1) → W p l e R s m args below meth c H locs 0 0 Q (F0 m pc ls [.int v]) := by intro v e9; cases e9; exact hR
  have j20 : ∀ (v1 : Int32) (H : Heap) (locs : List Loc) (ls : Array Slot), Hw D A s H locs ws → lv_has ls 3 [(1, .int v1)] → M_sizeOf_j20 v1 = some r → W p l e R s m args below meth c H locs 0 0 Q (F0 m 20 ls []) := by
    intro v1 H locs ls h hl hf
    unfold M_sizeOf_j20 at hf
    refine lv_iload_n C.x C.b dX7_sizeOf_20 rfl (lv_at hl 0 rfl) ?_
    exact hR _ (some_k hf) _ _ _ _ h rfl dX7_sizeOf_21
  have l4 : ∀ (n4 : Nat) (v1 : Int32) (v2 : Int32) (H : Heap) (locs : List Loc) (ls : Array Slot), Hw D A s H locs ws → lv_has ls 3 [(1, .int v1), (2, .int v2)] → loop (M_sizeOf_B4) n4 (v1, v2) = some r → W p l e R s m args below meth c H locs 0 0 Q (F0 m 4 ls []) := by
    intro n4
    induction n4 with
    | zero => intro v1 v2 H locs ls h hl hf; exact (none_k hf).elim
    | succ n4 ih4 =>
      intro v1 v2 H locs ls h hl hf
      have hf : bl (M_sizeOf_B4) n4 (M_sizeOf_l4 v1 v2) = some r := hf
      unfold M_sizeOf_l4 at hf
      refine lv_iload_n C.x C.b dX7_sizeOf_4 rfl (lv_at hl 1 rfl) ?_
      refine lv_if_eq (tgt := 20) C.x C.b dX7_sizeOf_5 (by decide) (fun c9 => ?_) (fun c9 => ?_)
      · have hf := if_t (K := bl (M_sizeOf_B4) n4) c9 hf
        have hf := bl_upK (K := fun x => x) hf
        exact j20 v1 _ _ _ h (lv_sub hl [0] rfl) hf
      · have hf := if_f (K := bl (M_sizeOf_B4) n4) c9 hf
        obtain ⟨v1_1, e9, hf⟩ := nm_k (K := bl (M_sizeOf_B4) n4) hf
        refine lv_iinc (v := v1_1) (lv' := [(1, .int v1_1), (2, .int v2)]) C.x C.b dX7_sizeOf_8 hl (k := 0) rfl (iinc_e (k := 1) (by decide) e9) (by decide) rfl (fun ls hl => ?_)
        refine lv_iload_n C.x C.b dX7_sizeOf_11 rfl (lv_at hl 1 rfl) ?_
        refine lv_iload_n C.x C.b dX7_sizeOf_12 rfl (lv_at hl 1 rfl) ?_
        refine lv_iconst (v := 1) C.x C.b dX7_sizeOf_13 (by decide) ?_
        refine lv_isub C.x C.b dX7_sizeOf_14 ?_
        refine lv_iand C.x C.b dX7_sizeOf_15 ?_
        obtain ⟨v2_2, e9, hf⟩ := nm_k (K := bl (M_sizeOf_B4) n4) hf
        refine lv_topI e9 ?_
        refine lv_istore_n (lv' := [(2, .int v2_2), (1, .int v1_1)]) C.x C.b dX7_sizeOf_16 rfl hl (by decide) rfl (fun ls hl => ?_)
        refine lv_goto (tgt := 4) C.x C.b dX7_sizeOf_17 (by decide) ?_
        exact ih4 v1_1 v2_2 _ _ _ h (lv_sub hl [1, 0] rfl) hf
  intro H locs ls h hl
  have hl : lv_has ls 3 [(0, .int v0)] := hl
  unfold M_sizeOf at hf
  refine lv_iconst (v := 0) C.x C.b dX7_sizeOf_0 (by decide) ?_
  refine lv_istore_n (lv' := [(1, .int 0), (0, .int v0)]) C.x C.b dX7_sizeOf_1 rfl hl (by decide) rfl (fun ls hl => ?_)
  refine lv_iload_n C.x C.b dX7_sizeOf_2 rfl (lv_at hl 1 rfl) ?_
  refine lv_istore_n (lv' := [(2, .int v0), (1, .int 0), (0, .int v0)]) C.x C.b dX7_sizeOf_3 rfl hl (by decide) rfl (fun ls hl => ?_)
  exact l4  fu 0 v0 _ _ _ h (lv_sub hl [1, 0] rfl) hf
theorem tM_sizeOf : GoodIn lw_all (va_wsS RX7 335 yX7_sizeOf (ws_ yX7_sizeOf cX7_sizeOf 3 (some .int))) := lw_S q2007 q2008 q147 q2009
theorem cM_sizeOf {p : Program} {l : Launch} {e : Env} {R : Room} {s : State} {m : MethodId} {args : Array Value} {below : List Frame} {meth : Method} {c : Code} {H : Heap} {locs : List Loc} {Q : State → Prop} {cc : ByteArray} {pc : Nat} {ls : Array Slot} {st : List Value} {nL d : Nat} {D : va_G} {ty : Nat → ClassId} {A : Nat → Prop} {ws : va_W} {v0 : Int32} {q : Int32} (C : Cx p R s m args c cc nL RX7 D ty A d) (h : Hw D A s H locs ws) (hc : M_sizeOf v0 = some q) (hd : 0 + 1 ≤ d) (hls : ls.size = nL) (hcat : (st.map fun v => v.category).sum ≤ 8) (dec : decode cc pc = .ok (.invokestatic 335, 3)) (kk : ∀ (H : Heap) (locs : List Loc), Hw D A s H locs ws → W p l e R s m args below meth c H locs 0 0 Q (F0 m (pc + 3) ls (.int q :: st))) : W p l e R s m args below meth c H locs 0 0 Q (F0 m pc ls (.int v0 :: st)) := KI.callS (As := [.int v0]) C (kM_sizeOf l hc) tM_sizeOf ⟨by decide, by decide, by show _ = some 1; decide +kernel⟩ hd (by decide) (Nat.zero_le _) (Nat.zero_le _) h hls rfl hcat dec kk
def M_dropOf (σ : PS) (v1 : Int32) (v2 : Int32) : Option Int32 := bd (M_skinOf σ v1 v2) (fun q_1 => bd (M_skinOf σ v1 (v2 + 1)) (fun q_2 => some (q_1 - q_2)))
set_option maxHeartbeats 4000000 in
theorem kM_dropOf (l : Launch) {D : va_G} {ty : Nat → ClassId} {A : Nat → Prop} {o : Nat} {ad : Nat → Nat} {rs : va_W} {σ : PS} {v1 : Int32} {v2 : Int32} {r : Int32} (hf : M_dropOf σ v1 v2 = some r) : KI l yX7_dropOf cX7_dropOf 3 .int 1 D ty A (wM ty o ad σ ++ rs) (wM ty o ad σ ++ rs) [.ref o, .int v1, .int v2] r := by
  refine KI.of (by decide) (Nat.le_of_ble_eq_true rfl) ?_
  intro p e R s m args below meth c Q C hR
  have C : Cx p R s m args c cX7_dropOf 3 RX7 D ty A 1 := C
  have hR : ∀ (v : Int32), v = r → ∀ (H : Heap) (locs : List Loc) (pc : Nat) (ls : Array Slot), Hw D A s H locs (wM ty o ad σ ++ rs) → narrow .int (.int v) = .int v → decode cX7_dropOf pc = .ok (.ireturn, 1) → W p l e R s m args below meth c H locs 0 0 Q (F0 m pc ls [.int v]) := by intro v e9; cases e9; exact hR
  intro H locs ls h hl
  have hl : lv_has ls 3 [(0, .ref o), (1, .int v1), (2, .int v2)] := hl
  unfold M_dropOf at hf
  refine lv_aload_n C.x C.b dX7_dropOf_0 rfl (lv_at hl 0 rfl) ?_
  refine lv_iload_n C.x C.b dX7_dropOf_1 rfl (lv_at hl 1 rfl) ?_
  refine lv_iload_n C.x C.b dX7_dropOf_2 rfl (lv_at hl 2 rfl) ?_
  obtain ⟨q_1, hc, hf⟩ := bd_k (K := fun x => x) rfl hf
  refine cM_skinOf C h hc (Nat.le_of_ble_eq_true rfl) hl.1 (Nat.le_of_ble_eq_true rfl) dX7_dropOf_3 (fun H locs h => ?_)
  refine lv_aload_n C.x C.b dX7_dropOf_6 rfl (lv_at hl 0 rfl) ?_
  refine lv_iload_n C.x C.b dX7_dropOf_7 rfl (lv_at hl 1 rfl) ?_
  refine lv_iload_n C.x C.b dX7_dropOf_8 rfl (lv_at hl 2 rfl) ?_
  refine lv_iconst (v := 1) C.x C.b dX7_dropOf_9 (by decide) ?_
  refine lv_iadd C.x C.b dX7_dropOf_10 ?_
  obtain ⟨q_2, hc, hf⟩ := bd_k (K := fun x => x) rfl hf
  refine cM_skinOf C h hc (Nat.le_of_ble_eq_true rfl) hl.1 (Nat.le_of_ble_eq_true rfl) dX7_dropOf_11 (fun H locs h => ?_)
  refine lv_isub C.x C.b dX7_dropOf_14 ?_
  exact hR _ (some_k hf) _ _ _ _ h rfl dX7_dropOf_15
theorem tM_dropOf : GoodIn lw_all (wsV RX7 343 RX7 yX7_dropOf (ws_ yX7_dropOf cX7_dropOf 3 (some .int))) := lw_V q2063 q2065 qs117 q147 q2066
theorem cM_dropOf {p : Program} {l : Launch} {e : Env} {R : Room} {s : State} {m : MethodId} {args : Array Value} {below : List Frame} {meth : Method} {c : Code} {H : Heap} {locs : List Loc} {Q : State → Prop} {cc : ByteArray} {pc : Nat} {ls : Array Slot} {st : List Value} {nL d : Nat} {D : va_G} {ty : Nat → ClassId} {A : Nat → Prop} {o : Nat} {ad : Nat → Nat} {rs : va_W} {σ : PS} {v1 : Int32} {v2 : Int32} {q : Int32} (C : Cx p R s m args c cc nL RX7 D ty A d) (h : Hw D A s H locs (wM ty o ad σ ++ rs)) (hc : M_dropOf σ v1 v2 = some q) (hd : 1 + 1 ≤ d) (hls : ls.size = nL) (hcat : (st.map fun v => v.category).sum ≤ 8) (dec : decode cc pc = .ok (.invokevirtual 343, 3)) (kk : ∀ (H : Heap) (locs : List Loc), Hw D A s H locs (wM ty o ad σ ++ rs) → W p l e R s m args below meth c H locs 0 0 Q (F0 m (pc + 3) ls (.int q :: st))) : W p l e R s m args below meth c H locs 0 0 Q (F0 m pc ls (.int v2 :: .int v1 :: .ref o :: st)) := KI.callV (As := [.int v1, .int v2]) C (kM_dropOf l hc) tM_dropOf ⟨rfl, by decide, by decide, by show _ = some 2; decide +kernel⟩ 0 7 rfl rfl rfl hd (by decide) (Nat.zero_le _) (Nat.zero_le _) h hls rfl hcat dec kk
def M_isAhead (σ : PS) (v1 : Int32) : Option Int32 := bd (M_steps σ) (fun q_1 => bd (M_in v1.toInt64 0 (q_1.toInt64 - 1)) (fun q_2 => tz q_2 (some q_2)))
set_option maxHeartbeats 4000000 in
theorem kM_isAhead (l : Launch) {D : va_G} {ty : Nat → ClassId} {A : Nat → Prop} {o : Nat} {ad : Nat → Nat} {rs : va_W} {σ : PS} {v1 : Int32} {r : Int32} (hf : M_isAhead σ v1 = some r) : KI l yX7_isAhead cX7_isAhead 2 .boolean 1 D ty A (wM ty o ad σ ++ rs) (wM ty o ad σ ++ rs) [.ref o, .int v1] r := by
  refine KI.of (by decide) (Nat.le_of_ble_eq_true rfl) ?_
  intro p e R s m args below meth c Q C hR
  have C : Cx p R s m args c cX7_isAhead 2 RX7 D ty A 1 := C
  have hR : ∀ (v : Int32), v = r → ∀ (H : Heap) (locs : List Loc) (pc : Nat) (ls : Array Slot), Hw D A s H locs (wM ty o ad σ ++ rs) → narrow .boolean (.int v) = .int v → decode cX7_isAhead pc = .ok (.ireturn, 1) → W p l e R s m args below meth c H locs 0 0 Q (F0 m pc ls [.int v]) := by intro v e9; cases e9; exact hR
  intro H locs ls h hl
  have hl : lv_has ls 2 [(0, .ref o), (1, .int v1)] := hl
  unfold M_isAhead at hf
  refine lv_iload_n C.x C.b dX7_isAhead_0 rfl (lv_at hl 1 rfl) ?_
  refine lv_i2l C.x C.b dX7_isAhead_1 rfl ?_
  refine lv_lconst (v := 0) C.x C.b dX7_isAhead_2 (by decide) ?_
  refine lv_aload_n C.x C.b dX7_isAhead_3 rfl (lv_at hl 0 rfl) ?_
  obtain ⟨q_1, hc, hf⟩ := bd_k (K := fun x => x) rfl hf
  refine cM_steps C h hc (Nat.le_of_ble_eq_true rfl) hl.1 (Nat.le_of_ble_eq_true rfl) dX7_isAhead_4 (fun H locs h => ?_)
  refine lv_i2l C.x C.b dX7_isAhead_7 rfl ?_
  refine lv_lconst (v := 1) C.x C.b dX7_isAhead_8 (by decide) ?_
  refine lv_lsub C.x C.b dX7_isAhead_9 ?_
  obtain ⟨q_2, hc, hf⟩ := bd_k (K := fun x => x) rfl hf
  refine cM_in C h hc (Nat.le_of_ble_eq_true rfl) hl.1 (Nat.le_of_ble_eq_true rfl) dX7_isAhead_10 (fun H locs h => ?_)
  obtain ⟨hz, hf⟩ := tz_k (K := fun x => x) rfl hf
  exact hR _ (some_k hf) _ _ _ _ h hz dX7_isAhead_13
theorem tM_isAhead : GoodIn lw_all (wsV RX7 346 RX7 yX7_isAhead (ws_ yX7_isAhead cX7_isAhead 2 (some .boolean))) := lw_V q2071 q2073 qs118 q147 q2074
theorem cM_isAhead {p : Program} {l : Launch} {e : Env} {R : Room} {s : State} {m : MethodId} {args : Array Value} {below : List Frame} {meth : Method} {c : Code} {H : Heap} {locs : List Loc} {Q : State → Prop} {cc : ByteArray} {pc : Nat} {ls : Array Slot} {st : List Value} {nL d : Nat} {D : va_G} {ty : Nat → ClassId} {A : Nat → Prop} {o : Nat} {ad : Nat → Nat} {rs : va_W} {σ : PS} {v1 : Int32} {q : Int32} (C : Cx p R s m args c cc nL RX7 D ty A d) (h : Hw D A s H locs (wM ty o ad σ ++ rs)) (hc : M_isAhead σ v1 = some q) (hd : 1 + 1 ≤ d) (hls : ls.size = nL) (hcat : (st.map fun v => v.category).sum ≤ 8) (dec : decode cc pc = .ok (.invokevirtual 346, 3)) (kk : ∀ (H : Heap) (locs : List Loc), Hw D A s H locs (wM ty o ad σ ++ rs) → W p l e R s m args below meth c H locs 0 0 Q (F0 m (pc + 3) ls (.int q :: st))) : W p l e R s m args below meth c H locs 0 0 Q (F0 m pc ls (.int v1 :: .ref o :: st)) := KI.callV (As := [.int v1]) C (kM_isAhead l hc) tM_isAhead ⟨rfl, by decide, by decide, by show _ = some 1; decide +kernel⟩ 0 7 rfl rfl rfl hd (by decide) (Nat.zero_le _) (Nat.zero_le _) h hls rfl hcat dec kk
def M_skips_j45 (σ : PS) : Option PS := some σ
def M_skips_l17 (v2 : Int32) (σ : PS) : Option ((Int32 × PS) ⊕ PS) := if (gI σ 25) ≤ v2 then up (M_skips_j45 σ) else ix (v2 + 1) 35 (ix v2 7 (nm (wA σ 27 v2 (rA σ 18 (v2 + 1))) (fun σ_1 => nm (v2 + 1) (fun v2_2 => some (.inl (v2_2, σ_1))))))
def M_skips_B17 : (Int32 × PS) → Option ((Int32 × PS) ⊕ PS) := fun t => M_skips_l17 t.1 t.2
def M_skips (σ : PS) (v1 : Int32) : Option PS := nm (sI σ 25 ((gI σ 25) - 1)) (fun σ_3 => nm (sI σ_3 26 v1) (fun σ_4 => loop (M_skips_B17) fu (v1, σ_4)))
set_option maxHeartbeats 4000000 in
theorem kM_skips (l : Launch) {D : va_G} {ty : Nat → ClassId} {A : Nat → Prop} {o : Nat} {ad : Nat → Nat} {rs : va_W} {σ : PS} {σ' : PS} {v1 : Int32} (hf : M_skips σ v1 = some σ') : KV l yX7_skips cX7_skips 3 0 D ty A (wM ty o ad σ ++ rs) (wM ty o ad σ' ++ rs) [.ref o, .int v1] := by
  refine KV.of (by decide) (Nat.le_of_ble_eq_true rfl) ?_
  intro p e R s m args below meth c Q C hR
  have C : Cx p R s m args c cX7_skips 3 RX7 D ty A 0 := C
  have hR : ∀ (σ2 : PS), σ2 = σ' → ∀ (H : Heap) (locs : List Loc) (pc : Nat) (ls : Array Slot), Hw D A s H locs (wM ty o ad σ2 ++ rs) → decode cX7_skips pc = .ok (.return_, 1) → W p l e R s m args below meth c H locs 0 0 Q (F0 m pc ls []) := by intro σ2 e9; cases e9; exact hR
  have j45 : ∀ (σ : PS) (H : Heap) (locs : List Loc) (ls : Array Slot), Hw D A s H locs (wM ty o ad σ ++ rs) → lv_has ls 3 [] → M_skips_j45 σ = some σ' → W p l e R s m args below meth c H locs 0 0 Q (F0 m 45 ls []) := by
    intro σ H locs ls h hl hf
    unfold M_skips_j45 at hf
    exact hR _ (some_k hf) _ _ _ _ h dX7_skips_45
  have l17 : ∀ (n17 : Nat) (v2 : Int32) (σ : PS) (H : Heap) (locs : List Loc) (ls : Array Slot), Hw D A s H locs (wM ty o ad σ ++ rs) → lv_has ls 3 [(0, .ref o), (2, .int v2)] → loop (M_skips_B17) n17 (v2, σ) = some σ' → W p l e R s m args below meth c H locs 0 0 Q (F0 m 17 ls []) := by
    intro n17
    induction n17 with
    | zero => intro v2 σ H locs ls h hl hf; exact (none_k hf).elim
    | succ n17 ih17 =>
      intro v2 σ H locs ls h hl hf
      have hf : bl (M_skips_B17) n17 (M_skips_l17 v2 σ) = some σ' := hf
      unfold M_skips_l17 at hf
      refine lv_iload_n C.x C.b dX7_skips_17 rfl (lv_at hl 1 rfl) ?_
      refine lv_aload_n C.x C.b dX7_skips_18 rfl (lv_at hl 0 rfl) ?_
      refine m_g25 C h dX7_skips_19 ?_
      refine lv_icmp_ge (tgt := 45) C.x C.b dX7_skips_22 (by decide) (fun c9 => ?_) (fun c9 => ?_)
      · have hf := if_t (K := bl (M_skips_B17) n17) c9 hf
        have hf := bl_upK (K := fun x => x) hf
        exact j45 σ _ _ _ h (lv_sub hl [] rfl) hf
      · have hf := if_f (K := bl (M_skips_B17) n17) c9 hf
        refine lv_aload_n C.x C.b dX7_skips_25 rfl (lv_at hl 0 rfl) ?_
        refine m_g27 C h dX7_skips_26 ?_
        refine lv_iload_n C.x C.b dX7_skips_29 rfl (lv_at hl 1 rfl) ?_
        refine lv_aload_n C.x C.b dX7_skips_30 rfl (lv_at hl 0 rfl) ?_
        refine m_g18 C h dX7_skips_31 ?_
        refine lv_iload_n C.x C.b dX7_skips_34 rfl (lv_at hl 1 rfl) ?_
        refine lv_iconst (v := 1) C.x C.b dX7_skips_35 (by decide) ?_
        refine lv_iadd C.x C.b dX7_skips_36 ?_
        obtain ⟨hi, hf⟩ := ix_k (K := bl (M_skips_B17) n17) rfl hf
        refine m_a18 C h hi dX7_skips_37 ?_
        obtain ⟨hi, hf⟩ := ix_k (K := bl (M_skips_B17) n17) rfl hf
        obtain ⟨σ_1, e9, hf⟩ := nm_k (K := bl (M_skips_B17) n17) hf
        refine m_w27 C h hi e9 dX7_skips_38 (fun H locs h => ?_)
        obtain ⟨v2_2, e9, hf⟩ := nm_k (K := bl (M_skips_B17) n17) hf
        refine lv_iinc (v := v2_2) (lv' := [(2, .int v2_2), (0, .ref o)]) C.x C.b dX7_skips_39 hl (k := 1) rfl (iinc_e (k := 1) (by decide) e9) (by decide) rfl (fun ls hl => ?_)
        refine lv_goto (tgt := 17) C.x C.b dX7_skips_42 (by decide) ?_
        exact ih17 v2_2 σ_1 _ _ _ h (lv_sub hl [1, 0] rfl) hf
  intro H locs ls h hl
  have hl : lv_has ls 3 [(0, .ref o), (1, .int v1)] := hl
  unfold M_skips at hf
  refine lv_aload_n C.x C.b dX7_skips_0 rfl (lv_at hl 0 rfl) ?_
  refine lv_dup C.x C.b dX7_skips_1 rfl ?_
  refine m_g25 C h dX7_skips_2 ?_
  refine lv_iconst (v := 1) C.x C.b dX7_skips_5 (by decide) ?_
  refine lv_isub C.x C.b dX7_skips_6 ?_
  obtain ⟨σ_3, e9, hf⟩ := nm_k (K := fun x => x) hf
  refine m_p25 C h e9 dX7_skips_7 (fun H locs h => ?_)
  refine lv_aload_n C.x C.b dX7_skips_10 rfl (lv_at hl 0 rfl) ?_
  refine lv_iload_n C.x C.b dX7_skips_11 rfl (lv_at hl 1 rfl) ?_
  obtain ⟨σ_4, e9, hf⟩ := nm_k (K := fun x => x) hf
  refine m_p26 C h e9 dX7_skips_12 (fun H locs h => ?_)
  refine lv_iload_n C.x C.b dX7_skips_15 rfl (lv_at hl 1 rfl) ?_
  refine lv_istore_n (lv' := [(2, .int v1), (0, .ref o), (1, .int v1)]) C.x C.b dX7_skips_16 rfl hl (by decide) rfl (fun ls hl => ?_)
  exact l17  fu v1 σ_4 _ _ _ h (lv_sub hl [1, 0] rfl) hf
theorem tM_skips : GoodIn lw_all (wsV RX7 367 RX7 yX7_skips (ws_ yX7_skips cX7_skips 3 none)) := lw_V q2169 q2171 qs124 q147 q2172
theorem cM_skips {p : Program} {l : Launch} {e : Env} {R : Room} {s : State} {m : MethodId} {args : Array Value} {below : List Frame} {meth : Method} {c : Code} {H : Heap} {locs : List Loc} {Q : State → Prop} {cc : ByteArray} {pc : Nat} {ls : Array Slot} {st : List Value} {nL d : Nat} {D : va_G} {ty : Nat → ClassId} {A : Nat → Prop} {o : Nat} {ad : Nat → Nat} {rs : va_W} {σ : PS} {v1 : Int32} {q : PS} (C : Cx p R s m args c cc nL RX7 D ty A d) (h : Hw D A s H locs (wM ty o ad σ ++ rs)) (hc : M_skips σ v1 = some q) (hd : 0 + 1 ≤ d) (hls : ls.size = nL) (hcat : (st.map fun v => v.category).sum ≤ 8) (dec : decode cc pc = .ok (.invokevirtual 367, 3)) (kk : ∀ (H : Heap) (locs : List Loc), Hw D A s H locs (wM ty o ad q ++ rs) → W p l e R s m args below meth c H locs 0 0 Q (F0 m (pc + 3) ls (st))) : W p l e R s m args below meth c H locs 0 0 Q (F0 m pc ls (.int v1 :: .ref o :: st)) := KV.callV (As := [.int v1]) C (kM_skips l hc) tM_skips ⟨rfl, by decide, by decide, by show _ = some 1; decide +kernel⟩ 0 7 rfl rfl rfl hd (by decide) (Nat.zero_le _) (Nat.zero_le _) h hls rfl hcat dec kk
def M_isSo_j60 (σ : PS) : Option Int32 := some 1
def M_isSo_j52 (σ : PS) : Option Int32 := some 0
def M_isSo_l2 (σ : PS) (v1 : Int32) (v2 : Int32) : Option ((Int32) ⊕ Int32) := ix v1 4 (if (rA σ 2 v1) ≤ v2 then up (M_isSo_j60 σ) else nm ((60 * v1) + v2) (fun v3_1 => ix v3_1 240 (ix (v3_1 + 1) 240 (bd (M_skinOf σ ((rB σ 3 v3_1).toInt32) ((rB σ 3 (v3_1 + 1)).toInt32)) (fun q_2 => ix (v3_1 + 2) 240 (if (lg_cmp q_2.toInt64 (rB σ 3 (v3_1 + 2))) = 0 then nm (v2 + 3) (fun v2_3 => some (.inl (v2_3))) else up (M_isSo_j52 σ)))))))
def M_isSo_B2 (σ : PS) (v1 : Int32) : (Int32) → Option ((Int32) ⊕ Int32) := fun t => M_isSo_l2 σ v1 t
def M_isSo (σ : PS) (v1 : Int32) : Option Int32 := loop (M_isSo_B2 σ v1) fu (0)
set_option maxHeartbeats 4000000 in
theorem kM_isSo (l : Launch) {D : va_G} {ty : Nat → ClassId} {A : Nat → Prop} {o : Nat} {ad : Nat → Nat} {rs : va_W} {σ : PS} {v1 : Int32} {r : Int32} (hf : M_isSo σ v1 = some r) : KI l yX7_isSo cX7_isSo 4 .boolean 1 D ty A (wM ty o ad σ ++ rs) (wM ty o ad σ ++ rs) [.ref o, .int v1] r := by
  refine KI.of (by decide) (Nat.le_of_ble_eq_true rfl) ?_
  intro p e R s m args below meth c Q C hR
  have C : Cx p R s m args c cX7_isSo 4 RX7 D ty A 1 := C
  have hR : ∀ (v : Int32), v = r → ∀ (H : Heap) (locs : List Loc) (pc : Nat) (ls : Array Slot), Hw D A s H locs (wM ty o ad σ ++ rs) → narrow .boolean (.int v) = .int v → decode cX7_isSo pc = .ok (.ireturn, 1) → W p l e R s m args below meth c H locs 0 0 Q (F0 m pc ls [.int v]) := by intro v e9; cases e9; exact hR
  have j60 : ∀ (H : Heap) (locs : List Loc) (ls : Array Slot), Hw D A s H locs (wM ty o ad σ ++ rs) → lv_has ls 4 [] → M_isSo_j60 σ = some r → W p l e R s m args below meth c H locs 0 0 Q (F0 m 60 ls []) := by
    intro  H locs ls h hl hf
    unfold M_isSo_j60 at hf
    refine lv_iconst (v := 1) C.x C.b dX7_isSo_60 (by decide) ?_
    exact hR _ (some_k hf) _ _ _ _ h (by decide) dX7_isSo_61
  have j52 : ∀ (H : Heap) (locs : List Loc) (ls : Array Slot), Hw D A s H locs (wM ty o ad σ ++ rs) → lv_has ls 4 [] → M_isSo_j52 σ = some r → W p l e R s m args below meth c H locs 0 0 Q (F0 m 52 ls []) := by
    intro  H locs ls h hl hf
    unfold M_isSo_j52 at hf
    refine lv_iconst (v := 0) C.x C.b dX7_isSo_52 (by decide) ?_
    exact hR _ (some_k hf) _ _ _ _ h (by decide) dX7_isSo_53
  have l2 : ∀ (n2 : Nat) (v2 : Int32) (H : Heap) (locs : List Loc) (ls : Array Slot), Hw D A s H locs (wM ty o ad σ ++ rs) → lv_has ls 4 [(0, .ref o), (1, .int v1), (2, .int v2)] → loop (M_isSo_B2 σ v1) n2 (v2) = some r → W p l e R s m args below meth c H locs 0 0 Q (F0 m 2 ls []) := by
    intro n2
    induction n2 with
    | zero => intro v2 H locs ls h hl hf; exact (none_k hf).elim
    | succ n2 ih2 =>
      intro v2 H locs ls h hl hf
      have hf : bl (M_isSo_B2 σ v1) n2 (M_isSo_l2 σ v1 v2) = some r := hf
      unfold M_isSo_l2 at hf
      refine lv_iload_n C.x C.b dX7_isSo_2 rfl (lv_at hl 2 rfl) ?_
      refine lv_aload_n C.x C.b dX7_isSo_3 rfl (lv_at hl 0 rfl) ?_
      refine m_g2 C h dX7_isSo_4 ?_
      refine lv_iload_n C.x C.b dX7_isSo_7 rfl (lv_at hl 1 rfl) ?_
      obtain ⟨hi, hf⟩ := ix_k (K := bl (M_isSo_B2 σ v1) n2) rfl hf
      refine m_a2 C h hi dX7_isSo_8 ?_
      refine lv_icmp_ge (tgt := 60) C.x C.b dX7_isSo_9 (by decide) (fun c9 => ?_) (fun c9 => ?_)
      · have hf := if_t (K := bl (M_isSo_B2 σ v1) n2) c9 hf
        have hf := bl_upK (K := fun x => x) hf
        exact j60  _ _ _ h (lv_sub hl [] rfl) hf
      · have hf := if_f (K := bl (M_isSo_B2 σ v1) n2) c9 hf
        refine lv_bipush (v := 60) C.x C.b dX7_isSo_12 (by decide) ?_
        refine lv_iload_n C.x C.b dX7_isSo_14 rfl (lv_at hl 1 rfl) ?_
        refine lv_imul C.x C.b dX7_isSo_15 ?_
        refine lv_iload_n C.x C.b dX7_isSo_16 rfl (lv_at hl 2 rfl) ?_
        refine lv_iadd C.x C.b dX7_isSo_17 ?_
        obtain ⟨v3_1, e9, hf⟩ := nm_k (K := bl (M_isSo_B2 σ v1) n2) hf
        refine lv_topI e9 ?_
        refine lv_istore_n (lv' := [(3, .int v3_1), (0, .ref o), (1, .int v1), (2, .int v2)]) C.x C.b dX7_isSo_18 rfl hl (by decide) rfl (fun ls hl => ?_)
        refine lv_aload_n C.x C.b dX7_isSo_19 rfl (lv_at hl 1 rfl) ?_
        refine lv_aload_n C.x C.b dX7_isSo_20 rfl (lv_at hl 1 rfl) ?_
        refine m_g3 C h dX7_isSo_21 ?_
        refine lv_iload_n C.x C.b dX7_isSo_24 rfl (lv_at hl 0 rfl) ?_
        obtain ⟨hi, hf⟩ := ix_k (K := bl (M_isSo_B2 σ v1) n2) rfl hf
        refine m_a3 C h hi dX7_isSo_25 ?_
        refine lv_l2i C.x C.b dX7_isSo_26 rfl ?_
        refine lv_aload_n C.x C.b dX7_isSo_27 rfl (lv_at hl 1 rfl) ?_
        refine m_g3 C h dX7_isSo_28 ?_
        refine lv_iload_n C.x C.b dX7_isSo_31 rfl (lv_at hl 0 rfl) ?_
        refine lv_iconst (v := 1) C.x C.b dX7_isSo_32 (by decide) ?_
        refine lv_iadd C.x C.b dX7_isSo_33 ?_
        obtain ⟨hi, hf⟩ := ix_k (K := bl (M_isSo_B2 σ v1) n2) rfl hf
        refine m_a3 C h hi dX7_isSo_34 ?_
        refine lv_l2i C.x C.b dX7_isSo_35 rfl ?_
        obtain ⟨q_2, hc, hf⟩ := bd_k (K := bl (M_isSo_B2 σ v1) n2) rfl hf
        refine cM_skinOf C h hc (Nat.le_of_ble_eq_true rfl) hl.1 (Nat.le_of_ble_eq_true rfl) dX7_isSo_36 (fun H locs h => ?_)
        refine lv_i2l C.x C.b dX7_isSo_39 rfl ?_
        refine lv_aload_n C.x C.b dX7_isSo_40 rfl (lv_at hl 1 rfl) ?_
        refine m_g3 C h dX7_isSo_41 ?_
        refine lv_iload_n C.x C.b dX7_isSo_44 rfl (lv_at hl 0 rfl) ?_
        refine lv_iconst (v := 2) C.x C.b dX7_isSo_45 (by decide) ?_
        refine lv_iadd C.x C.b dX7_isSo_46 ?_
        obtain ⟨hi, hf⟩ := ix_k (K := bl (M_isSo_B2 σ v1) n2) rfl hf
        refine m_a3 C h hi dX7_isSo_47 ?_
        refine W.lcmp C.x C.b dX7_isSo_48 ?_
        refine lv_if_eq (tgt := 54) C.x C.b dX7_isSo_49 (by decide) (fun c9 => ?_) (fun c9 => ?_)
        · have hf := if_t (K := bl (M_isSo_B2 σ v1) n2) c9 hf
          obtain ⟨v2_3, e9, hf⟩ := nm_k (K := bl (M_isSo_B2 σ v1) n2) hf
          refine lv_iinc (v := v2_3) (lv' := [(2, .int v2_3), (3, .int v3_1), (0, .ref o), (1, .int v1)]) C.x C.b dX7_isSo_54 hl (k := 3) rfl (iinc_e (k := 3) (by decide) e9) (by decide) rfl (fun ls hl => ?_)
          refine lv_goto (tgt := 2) C.x C.b dX7_isSo_57 (by decide) ?_
          exact ih2 v2_3 _ _ _ h (lv_sub hl [2, 3, 0] rfl) hf
        · have hf := if_f (K := bl (M_isSo_B2 σ v1) n2) c9 hf
          have hf := bl_upK (K := fun x => x) hf
          exact j52  _ _ _ h (lv_sub hl [] rfl) hf
  intro H locs ls h hl
  have hl : lv_has ls 4 [(0, .ref o), (1, .int v1)] := hl
  unfold M_isSo at hf
  refine lv_iconst (v := 0) C.x C.b dX7_isSo_0 (by decide) ?_
  refine lv_istore_n (lv' := [(2, .int 0), (0, .ref o), (1, .int v1)]) C.x C.b dX7_isSo_1 rfl hl (by decide) rfl (fun ls hl => ?_)
  exact l2  fu 0 _ _ _ h (lv_sub hl [1, 2, 0] rfl) hf
theorem tM_isSo : GoodIn lw_all (wsV RX7 381 RX7 yX7_isSo (ws_ yX7_isSo cX7_isSo 4 (some .boolean))) := lw_V q2186 q2188 qs127 q147 q2189
theorem cM_isSo {p : Program} {l : Launch} {e : Env} {R : Room} {s : State} {m : MethodId} {args : Array Value} {below : List Frame} {meth : Method} {c : Code} {H : Heap} {locs : List Loc} {Q : State → Prop} {cc : ByteArray} {pc : Nat} {ls : Array Slot} {st : List Value} {nL d : Nat} {D : va_G} {ty : Nat → ClassId} {A : Nat → Prop} {o : Nat} {ad : Nat → Nat} {rs : va_W} {σ : PS} {v1 : Int32} {q : Int32} (C : Cx p R s m args c cc nL RX7 D ty A d) (h : Hw D A s H locs (wM ty o ad σ ++ rs)) (hc : M_isSo σ v1 = some q) (hd : 1 + 1 ≤ d) (hls : ls.size = nL) (hcat : (st.map fun v => v.category).sum ≤ 8) (dec : decode cc pc = .ok (.invokevirtual 381, 3)) (kk : ∀ (H : Heap) (locs : List Loc), Hw D A s H locs (wM ty o ad σ ++ rs) → W p l e R s m args below meth c H locs 0 0 Q (F0 m (pc + 3) ls (.int q :: st))) : W p l e R s m args below meth c H locs 0 0 Q (F0 m pc ls (.int v1 :: .ref o :: st)) := KI.callV (As := [.int v1]) C (kM_isSo l hc) tM_isSo ⟨rfl, by decide, by decide, by show _ = some 1; decide +kernel⟩ 0 7 rfl rfl rfl hd (by decide) (Nat.zero_le _) (Nat.zero_le _) h hls rfl hcat dec kk
def M_isHalf (v0 : Int32) : Option Int32 := bd (M_in v0.toInt64 0 1) (fun q_1 => tz q_1 (some q_1))
set_option maxHeartbeats 4000000 in
theorem kM_isHalf (l : Launch) {D : va_G} {ty : Nat → ClassId} {A : Nat → Prop} {ws : va_W} {v0 : Int32} {r : Int32} (hf : M_isHalf v0 = some r) : KI l yX7_isHalf cX7_isHalf 1 .boolean 1 D ty A ws ws [.int v0] r := by
  refine KI.of (by decide) (Nat.le_of_ble_eq_true rfl) ?_
  intro p e R s m args below meth c Q C hR
  have C : Cx p R s m args c cX7_isHalf 1 RX7 D ty A 1 := C
  have hR : ∀ (v : Int32), v = r → ∀ (H : Heap) (locs : List Loc) (pc : Nat) (ls : Array Slot), Hw D A s H locs ws → narrow .boolean (.int v) = .int v → decode cX7_isHalf pc = .ok (.ireturn, 1) → W p l e R s m args below meth c H locs 0 0 Q (F0 m pc ls [.int v]) := by intro v e9; cases e9; exact hR
  intro H locs ls h hl
  have hl : lv_has ls 1 [(0, .int v0)] := hl
  unfold M_isHalf at hf
  refine lv_iload_n C.x C.b dX7_isHalf_0 rfl (lv_at hl 0 rfl) ?_
  refine lv_i2l C.x C.b dX7_isHalf_1 rfl ?_
  refine lv_lconst (v := 0) C.x C.b dX7_isHalf_2 (by decide) ?_
  refine lv_lconst (v := 1) C.x C.b dX7_isHalf_3 (by decide) ?_
  obtain ⟨q_1, hc, hf⟩ := bd_k (K := fun x => x) rfl hf
  refine cM_in C h hc (Nat.le_of_ble_eq_true rfl) hl.1 (Nat.le_of_ble_eq_true rfl) dX7_isHalf_4 (fun H locs h => ?_)
  obtain ⟨hz, hf⟩ := tz_k (K := fun x => x) rfl hf
  exact hR _ (some_k hf) _ _ _ _ h hz dX7_isHalf_7
theorem tM_isHalf : GoodIn lw_all (va_wsS RX7 404 yX7_isHalf (ws_ yX7_isHalf cX7_isHalf 1 (some .boolean))) := lw_S q2230 q2231 q147 q2232
theorem cM_isHalf {p : Program} {l : Launch} {e : Env} {R : Room} {s : State} {m : MethodId} {args : Array Value} {below : List Frame} {meth : Method} {c : Code} {H : Heap} {locs : List Loc} {Q : State → Prop} {cc : ByteArray} {pc : Nat} {ls : Array Slot} {st : List Value} {nL d : Nat} {D : va_G} {ty : Nat → ClassId} {A : Nat → Prop} {ws : va_W} {v0 : Int32} {q : Int32} (C : Cx p R s m args c cc nL RX7 D ty A d) (h : Hw D A s H locs ws) (hc : M_isHalf v0 = some q) (hd : 1 + 1 ≤ d) (hls : ls.size = nL) (hcat : (st.map fun v => v.category).sum ≤ 8) (dec : decode cc pc = .ok (.invokestatic 404, 3)) (kk : ∀ (H : Heap) (locs : List Loc), Hw D A s H locs ws → W p l e R s m args below meth c H locs 0 0 Q (F0 m (pc + 3) ls (.int q :: st))) : W p l e R s m args below meth c H locs 0 0 Q (F0 m pc ls (.int v0 :: st)) := KI.callS (As := [.int v0]) C (kM_isHalf l hc) tM_isHalf ⟨by decide, by decide, by show _ = some 1; decide +kernel⟩ hd (by decide) (Nat.zero_le _) (Nat.zero_le _) h hls rfl hcat dec kk
def M_areTwo_j26 (σ : PS) (x0 : Int32) : Option Int32 := tz x0 (some x0)
def M_areTwo_j25 (σ : PS) : Option Int32 := M_areTwo_j26 σ 0
def M_areTwo (σ : PS) (v1 : Int32) (v2 : Int32) : Option Int32 := bd (M_isZone σ v1) (fun q_1 => if q_1 = 0 then M_areTwo_j25 σ else bd (M_isZone σ v2) (fun q_2 => if q_2 = 0 then M_areTwo_j25 σ else if v1 = v2 then M_areTwo_j25 σ else M_areTwo_j26 σ 1))
set_option maxHeartbeats 4000000 in
theorem kM_areTwo (l : Launch) {D : va_G} {ty : Nat → ClassId} {A : Nat → Prop} {o : Nat} {ad : Nat → Nat} {rs : va_W} {σ : PS} {v1 : Int32} {v2 : Int32} {r : Int32} (hf : M_areTwo σ v1 v2 = some r) : KI l yX7_areTwo cX7_areTwo 3 .boolean 2 D ty A (wM ty o ad σ ++ rs) (wM ty o ad σ ++ rs) [.ref o, .int v1, .int v2] r := by
  refine KI.of (by decide) (Nat.le_of_ble_eq_true rfl) ?_
  intro p e R s m args below meth c Q C hR
  have C : Cx p R s m args c cX7_areTwo 3 RX7 D ty A 2 := C
  have hR : ∀ (v : Int32), v = r → ∀ (H : Heap) (locs : List Loc) (pc : Nat) (ls : Array Slot), Hw D A s H locs (wM ty o ad σ ++ rs) → narrow .boolean (.int v) = .int v → decode cX7_areTwo pc = .ok (.ireturn, 1) → W p l e R s m args below meth c H locs 0 0 Q (F0 m pc ls [.int v]) := by intro v e9; cases e9; exact hR
  have j26 : ∀ (x0 : Int32) (H : Heap) (locs : List Loc) (ls : Array Slot), Hw D A s H locs (wM ty o ad σ ++ rs) → lv_has ls 3 [] → M_areTwo_j26 σ x0 = some r → W p l e R s m args below meth c H locs 0 0 Q (F0 m 26 ls [.int x0]) := by
    intro x0 H locs ls h hl hf
    unfold M_areTwo_j26 at hf
    obtain ⟨hz, hf⟩ := tz_k (K := fun x => x) rfl hf
    exact hR _ (some_k hf) _ _ _ _ h hz dX7_areTwo_26
  have j25 : ∀ (H : Heap) (locs : List Loc) (ls : Array Slot), Hw D A s H locs (wM ty o ad σ ++ rs) → lv_has ls 3 [] → M_areTwo_j25 σ = some r → W p l e R s m args below meth c H locs 0 0 Q (F0 m 25 ls []) := by
    intro  H locs ls h hl hf
    unfold M_areTwo_j25 at hf
    refine lv_iconst (v := 0) C.x C.b dX7_areTwo_25 (by decide) ?_
    exact j26 0 _ _ _ h (lv_sub hl [] rfl) hf
  intro H locs ls h hl
  have hl : lv_has ls 3 [(0, .ref o), (1, .int v1), (2, .int v2)] := hl
  unfold M_areTwo at hf
  refine lv_aload_n C.x C.b dX7_areTwo_0 rfl (lv_at hl 0 rfl) ?_
  refine lv_iload_n C.x C.b dX7_areTwo_1 rfl (lv_at hl 1 rfl) ?_
  obtain ⟨q_1, hc, hf⟩ := bd_k (K := fun x => x) rfl hf
  refine cM_isZone C h hc (Nat.le_of_ble_eq_true rfl) hl.1 (Nat.le_of_ble_eq_true rfl) dX7_areTwo_2 (fun H locs h => ?_)
  refine lv_if_eq (tgt := 25) C.x C.b dX7_areTwo_5 (by decide) (fun c9 => ?_) (fun c9 => ?_)
  · have hf := if_t (K := fun x => x) c9 hf
    exact j25  _ _ _ h (lv_sub hl [] rfl) hf
  · have hf := if_f (K := fun x => x) c9 hf
    refine lv_aload_n C.x C.b dX7_areTwo_8 rfl (lv_at hl 0 rfl) ?_
    refine lv_iload_n C.x C.b dX7_areTwo_9 rfl (lv_at hl 2 rfl) ?_
    obtain ⟨q_2, hc, hf⟩ := bd_k (K := fun x => x) rfl hf
    refine cM_isZone C h hc (Nat.le_of_ble_eq_true rfl) hl.1 (Nat.le_of_ble_eq_true rfl) dX7_areTwo_10 (fun H locs h => ?_)
    refine lv_if_eq (tgt := 25) C.x C.b dX7_areTwo_13 (by decide) (fun c9 => ?_) (fun c9 => ?_)
    · have hf := if_t (K := fun x => x) c9 hf
      exact j25  _ _ _ h (lv_sub hl [] rfl) hf
    · have hf := if_f (K := fun x => x) c9 hf
      refine lv_iload_n C.x C.b dX7_areTwo_16 rfl (lv_at hl 1 rfl) ?_
      refine lv_iload_n C.x C.b dX7_areTwo_17 rfl (lv_at hl 2 rfl) ?_
      refine lv_icmp_eq (tgt := 25) C.x C.b dX7_areTwo_18 (by decide) (fun c9 => ?_) (fun c9 => ?_)
      · have hf := if_t (K := fun x => x) c9 hf
        exact j25  _ _ _ h (lv_sub hl [] rfl) hf
      · have hf := if_f (K := fun x => x) c9 hf
        refine lv_iconst (v := 1) C.x C.b dX7_areTwo_21 (by decide) ?_
        refine lv_goto (tgt := 26) C.x C.b dX7_areTwo_22 (by decide) ?_
        exact j26 1 _ _ _ h (lv_sub hl [] rfl) hf
theorem tM_areTwo : GoodIn lw_all (wsV RX7 412 RX7 yX7_areTwo (ws_ yX7_areTwo cX7_areTwo 3 (some .boolean))) := lw_V q2247 q2249 qs130 q147 q2250
theorem cM_areTwo {p : Program} {l : Launch} {e : Env} {R : Room} {s : State} {m : MethodId} {args : Array Value} {below : List Frame} {meth : Method} {c : Code} {H : Heap} {locs : List Loc} {Q : State → Prop} {cc : ByteArray} {pc : Nat} {ls : Array Slot} {st : List Value} {nL d : Nat} {D : va_G} {ty : Nat → ClassId} {A : Nat → Prop} {o : Nat} {ad : Nat → Nat} {rs : va_W} {σ : PS} {v1 : Int32} {v2 : Int32} {q : Int32} (C : Cx p R s m args c cc nL RX7 D ty A d) (h : Hw D A s H locs (wM ty o ad σ ++ rs)) (hc : M_areTwo σ v1 v2 = some q) (hd : 2 + 1 ≤ d) (hls : ls.size = nL) (hcat : (st.map fun v => v.category).sum ≤ 8) (dec : decode cc pc = .ok (.invokevirtual 412, 3)) (kk : ∀ (H : Heap) (locs : List Loc), Hw D A s H locs (wM ty o ad σ ++ rs) → W p l e R s m args below meth c H locs 0 0 Q (F0 m (pc + 3) ls (.int q :: st))) : W p l e R s m args below meth c H locs 0 0 Q (F0 m pc ls (.int v2 :: .int v1 :: .ref o :: st)) := KI.callV (As := [.int v1, .int v2]) C (kM_areTwo l hc) tM_areTwo ⟨rfl, by decide, by decide, by show _ = some 2; decide +kernel⟩ 0 7 rfl rfl rfl hd (by decide) (Nat.zero_le _) (Nat.zero_le _) h hls rfl hcat dec kk
def M_isSoon_j31 (σ : PS) (x0 : Int32) : Option Int32 := tz x0 (some x0)
def M_isSoon_j30 (σ : PS) : Option Int32 := M_isSoon_j31 σ 0
def M_isSoon (σ : PS) (v1 : Int32) : Option Int32 := bd (M_isLehr σ) (fun q_1 => if q_1 = 0 then M_isSoon_j30 σ else bd (M_steps σ) (fun q_2 => bd (M_lessOf 8 q_2) (fun q_3 => bd (M_in v1.toInt64 1 q_3.toInt64) (fun q_4 => if q_4 = 0 then M_isSoon_j30 σ else M_isSoon_j31 σ 1))))
set_option maxHeartbeats 4000000 in
theorem kM_isSoon (l : Launch) {D : va_G} {ty : Nat → ClassId} {A : Nat → Prop} {o : Nat} {ad : Nat → Nat} {rs : va_W} {σ : PS} {v1 : Int32} {r : Int32} (hf : M_isSoon σ v1 = some r) : KI l yX7_isSoon cX7_isSoon 2 .boolean 1 D ty A (wM ty o ad σ ++ rs) (wM ty o ad σ ++ rs) [.ref o, .int v1] r := by
  refine KI.of (by decide) (Nat.le_of_ble_eq_true rfl) ?_
  intro p e R s m args below meth c Q C hR
  have C : Cx p R s m args c cX7_isSoon 2 RX7 D ty A 1 := C
  have hR : ∀ (v : Int32), v = r → ∀ (H : Heap) (locs : List Loc) (pc : Nat) (ls : Array Slot), Hw D A s H locs (wM ty o ad σ ++ rs) → narrow .boolean (.int v) = .int v → decode cX7_isSoon pc = .ok (.ireturn, 1) → W p l e R s m args below meth c H locs 0 0 Q (F0 m pc ls [.int v]) := by intro v e9; cases e9; exact hR
  have j31 : ∀ (x0 : Int32) (H : Heap) (locs : List Loc) (ls : Array Slot), Hw D A s H locs (wM ty o ad σ ++ rs) → lv_has ls 2 [] → M_isSoon_j31 σ x0 = some r → W p l e R s m args below meth c H locs 0 0 Q (F0 m 31 ls [.int x0]) := by
    intro x0 H locs ls h hl hf
    unfold M_isSoon_j31 at hf
    obtain ⟨hz, hf⟩ := tz_k (K := fun x => x) rfl hf
    exact hR _ (some_k hf) _ _ _ _ h hz dX7_isSoon_31
  have j30 : ∀ (H : Heap) (locs : List Loc) (ls : Array Slot), Hw D A s H locs (wM ty o ad σ ++ rs) → lv_has ls 2 [] → M_isSoon_j30 σ = some r → W p l e R s m args below meth c H locs 0 0 Q (F0 m 30 ls []) := by
    intro  H locs ls h hl hf
    unfold M_isSoon_j30 at hf
    refine lv_iconst (v := 0) C.x C.b dX7_isSoon_30 (by decide) ?_
    exact j31 0 _ _ _ h (lv_sub hl [] rfl) hf
  intro H locs ls h hl
  have hl : lv_has ls 2 [(0, .ref o), (1, .int v1)] := hl
  unfold M_isSoon at hf
  refine lv_aload_n C.x C.b dX7_isSoon_0 rfl (lv_at hl 0 rfl) ?_
  obtain ⟨q_1, hc, hf⟩ := bd_k (K := fun x => x) rfl hf
  refine cM_isLehr C h hc (Nat.le_of_ble_eq_true rfl) hl.1 (Nat.le_of_ble_eq_true rfl) dX7_isSoon_1 (fun H locs h => ?_)
  refine lv_if_eq (tgt := 30) C.x C.b dX7_isSoon_4 (by decide) (fun c9 => ?_) (fun c9 => ?_)
  · have hf := if_t (K := fun x => x) c9 hf
    exact j30  _ _ _ h (lv_sub hl [] rfl) hf
  · have hf := if_f (K := fun x => x) c9 hf
    refine lv_iload_n C.x C.b dX7_isSoon_7 rfl (lv_at hl 1 rfl) ?_
    refine lv_i2l C.x C.b dX7_isSoon_8 rfl ?_
    refine lv_lconst (v := 1) C.x C.b dX7_isSoon_9 (by decide) ?_
    refine lv_bipush (v := 8) C.x C.b dX7_isSoon_10 (by decide) ?_
    refine lv_aload_n C.x C.b dX7_isSoon_12 rfl (lv_at hl 0 rfl) ?_
    obtain ⟨q_2, hc, hf⟩ := bd_k (K := fun x => x) rfl hf
    refine cM_steps C h hc (Nat.le_of_ble_eq_true rfl) hl.1 (Nat.le_of_ble_eq_true rfl) dX7_isSoon_13 (fun H locs h => ?_)
    obtain ⟨q_3, hc, hf⟩ := bd_k (K := fun x => x) rfl hf
    refine cM_lessOf C h hc (Nat.le_of_ble_eq_true rfl) hl.1 (Nat.le_of_ble_eq_true rfl) dX7_isSoon_16 (fun H locs h => ?_)
    refine lv_i2l C.x C.b dX7_isSoon_19 rfl ?_
    obtain ⟨q_4, hc, hf⟩ := bd_k (K := fun x => x) rfl hf
    refine cM_in C h hc (Nat.le_of_ble_eq_true rfl) hl.1 (Nat.le_of_ble_eq_true rfl) dX7_isSoon_20 (fun H locs h => ?_)
    refine lv_if_eq (tgt := 30) C.x C.b dX7_isSoon_23 (by decide) (fun c9 => ?_) (fun c9 => ?_)
    · have hf := if_t (K := fun x => x) c9 hf
      exact j30  _ _ _ h (lv_sub hl [] rfl) hf
    · have hf := if_f (K := fun x => x) c9 hf
      refine lv_iconst (v := 1) C.x C.b dX7_isSoon_26 (by decide) ?_
      refine lv_goto (tgt := 31) C.x C.b dX7_isSoon_27 (by decide) ?_
      exact j31 1 _ _ _ h (lv_sub hl [] rfl) hf
theorem tM_isSoon : GoodIn lw_all (wsV RX7 424 RX7 yX7_isSoon (ws_ yX7_isSoon cX7_isSoon 2 (some .boolean))) := lw_V q2263 q2265 qs132 q147 q2266
theorem cM_isSoon {p : Program} {l : Launch} {e : Env} {R : Room} {s : State} {m : MethodId} {args : Array Value} {below : List Frame} {meth : Method} {c : Code} {H : Heap} {locs : List Loc} {Q : State → Prop} {cc : ByteArray} {pc : Nat} {ls : Array Slot} {st : List Value} {nL d : Nat} {D : va_G} {ty : Nat → ClassId} {A : Nat → Prop} {o : Nat} {ad : Nat → Nat} {rs : va_W} {σ : PS} {v1 : Int32} {q : Int32} (C : Cx p R s m args c cc nL RX7 D ty A d) (h : Hw D A s H locs (wM ty o ad σ ++ rs)) (hc : M_isSoon σ v1 = some q) (hd : 1 + 1 ≤ d) (hls : ls.size = nL) (hcat : (st.map fun v => v.category).sum ≤ 8) (dec : decode cc pc = .ok (.invokevirtual 424, 3)) (kk : ∀ (H : Heap) (locs : List Loc), Hw D A s H locs (wM ty o ad σ ++ rs) → W p l e R s m args below meth c H locs 0 0 Q (F0 m (pc + 3) ls (.int q :: st))) : W p l e R s m args below meth c H locs 0 0 Q (F0 m pc ls (.int v1 :: .ref o :: st)) := KI.callV (As := [.int v1]) C (kM_isSoon l hc) tM_isSoon ⟨rfl, by decide, by decide, by show _ = some 1; decide +kernel⟩ 0 7 rfl rfl rfl hd (by decide) (Nat.zero_le _) (Nat.zero_le _) h hls rfl hcat dec kk
def M_isSeed (v0 : Int32) : Option Int32 := bd (M_in v0.toInt64 0 2000000000) (fun q_1 => tz q_1 (some q_1))
set_option maxHeartbeats 4000000 in
theorem kM_isSeed (l : Launch) {D : va_G} {ty : Nat → ClassId} {A : Nat → Prop} {ws : va_W} {v0 : Int32} {r : Int32} (hf : M_isSeed v0 = some r) : KI l yX7_isSeed cX7_isSeed 1 .boolean 1 D ty A ws ws [.int v0] r := by
  refine KI.of (by decide) (Nat.le_of_ble_eq_true rfl) ?_
  intro p e R s m args below meth c Q C hR
  have C : Cx p R s m args c cX7_isSeed 1 RX7 D ty A 1 := C
  have hR : ∀ (v : Int32), v = r → ∀ (H : Heap) (locs : List Loc) (pc : Nat) (ls : Array Slot), Hw D A s H locs ws → narrow .boolean (.int v) = .int v → decode cX7_isSeed pc = .ok (.ireturn, 1) → W p l e R s m args below meth c H locs 0 0 Q (F0 m pc ls [.int v]) := by intro v e9; cases e9; exact hR
  intro H locs ls h hl
  have hl : lv_has ls 1 [(0, .int v0)] := hl
  unfold M_isSeed at hf
  refine lv_iload_n C.x C.b dX7_isSeed_0 rfl (lv_at hl 0 rfl) ?_
  refine lv_i2l C.x C.b dX7_isSeed_1 rfl ?_
  refine lv_lconst (v := 0) C.x C.b dX7_isSeed_2 (by decide) ?_
  refine lv_ldc2 (v := 2000000000) C.x C.b C.own (C.ts _ q2287) dX7_isSeed_3 ?_
  obtain ⟨q_1, hc, hf⟩ := bd_k (K := fun x => x) rfl hf
  refine cM_in C h hc (Nat.le_of_ble_eq_true rfl) hl.1 (Nat.le_of_ble_eq_true rfl) dX7_isSeed_6 (fun H locs h => ?_)
  obtain ⟨hz, hf⟩ := tz_k (K := fun x => x) rfl hf
  exact hR _ (some_k hf) _ _ _ _ h hz dX7_isSeed_9
theorem tM_isSeed : GoodIn lw_all (va_wsS RX7 443 yX7_isSeed (ws_ yX7_isSeed cX7_isSeed 1 (some .boolean))) := lw_S q2284 q2285 q147 q2286
theorem cM_isSeed {p : Program} {l : Launch} {e : Env} {R : Room} {s : State} {m : MethodId} {args : Array Value} {below : List Frame} {meth : Method} {c : Code} {H : Heap} {locs : List Loc} {Q : State → Prop} {cc : ByteArray} {pc : Nat} {ls : Array Slot} {st : List Value} {nL d : Nat} {D : va_G} {ty : Nat → ClassId} {A : Nat → Prop} {ws : va_W} {v0 : Int32} {q : Int32} (C : Cx p R s m args c cc nL RX7 D ty A d) (h : Hw D A s H locs ws) (hc : M_isSeed v0 = some q) (hd : 1 + 1 ≤ d) (hls : ls.size = nL) (hcat : (st.map fun v => v.category).sum ≤ 8) (dec : decode cc pc = .ok (.invokestatic 443, 3)) (kk : ∀ (H : Heap) (locs : List Loc), Hw D A s H locs ws → W p l e R s m args below meth c H locs 0 0 Q (F0 m (pc + 3) ls (.int q :: st))) : W p l e R s m args below meth c H locs 0 0 Q (F0 m pc ls (.int v0 :: st)) := KI.callS (As := [.int v0]) C (kM_isSeed l hc) tM_isSeed ⟨by decide, by decide, by show _ = some 1; decide +kernel⟩ hd (by decide) (Nat.zero_le _) (Nat.zero_le _) h hls rfl hcat dec kk
def M_undo (σ : PS) : Option (Int32 × PS) := nm (sI σ 0 0) (fun σ_1 => bd (M_isLehr σ_1) (fun q_2 => if q_2 = 0 then some ((-2), σ_1) else ix 7 40 (if (rA σ_1 17 7) = 0 then some ((-5), σ_1) else ix 7 40 (ix 7 40 (nm (wA σ_1 17 7 ((rA σ_1 17 7) - 1)) (fun σ_3 => ix 7 40 (some (rA σ_3 17 7, σ_3))))))))
set_option maxHeartbeats 4000000 in
theorem kM_undo (l : Launch) {D : va_G} {ty : Nat → ClassId} {A : Nat → Prop} {o : Nat} {ad : Nat → Nat} {rs : va_W} {σ : PS} {σ' : PS} {r : Int32} (hf : M_undo σ = some (r, σ')) : KI l yX7_undo cX7_undo 1 .int 1 D ty A (wM ty o ad σ ++ rs) (wM ty o ad σ' ++ rs) [.ref o] r := by
  refine KI.of (by decide) (Nat.le_of_ble_eq_true rfl) ?_
  intro p e R s m args below meth c Q C hR
  have C : Cx p R s m args c cX7_undo 1 RX7 D ty A 1 := C
  have hR : ∀ (v : Int32) (σ2 : PS), (v, σ2) = (r, σ') → ∀ (H : Heap) (locs : List Loc) (pc : Nat) (ls : Array Slot), Hw D A s H locs (wM ty o ad σ2 ++ rs) → narrow .int (.int v) = .int v → decode cX7_undo pc = .ok (.ireturn, 1) → W p l e R s m args below meth c H locs 0 0 Q (F0 m pc ls [.int v]) := by intro v σ2 e9; cases e9; exact hR
  intro H locs ls h hl
  have hl : lv_has ls 1 [(0, .ref o)] := hl
  unfold M_undo at hf
  refine lv_aload_n C.x C.b dX7_undo_0 rfl (lv_at hl 0 rfl) ?_
  refine lv_iconst (v := 0) C.x C.b dX7_undo_1 (by decide) ?_
  obtain ⟨σ_1, e9, hf⟩ := nm_k (K := fun x => x) hf
  refine m_p0 C h e9 dX7_undo_2 (fun H locs h => ?_)
  refine lv_aload_n C.x C.b dX7_undo_5 rfl (lv_at hl 0 rfl) ?_
  obtain ⟨q_2, hc, hf⟩ := bd_k (K := fun x => x) rfl hf
  refine cM_isLehr C h hc (Nat.le_of_ble_eq_true rfl) hl.1 (Nat.le_of_ble_eq_true rfl) dX7_undo_6 (fun H locs h => ?_)
  refine lv_if_ne (tgt := 15) C.x C.b dX7_undo_9 (by decide) (fun c9 => ?_) (fun c9 => ?_)
  · have hf := if_f (K := fun x => x) c9 hf
    refine lv_aload_n C.x C.b dX7_undo_15 rfl (lv_at hl 0 rfl) ?_
    refine m_g17 C h dX7_undo_16 ?_
    refine lv_bipush (v := 7) C.x C.b dX7_undo_19 (by decide) ?_
    obtain ⟨hi, hf⟩ := ix_k (K := fun x => x) rfl hf
    refine m_a17 C h hi dX7_undo_21 ?_
    refine lv_if_ne (tgt := 28) C.x C.b dX7_undo_22 (by decide) (fun c9 => ?_) (fun c9 => ?_)
    · have hf := if_f (K := fun x => x) c9 hf
      refine lv_aload_n C.x C.b dX7_undo_28 rfl (lv_at hl 0 rfl) ?_
      refine m_g17 C h dX7_undo_29 ?_
      refine lv_bipush (v := 7) C.x C.b dX7_undo_32 (by decide) ?_
      refine lv_dup2_11 C.x C.b dX7_undo_34 rfl rfl ?_
      obtain ⟨hi, hf⟩ := ix_k (K := fun x => x) rfl hf
      refine m_a17 C h hi dX7_undo_35 ?_
      refine lv_iconst (v := 1) C.x C.b dX7_undo_36 (by decide) ?_
      refine lv_isub C.x C.b dX7_undo_37 ?_
      obtain ⟨hi, hf⟩ := ix_k (K := fun x => x) rfl hf
      obtain ⟨σ_3, e9, hf⟩ := nm_k (K := fun x => x) hf
      refine m_w17 C h hi e9 dX7_undo_38 (fun H locs h => ?_)
      refine lv_aload_n C.x C.b dX7_undo_39 rfl (lv_at hl 0 rfl) ?_
      refine m_g17 C h dX7_undo_40 ?_
      refine lv_bipush (v := 7) C.x C.b dX7_undo_43 (by decide) ?_
      obtain ⟨hi, hf⟩ := ix_k (K := fun x => x) rfl hf
      refine m_a17 C h hi dX7_undo_45 ?_
      exact hR _ _ (some_k hf) _ _ _ _ h rfl dX7_undo_46
    · have hf := if_t (K := fun x => x) c9 hf
      refine lv_bipush (v := (-5)) C.x C.b dX7_undo_25 (by decide) ?_
      exact hR _ _ (some_k hf) _ _ _ _ h rfl dX7_undo_27
  · have hf := if_t (K := fun x => x) c9 hf
    refine lv_bipush (v := (-2)) C.x C.b dX7_undo_12 (by decide) ?_
    exact hR _ _ (some_k hf) _ _ _ _ h rfl dX7_undo_14
def M_anew (σ : PS) : Option (Int32 × PS) := nm (sI σ 0 0) (fun σ_1 => bd (M_isLehr σ_1) (fun q_2 => if q_2 = 0 then some ((-2), σ_1) else ix 7 40 (nm (rA σ_1 17 7) (fun v1_3 => ix 7 40 (nm (wA σ_1 17 7 0) (fun σ_4 => some (v1_3, σ_4)))))))
set_option maxHeartbeats 4000000 in
theorem kM_anew (l : Launch) {D : va_G} {ty : Nat → ClassId} {A : Nat → Prop} {o : Nat} {ad : Nat → Nat} {rs : va_W} {σ : PS} {σ' : PS} {r : Int32} (hf : M_anew σ = some (r, σ')) : KI l yX7_anew cX7_anew 2 .int 1 D ty A (wM ty o ad σ ++ rs) (wM ty o ad σ' ++ rs) [.ref o] r := by
  refine KI.of (by decide) (Nat.le_of_ble_eq_true rfl) ?_
  intro p e R s m args below meth c Q C hR
  have C : Cx p R s m args c cX7_anew 2 RX7 D ty A 1 := C
  have hR : ∀ (v : Int32) (σ2 : PS), (v, σ2) = (r, σ') → ∀ (H : Heap) (locs : List Loc) (pc : Nat) (ls : Array Slot), Hw D A s H locs (wM ty o ad σ2 ++ rs) → narrow .int (.int v) = .int v → decode cX7_anew pc = .ok (.ireturn, 1) → W p l e R s m args below meth c H locs 0 0 Q (F0 m pc ls [.int v]) := by intro v σ2 e9; cases e9; exact hR
  intro H locs ls h hl
  have hl : lv_has ls 2 [(0, .ref o)] := hl
  unfold M_anew at hf
  refine lv_aload_n C.x C.b dX7_anew_0 rfl (lv_at hl 0 rfl) ?_
  refine lv_iconst (v := 0) C.x C.b dX7_anew_1 (by decide) ?_
  obtain ⟨σ_1, e9, hf⟩ := nm_k (K := fun x => x) hf
  refine m_p0 C h e9 dX7_anew_2 (fun H locs h => ?_)
  refine lv_aload_n C.x C.b dX7_anew_5 rfl (lv_at hl 0 rfl) ?_
  obtain ⟨q_2, hc, hf⟩ := bd_k (K := fun x => x) rfl hf
  refine cM_isLehr C h hc (Nat.le_of_ble_eq_true rfl) hl.1 (Nat.le_of_ble_eq_true rfl) dX7_anew_6 (fun H locs h => ?_)
  refine lv_if_ne (tgt := 15) C.x C.b dX7_anew_9 (by decide) (fun c9 => ?_) (fun c9 => ?_)
  · have hf := if_f (K := fun x => x) c9 hf
    refine lv_aload_n C.x C.b dX7_anew_15 rfl (lv_at hl 0 rfl) ?_
    refine m_g17 C h dX7_anew_16 ?_
    refine lv_bipush (v := 7) C.x C.b dX7_anew_19 (by decide) ?_
    obtain ⟨hi, hf⟩ := ix_k (K := fun x => x) rfl hf
    refine m_a17 C h hi dX7_anew_21 ?_
    obtain ⟨v1_3, e9, hf⟩ := nm_k (K := fun x => x) hf
    refine lv_topI e9 ?_
    refine lv_istore_n (lv' := [(1, .int v1_3), (0, .ref o)]) C.x C.b dX7_anew_22 rfl hl (by decide) rfl (fun ls hl => ?_)
    refine lv_aload_n C.x C.b dX7_anew_23 rfl (lv_at hl 1 rfl) ?_
    refine m_g17 C h dX7_anew_24 ?_
    refine lv_bipush (v := 7) C.x C.b dX7_anew_27 (by decide) ?_
    refine lv_iconst (v := 0) C.x C.b dX7_anew_29 (by decide) ?_
    obtain ⟨hi, hf⟩ := ix_k (K := fun x => x) rfl hf
    obtain ⟨σ_4, e9, hf⟩ := nm_k (K := fun x => x) hf
    refine m_w17 C h hi e9 dX7_anew_30 (fun H locs h => ?_)
    refine lv_iload_n C.x C.b dX7_anew_31 rfl (lv_at hl 0 rfl) ?_
    exact hR _ _ (some_k hf) _ _ _ _ h rfl dX7_anew_32
  · have hf := if_t (K := fun x => x) c9 hf
    refine lv_bipush (v := (-2)) C.x C.b dX7_anew_12 (by decide) ?_
    exact hR _ _ (some_k hf) _ _ _ _ h rfl dX7_anew_14
def M_count_j95 (σ : PS) (v2 : Int32) : Option (Int32 × PS) := some (v2, σ)
def M_count_j87 (σ : PS) (v3 : Int32) (x0 : Int32) (x1 : Int32) : Option ((Int32 × Int32) ⊕ (Int32 × PS)) := nm (x1 + x0) (fun v2_1 => nm (v3 + 1) (fun v3_2 => some (.inl (v2_1, v3_2))))
def M_count_l66 (σ : PS) (v2 : Int32) (v3 : Int32) : Option ((Int32 × Int32) ⊕ (Int32 × PS)) := if 4 ≤ v3 then up (M_count_j95 σ v2) else ix v3 4 (if (rA σ 1 v3) = ((-1)) then M_count_j87 σ v3 0 v2 else M_count_j87 σ v3 1 v2)
def M_count_B66 (σ : PS) : (Int32 × Int32) → Option ((Int32 × Int32) ⊕ (Int32 × PS)) := fun t => M_count_l66 σ t.1 t.2
def M_count (σ : PS) (v1 : Int32) : Option (Int32 × PS) := nm (sI σ 0 0) (fun σ_3 => bd (M_in v1.toInt64 0 7) (fun q_4 => if q_4 = 0 then if v1 = 8 then ix 0 5 (some (rA σ_3 16 0, σ_3)) else (if v1 = 9 then some (gI σ_3 6, σ_3) else (if v1 = 10 then loop (M_count_B66 σ_3) fu (0, 0) else (some ((-1), σ_3)))) else ix v1 40 (some (rA σ_3 17 v1, σ_3))))
set_option maxHeartbeats 4000000 in
theorem kM_count (l : Launch) {D : va_G} {ty : Nat → ClassId} {A : Nat → Prop} {o : Nat} {ad : Nat → Nat} {rs : va_W} {σ : PS} {σ' : PS} {v1 : Int32} {r : Int32} (hf : M_count σ v1 = some (r, σ')) : KI l yX7_count cX7_count 4 .int 1 D ty A (wM ty o ad σ ++ rs) (wM ty o ad σ' ++ rs) [.ref o, .int v1] r := by
  refine KI.of (by decide) (Nat.le_of_ble_eq_true rfl) ?_
  intro p e R s m args below meth c Q C hR
  have C : Cx p R s m args c cX7_count 4 RX7 D ty A 1 := C
  have hR : ∀ (v : Int32) (σ2 : PS), (v, σ2) = (r, σ') → ∀ (H : Heap) (locs : List Loc) (pc : Nat) (ls : Array Slot), Hw D A s H locs (wM ty o ad σ2 ++ rs) → narrow .int (.int v) = .int v → decode cX7_count pc = .ok (.ireturn, 1) → W p l e R s m args below meth c H locs 0 0 Q (F0 m pc ls [.int v]) := by intro v σ2 e9; cases e9; exact hR
  have j95 : ∀ (σ : PS) (v2 : Int32) (H : Heap) (locs : List Loc) (ls : Array Slot), Hw D A s H locs (wM ty o ad σ ++ rs) → lv_has ls 4 [(2, .int v2)] → M_count_j95 σ v2 = some (r, σ') → W p l e R s m args below meth c H locs 0 0 Q (F0 m 95 ls []) := by
    intro σ v2 H locs ls h hl hf
    unfold M_count_j95 at hf
    refine lv_iload_n C.x C.b dX7_count_95 rfl (lv_at hl 0 rfl) ?_
    exact hR _ _ (some_k hf) _ _ _ _ h rfl dX7_count_96
  have l66 : ∀ (σ : PS) (n66 : Nat) (v2 : Int32) (v3 : Int32) (H : Heap) (locs : List Loc) (ls : Array Slot), Hw D A s H locs (wM ty o ad σ ++ rs) → lv_has ls 4 [(0, .ref o), (2, .int v2), (3, .int v3)] → loop (M_count_B66 σ) n66 (v2, v3) = some (r, σ') → W p l e R s m args below meth c H locs 0 0 Q (F0 m 66 ls []) := by
    intro σ n66
    induction n66 with
    | zero => intro v2 v3 H locs ls h hl hf; exact (none_k hf).elim
    | succ n66 ih66 =>
      have j87 : ∀ (v3 : Int32) (x0 : Int32) (x1 : Int32) (H : Heap) (locs : List Loc) (ls : Array Slot), Hw D A s H locs (wM ty o ad σ ++ rs) → lv_has ls 4 [(0, .ref o), (3, .int v3)] → bl (M_count_B66 σ) n66 (M_count_j87 σ v3 x0 x1) = some (r, σ') → W p l e R s m args below meth c H locs 0 0 Q (F0 m 87 ls [.int x0, .int x1]) := by
        intro v3 x0 x1 H locs ls h hl hf
        unfold M_count_j87 at hf
        refine lv_iadd C.x C.b dX7_count_87 ?_
        obtain ⟨v2_1, e9, hf⟩ := nm_k (K := bl (M_count_B66 σ) n66) hf
        refine lv_topI e9 ?_
        refine lv_istore_n (lv' := [(2, .int v2_1), (0, .ref o), (3, .int v3)]) C.x C.b dX7_count_88 rfl hl (by decide) rfl (fun ls hl => ?_)
        obtain ⟨v3_2, e9, hf⟩ := nm_k (K := bl (M_count_B66 σ) n66) hf
        refine lv_iinc (v := v3_2) (lv' := [(3, .int v3_2), (2, .int v2_1), (0, .ref o)]) C.x C.b dX7_count_89 hl (k := 2) rfl (iinc_e (k := 1) (by decide) e9) (by decide) rfl (fun ls hl => ?_)
        refine lv_goto (tgt := 66) C.x C.b dX7_count_92 (by decide) ?_
        exact ih66 v2_1 v3_2 _ _ _ h (lv_sub hl [2, 1, 0] rfl) hf
      intro v2 v3 H locs ls h hl hf
      have hf : bl (M_count_B66 σ) n66 (M_count_l66 σ v2 v3) = some (r, σ') := hf
      unfold M_count_l66 at hf
      refine lv_iload_n C.x C.b dX7_count_66 rfl (lv_at hl 2 rfl) ?_
      refine lv_iconst (v := 4) C.x C.b dX7_count_67 (by decide) ?_
      refine lv_icmp_ge (tgt := 95) C.x C.b dX7_count_68 (by decide) (fun c9 => ?_) (fun c9 => ?_)
      · have hf := if_t (K := bl (M_count_B66 σ) n66) c9 hf
        have hf := bl_upK (K := fun x => x) hf
        exact j95 σ v2 _ _ _ h (lv_sub hl [1] rfl) hf
      · have hf := if_f (K := bl (M_count_B66 σ) n66) c9 hf
        refine lv_iload_n C.x C.b dX7_count_71 rfl (lv_at hl 1 rfl) ?_
        refine lv_aload_n C.x C.b dX7_count_72 rfl (lv_at hl 0 rfl) ?_
        refine m_g1 C h dX7_count_73 ?_
        refine lv_iload_n C.x C.b dX7_count_76 rfl (lv_at hl 2 rfl) ?_
        obtain ⟨hi, hf⟩ := ix_k (K := bl (M_count_B66 σ) n66) rfl hf
        refine m_a1 C h hi dX7_count_77 ?_
        refine lv_iconst (v := (-1)) C.x C.b dX7_count_78 (by decide) ?_
        refine lv_icmp_ne (tgt := 86) C.x C.b dX7_count_79 (by decide) (fun c9 => ?_) (fun c9 => ?_)
        · have hf := if_f (K := bl (M_count_B66 σ) n66) c9 hf
          refine lv_iconst (v := 1) C.x C.b dX7_count_86 (by decide) ?_
          exact j87 v3 1 v2 _ _ _ h (lv_sub hl [0, 2] rfl) hf
        · have hf := if_t (K := bl (M_count_B66 σ) n66) c9 hf
          refine lv_iconst (v := 0) C.x C.b dX7_count_82 (by decide) ?_
          refine lv_goto (tgt := 87) C.x C.b dX7_count_83 (by decide) ?_
          exact j87 v3 0 v2 _ _ _ h (lv_sub hl [0, 2] rfl) hf
  intro H locs ls h hl
  have hl : lv_has ls 4 [(0, .ref o), (1, .int v1)] := hl
  unfold M_count at hf
  refine lv_aload_n C.x C.b dX7_count_0 rfl (lv_at hl 0 rfl) ?_
  refine lv_iconst (v := 0) C.x C.b dX7_count_1 (by decide) ?_
  obtain ⟨σ_3, e9, hf⟩ := nm_k (K := fun x => x) hf
  refine m_p0 C h e9 dX7_count_2 (fun H locs h => ?_)
  refine lv_iload_n C.x C.b dX7_count_5 rfl (lv_at hl 1 rfl) ?_
  refine lv_i2l C.x C.b dX7_count_6 rfl ?_
  refine lv_lconst (v := 0) C.x C.b dX7_count_7 (by decide) ?_
  refine lv_ldc2 (v := 7) C.x C.b C.own (C.ts _ q2331) dX7_count_8 ?_
  obtain ⟨q_4, hc, hf⟩ := bd_k (K := fun x => x) rfl hf
  refine cM_in C h hc (Nat.le_of_ble_eq_true rfl) hl.1 (Nat.le_of_ble_eq_true rfl) dX7_count_11 (fun H locs h => ?_)
  refine lv_if_eq (tgt := 24) C.x C.b dX7_count_14 (by decide) (fun c9 => ?_) (fun c9 => ?_)
  · have hf := if_t (K := fun x => x) c9 hf
    refine lv_iconst (v := 0) C.x C.b dX7_count_24 (by decide) ?_
    refine lv_istore_n (lv' := [(2, .int 0), (0, .ref o), (1, .int v1)]) C.x C.b dX7_count_25 rfl hl (by decide) rfl (fun ls hl => ?_)
    refine lv_iload_n C.x C.b dX7_count_26 rfl (lv_at hl 2 rfl) ?_
    by_cases c9_0 : v1 = 8
    · have hf := if_t (K := fun x => x) c9_0 hf
      refine lv_tableIn (tgt := 52) C.x C.b dX7_count_27 (by rw [c9_0]; decide) (by rw [c9_0]; decide) (off := 25) (by rw [c9_0]; rfl) (by decide) ?_
      refine lv_aload_n C.x C.b dX7_count_52 rfl (lv_at hl 1 rfl) ?_
      refine m_g16 C h dX7_count_53 ?_
      refine lv_iconst (v := 0) C.x C.b dX7_count_56 (by decide) ?_
      obtain ⟨hi, hf⟩ := ix_k (K := fun x => x) rfl hf
      refine m_a16 C h hi dX7_count_57 ?_
      exact hR _ _ (some_k hf) _ _ _ _ h rfl dX7_count_58
    · have hf := if_f (K := fun x => x) c9_0 hf
      by_cases c9_1 : v1 = 9
      · have hf := if_t (K := fun x => x) c9_1 hf
        refine lv_tableIn (tgt := 59) C.x C.b dX7_count_27 (by rw [c9_1]; decide) (by rw [c9_1]; decide) (off := 32) (by rw [c9_1]; rfl) (by decide) ?_
        refine lv_aload_n C.x C.b dX7_count_59 rfl (lv_at hl 1 rfl) ?_
        refine m_g6 C h dX7_count_60 ?_
        exact hR _ _ (some_k hf) _ _ _ _ h rfl dX7_count_63
      · have hf := if_f (K := fun x => x) c9_1 hf
        by_cases c9_2 : v1 = 10
        · have hf := if_t (K := fun x => x) c9_2 hf
          refine lv_tableIn (tgt := 64) C.x C.b dX7_count_27 (by rw [c9_2]; decide) (by rw [c9_2]; decide) (off := 37) (by rw [c9_2]; rfl) (by decide) ?_
          refine lv_iconst (v := 0) C.x C.b dX7_count_64 (by decide) ?_
          refine lv_istore_n (lv' := [(3, .int 0), (2, .int 0), (0, .ref o), (1, .int v1)]) C.x C.b dX7_count_65 rfl hl (by decide) rfl (fun ls hl => ?_)
          exact l66 σ_3 fu 0 0 _ _ _ h (lv_sub hl [2, 1, 0] rfl) hf
        · have hf := if_f (K := fun x => x) c9_2 hf
          refine lv_tableOut (tgt := 97) C.x C.b dX7_count_27 (by have := lv_neT c9_0 (a := 8) (by decide); have := lv_neT c9_1 (a := 9) (by decide); have := lv_neT c9_2 (a := 10) (by decide); omega) (by decide) ?_
          refine lv_iconst (v := (-1)) C.x C.b dX7_count_97 (by decide) ?_
          exact hR _ _ (some_k hf) _ _ _ _ h rfl dX7_count_98
  · have hf := if_f (K := fun x => x) c9 hf
    refine lv_aload_n C.x C.b dX7_count_17 rfl (lv_at hl 0 rfl) ?_
    refine m_g17 C h dX7_count_18 ?_
    refine lv_iload_n C.x C.b dX7_count_21 rfl (lv_at hl 1 rfl) ?_
    obtain ⟨hi, hf⟩ := ix_k (K := fun x => x) rfl hf
    refine m_a17 C h hi dX7_count_22 ?_
    exact hR _ _ (some_k hf) _ _ _ _ h rfl dX7_count_23
def M_isSlot (v0 : Int32) : Option Int32 := bd (M_in v0.toInt64 0 3) (fun q_1 => tz q_1 (some q_1))
set_option maxHeartbeats 4000000 in
theorem kM_isSlot (l : Launch) {D : va_G} {ty : Nat → ClassId} {A : Nat → Prop} {ws : va_W} {v0 : Int32} {r : Int32} (hf : M_isSlot v0 = some r) : KI l yX7_isSlot cX7_isSlot 1 .boolean 1 D ty A ws ws [.int v0] r := by
  refine KI.of (by decide) (Nat.le_of_ble_eq_true rfl) ?_
  intro p e R s m args below meth c Q C hR
  have C : Cx p R s m args c cX7_isSlot 1 RX7 D ty A 1 := C
  have hR : ∀ (v : Int32), v = r → ∀ (H : Heap) (locs : List Loc) (pc : Nat) (ls : Array Slot), Hw D A s H locs ws → narrow .boolean (.int v) = .int v → decode cX7_isSlot pc = .ok (.ireturn, 1) → W p l e R s m args below meth c H locs 0 0 Q (F0 m pc ls [.int v]) := by intro v e9; cases e9; exact hR
  intro H locs ls h hl
  have hl : lv_has ls 1 [(0, .int v0)] := hl
  unfold M_isSlot at hf
  refine lv_iload_n C.x C.b dX7_isSlot_0 rfl (lv_at hl 0 rfl) ?_
  refine lv_i2l C.x C.b dX7_isSlot_1 rfl ?_
  refine lv_lconst (v := 0) C.x C.b dX7_isSlot_2 (by decide) ?_
  refine lv_ldc2 (v := 3) C.x C.b C.own (C.ts _ q1664) dX7_isSlot_3 ?_
  obtain ⟨q_1, hc, hf⟩ := bd_k (K := fun x => x) rfl hf
  refine cM_in C h hc (Nat.le_of_ble_eq_true rfl) hl.1 (Nat.le_of_ble_eq_true rfl) dX7_isSlot_6 (fun H locs h => ?_)
  obtain ⟨hz, hf⟩ := tz_k (K := fun x => x) rfl hf
  exact hR _ (some_k hf) _ _ _ _ h hz dX7_isSlot_9
theorem tM_isSlot : GoodIn lw_all (va_wsS RX7 86 yX7_isSlot (ws_ yX7_isSlot cX7_isSlot 1 (some .boolean))) := lw_S q1661 q1662 q147 q1663
theorem cM_isSlot {p : Program} {l : Launch} {e : Env} {R : Room} {s : State} {m : MethodId} {args : Array Value} {below : List Frame} {meth : Method} {c : Code} {H : Heap} {locs : List Loc} {Q : State → Prop} {cc : ByteArray} {pc : Nat} {ls : Array Slot} {st : List Value} {nL d : Nat} {D : va_G} {ty : Nat → ClassId} {A : Nat → Prop} {ws : va_W} {v0 : Int32} {q : Int32} (C : Cx p R s m args c cc nL RX7 D ty A d) (h : Hw D A s H locs ws) (hc : M_isSlot v0 = some q) (hd : 1 + 1 ≤ d) (hls : ls.size = nL) (hcat : (st.map fun v => v.category).sum ≤ 8) (dec : decode cc pc = .ok (.invokestatic 86, 3)) (kk : ∀ (H : Heap) (locs : List Loc), Hw D A s H locs ws → W p l e R s m args below meth c H locs 0 0 Q (F0 m (pc + 3) ls (.int q :: st))) : W p l e R s m args below meth c H locs 0 0 Q (F0 m pc ls (.int v0 :: st)) := KI.callS (As := [.int v0]) C (kM_isSlot l hc) tM_isSlot ⟨by decide, by decide, by show _ = some 1; decide +kernel⟩ hd (by decide) (Nat.zero_le _) (Nat.zero_le _) h hls rfl hcat dec kk
def M_write (σ : PS) (v1 : Int32) (v2 : Int32) (v3 : Int64) : Option (Int32 × PS) := nm (sI σ 0 0) (fun σ_1 => bd (M_isSlot v1) (fun q_2 => if q_2 = 0 then some ((-2), σ_1) else ix v1 4 (if (rA σ_1 1 v1) = ((-1)) then some ((-6), σ_1) else ix v1 4 (bd (M_in v2.toInt64 0 (((rA σ_1 2 v1) - 1).toInt64)) (fun q_3 => if q_3 = 0 then some ((-7), σ_1) else ix v1 4 (bd (M_cut v3 (rA σ_1 1 v1)) (fun q_4 => ix ((60 * v1) + v2) 240 (nm (wB σ_1 3 ((60 * v1) + v2) q_4) (fun σ_5 => some (0, σ_5))))))))))
set_option maxHeartbeats 4000000 in
theorem kM_write (l : Launch) {D : va_G} {ty : Nat → ClassId} {A : Nat → Prop} {o : Nat} {ad : Nat → Nat} {rs : va_W} {σ : PS} {σ' : PS} {v1 : Int32} {v2 : Int32} {v3 : Int64} {r : Int32} (hf : M_write σ v1 v2 v3 = some (r, σ')) : KI l yX7_write cX7_write 5 .int 2 D ty A (wM ty o ad σ ++ rs) (wM ty o ad σ' ++ rs) [.ref o, .int v1, .int v2, .long v3] r := by
  refine KI.of (by decide) (Nat.le_of_ble_eq_true rfl) ?_
  intro p e R s m args below meth c Q C hR
  have C : Cx p R s m args c cX7_write 5 RX7 D ty A 2 := C
  have hR : ∀ (v : Int32) (σ2 : PS), (v, σ2) = (r, σ') → ∀ (H : Heap) (locs : List Loc) (pc : Nat) (ls : Array Slot), Hw D A s H locs (wM ty o ad σ2 ++ rs) → narrow .int (.int v) = .int v → decode cX7_write pc = .ok (.ireturn, 1) → W p l e R s m args below meth c H locs 0 0 Q (F0 m pc ls [.int v]) := by intro v σ2 e9; cases e9; exact hR
  intro H locs ls h hl
  have hl : lv_has ls 5 [(0, .ref o), (1, .int v1), (2, .int v2), (3, .long v3)] := hl
  unfold M_write at hf
  refine lv_aload_n C.x C.b dX7_write_0 rfl (lv_at hl 0 rfl) ?_
  refine lv_iconst (v := 0) C.x C.b dX7_write_1 (by decide) ?_
  obtain ⟨σ_1, e9, hf⟩ := nm_k (K := fun x => x) hf
  refine m_p0 C h e9 dX7_write_2 (fun H locs h => ?_)
  refine lv_iload_n C.x C.b dX7_write_5 rfl (lv_at hl 1 rfl) ?_
  obtain ⟨q_2, hc, hf⟩ := bd_k (K := fun x => x) rfl hf
  refine cM_isSlot C h hc (Nat.le_of_ble_eq_true rfl) hl.1 (Nat.le_of_ble_eq_true rfl) dX7_write_6 (fun H locs h => ?_)
  refine lv_if_ne (tgt := 15) C.x C.b dX7_write_9 (by decide) (fun c9 => ?_) (fun c9 => ?_)
  · have hf := if_f (K := fun x => x) c9 hf
    refine lv_aload_n C.x C.b dX7_write_15 rfl (lv_at hl 0 rfl) ?_
    refine m_g1 C h dX7_write_16 ?_
    refine lv_iload_n C.x C.b dX7_write_19 rfl (lv_at hl 1 rfl) ?_
    obtain ⟨hi, hf⟩ := ix_k (K := fun x => x) rfl hf
    refine m_a1 C h hi dX7_write_20 ?_
    refine lv_iconst (v := (-1)) C.x C.b dX7_write_21 (by decide) ?_
    refine lv_icmp_ne (tgt := 28) C.x C.b dX7_write_22 (by decide) (fun c9 => ?_) (fun c9 => ?_)
    · have hf := if_f (K := fun x => x) c9 hf
      refine lv_iload_n C.x C.b dX7_write_28 rfl (lv_at hl 2 rfl) ?_
      refine lv_i2l C.x C.b dX7_write_29 rfl ?_
      refine lv_lconst (v := 0) C.x C.b dX7_write_30 (by decide) ?_
      refine lv_aload_n C.x C.b dX7_write_31 rfl (lv_at hl 0 rfl) ?_
      refine m_g2 C h dX7_write_32 ?_
      refine lv_iload_n C.x C.b dX7_write_35 rfl (lv_at hl 1 rfl) ?_
      obtain ⟨hi, hf⟩ := ix_k (K := fun x => x) rfl hf
      refine m_a2 C h hi dX7_write_36 ?_
      refine lv_iconst (v := 1) C.x C.b dX7_write_37 (by decide) ?_
      refine lv_isub C.x C.b dX7_write_38 ?_
      refine lv_i2l C.x C.b dX7_write_39 rfl ?_
      obtain ⟨q_3, hc, hf⟩ := bd_k (K := fun x => x) rfl hf
      refine cM_in C h hc (Nat.le_of_ble_eq_true rfl) hl.1 (Nat.le_of_ble_eq_true rfl) dX7_write_40 (fun H locs h => ?_)
      refine lv_if_ne (tgt := 49) C.x C.b dX7_write_43 (by decide) (fun c9 => ?_) (fun c9 => ?_)
      · have hf := if_f (K := fun x => x) c9 hf
        refine lv_aload_n C.x C.b dX7_write_49 rfl (lv_at hl 0 rfl) ?_
        refine m_g3 C h dX7_write_50 ?_
        refine lv_bipush (v := 60) C.x C.b dX7_write_53 (by decide) ?_
        refine lv_iload_n C.x C.b dX7_write_55 rfl (lv_at hl 1 rfl) ?_
        refine lv_imul C.x C.b dX7_write_56 ?_
        refine lv_iload_n C.x C.b dX7_write_57 rfl (lv_at hl 2 rfl) ?_
        refine lv_iadd C.x C.b dX7_write_58 ?_
        refine lv_lload_n C.x C.b dX7_write_59 rfl (lv_at hl 3 rfl) ?_
        refine lv_aload_n C.x C.b dX7_write_60 rfl (lv_at hl 0 rfl) ?_
        refine m_g1 C h dX7_write_61 ?_
        refine lv_iload_n C.x C.b dX7_write_64 rfl (lv_at hl 1 rfl) ?_
        obtain ⟨hi, hf⟩ := ix_k (K := fun x => x) rfl hf
        refine m_a1 C h hi dX7_write_65 ?_
        obtain ⟨q_4, hc, hf⟩ := bd_k (K := fun x => x) rfl hf
        refine cM_cut C h hc (Nat.le_of_ble_eq_true rfl) hl.1 (Nat.le_of_ble_eq_true rfl) dX7_write_66 (fun H locs h => ?_)
        obtain ⟨hi, hf⟩ := ix_k (K := fun x => x) rfl hf
        obtain ⟨σ_5, e9, hf⟩ := nm_k (K := fun x => x) hf
        refine m_w3 C h hi e9 dX7_write_69 (fun H locs h => ?_)
        refine lv_iconst (v := 0) C.x C.b dX7_write_70 (by decide) ?_
        exact hR _ _ (some_k hf) _ _ _ _ h rfl dX7_write_71
      · have hf := if_t (K := fun x => x) c9 hf
        refine lv_bipush (v := (-7)) C.x C.b dX7_write_46 (by decide) ?_
        exact hR _ _ (some_k hf) _ _ _ _ h rfl dX7_write_48
    · have hf := if_t (K := fun x => x) c9 hf
      refine lv_bipush (v := (-6)) C.x C.b dX7_write_25 (by decide) ?_
      exact hR _ _ (some_k hf) _ _ _ _ h rfl dX7_write_27
  · have hf := if_t (K := fun x => x) c9 hf
    refine lv_bipush (v := (-2)) C.x C.b dX7_write_12 (by decide) ?_
    exact hR _ _ (some_k hf) _ _ _ _ h rfl dX7_write_14
def M_paste_j190 (σ : PS) : Option (Int32 × PS) := some (0, σ)
def M_paste_l155 (v3 : Int32) (v4 : Int32) (v5 : Int32) (v6 : Int32) (σ : PS) : Option ((Int32 × PS) ⊕ (Int32 × PS)) := if v5 ≤ v6 then up (M_paste_j190 σ) else ix v6 60 (ix (((60 * v3) + v4) + v6) 240 (nm (wB σ 3 (((60 * v3) + v4) + v6) (rB σ 4 v6)) (fun σ_1 => nm (v6 + 1) (fun v6_2 => some (.inl (v6_2, σ_1))))))
def M_paste_B155 (v3 : Int32) (v4 : Int32) (v5 : Int32) : (Int32 × PS) → Option ((Int32 × PS) ⊕ (Int32 × PS)) := fun t => M_paste_l155 v3 v4 v5 t.1 t.2
def M_paste_j152 (σ : PS) (v3 : Int32) (v4 : Int32) (v5 : Int32) : Option (Int32 × PS) := loop (M_paste_B155 v3 v4 v5) fu (0, σ)
def M_paste_l118 (v1 : Int32) (v2 : Int32) (v3 : Int32) (v4 : Int32) (v5 : Int32) (v6 : Int32) (σ : PS) : Option ((Int32 × PS) ⊕ (Int32 × PS)) := if v5 ≤ v6 then up (M_paste_j152 σ v3 v4 v5) else ix (((60 * v1) + v2) + v6) 240 (ix v6 60 (nm (wB σ 4 v6 (rB σ 3 (((60 * v1) + v2) + v6))) (fun σ_3 => nm (v6 + 1) (fun v6_4 => some (.inl (v6_4, σ_3))))))
def M_paste_B118 (v1 : Int32) (v2 : Int32) (v3 : Int32) (v4 : Int32) (v5 : Int32) : (Int32 × PS) → Option ((Int32 × PS) ⊕ (Int32 × PS)) := fun t => M_paste_l118 v1 v2 v3 v4 v5 t.1 t.2
def M_paste_j112 (σ : PS) : Option (Int32 × PS) := some ((-7), σ)
def M_paste_j42 (σ : PS) : Option (Int32 × PS) := some ((-6), σ)
def M_paste_j19 (σ : PS) : Option (Int32 × PS) := some ((-2), σ)
def M_paste (σ : PS) (v1 : Int32) (v2 : Int32) (v3 : Int32) (v4 : Int32) (v5 : Int32) : Option (Int32 × PS) := nm (sI σ 0 0) (fun σ_5 => bd (M_isSlot v1) (fun q_6 => if q_6 = 0 then M_paste_j19 σ_5 else bd (M_isSlot v3) (fun q_7 => if q_7 = 0 then M_paste_j19 σ_5 else ix v1 4 (if (rA σ_5 1 v1) = ((-1)) then M_paste_j42 σ_5 else ix v3 4 (if (rA σ_5 1 v3) = ((-1)) then M_paste_j42 σ_5 else ix v1 4 (ix v3 4 (if (rA σ_5 1 v1) = (rA σ_5 1 v3) then if v2 < 0 then M_paste_j112 σ_5 else if v4 < 0 then M_paste_j112 σ_5 else if v5 < 0 then M_paste_j112 σ_5 else ix v1 4 (if 0 < (lg_cmp (v2.toInt64 + v5.toInt64) ((rA σ_5 2 v1).toInt64)) then M_paste_j112 σ_5 else ix v3 4 (if (lg_cmp (v4.toInt64 + v5.toInt64) ((rA σ_5 2 v3).toInt64)) ≤ 0 then loop (M_paste_B118 v1 v2 v3 v4 v5) fu (0, σ_5) else M_paste_j112 σ_5)) else some ((-8), σ_5))))))))
set_option maxHeartbeats 4000000 in
theorem kM_paste (l : Launch) {D : va_G} {ty : Nat → ClassId} {A : Nat → Prop} {o : Nat} {ad : Nat → Nat} {rs : va_W} {σ : PS} {σ' : PS} {v1 : Int32} {v2 : Int32} {v3 : Int32} {v4 : Int32} {v5 : Int32} {r : Int32} (hf : M_paste σ v1 v2 v3 v4 v5 = some (r, σ')) : KI l yX7_paste cX7_paste 7 .int 2 D ty A (wM ty o ad σ ++ rs) (wM ty o ad σ' ++ rs) [.ref o, .int v1, .int v2, .int v3, .int v4, .int v5] r := by
  refine KI.of (by decide) (Nat.le_of_ble_eq_true rfl) ?_
  intro p e R s m args below meth c Q C hR
  have C : Cx p R s m args c cX7_paste 7 RX7 D ty A 2 := C
  have hR : ∀ (v : Int32) (σ2 : PS), (v, σ2) = (r, σ') → ∀ (H : Heap) (locs : List Loc) (pc : Nat) (ls : Array Slot), Hw D A s H locs (wM ty o ad σ2 ++ rs) → narrow .int (.int v) = .int v → decode cX7_paste pc = .ok (.ireturn, 1) → W p l e R s m args below meth c H locs 0 0 Q (F0 m pc ls [.int v]) := by intro v σ2 e9; cases e9; exact hR
  have j190 : ∀ (σ : PS) (H : Heap) (locs : List Loc) (ls : Array Slot), Hw D A s H locs (wM ty o ad σ ++ rs) → lv_has ls 7 [] → M_paste_j190 σ = some (r, σ') → W p l e R s m args below meth c H locs 0 0 Q (F0 m 190 ls []) := by
    intro σ H locs ls h hl hf
    unfold M_paste_j190 at hf
    refine lv_iconst (v := 0) C.x C.b dX7_paste_190 (by decide) ?_
    exact hR _ _ (some_k hf) _ _ _ _ h rfl dX7_paste_191
  have l155 : ∀ (n155 : Nat) (v6 : Int32) (σ : PS) (H : Heap) (locs : List Loc) (ls : Array Slot), Hw D A s H locs (wM ty o ad σ ++ rs) → lv_has ls 7 [(0, .ref o), (3, .int v3), (4, .int v4), (5, .int v5), (6, .int v6)] → loop (M_paste_B155 v3 v4 v5) n155 (v6, σ) = some (r, σ') → W p l e R s m args below meth c H locs 0 0 Q (F0 m 155 ls []) := by
    intro n155
    induction n155 with
    | zero => intro v6 σ H locs ls h hl hf; exact (none_k hf).elim
    | succ n155 ih155 =>
      intro v6 σ H locs ls h hl hf
      have hf : bl (M_paste_B155 v3 v4 v5) n155 (M_paste_l155 v3 v4 v5 v6 σ) = some (r, σ') := hf
      unfold M_paste_l155 at hf
      refine lv_iload C.x C.b dX7_paste_155 (lv_at hl 4 rfl) ?_
      refine lv_iload C.x C.b dX7_paste_157 (lv_at hl 3 rfl) ?_
      refine lv_icmp_ge (tgt := 190) C.x C.b dX7_paste_159 (by decide) (fun c9 => ?_) (fun c9 => ?_)
      · have hf := if_t (K := bl (M_paste_B155 v3 v4 v5) n155) c9 hf
        have hf := bl_upK (K := fun x => x) hf
        exact j190 σ _ _ _ h (lv_sub hl [] rfl) hf
      · have hf := if_f (K := bl (M_paste_B155 v3 v4 v5) n155) c9 hf
        refine lv_aload_n C.x C.b dX7_paste_162 rfl (lv_at hl 0 rfl) ?_
        refine m_g3 C h dX7_paste_163 ?_
        refine lv_bipush (v := 60) C.x C.b dX7_paste_166 (by decide) ?_
        refine lv_iload_n C.x C.b dX7_paste_168 rfl (lv_at hl 1 rfl) ?_
        refine lv_imul C.x C.b dX7_paste_169 ?_
        refine lv_iload C.x C.b dX7_paste_170 (lv_at hl 2 rfl) ?_
        refine lv_iadd C.x C.b dX7_paste_172 ?_
        refine lv_iload C.x C.b dX7_paste_173 (lv_at hl 4 rfl) ?_
        refine lv_iadd C.x C.b dX7_paste_175 ?_
        refine lv_aload_n C.x C.b dX7_paste_176 rfl (lv_at hl 0 rfl) ?_
        refine m_g4 C h dX7_paste_177 ?_
        refine lv_iload C.x C.b dX7_paste_180 (lv_at hl 4 rfl) ?_
        obtain ⟨hi, hf⟩ := ix_k (K := bl (M_paste_B155 v3 v4 v5) n155) rfl hf
        refine m_a4 C h hi dX7_paste_182 ?_
        obtain ⟨hi, hf⟩ := ix_k (K := bl (M_paste_B155 v3 v4 v5) n155) rfl hf
        obtain ⟨σ_1, e9, hf⟩ := nm_k (K := bl (M_paste_B155 v3 v4 v5) n155) hf
        refine m_w3 C h hi e9 dX7_paste_183 (fun H locs h => ?_)
        obtain ⟨v6_2, e9, hf⟩ := nm_k (K := bl (M_paste_B155 v3 v4 v5) n155) hf
        refine lv_iinc (v := v6_2) (lv' := [(6, .int v6_2), (0, .ref o), (3, .int v3), (4, .int v4), (5, .int v5)]) C.x C.b dX7_paste_184 hl (k := 4) rfl (iinc_e (k := 1) (by decide) e9) (by decide) rfl (fun ls hl => ?_)
        refine lv_goto (tgt := 155) C.x C.b dX7_paste_187 (by decide) ?_
        exact ih155 v6_2 σ_1 _ _ _ h (lv_sub hl [1, 2, 3, 4, 0] rfl) hf
  have j152 : ∀ (σ : PS) (H : Heap) (locs : List Loc) (ls : Array Slot), Hw D A s H locs (wM ty o ad σ ++ rs) → lv_has ls 7 [(0, .ref o), (3, .int v3), (4, .int v4), (5, .int v5)] → M_paste_j152 σ v3 v4 v5 = some (r, σ') → W p l e R s m args below meth c H locs 0 0 Q (F0 m 152 ls []) := by
    intro σ H locs ls h hl hf
    unfold M_paste_j152 at hf
    refine lv_iconst (v := 0) C.x C.b dX7_paste_152 (by decide) ?_
    refine lv_istore (lv' := [(6, .int 0), (0, .ref o), (3, .int v3), (4, .int v4), (5, .int v5)]) C.x C.b dX7_paste_153 hl (by decide) rfl (fun ls hl => ?_)
    exact l155  fu 0 σ _ _ _ h (lv_sub hl [1, 2, 3, 4, 0] rfl) hf
  have l118 : ∀ (n118 : Nat) (v6 : Int32) (σ : PS) (H : Heap) (locs : List Loc) (ls : Array Slot), Hw D A s H locs (wM ty o ad σ ++ rs) → lv_has ls 7 [(0, .ref o), (1, .int v1), (2, .int v2), (3, .int v3), (4, .int v4), (5, .int v5), (6, .int v6)] → loop (M_paste_B118 v1 v2 v3 v4 v5) n118 (v6, σ) = some (r, σ') → W p l e R s m args below meth c H locs 0 0 Q (F0 m 118 ls []) := by
    intro n118
    induction n118 with
    | zero => intro v6 σ H locs ls h hl hf; exact (none_k hf).elim
    | succ n118 ih118 =>
      intro v6 σ H locs ls h hl hf
      have hf : bl (M_paste_B118 v1 v2 v3 v4 v5) n118 (M_paste_l118 v1 v2 v3 v4 v5 v6 σ) = some (r, σ') := hf
      unfold M_paste_l118 at hf
      refine lv_iload C.x C.b dX7_paste_118 (lv_at hl 6 rfl) ?_
      refine lv_iload C.x C.b dX7_paste_120 (lv_at hl 5 rfl) ?_
      refine lv_icmp_ge (tgt := 152) C.x C.b dX7_paste_122 (by decide) (fun c9 => ?_) (fun c9 => ?_)
      · have hf := if_t (K := bl (M_paste_B118 v1 v2 v3 v4 v5) n118) c9 hf
        have hf := bl_upK (K := fun x => x) hf
        exact j152 σ _ _ _ h (lv_sub hl [0, 3, 4, 5] rfl) hf
      · have hf := if_f (K := bl (M_paste_B118 v1 v2 v3 v4 v5) n118) c9 hf
        refine lv_aload_n C.x C.b dX7_paste_125 rfl (lv_at hl 0 rfl) ?_
        refine m_g4 C h dX7_paste_126 ?_
        refine lv_iload C.x C.b dX7_paste_129 (lv_at hl 6 rfl) ?_
        refine lv_aload_n C.x C.b dX7_paste_131 rfl (lv_at hl 0 rfl) ?_
        refine m_g3 C h dX7_paste_132 ?_
        refine lv_bipush (v := 60) C.x C.b dX7_paste_135 (by decide) ?_
        refine lv_iload_n C.x C.b dX7_paste_137 rfl (lv_at hl 1 rfl) ?_
        refine lv_imul C.x C.b dX7_paste_138 ?_
        refine lv_iload_n C.x C.b dX7_paste_139 rfl (lv_at hl 2 rfl) ?_
        refine lv_iadd C.x C.b dX7_paste_140 ?_
        refine lv_iload C.x C.b dX7_paste_141 (lv_at hl 6 rfl) ?_
        refine lv_iadd C.x C.b dX7_paste_143 ?_
        obtain ⟨hi, hf⟩ := ix_k (K := bl (M_paste_B118 v1 v2 v3 v4 v5) n118) rfl hf
        refine m_a3 C h hi dX7_paste_144 ?_
        obtain ⟨hi, hf⟩ := ix_k (K := bl (M_paste_B118 v1 v2 v3 v4 v5) n118) rfl hf
        obtain ⟨σ_3, e9, hf⟩ := nm_k (K := bl (M_paste_B118 v1 v2 v3 v4 v5) n118) hf
        refine m_w4 C h hi e9 dX7_paste_145 (fun H locs h => ?_)
        obtain ⟨v6_4, e9, hf⟩ := nm_k (K := bl (M_paste_B118 v1 v2 v3 v4 v5) n118) hf
        refine lv_iinc (v := v6_4) (lv' := [(6, .int v6_4), (0, .ref o), (1, .int v1), (2, .int v2), (3, .int v3), (4, .int v4), (5, .int v5)]) C.x C.b dX7_paste_146 hl (k := 6) rfl (iinc_e (k := 1) (by decide) e9) (by decide) rfl (fun ls hl => ?_)
        refine lv_goto (tgt := 118) C.x C.b dX7_paste_149 (by decide) ?_
        exact ih118 v6_4 σ_3 _ _ _ h (lv_sub hl [1, 2, 3, 4, 5, 6, 0] rfl) hf
  have j112 : ∀ (σ : PS) (H : Heap) (locs : List Loc) (ls : Array Slot), Hw D A s H locs (wM ty o ad σ ++ rs) → lv_has ls 7 [] → M_paste_j112 σ = some (r, σ') → W p l e R s m args below meth c H locs 0 0 Q (F0 m 112 ls []) := by
    intro σ H locs ls h hl hf
    unfold M_paste_j112 at hf
    refine lv_bipush (v := (-7)) C.x C.b dX7_paste_112 (by decide) ?_
    exact hR _ _ (some_k hf) _ _ _ _ h rfl dX7_paste_114
  have j42 : ∀ (σ : PS) (H : Heap) (locs : List Loc) (ls : Array Slot), Hw D A s H locs (wM ty o ad σ ++ rs) → lv_has ls 7 [] → M_paste_j42 σ = some (r, σ') → W p l e R s m args below meth c H locs 0 0 Q (F0 m 42 ls []) := by
    intro σ H locs ls h hl hf
    unfold M_paste_j42 at hf
    refine lv_bipush (v := (-6)) C.x C.b dX7_paste_42 (by decide) ?_
    exact hR _ _ (some_k hf) _ _ _ _ h rfl dX7_paste_44
  have j19 : ∀ (σ : PS) (H : Heap) (locs : List Loc) (ls : Array Slot), Hw D A s H locs (wM ty o ad σ ++ rs) → lv_has ls 7 [] → M_paste_j19 σ = some (r, σ') → W p l e R s m args below meth c H locs 0 0 Q (F0 m 19 ls []) := by
    intro σ H locs ls h hl hf
    unfold M_paste_j19 at hf
    refine lv_bipush (v := (-2)) C.x C.b dX7_paste_19 (by decide) ?_
    exact hR _ _ (some_k hf) _ _ _ _ h rfl dX7_paste_21
  intro H locs ls h hl
  have hl : lv_has ls 7 [(0, .ref o), (1, .int v1), (2, .int v2), (3, .int v3), (4, .int v4), (5, .int v5)] := hl
  unfold M_paste at hf
  refine lv_aload_n C.x C.b dX7_paste_0 rfl (lv_at hl 0 rfl) ?_
  refine lv_iconst (v := 0) C.x C.b dX7_paste_1 (by decide) ?_
  obtain ⟨σ_5, e9, hf⟩ := nm_k (K := fun x => x) hf
  refine m_p0 C h e9 dX7_paste_2 (fun H locs h => ?_)
  refine lv_iload_n C.x C.b dX7_paste_5 rfl (lv_at hl 1 rfl) ?_
  obtain ⟨q_6, hc, hf⟩ := bd_k (K := fun x => x) rfl hf
  refine cM_isSlot C h hc (Nat.le_of_ble_eq_true rfl) hl.1 (Nat.le_of_ble_eq_true rfl) dX7_paste_6 (fun H locs h => ?_)
  refine lv_if_eq (tgt := 19) C.x C.b dX7_paste_9 (by decide) (fun c9 => ?_) (fun c9 => ?_)
  · have hf := if_t (K := fun x => x) c9 hf
    exact j19 σ_5 _ _ _ h (lv_sub hl [] rfl) hf
  · have hf := if_f (K := fun x => x) c9 hf
    refine lv_iload_n C.x C.b dX7_paste_12 rfl (lv_at hl 3 rfl) ?_
    obtain ⟨q_7, hc, hf⟩ := bd_k (K := fun x => x) rfl hf
    refine cM_isSlot C h hc (Nat.le_of_ble_eq_true rfl) hl.1 (Nat.le_of_ble_eq_true rfl) dX7_paste_13 (fun H locs h => ?_)
    refine lv_if_ne (tgt := 22) C.x C.b dX7_paste_16 (by decide) (fun c9 => ?_) (fun c9 => ?_)
    · have hf := if_f (K := fun x => x) c9 hf
      refine lv_aload_n C.x C.b dX7_paste_22 rfl (lv_at hl 0 rfl) ?_
      refine m_g1 C h dX7_paste_23 ?_
      refine lv_iload_n C.x C.b dX7_paste_26 rfl (lv_at hl 1 rfl) ?_
      obtain ⟨hi, hf⟩ := ix_k (K := fun x => x) rfl hf
      refine m_a1 C h hi dX7_paste_27 ?_
      refine lv_iconst (v := (-1)) C.x C.b dX7_paste_28 (by decide) ?_
      refine lv_icmp_eq (tgt := 42) C.x C.b dX7_paste_29 (by decide) (fun c9 => ?_) (fun c9 => ?_)
      · have hf := if_t (K := fun x => x) c9 hf
        exact j42 σ_5 _ _ _ h (lv_sub hl [] rfl) hf
      · have hf := if_f (K := fun x => x) c9 hf
        refine lv_aload_n C.x C.b dX7_paste_32 rfl (lv_at hl 0 rfl) ?_
        refine m_g1 C h dX7_paste_33 ?_
        refine lv_iload_n C.x C.b dX7_paste_36 rfl (lv_at hl 3 rfl) ?_
        obtain ⟨hi, hf⟩ := ix_k (K := fun x => x) rfl hf
        refine m_a1 C h hi dX7_paste_37 ?_
        refine lv_iconst (v := (-1)) C.x C.b dX7_paste_38 (by decide) ?_
        refine lv_icmp_ne (tgt := 45) C.x C.b dX7_paste_39 (by decide) (fun c9 => ?_) (fun c9 => ?_)
        · have hf := if_f (K := fun x => x) c9 hf
          refine lv_aload_n C.x C.b dX7_paste_45 rfl (lv_at hl 0 rfl) ?_
          refine m_g1 C h dX7_paste_46 ?_
          refine lv_iload_n C.x C.b dX7_paste_49 rfl (lv_at hl 1 rfl) ?_
          obtain ⟨hi, hf⟩ := ix_k (K := fun x => x) rfl hf
          refine m_a1 C h hi dX7_paste_50 ?_
          refine lv_aload_n C.x C.b dX7_paste_51 rfl (lv_at hl 0 rfl) ?_
          refine m_g1 C h dX7_paste_52 ?_
          refine lv_iload_n C.x C.b dX7_paste_55 rfl (lv_at hl 3 rfl) ?_
          obtain ⟨hi, hf⟩ := ix_k (K := fun x => x) rfl hf
          refine m_a1 C h hi dX7_paste_56 ?_
          refine lv_icmp_eq (tgt := 63) C.x C.b dX7_paste_57 (by decide) (fun c9 => ?_) (fun c9 => ?_)
          · have hf := if_t (K := fun x => x) c9 hf
            refine lv_iload_n C.x C.b dX7_paste_63 rfl (lv_at hl 2 rfl) ?_
            refine lv_if_lt (tgt := 112) C.x C.b dX7_paste_64 (by decide) (fun c9 => ?_) (fun c9 => ?_)
            · have hf := if_t (K := fun x => x) c9 hf
              exact j112 σ_5 _ _ _ h (lv_sub hl [] rfl) hf
            · have hf := if_f (K := fun x => x) c9 hf
              refine lv_iload C.x C.b dX7_paste_67 (lv_at hl 4 rfl) ?_
              refine lv_if_lt (tgt := 112) C.x C.b dX7_paste_69 (by decide) (fun c9 => ?_) (fun c9 => ?_)
              · have hf := if_t (K := fun x => x) c9 hf
                exact j112 σ_5 _ _ _ h (lv_sub hl [] rfl) hf
              · have hf := if_f (K := fun x => x) c9 hf
                refine lv_iload C.x C.b dX7_paste_72 (lv_at hl 5 rfl) ?_
                refine lv_if_lt (tgt := 112) C.x C.b dX7_paste_74 (by decide) (fun c9 => ?_) (fun c9 => ?_)
                · have hf := if_t (K := fun x => x) c9 hf
                  exact j112 σ_5 _ _ _ h (lv_sub hl [] rfl) hf
                · have hf := if_f (K := fun x => x) c9 hf
                  refine lv_iload_n C.x C.b dX7_paste_77 rfl (lv_at hl 2 rfl) ?_
                  refine lv_i2l C.x C.b dX7_paste_78 rfl ?_
                  refine lv_iload C.x C.b dX7_paste_79 (lv_at hl 5 rfl) ?_
                  refine lv_i2l C.x C.b dX7_paste_81 rfl ?_
                  refine lv_ladd C.x C.b dX7_paste_82 ?_
                  refine lv_aload_n C.x C.b dX7_paste_83 rfl (lv_at hl 0 rfl) ?_
                  refine m_g2 C h dX7_paste_84 ?_
                  refine lv_iload_n C.x C.b dX7_paste_87 rfl (lv_at hl 1 rfl) ?_
                  obtain ⟨hi, hf⟩ := ix_k (K := fun x => x) rfl hf
                  refine m_a2 C h hi dX7_paste_88 ?_
                  refine lv_i2l C.x C.b dX7_paste_89 rfl ?_
                  refine W.lcmp C.x C.b dX7_paste_90 ?_
                  refine lv_if_gt (tgt := 112) C.x C.b dX7_paste_91 (by decide) (fun c9 => ?_) (fun c9 => ?_)
                  · have hf := if_t (K := fun x => x) c9 hf
                    exact j112 σ_5 _ _ _ h (lv_sub hl [] rfl) hf
                  · have hf := if_f (K := fun x => x) c9 hf
                    refine lv_iload C.x C.b dX7_paste_94 (lv_at hl 4 rfl) ?_
                    refine lv_i2l C.x C.b dX7_paste_96 rfl ?_
                    refine lv_iload C.x C.b dX7_paste_97 (lv_at hl 5 rfl) ?_
                    refine lv_i2l C.x C.b dX7_paste_99 rfl ?_
                    refine lv_ladd C.x C.b dX7_paste_100 ?_
                    refine lv_aload_n C.x C.b dX7_paste_101 rfl (lv_at hl 0 rfl) ?_
                    refine m_g2 C h dX7_paste_102 ?_
                    refine lv_iload_n C.x C.b dX7_paste_105 rfl (lv_at hl 3 rfl) ?_
                    obtain ⟨hi, hf⟩ := ix_k (K := fun x => x) rfl hf
                    refine m_a2 C h hi dX7_paste_106 ?_
                    refine lv_i2l C.x C.b dX7_paste_107 rfl ?_
                    refine W.lcmp C.x C.b dX7_paste_108 ?_
                    refine lv_if_le (tgt := 115) C.x C.b dX7_paste_109 (by decide) (fun c9 => ?_) (fun c9 => ?_)
                    · have hf := if_t (K := fun x => x) c9 hf
                      refine lv_iconst (v := 0) C.x C.b dX7_paste_115 (by decide) ?_
                      refine lv_istore (lv' := [(6, .int 0), (0, .ref o), (1, .int v1), (2, .int v2), (3, .int v3), (4, .int v4), (5, .int v5)]) C.x C.b dX7_paste_116 hl (by decide) rfl (fun ls hl => ?_)
                      exact l118  fu 0 σ_5 _ _ _ h (lv_sub hl [1, 2, 3, 4, 5, 6, 0] rfl) hf
                    · have hf := if_f (K := fun x => x) c9 hf
                      exact j112 σ_5 _ _ _ h (lv_sub hl [] rfl) hf
          · have hf := if_f (K := fun x => x) c9 hf
            refine lv_bipush (v := (-8)) C.x C.b dX7_paste_60 (by decide) ?_
            exact hR _ _ (some_k hf) _ _ _ _ h rfl dX7_paste_62
        · have hf := if_t (K := fun x => x) c9 hf
          exact j42 σ_5 _ _ _ h (lv_sub hl [] rfl) hf
    · have hf := if_t (K := fun x => x) c9 hf
      exact j19 σ_5 _ _ _ h (lv_sub hl [] rfl) hf
def M_feed (σ : PS) (v1 : Int32) (v2 : Int32) (v3 : Int32) (v4 : Int32) (v5 : Int32) : Option (Int32 × PS) := nm (sI σ 0 0) (fun σ_1 => if ((gI σ_1 6) + 20) ≤ 600 then bd (M_four σ_1 v1) (fun q_2 => bd (M_four q_2 v2) (fun q_3 => bd (M_four q_3 v3) (fun q_4 => bd (M_four q_4 v4) (fun q_5 => bd (M_four q_5 v5) (fun q_6 => some (gI q_6 6, q_6)))))) else some ((-1), σ_1))
set_option maxHeartbeats 4000000 in
theorem kM_feed (l : Launch) {D : va_G} {ty : Nat → ClassId} {A : Nat → Prop} {o : Nat} {ad : Nat → Nat} {rs : va_W} {σ : PS} {σ' : PS} {v1 : Int32} {v2 : Int32} {v3 : Int32} {v4 : Int32} {v5 : Int32} {r : Int32} (hf : M_feed σ v1 v2 v3 v4 v5 = some (r, σ')) : KI l yX7_feed cX7_feed 6 .int 1 D ty A (wM ty o ad σ ++ rs) (wM ty o ad σ' ++ rs) [.ref o, .int v1, .int v2, .int v3, .int v4, .int v5] r := by
  refine KI.of (by decide) (Nat.le_of_ble_eq_true rfl) ?_
  intro p e R s m args below meth c Q C hR
  have C : Cx p R s m args c cX7_feed 6 RX7 D ty A 1 := C
  have hR : ∀ (v : Int32) (σ2 : PS), (v, σ2) = (r, σ') → ∀ (H : Heap) (locs : List Loc) (pc : Nat) (ls : Array Slot), Hw D A s H locs (wM ty o ad σ2 ++ rs) → narrow .int (.int v) = .int v → decode cX7_feed pc = .ok (.ireturn, 1) → W p l e R s m args below meth c H locs 0 0 Q (F0 m pc ls [.int v]) := by intro v σ2 e9; cases e9; exact hR
  intro H locs ls h hl
  have hl : lv_has ls 6 [(0, .ref o), (1, .int v1), (2, .int v2), (3, .int v3), (4, .int v4), (5, .int v5)] := hl
  unfold M_feed at hf
  refine lv_aload_n C.x C.b dX7_feed_0 rfl (lv_at hl 0 rfl) ?_
  refine lv_iconst (v := 0) C.x C.b dX7_feed_1 (by decide) ?_
  obtain ⟨σ_1, e9, hf⟩ := nm_k (K := fun x => x) hf
  refine m_p0 C h e9 dX7_feed_2 (fun H locs h => ?_)
  refine lv_aload_n C.x C.b dX7_feed_5 rfl (lv_at hl 0 rfl) ?_
  refine m_g6 C h dX7_feed_6 ?_
  refine lv_bipush (v := 20) C.x C.b dX7_feed_9 (by decide) ?_
  refine lv_iadd C.x C.b dX7_feed_11 ?_
  refine lv_sipush (v := 600) C.x C.b dX7_feed_12 (by decide) ?_
  refine lv_icmp_le (tgt := 20) C.x C.b dX7_feed_15 (by decide) (fun c9 => ?_) (fun c9 => ?_)
  · have hf := if_t (K := fun x => x) c9 hf
    refine lv_aload_n C.x C.b dX7_feed_20 rfl (lv_at hl 0 rfl) ?_
    refine lv_iload_n C.x C.b dX7_feed_21 rfl (lv_at hl 1 rfl) ?_
    obtain ⟨q_2, hc, hf⟩ := bd_k (K := fun x => x) rfl hf
    refine cM_four C h hc (Nat.le_of_ble_eq_true rfl) hl.1 (Nat.le_of_ble_eq_true rfl) dX7_feed_22 (fun H locs h => ?_)
    refine lv_aload_n C.x C.b dX7_feed_25 rfl (lv_at hl 0 rfl) ?_
    refine lv_iload_n C.x C.b dX7_feed_26 rfl (lv_at hl 2 rfl) ?_
    obtain ⟨q_3, hc, hf⟩ := bd_k (K := fun x => x) rfl hf
    refine cM_four C h hc (Nat.le_of_ble_eq_true rfl) hl.1 (Nat.le_of_ble_eq_true rfl) dX7_feed_27 (fun H locs h => ?_)
    refine lv_aload_n C.x C.b dX7_feed_30 rfl (lv_at hl 0 rfl) ?_
    refine lv_iload_n C.x C.b dX7_feed_31 rfl (lv_at hl 3 rfl) ?_
    obtain ⟨q_4, hc, hf⟩ := bd_k (K := fun x => x) rfl hf
    refine cM_four C h hc (Nat.le_of_ble_eq_true rfl) hl.1 (Nat.le_of_ble_eq_true rfl) dX7_feed_32 (fun H locs h => ?_)
    refine lv_aload_n C.x C.b dX7_feed_35 rfl (lv_at hl 0 rfl) ?_
    refine lv_iload C.x C.b dX7_feed_36 (lv_at hl 4 rfl) ?_
    obtain ⟨q_5, hc, hf⟩ := bd_k (K := fun x => x) rfl hf
    refine cM_four C h hc (Nat.le_of_ble_eq_true rfl) hl.1 (Nat.le_of_ble_eq_true rfl) dX7_feed_38 (fun H locs h => ?_)
    refine lv_aload_n C.x C.b dX7_feed_41 rfl (lv_at hl 0 rfl) ?_
    refine lv_iload C.x C.b dX7_feed_42 (lv_at hl 5 rfl) ?_
    obtain ⟨q_6, hc, hf⟩ := bd_k (K := fun x => x) rfl hf
    refine cM_four C h hc (Nat.le_of_ble_eq_true rfl) hl.1 (Nat.le_of_ble_eq_true rfl) dX7_feed_44 (fun H locs h => ?_)
    refine lv_aload_n C.x C.b dX7_feed_47 rfl (lv_at hl 0 rfl) ?_
    refine m_g6 C h dX7_feed_48 ?_
    exact hR _ _ (some_k hf) _ _ _ _ h rfl dX7_feed_51
  · have hf := if_f (K := fun x => x) c9 hf
    refine lv_iconst (v := (-1)) C.x C.b dX7_feed_18 (by decide) ?_
    exact hR _ _ (some_k hf) _ _ _ _ h rfl dX7_feed_19
def M_clears_j27 (σ : PS) : Option PS := some σ
def M_clears_l9 (v1 : Int32) (σ : PS) : Option ((Int32 × PS) ⊕ PS) := if 8 ≤ v1 then up (M_clears_j27 σ) else bd (M_tells σ v1 0) (fun q_1 => nm (v1 + 1) (fun v1_2 => some (.inl (v1_2, q_1))))
def M_clears_B9 : (Int32 × PS) → Option ((Int32 × PS) ⊕ PS) := fun t => M_clears_l9 t.1 t.2
def M_clears (σ : PS) : Option PS := ix 4 5 (nm (wA σ 16 4 0) (fun σ_3 => loop (M_clears_B9) fu (0, σ_3)))
set_option maxHeartbeats 4000000 in
theorem kM_clears (l : Launch) {D : va_G} {ty : Nat → ClassId} {A : Nat → Prop} {o : Nat} {ad : Nat → Nat} {rs : va_W} {σ : PS} {σ' : PS} (hf : M_clears σ = some σ') : KV l yX7_clears cX7_clears 2 1 D ty A (wM ty o ad σ ++ rs) (wM ty o ad σ' ++ rs) [.ref o] := by
  refine KV.of (by decide) (Nat.le_of_ble_eq_true rfl) ?_
  intro p e R s m args below meth c Q C hR
  have C : Cx p R s m args c cX7_clears 2 RX7 D ty A 1 := C
  have hR : ∀ (σ2 : PS), σ2 = σ' → ∀ (H : Heap) (locs : List Loc) (pc : Nat) (ls : Array Slot), Hw D A s H locs (wM ty o ad σ2 ++ rs) → decode cX7_clears pc = .ok (.return_, 1) → W p l e R s m args below meth c H locs 0 0 Q (F0 m pc ls []) := by intro σ2 e9; cases e9; exact hR
  have j27 : ∀ (σ : PS) (H : Heap) (locs : List Loc) (ls : Array Slot), Hw D A s H locs (wM ty o ad σ ++ rs) → lv_has ls 2 [] → M_clears_j27 σ = some σ' → W p l e R s m args below meth c H locs 0 0 Q (F0 m 27 ls []) := by
    intro σ H locs ls h hl hf
    unfold M_clears_j27 at hf
    exact hR _ (some_k hf) _ _ _ _ h dX7_clears_27
  have l9 : ∀ (n9 : Nat) (v1 : Int32) (σ : PS) (H : Heap) (locs : List Loc) (ls : Array Slot), Hw D A s H locs (wM ty o ad σ ++ rs) → lv_has ls 2 [(0, .ref o), (1, .int v1)] → loop (M_clears_B9) n9 (v1, σ) = some σ' → W p l e R s m args below meth c H locs 0 0 Q (F0 m 9 ls []) := by
    intro n9
    induction n9 with
    | zero => intro v1 σ H locs ls h hl hf; exact (none_k hf).elim
    | succ n9 ih9 =>
      intro v1 σ H locs ls h hl hf
      have hf : bl (M_clears_B9) n9 (M_clears_l9 v1 σ) = some σ' := hf
      unfold M_clears_l9 at hf
      refine lv_iload_n C.x C.b dX7_clears_9 rfl (lv_at hl 1 rfl) ?_
      refine lv_bipush (v := 8) C.x C.b dX7_clears_10 (by decide) ?_
      refine lv_icmp_ge (tgt := 27) C.x C.b dX7_clears_12 (by decide) (fun c9 => ?_) (fun c9 => ?_)
      · have hf := if_t (K := bl (M_clears_B9) n9) c9 hf
        have hf := bl_upK (K := fun x => x) hf
        exact j27 σ _ _ _ h (lv_sub hl [] rfl) hf
      · have hf := if_f (K := bl (M_clears_B9) n9) c9 hf
        refine lv_aload_n C.x C.b dX7_clears_15 rfl (lv_at hl 0 rfl) ?_
        refine lv_iload_n C.x C.b dX7_clears_16 rfl (lv_at hl 1 rfl) ?_
        refine lv_iconst (v := 0) C.x C.b dX7_clears_17 (by decide) ?_
        obtain ⟨q_1, hc, hf⟩ := bd_k (K := bl (M_clears_B9) n9) rfl hf
        refine cM_tells C h hc (Nat.le_of_ble_eq_true rfl) hl.1 (Nat.le_of_ble_eq_true rfl) dX7_clears_18 (fun H locs h => ?_)
        obtain ⟨v1_2, e9, hf⟩ := nm_k (K := bl (M_clears_B9) n9) hf
        refine lv_iinc (v := v1_2) (lv' := [(1, .int v1_2), (0, .ref o)]) C.x C.b dX7_clears_21 hl (k := 1) rfl (iinc_e (k := 1) (by decide) e9) (by decide) rfl (fun ls hl => ?_)
        refine lv_goto (tgt := 9) C.x C.b dX7_clears_24 (by decide) ?_
        exact ih9 v1_2 q_1 _ _ _ h (lv_sub hl [1, 0] rfl) hf
  intro H locs ls h hl
  have hl : lv_has ls 2 [(0, .ref o)] := hl
  unfold M_clears at hf
  refine lv_aload_n C.x C.b dX7_clears_0 rfl (lv_at hl 0 rfl) ?_
  refine m_g16 C h dX7_clears_1 ?_
  refine lv_iconst (v := 4) C.x C.b dX7_clears_4 (by decide) ?_
  refine lv_iconst (v := 0) C.x C.b dX7_clears_5 (by decide) ?_
  obtain ⟨hi, hf⟩ := ix_k (K := fun x => x) rfl hf
  obtain ⟨σ_3, e9, hf⟩ := nm_k (K := fun x => x) hf
  refine m_w16 C h hi e9 dX7_clears_6 (fun H locs h => ?_)
  refine lv_iconst (v := 0) C.x C.b dX7_clears_7 (by decide) ?_
  refine lv_istore_n (lv' := [(1, .int 0), (0, .ref o)]) C.x C.b dX7_clears_8 rfl hl (by decide) rfl (fun ls hl => ?_)
  exact l9  fu 0 σ_3 _ _ _ h (lv_sub hl [1, 0] rfl) hf
theorem tM_clears : GoodIn lw_all (wsV RX7 189 RX7 yX7_clears (ws_ yX7_clears cX7_clears 2 none)) := lw_V q1699 q1701 qs71 q147 q1702
theorem cM_clears {p : Program} {l : Launch} {e : Env} {R : Room} {s : State} {m : MethodId} {args : Array Value} {below : List Frame} {meth : Method} {c : Code} {H : Heap} {locs : List Loc} {Q : State → Prop} {cc : ByteArray} {pc : Nat} {ls : Array Slot} {st : List Value} {nL d : Nat} {D : va_G} {ty : Nat → ClassId} {A : Nat → Prop} {o : Nat} {ad : Nat → Nat} {rs : va_W} {σ : PS} {q : PS} (C : Cx p R s m args c cc nL RX7 D ty A d) (h : Hw D A s H locs (wM ty o ad σ ++ rs)) (hc : M_clears σ = some q) (hd : 1 + 1 ≤ d) (hls : ls.size = nL) (hcat : (st.map fun v => v.category).sum ≤ 8) (dec : decode cc pc = .ok (.invokevirtual 189, 3)) (kk : ∀ (H : Heap) (locs : List Loc), Hw D A s H locs (wM ty o ad q ++ rs) → W p l e R s m args below meth c H locs 0 0 Q (F0 m (pc + 3) ls (st))) : W p l e R s m args below meth c H locs 0 0 Q (F0 m pc ls (.ref o :: st)) := KV.callV (As := []) C (kM_clears l hc) tM_clears ⟨rfl, by decide, by decide, by show _ = some 0; decide +kernel⟩ 0 7 rfl rfl rfl hd (by decide) (Nat.zero_le _) (Nat.zero_le _) h hls rfl hcat dec kk
def M_next_j307 (σ : PS) : Option PS := some σ
def M_next_j294 (σ : PS) (x0 : Int32) : Option PS := nm (sI σ 8 x0) (fun σ_1 => nm (sI σ_1 7 ((gI σ_1 7) + 1)) (fun σ_2 => M_next_j307 σ_2))
def M_next_j258 (σ : PS) (x0 : Int32) : Option ((PS) ⊕ PS) := nm (sI σ 10 x0) (fun σ_3 => nm (sI σ_3 7 ((gI σ_3 7) + 1)) (fun σ_4 => some (.inl (σ_4))))
def M_next_l208 (σ : PS) : Option ((PS) ⊕ PS) := bd (M_isByte σ (gI σ 7) 48 57) (fun q_5 => if q_5 = 0 then up (M_next_j307 σ) else if (gI σ 10) ≤ 100000 then ix (gI σ 7) 600 (M_next_j258 σ (((10 * (gI σ 10)) + (rA σ 5 (gI σ 7))) - 48)) else M_next_j258 σ 1000000)
def M_next_B208 : (PS) → Option ((PS) ⊕ PS) := fun t => M_next_l208 t
def M_next_j185 (σ : PS) : Option PS := M_next_j307 σ
def M_next_j169 (σ : PS) (v1 : Int32) : Option ((Int32 × PS) ⊕ PS) := nm (sI σ 7 ((gI σ 7) + 1)) (fun σ_6 => nm (v1 + 1) (fun v1_7 => some (.inl (v1_7, σ_6))))
def M_next_j153 (σ : PS) (v1 : Int32) (x0 : Int64) : Option ((Int32 × PS) ⊕ PS) := nm (sL σ 11 x0) (fun σ_8 => if v1 ≤ 11 then M_next_j169 σ_8 v1 else nm (sL σ_8 11 ((-1))) (fun σ_9 => M_next_j169 σ_9 v1))
def M_next_l102 (v1 : Int32) (σ : PS) : Option ((Int32 × PS) ⊕ PS) := bd (M_isByte σ (gI σ 7) 97 122) (fun q_10 => if q_10 = 0 then up (M_next_j185 σ) else if v1 ≤ 11 then ix (gI σ 7) 600 (M_next_j153 σ v1 (((27 * (gL σ 11)) + ((rA σ 5 (gI σ 7)).toInt64)) - 96)) else M_next_j153 σ v1 ((-1)))
def M_next_B102 : (Int32 × PS) → Option ((Int32 × PS) ⊕ PS) := fun t => M_next_l102 t.1 t.2
def M_next_j43 (σ : PS) : Option PS := nm (sI σ 9 (gI σ 7)) (fun σ_11 => nm (sI σ_11 10 0) (fun σ_12 => nm (sL σ_12 11 0) (fun σ_13 => if (gI σ_13 7) = (gI σ_13 6) then nm (sI σ_13 8 0) (fun σ_18 => M_next_j307 σ_18) else bd (M_isByte σ_13 (gI σ_13 7) 97 122) (fun q_14 => if q_14 = 0 then bd (M_isByte σ_13 (gI σ_13 7) 48 57) (fun q_15 => if q_15 = 0 then ix (gI σ_13 7) 600 (if (rA σ_13 5 (gI σ_13 7)) = 59 then M_next_j294 σ_13 3 else M_next_j294 σ_13 4) else nm (sI σ_13 8 2) (fun σ_16 => loop (M_next_B208) fu (σ_16))) else nm (sI σ_13 8 1) (fun σ_17 => loop (M_next_B102) fu (0, σ_17))))))
def M_next_j30 (σ : PS) : Option ((PS) ⊕ PS) := nm (sI σ 7 ((gI σ 7) + 1)) (fun σ_19 => some (.inl (σ_19)))
def M_next_l0 (σ : PS) : Option ((PS) ⊕ PS) := bd (M_isByte σ (gI σ 7) 32 32) (fun q_20 => if q_20 = 0 then bd (M_isByte σ (gI σ 7) 10 10) (fun q_21 => if q_21 = 0 then up (M_next_j43 σ) else M_next_j30 σ) else M_next_j30 σ)
def M_next_B0 : (PS) → Option ((PS) ⊕ PS) := fun t => M_next_l0 t
def M_next (σ : PS) : Option PS := loop (M_next_B0) fu (σ)
set_option maxHeartbeats 4000000 in
theorem kM_next (l : Launch) {D : va_G} {ty : Nat → ClassId} {A : Nat → Prop} {o : Nat} {ad : Nat → Nat} {rs : va_W} {σ : PS} {σ' : PS} (hf : M_next σ = some σ') : KV l yX7_next cX7_next 2 1 D ty A (wM ty o ad σ ++ rs) (wM ty o ad σ' ++ rs) [.ref o] := by
  refine KV.of (by decide) (Nat.le_of_ble_eq_true rfl) ?_
  intro p e R s m args below meth c Q C hR
  have C : Cx p R s m args c cX7_next 2 RX7 D ty A 1 := C
  have hR : ∀ (σ2 : PS), σ2 = σ' → ∀ (H : Heap) (locs : List Loc) (pc : Nat) (ls : Array Slot), Hw D A s H locs (wM ty o ad σ2 ++ rs) → decode cX7_next pc = .ok (.return_, 1) → W p l e R s m args below meth c H locs 0 0 Q (F0 m pc ls []) := by intro σ2 e9; cases e9; exact hR
  have j307 : ∀ (σ : PS) (H : Heap) (locs : List Loc) (ls : Array Slot), Hw D A s H locs (wM ty o ad σ ++ rs) → lv_has ls 2 [] → M_next_j307 σ = some σ' → W p l e R s m args below meth c H locs 0 0 Q (F0 m 307 ls []) := by
    intro σ H locs ls h hl hf
    unfold M_next_j307 at hf
    exact hR _ (some_k hf) _ _ _ _ h dX7_next_307
  have j294 : ∀ (σ : PS) (x0 : Int32) (H : Heap) (locs : List Loc) (ls : Array Slot), Hw D A s H locs (wM ty o ad σ ++ rs) → lv_has ls 2 [(0, .ref o)] → M_next_j294 σ x0 = some σ' → W p l e R s m args below meth c H locs 0 0 Q (F0 m 294 ls [.int x0, .ref o]) := by
    intro σ x0 H locs ls h hl hf
    unfold M_next_j294 at hf
    obtain ⟨σ_1, e9, hf⟩ := nm_k (K := fun x => x) hf
    refine m_p8 C h e9 dX7_next_294 (fun H locs h => ?_)
    refine lv_aload_n C.x C.b dX7_next_297 rfl (lv_at hl 0 rfl) ?_
    refine lv_dup C.x C.b dX7_next_298 rfl ?_
    refine m_g7 C h dX7_next_299 ?_
    refine lv_iconst (v := 1) C.x C.b dX7_next_302 (by decide) ?_
    refine lv_iadd C.x C.b dX7_next_303 ?_
    obtain ⟨σ_2, e9, hf⟩ := nm_k (K := fun x => x) hf
    refine m_p7 C h e9 dX7_next_304 (fun H locs h => ?_)
    exact j307 σ_2 _ _ _ h (lv_sub hl [] rfl) hf
  have l208 : ∀ (n208 : Nat) (σ : PS) (H : Heap) (locs : List Loc) (ls : Array Slot), Hw D A s H locs (wM ty o ad σ ++ rs) → lv_has ls 2 [(0, .ref o)] → loop (M_next_B208) n208 (σ) = some σ' → W p l e R s m args below meth c H locs 0 0 Q (F0 m 208 ls []) := by
    intro n208
    induction n208 with
    | zero => intro σ H locs ls h hl hf; exact (none_k hf).elim
    | succ n208 ih208 =>
      have j258 : ∀ (σ : PS) (x0 : Int32) (H : Heap) (locs : List Loc) (ls : Array Slot), Hw D A s H locs (wM ty o ad σ ++ rs) → lv_has ls 2 [(0, .ref o)] → bl (M_next_B208) n208 (M_next_j258 σ x0) = some σ' → W p l e R s m args below meth c H locs 0 0 Q (F0 m 258 ls [.int x0, .ref o]) := by
        intro σ x0 H locs ls h hl hf
        unfold M_next_j258 at hf
        obtain ⟨σ_3, e9, hf⟩ := nm_k (K := bl (M_next_B208) n208) hf
        refine m_p10 C h e9 dX7_next_258 (fun H locs h => ?_)
        refine lv_aload_n C.x C.b dX7_next_261 rfl (lv_at hl 0 rfl) ?_
        refine lv_dup C.x C.b dX7_next_262 rfl ?_
        refine m_g7 C h dX7_next_263 ?_
        refine lv_iconst (v := 1) C.x C.b dX7_next_266 (by decide) ?_
        refine lv_iadd C.x C.b dX7_next_267 ?_
        obtain ⟨σ_4, e9, hf⟩ := nm_k (K := bl (M_next_B208) n208) hf
        refine m_p7 C h e9 dX7_next_268 (fun H locs h => ?_)
        refine lv_goto (tgt := 208) C.x C.b dX7_next_271 (by decide) ?_
        exact ih208 σ_4 _ _ _ h (lv_sub hl [0] rfl) hf
      intro σ H locs ls h hl hf
      have hf : bl (M_next_B208) n208 (M_next_l208 σ) = some σ' := hf
      unfold M_next_l208 at hf
      refine lv_aload_n C.x C.b dX7_next_208 rfl (lv_at hl 0 rfl) ?_
      refine lv_aload_n C.x C.b dX7_next_209 rfl (lv_at hl 0 rfl) ?_
      refine m_g7 C h dX7_next_210 ?_
      refine lv_bipush (v := 48) C.x C.b dX7_next_213 (by decide) ?_
      refine lv_bipush (v := 57) C.x C.b dX7_next_215 (by decide) ?_
      obtain ⟨q_5, hc, hf⟩ := bd_k (K := bl (M_next_B208) n208) rfl hf
      refine cM_isByte C h hc (Nat.le_of_ble_eq_true rfl) hl.1 (Nat.le_of_ble_eq_true rfl) dX7_next_217 (fun H locs h => ?_)
      refine lv_if_eq (tgt := 307) C.x C.b dX7_next_220 (by decide) (fun c9 => ?_) (fun c9 => ?_)
      · have hf := if_t (K := bl (M_next_B208) n208) c9 hf
        have hf := bl_upK (K := fun x => x) hf
        exact j307 σ _ _ _ h (lv_sub hl [] rfl) hf
      · have hf := if_f (K := bl (M_next_B208) n208) c9 hf
        refine lv_aload_n C.x C.b dX7_next_223 rfl (lv_at hl 0 rfl) ?_
        refine lv_aload_n C.x C.b dX7_next_224 rfl (lv_at hl 0 rfl) ?_
        refine m_g10 C h dX7_next_225 ?_
        refine lv_ldc (v := 100000) C.x C.b C.own (C.ts _ q1722) dX7_next_228 ?_
        refine lv_icmp_le (tgt := 238) C.x C.b dX7_next_230 (by decide) (fun c9 => ?_) (fun c9 => ?_)
        · have hf := if_t (K := bl (M_next_B208) n208) c9 hf
          refine lv_bipush (v := 10) C.x C.b dX7_next_238 (by decide) ?_
          refine lv_aload_n C.x C.b dX7_next_240 rfl (lv_at hl 0 rfl) ?_
          refine m_g10 C h dX7_next_241 ?_
          refine lv_imul C.x C.b dX7_next_244 ?_
          refine lv_aload_n C.x C.b dX7_next_245 rfl (lv_at hl 0 rfl) ?_
          refine m_g5 C h dX7_next_246 ?_
          refine lv_aload_n C.x C.b dX7_next_249 rfl (lv_at hl 0 rfl) ?_
          refine m_g7 C h dX7_next_250 ?_
          obtain ⟨hi, hf⟩ := ix_k (K := bl (M_next_B208) n208) rfl hf
          refine m_a5 C h hi dX7_next_253 ?_
          refine lv_iadd C.x C.b dX7_next_254 ?_
          refine lv_bipush (v := 48) C.x C.b dX7_next_255 (by decide) ?_
          refine lv_isub C.x C.b dX7_next_257 ?_
          exact j258 σ (((10 * (gI σ 10)) + (rA σ 5 (gI σ 7))) - 48) _ _ _ h (lv_sub hl [0] rfl) hf
        · have hf := if_f (K := bl (M_next_B208) n208) c9 hf
          refine lv_ldc (v := 1000000) C.x C.b C.own (C.ts _ q1723) dX7_next_233 ?_
          refine lv_goto (tgt := 258) C.x C.b dX7_next_235 (by decide) ?_
          exact j258 σ 1000000 _ _ _ h (lv_sub hl [0] rfl) hf
  have j185 : ∀ (σ : PS) (H : Heap) (locs : List Loc) (ls : Array Slot), Hw D A s H locs (wM ty o ad σ ++ rs) → lv_has ls 2 [] → M_next_j185 σ = some σ' → W p l e R s m args below meth c H locs 0 0 Q (F0 m 185 ls []) := by
    intro σ H locs ls h hl hf
    unfold M_next_j185 at hf
    refine lv_goto (tgt := 307) C.x C.b dX7_next_185 (by decide) ?_
    exact j307 σ _ _ _ h (lv_sub hl [] rfl) hf
  have l102 : ∀ (n102 : Nat) (v1 : Int32) (σ : PS) (H : Heap) (locs : List Loc) (ls : Array Slot), Hw D A s H locs (wM ty o ad σ ++ rs) → lv_has ls 2 [(0, .ref o), (1, .int v1)] → loop (M_next_B102) n102 (v1, σ) = some σ' → W p l e R s m args below meth c H locs 0 0 Q (F0 m 102 ls []) := by
    intro n102
    induction n102 with
    | zero => intro v1 σ H locs ls h hl hf; exact (none_k hf).elim
    | succ n102 ih102 =>
      have j169 : ∀ (σ : PS) (v1 : Int32) (H : Heap) (locs : List Loc) (ls : Array Slot), Hw D A s H locs (wM ty o ad σ ++ rs) → lv_has ls 2 [(0, .ref o), (1, .int v1)] → bl (M_next_B102) n102 (M_next_j169 σ v1) = some σ' → W p l e R s m args below meth c H locs 0 0 Q (F0 m 169 ls []) := by
        intro σ v1 H locs ls h hl hf
        unfold M_next_j169 at hf
        refine lv_aload_n C.x C.b dX7_next_169 rfl (lv_at hl 0 rfl) ?_
        refine lv_dup C.x C.b dX7_next_170 rfl ?_
        refine m_g7 C h dX7_next_171 ?_
        refine lv_iconst (v := 1) C.x C.b dX7_next_174 (by decide) ?_
        refine lv_iadd C.x C.b dX7_next_175 ?_
        obtain ⟨σ_6, e9, hf⟩ := nm_k (K := bl (M_next_B102) n102) hf
        refine m_p7 C h e9 dX7_next_176 (fun H locs h => ?_)
        obtain ⟨v1_7, e9, hf⟩ := nm_k (K := bl (M_next_B102) n102) hf
        refine lv_iinc (v := v1_7) (lv' := [(1, .int v1_7), (0, .ref o)]) C.x C.b dX7_next_179 hl (k := 1) rfl (iinc_e (k := 1) (by decide) e9) (by decide) rfl (fun ls hl => ?_)
        refine lv_goto (tgt := 102) C.x C.b dX7_next_182 (by decide) ?_
        exact ih102 v1_7 σ_6 _ _ _ h (lv_sub hl [1, 0] rfl) hf
      have j153 : ∀ (σ : PS) (v1 : Int32) (x0 : Int64) (H : Heap) (locs : List Loc) (ls : Array Slot), Hw D A s H locs (wM ty o ad σ ++ rs) → lv_has ls 2 [(0, .ref o), (1, .int v1)] → bl (M_next_B102) n102 (M_next_j153 σ v1 x0) = some σ' → W p l e R s m args below meth c H locs 0 0 Q (F0 m 153 ls [.long x0, .ref o]) := by
        intro σ v1 x0 H locs ls h hl hf
        unfold M_next_j153 at hf
        obtain ⟨σ_8, e9, hf⟩ := nm_k (K := bl (M_next_B102) n102) hf
        refine m_p11 C h e9 dX7_next_153 (fun H locs h => ?_)
        refine lv_iload_n C.x C.b dX7_next_156 rfl (lv_at hl 1 rfl) ?_
        refine lv_bipush (v := 11) C.x C.b dX7_next_157 (by decide) ?_
        refine lv_icmp_le (tgt := 169) C.x C.b dX7_next_159 (by decide) (fun c9 => ?_) (fun c9 => ?_)
        · have hf := if_t (K := bl (M_next_B102) n102) c9 hf
          exact j169 σ_8 v1 _ _ _ h (lv_sub hl [0, 1] rfl) hf
        · have hf := if_f (K := bl (M_next_B102) n102) c9 hf
          refine lv_aload_n C.x C.b dX7_next_162 rfl (lv_at hl 0 rfl) ?_
          refine lv_ldc2 (v := (-1)) C.x C.b C.own (C.ts _ q1719) dX7_next_163 ?_
          obtain ⟨σ_9, e9, hf⟩ := nm_k (K := bl (M_next_B102) n102) hf
          refine m_p11 C h e9 dX7_next_166 (fun H locs h => ?_)
          exact j169 σ_9 v1 _ _ _ h (lv_sub hl [0, 1] rfl) hf
      intro v1 σ H locs ls h hl hf
      have hf : bl (M_next_B102) n102 (M_next_l102 v1 σ) = some σ' := hf
      unfold M_next_l102 at hf
      refine lv_aload_n C.x C.b dX7_next_102 rfl (lv_at hl 0 rfl) ?_
      refine lv_aload_n C.x C.b dX7_next_103 rfl (lv_at hl 0 rfl) ?_
      refine m_g7 C h dX7_next_104 ?_
      refine lv_bipush (v := 97) C.x C.b dX7_next_107 (by decide) ?_
      refine lv_bipush (v := 122) C.x C.b dX7_next_109 (by decide) ?_
      obtain ⟨q_10, hc, hf⟩ := bd_k (K := bl (M_next_B102) n102) rfl hf
      refine cM_isByte C h hc (Nat.le_of_ble_eq_true rfl) hl.1 (Nat.le_of_ble_eq_true rfl) dX7_next_111 (fun H locs h => ?_)
      refine lv_if_eq (tgt := 185) C.x C.b dX7_next_114 (by decide) (fun c9 => ?_) (fun c9 => ?_)
      · have hf := if_t (K := bl (M_next_B102) n102) c9 hf
        have hf := bl_upK (K := fun x => x) hf
        exact j185 σ _ _ _ h (lv_sub hl [] rfl) hf
      · have hf := if_f (K := bl (M_next_B102) n102) c9 hf
        refine lv_aload_n C.x C.b dX7_next_117 rfl (lv_at hl 0 rfl) ?_
        refine lv_iload_n C.x C.b dX7_next_118 rfl (lv_at hl 1 rfl) ?_
        refine lv_bipush (v := 11) C.x C.b dX7_next_119 (by decide) ?_
        refine lv_icmp_le (tgt := 130) C.x C.b dX7_next_121 (by decide) (fun c9 => ?_) (fun c9 => ?_)
        · have hf := if_t (K := bl (M_next_B102) n102) c9 hf
          refine lv_ldc2 (v := 27) C.x C.b C.own (C.ts _ q1720) dX7_next_130 ?_
          refine lv_aload_n C.x C.b dX7_next_133 rfl (lv_at hl 0 rfl) ?_
          refine m_g11 C h dX7_next_134 ?_
          refine lv_lmul C.x C.b dX7_next_137 ?_
          refine lv_aload_n C.x C.b dX7_next_138 rfl (lv_at hl 0 rfl) ?_
          refine m_g5 C h dX7_next_139 ?_
          refine lv_aload_n C.x C.b dX7_next_142 rfl (lv_at hl 0 rfl) ?_
          refine m_g7 C h dX7_next_143 ?_
          obtain ⟨hi, hf⟩ := ix_k (K := bl (M_next_B102) n102) rfl hf
          refine m_a5 C h hi dX7_next_146 ?_
          refine lv_i2l C.x C.b dX7_next_147 rfl ?_
          refine lv_ladd C.x C.b dX7_next_148 ?_
          refine lv_ldc2 (v := 96) C.x C.b C.own (C.ts _ q1721) dX7_next_149 ?_
          refine lv_lsub C.x C.b dX7_next_152 ?_
          exact j153 σ v1 (((27 * (gL σ 11)) + ((rA σ 5 (gI σ 7)).toInt64)) - 96) _ _ _ h (lv_sub hl [0, 1] rfl) hf
        · have hf := if_f (K := bl (M_next_B102) n102) c9 hf
          refine lv_ldc2 (v := (-1)) C.x C.b C.own (C.ts _ q1719) dX7_next_124 ?_
          refine lv_goto (tgt := 153) C.x C.b dX7_next_127 (by decide) ?_
          exact j153 σ v1 ((-1)) _ _ _ h (lv_sub hl [0, 1] rfl) hf
  have j43 : ∀ (σ : PS) (H : Heap) (locs : List Loc) (ls : Array Slot), Hw D A s H locs (wM ty o ad σ ++ rs) → lv_has ls 2 [(0, .ref o)] → M_next_j43 σ = some σ' → W p l e R s m args below meth c H locs 0 0 Q (F0 m 43 ls []) := by
    intro σ H locs ls h hl hf
    unfold M_next_j43 at hf
    refine lv_aload_n C.x C.b dX7_next_43 rfl (lv_at hl 0 rfl) ?_
    refine lv_aload_n C.x C.b dX7_next_44 rfl (lv_at hl 0 rfl) ?_
    refine m_g7 C h dX7_next_45 ?_
    obtain ⟨σ_11, e9, hf⟩ := nm_k (K := fun x => x) hf
    refine m_p9 C h e9 dX7_next_48 (fun H locs h => ?_)
    refine lv_aload_n C.x C.b dX7_next_51 rfl (lv_at hl 0 rfl) ?_
    refine lv_iconst (v := 0) C.x C.b dX7_next_52 (by decide) ?_
    obtain ⟨σ_12, e9, hf⟩ := nm_k (K := fun x => x) hf
    refine m_p10 C h e9 dX7_next_53 (fun H locs h => ?_)
    refine lv_aload_n C.x C.b dX7_next_56 rfl (lv_at hl 0 rfl) ?_
    refine lv_lconst (v := 0) C.x C.b dX7_next_57 (by decide) ?_
    obtain ⟨σ_13, e9, hf⟩ := nm_k (K := fun x => x) hf
    refine m_p11 C h e9 dX7_next_58 (fun H locs h => ?_)
    refine lv_aload_n C.x C.b dX7_next_61 rfl (lv_at hl 0 rfl) ?_
    refine m_g7 C h dX7_next_62 ?_
    refine lv_aload_n C.x C.b dX7_next_65 rfl (lv_at hl 0 rfl) ?_
    refine m_g6 C h dX7_next_66 ?_
    refine lv_icmp_ne (tgt := 80) C.x C.b dX7_next_69 (by decide) (fun c9 => ?_) (fun c9 => ?_)
    · have hf := if_f (K := fun x => x) c9 hf
      refine lv_aload_n C.x C.b dX7_next_80 rfl (lv_at hl 0 rfl) ?_
      refine lv_aload_n C.x C.b dX7_next_81 rfl (lv_at hl 0 rfl) ?_
      refine m_g7 C h dX7_next_82 ?_
      refine lv_bipush (v := 97) C.x C.b dX7_next_85 (by decide) ?_
      refine lv_bipush (v := 122) C.x C.b dX7_next_87 (by decide) ?_
      obtain ⟨q_14, hc, hf⟩ := bd_k (K := fun x => x) rfl hf
      refine cM_isByte C h hc (Nat.le_of_ble_eq_true rfl) hl.1 (Nat.le_of_ble_eq_true rfl) dX7_next_89 (fun H locs h => ?_)
      refine lv_if_eq (tgt := 188) C.x C.b dX7_next_92 (by decide) (fun c9 => ?_) (fun c9 => ?_)
      · have hf := if_t (K := fun x => x) c9 hf
        refine lv_aload_n C.x C.b dX7_next_188 rfl (lv_at hl 0 rfl) ?_
        refine lv_aload_n C.x C.b dX7_next_189 rfl (lv_at hl 0 rfl) ?_
        refine m_g7 C h dX7_next_190 ?_
        refine lv_bipush (v := 48) C.x C.b dX7_next_193 (by decide) ?_
        refine lv_bipush (v := 57) C.x C.b dX7_next_195 (by decide) ?_
        obtain ⟨q_15, hc, hf⟩ := bd_k (K := fun x => x) rfl hf
        refine cM_isByte C h hc (Nat.le_of_ble_eq_true rfl) hl.1 (Nat.le_of_ble_eq_true rfl) dX7_next_197 (fun H locs h => ?_)
        refine lv_if_eq (tgt := 274) C.x C.b dX7_next_200 (by decide) (fun c9 => ?_) (fun c9 => ?_)
        · have hf := if_t (K := fun x => x) c9 hf
          refine lv_aload_n C.x C.b dX7_next_274 rfl (lv_at hl 0 rfl) ?_
          refine lv_aload_n C.x C.b dX7_next_275 rfl (lv_at hl 0 rfl) ?_
          refine m_g5 C h dX7_next_276 ?_
          refine lv_aload_n C.x C.b dX7_next_279 rfl (lv_at hl 0 rfl) ?_
          refine m_g7 C h dX7_next_280 ?_
          obtain ⟨hi, hf⟩ := ix_k (K := fun x => x) rfl hf
          refine m_a5 C h hi dX7_next_283 ?_
          refine lv_bipush (v := 59) C.x C.b dX7_next_284 (by decide) ?_
          refine lv_icmp_ne (tgt := 293) C.x C.b dX7_next_286 (by decide) (fun c9 => ?_) (fun c9 => ?_)
          · have hf := if_f (K := fun x => x) c9 hf
            refine lv_iconst (v := 4) C.x C.b dX7_next_293 (by decide) ?_
            exact j294 σ_13 4 _ _ _ h (lv_sub hl [0] rfl) hf
          · have hf := if_t (K := fun x => x) c9 hf
            refine lv_iconst (v := 3) C.x C.b dX7_next_289 (by decide) ?_
            refine lv_goto (tgt := 294) C.x C.b dX7_next_290 (by decide) ?_
            exact j294 σ_13 3 _ _ _ h (lv_sub hl [0] rfl) hf
        · have hf := if_f (K := fun x => x) c9 hf
          refine lv_aload_n C.x C.b dX7_next_203 rfl (lv_at hl 0 rfl) ?_
          refine lv_iconst (v := 2) C.x C.b dX7_next_204 (by decide) ?_
          obtain ⟨σ_16, e9, hf⟩ := nm_k (K := fun x => x) hf
          refine m_p8 C h e9 dX7_next_205 (fun H locs h => ?_)
          exact l208  fu σ_16 _ _ _ h (lv_sub hl [0] rfl) hf
      · have hf := if_f (K := fun x => x) c9 hf
        refine lv_aload_n C.x C.b dX7_next_95 rfl (lv_at hl 0 rfl) ?_
        refine lv_iconst (v := 1) C.x C.b dX7_next_96 (by decide) ?_
        obtain ⟨σ_17, e9, hf⟩ := nm_k (K := fun x => x) hf
        refine m_p8 C h e9 dX7_next_97 (fun H locs h => ?_)
        refine lv_iconst (v := 0) C.x C.b dX7_next_100 (by decide) ?_
        refine lv_istore_n (lv' := [(1, .int 0), (0, .ref o)]) C.x C.b dX7_next_101 rfl hl (by decide) rfl (fun ls hl => ?_)
        exact l102  fu 0 σ_17 _ _ _ h (lv_sub hl [1, 0] rfl) hf
    · have hf := if_t (K := fun x => x) c9 hf
      refine lv_aload_n C.x C.b dX7_next_72 rfl (lv_at hl 0 rfl) ?_
      refine lv_iconst (v := 0) C.x C.b dX7_next_73 (by decide) ?_
      obtain ⟨σ_18, e9, hf⟩ := nm_k (K := fun x => x) hf
      refine m_p8 C h e9 dX7_next_74 (fun H locs h => ?_)
      refine lv_goto (tgt := 307) C.x C.b dX7_next_77 (by decide) ?_
      exact j307 σ_18 _ _ _ h (lv_sub hl [] rfl) hf
  have l0 : ∀ (n0 : Nat) (σ : PS) (H : Heap) (locs : List Loc) (ls : Array Slot), Hw D A s H locs (wM ty o ad σ ++ rs) → lv_has ls 2 [(0, .ref o)] → loop (M_next_B0) n0 (σ) = some σ' → W p l e R s m args below meth c H locs 0 0 Q (F0 m 0 ls []) := by
    intro n0
    induction n0 with
    | zero => intro σ H locs ls h hl hf; exact (none_k hf).elim
    | succ n0 ih0 =>
      have j30 : ∀ (σ : PS) (H : Heap) (locs : List Loc) (ls : Array Slot), Hw D A s H locs (wM ty o ad σ ++ rs) → lv_has ls 2 [(0, .ref o)] → bl (M_next_B0) n0 (M_next_j30 σ) = some σ' → W p l e R s m args below meth c H locs 0 0 Q (F0 m 30 ls []) := by
        intro σ H locs ls h hl hf
        unfold M_next_j30 at hf
        refine lv_aload_n C.x C.b dX7_next_30 rfl (lv_at hl 0 rfl) ?_
        refine lv_dup C.x C.b dX7_next_31 rfl ?_
        refine m_g7 C h dX7_next_32 ?_
        refine lv_iconst (v := 1) C.x C.b dX7_next_35 (by decide) ?_
        refine lv_iadd C.x C.b dX7_next_36 ?_
        obtain ⟨σ_19, e9, hf⟩ := nm_k (K := bl (M_next_B0) n0) hf
        refine m_p7 C h e9 dX7_next_37 (fun H locs h => ?_)
        refine lv_goto (tgt := 0) C.x C.b dX7_next_40 (by decide) ?_
        exact ih0 σ_19 _ _ _ h (lv_sub hl [0] rfl) hf
      intro σ H locs ls h hl hf
      have hf : bl (M_next_B0) n0 (M_next_l0 σ) = some σ' := hf
      unfold M_next_l0 at hf
      refine lv_aload_n C.x C.b dX7_next_0 rfl (lv_at hl 0 rfl) ?_
      refine lv_aload_n C.x C.b dX7_next_1 rfl (lv_at hl 0 rfl) ?_
      refine m_g7 C h dX7_next_2 ?_
      refine lv_bipush (v := 32) C.x C.b dX7_next_5 (by decide) ?_
      refine lv_bipush (v := 32) C.x C.b dX7_next_7 (by decide) ?_
      obtain ⟨q_20, hc, hf⟩ := bd_k (K := bl (M_next_B0) n0) rfl hf
      refine cM_isByte C h hc (Nat.le_of_ble_eq_true rfl) hl.1 (Nat.le_of_ble_eq_true rfl) dX7_next_9 (fun H locs h => ?_)
      refine lv_if_ne (tgt := 30) C.x C.b dX7_next_12 (by decide) (fun c9 => ?_) (fun c9 => ?_)
      · have hf := if_f (K := bl (M_next_B0) n0) c9 hf
        exact j30 σ _ _ _ h (lv_sub hl [0] rfl) hf
      · have hf := if_t (K := bl (M_next_B0) n0) c9 hf
        refine lv_aload_n C.x C.b dX7_next_15 rfl (lv_at hl 0 rfl) ?_
        refine lv_aload_n C.x C.b dX7_next_16 rfl (lv_at hl 0 rfl) ?_
        refine m_g7 C h dX7_next_17 ?_
        refine lv_bipush (v := 10) C.x C.b dX7_next_20 (by decide) ?_
        refine lv_bipush (v := 10) C.x C.b dX7_next_22 (by decide) ?_
        obtain ⟨q_21, hc, hf⟩ := bd_k (K := bl (M_next_B0) n0) rfl hf
        refine cM_isByte C h hc (Nat.le_of_ble_eq_true rfl) hl.1 (Nat.le_of_ble_eq_true rfl) dX7_next_24 (fun H locs h => ?_)
        refine lv_if_eq (tgt := 43) C.x C.b dX7_next_27 (by decide) (fun c9 => ?_) (fun c9 => ?_)
        · have hf := if_t (K := bl (M_next_B0) n0) c9 hf
          have hf := bl_upK (K := fun x => x) hf
          exact j43 σ _ _ _ h (lv_sub hl [0] rfl) hf
        · have hf := if_f (K := bl (M_next_B0) n0) c9 hf
          exact j30 σ _ _ _ h (lv_sub hl [0] rfl) hf
  intro H locs ls h hl
  have hl : lv_has ls 2 [(0, .ref o)] := hl
  unfold M_next at hf
  exact l0  fu σ _ _ _ h (lv_sub hl [0] rfl) hf
theorem tM_next : GoodIn lw_all (wsV RX7 139 RX7 yX7_next (ws_ yX7_next cX7_next 2 none)) := lw_V q1711 q1713 qs74 q147 q1714
theorem cM_next {p : Program} {l : Launch} {e : Env} {R : Room} {s : State} {m : MethodId} {args : Array Value} {below : List Frame} {meth : Method} {c : Code} {H : Heap} {locs : List Loc} {Q : State → Prop} {cc : ByteArray} {pc : Nat} {ls : Array Slot} {st : List Value} {nL d : Nat} {D : va_G} {ty : Nat → ClassId} {A : Nat → Prop} {o : Nat} {ad : Nat → Nat} {rs : va_W} {σ : PS} {q : PS} (C : Cx p R s m args c cc nL RX7 D ty A d) (h : Hw D A s H locs (wM ty o ad σ ++ rs)) (hc : M_next σ = some q) (hd : 1 + 1 ≤ d) (hls : ls.size = nL) (hcat : (st.map fun v => v.category).sum ≤ 8) (dec : decode cc pc = .ok (.invokevirtual 139, 3)) (kk : ∀ (H : Heap) (locs : List Loc), Hw D A s H locs (wM ty o ad q ++ rs) → W p l e R s m args below meth c H locs 0 0 Q (F0 m (pc + 3) ls (st))) : W p l e R s m args below meth c H locs 0 0 Q (F0 m pc ls (.ref o :: st)) := KV.callV (As := []) C (kM_next l hc) tM_next ⟨rfl, by decide, by decide, by show _ = some 0; decide +kernel⟩ 0 7 rfl rfl rfl hd (by decide) (Nat.zero_le _) (Nat.zero_le _) h hls rfl hcat dec kk
def M_takesWord (σ : PS) (v1 : Int64) : Option (Int32 × PS) := bd (M_is σ v1) (fun q_1 => if q_1 = 0 then some (0, σ) else bd (M_next σ) (fun q_2 => some (1, q_2)))
set_option maxHeartbeats 4000000 in
theorem kM_takesWord (l : Launch) {D : va_G} {ty : Nat → ClassId} {A : Nat → Prop} {o : Nat} {ad : Nat → Nat} {rs : va_W} {σ : PS} {σ' : PS} {v1 : Int64} {r : Int32} (hf : M_takesWord σ v1 = some (r, σ')) : KI l yX7_takesWord cX7_takesWord 3 .boolean 2 D ty A (wM ty o ad σ ++ rs) (wM ty o ad σ' ++ rs) [.ref o, .long v1] r := by
  refine KI.of (by decide) (Nat.le_of_ble_eq_true rfl) ?_
  intro p e R s m args below meth c Q C hR
  have C : Cx p R s m args c cX7_takesWord 3 RX7 D ty A 2 := C
  have hR : ∀ (v : Int32) (σ2 : PS), (v, σ2) = (r, σ') → ∀ (H : Heap) (locs : List Loc) (pc : Nat) (ls : Array Slot), Hw D A s H locs (wM ty o ad σ2 ++ rs) → narrow .boolean (.int v) = .int v → decode cX7_takesWord pc = .ok (.ireturn, 1) → W p l e R s m args below meth c H locs 0 0 Q (F0 m pc ls [.int v]) := by intro v σ2 e9; cases e9; exact hR
  intro H locs ls h hl
  have hl : lv_has ls 3 [(0, .ref o), (1, .long v1)] := hl
  unfold M_takesWord at hf
  refine lv_aload_n C.x C.b dX7_takesWord_0 rfl (lv_at hl 0 rfl) ?_
  refine lv_lload_n C.x C.b dX7_takesWord_1 rfl (lv_at hl 1 rfl) ?_
  obtain ⟨q_1, hc, hf⟩ := bd_k (K := fun x => x) rfl hf
  refine cM_is C h hc (Nat.le_of_ble_eq_true rfl) hl.1 (Nat.le_of_ble_eq_true rfl) dX7_takesWord_2 (fun H locs h => ?_)
  refine lv_if_ne (tgt := 10) C.x C.b dX7_takesWord_5 (by decide) (fun c9 => ?_) (fun c9 => ?_)
  · have hf := if_f (K := fun x => x) c9 hf
    refine lv_aload_n C.x C.b dX7_takesWord_10 rfl (lv_at hl 0 rfl) ?_
    obtain ⟨q_2, hc, hf⟩ := bd_k (K := fun x => x) rfl hf
    refine cM_next C h hc (Nat.le_of_ble_eq_true rfl) hl.1 (Nat.le_of_ble_eq_true rfl) dX7_takesWord_11 (fun H locs h => ?_)
    refine lv_iconst (v := 1) C.x C.b dX7_takesWord_14 (by decide) ?_
    exact hR _ _ (some_k hf) _ _ _ _ h (by decide) dX7_takesWord_15
  · have hf := if_t (K := fun x => x) c9 hf
    refine lv_iconst (v := 0) C.x C.b dX7_takesWord_8 (by decide) ?_
    exact hR _ _ (some_k hf) _ _ _ _ h (by decide) dX7_takesWord_9
theorem tM_takesWord : GoodIn lw_all (wsV RX7 142 RX7 yX7_takesWord (ws_ yX7_takesWord cX7_takesWord 3 (some .boolean))) := lw_V q1733 q1735 qs78 q147 q1736
theorem cM_takesWord {p : Program} {l : Launch} {e : Env} {R : Room} {s : State} {m : MethodId} {args : Array Value} {below : List Frame} {meth : Method} {c : Code} {H : Heap} {locs : List Loc} {Q : State → Prop} {cc : ByteArray} {pc : Nat} {ls : Array Slot} {st : List Value} {nL d : Nat} {D : va_G} {ty : Nat → ClassId} {A : Nat → Prop} {o : Nat} {ad : Nat → Nat} {rs : va_W} {σ : PS} {v1 : Int64} {q : (Int32 × PS)} (C : Cx p R s m args c cc nL RX7 D ty A d) (h : Hw D A s H locs (wM ty o ad σ ++ rs)) (hc : M_takesWord σ v1 = some q) (hd : 2 + 1 ≤ d) (hls : ls.size = nL) (hcat : (st.map fun v => v.category).sum ≤ 8) (dec : decode cc pc = .ok (.invokevirtual 142, 3)) (kk : ∀ (H : Heap) (locs : List Loc), Hw D A s H locs (wM ty o ad q.2 ++ rs) → W p l e R s m args below meth c H locs 0 0 Q (F0 m (pc + 3) ls (.int (q.1) :: st))) : W p l e R s m args below meth c H locs 0 0 Q (F0 m pc ls (.long v1 :: .ref o :: st)) := KI.callV (As := [.long v1]) C (kM_takesWord l hc) tM_takesWord ⟨rfl, by decide, by decide, by show _ = some 1; decide +kernel⟩ 0 7 rfl rfl rfl hd (by decide) (Nat.zero_le _) (Nat.zero_le _) h hls rfl hcat dec kk
def M_number_2 (σ : PS) (v1 : Int32) (v2 : Int32) : Option (Int32 × PS) := if (gI σ 12) = 0 then if (gI σ 8) = 2 then bd (M_in ((gI σ 10).toInt64) v1.toInt64 v2.toInt64) (fun q_1 => if q_1 = 0 then bd (M_fails σ 2) (fun q_4 => some (v1, q_4)) else nm (gI σ 10) (fun v3_2 => bd (M_next σ) (fun q_3 => some (v3_2, q_3)))) else bd (M_fails σ 1) (fun q_5 => some (v1, q_5)) else some (v1, σ)
set_option maxHeartbeats 4000000 in
theorem kM_number_2 (l : Launch) {D : va_G} {ty : Nat → ClassId} {A : Nat → Prop} {o : Nat} {ad : Nat → Nat} {rs : va_W} {σ : PS} {σ' : PS} {v1 : Int32} {v2 : Int32} {r : Int32} (hf : M_number_2 σ v1 v2 = some (r, σ')) : KI l yX7_number_2 cX7_number_2 4 .int 2 D ty A (wM ty o ad σ ++ rs) (wM ty o ad σ' ++ rs) [.ref o, .int v1, .int v2] r := by
  refine KI.of (by decide) (Nat.le_of_ble_eq_true rfl) ?_
  intro p e R s m args below meth c Q C hR
  have C : Cx p R s m args c cX7_number_2 4 RX7 D ty A 2 := C
  have hR : ∀ (v : Int32) (σ2 : PS), (v, σ2) = (r, σ') → ∀ (H : Heap) (locs : List Loc) (pc : Nat) (ls : Array Slot), Hw D A s H locs (wM ty o ad σ2 ++ rs) → narrow .int (.int v) = .int v → decode cX7_number_2 pc = .ok (.ireturn, 1) → W p l e R s m args below meth c H locs 0 0 Q (F0 m pc ls [.int v]) := by intro v σ2 e9; cases e9; exact hR
  intro H locs ls h hl
  have hl : lv_has ls 4 [(0, .ref o), (1, .int v1), (2, .int v2)] := hl
  unfold M_number_2 at hf
  refine lv_aload_n C.x C.b dX7_number_2_0 rfl (lv_at hl 0 rfl) ?_
  refine m_g12 C h dX7_number_2_1 ?_
  refine lv_if_eq (tgt := 9) C.x C.b dX7_number_2_4 (by decide) (fun c9 => ?_) (fun c9 => ?_)
  · have hf := if_t (K := fun x => x) c9 hf
    refine lv_aload_n C.x C.b dX7_number_2_9 rfl (lv_at hl 0 rfl) ?_
    refine m_g8 C h dX7_number_2_10 ?_
    refine lv_iconst (v := 2) C.x C.b dX7_number_2_13 (by decide) ?_
    refine lv_icmp_eq (tgt := 24) C.x C.b dX7_number_2_14 (by decide) (fun c9 => ?_) (fun c9 => ?_)
    · have hf := if_t (K := fun x => x) c9 hf
      refine lv_aload_n C.x C.b dX7_number_2_24 rfl (lv_at hl 0 rfl) ?_
      refine m_g10 C h dX7_number_2_25 ?_
      refine lv_i2l C.x C.b dX7_number_2_28 rfl ?_
      refine lv_iload_n C.x C.b dX7_number_2_29 rfl (lv_at hl 1 rfl) ?_
      refine lv_i2l C.x C.b dX7_number_2_30 rfl ?_
      refine lv_iload_n C.x C.b dX7_number_2_31 rfl (lv_at hl 2 rfl) ?_
      refine lv_i2l C.x C.b dX7_number_2_32 rfl ?_
      obtain ⟨q_1, hc, hf⟩ := bd_k (K := fun x => x) rfl hf
      refine cM_in C h hc (Nat.le_of_ble_eq_true rfl) hl.1 (Nat.le_of_ble_eq_true rfl) dX7_number_2_33 (fun H locs h => ?_)
      refine lv_if_ne (tgt := 46) C.x C.b dX7_number_2_36 (by decide) (fun c9 => ?_) (fun c9 => ?_)
      · have hf := if_f (K := fun x => x) c9 hf
        refine lv_aload_n C.x C.b dX7_number_2_46 rfl (lv_at hl 0 rfl) ?_
        refine m_g10 C h dX7_number_2_47 ?_
        obtain ⟨v3_2, e9, hf⟩ := nm_k (K := fun x => x) hf
        refine lv_topI e9 ?_
        refine lv_istore_n (lv' := [(3, .int v3_2), (0, .ref o), (1, .int v1), (2, .int v2)]) C.x C.b dX7_number_2_50 rfl hl (by decide) rfl (fun ls hl => ?_)
        refine lv_aload_n C.x C.b dX7_number_2_51 rfl (lv_at hl 1 rfl) ?_
        obtain ⟨q_3, hc, hf⟩ := bd_k (K := fun x => x) rfl hf
        refine cM_next C h hc (Nat.le_of_ble_eq_true rfl) hl.1 (Nat.le_of_ble_eq_true rfl) dX7_number_2_52 (fun H locs h => ?_)
        refine lv_iload_n C.x C.b dX7_number_2_55 rfl (lv_at hl 0 rfl) ?_
        exact hR _ _ (some_k hf) _ _ _ _ h rfl dX7_number_2_56
      · have hf := if_t (K := fun x => x) c9 hf
        refine lv_aload_n C.x C.b dX7_number_2_39 rfl (lv_at hl 0 rfl) ?_
        refine lv_iconst (v := 2) C.x C.b dX7_number_2_40 (by decide) ?_
        obtain ⟨q_4, hc, hf⟩ := bd_k (K := fun x => x) rfl hf
        refine cM_fails C h hc (Nat.le_of_ble_eq_true rfl) hl.1 (Nat.le_of_ble_eq_true rfl) dX7_number_2_41 (fun H locs h => ?_)
        refine lv_iload_n C.x C.b dX7_number_2_44 rfl (lv_at hl 1 rfl) ?_
        exact hR _ _ (some_k hf) _ _ _ _ h rfl dX7_number_2_45
    · have hf := if_f (K := fun x => x) c9 hf
      refine lv_aload_n C.x C.b dX7_number_2_17 rfl (lv_at hl 0 rfl) ?_
      refine lv_iconst (v := 1) C.x C.b dX7_number_2_18 (by decide) ?_
      obtain ⟨q_5, hc, hf⟩ := bd_k (K := fun x => x) rfl hf
      refine cM_fails C h hc (Nat.le_of_ble_eq_true rfl) hl.1 (Nat.le_of_ble_eq_true rfl) dX7_number_2_19 (fun H locs h => ?_)
      refine lv_iload_n C.x C.b dX7_number_2_22 rfl (lv_at hl 1 rfl) ?_
      exact hR _ _ (some_k hf) _ _ _ _ h rfl dX7_number_2_23
  · have hf := if_f (K := fun x => x) c9 hf
    refine lv_iload_n C.x C.b dX7_number_2_7 rfl (lv_at hl 1 rfl) ?_
    exact hR _ _ (some_k hf) _ _ _ _ h rfl dX7_number_2_8
theorem tM_number_2 : GoodIn lw_all (wsV RX7 152 RX7 yX7_number_2 (ws_ yX7_number_2 cX7_number_2 4 (some .int))) := lw_V q1750 q1752 qs82 q147 q1753
theorem cM_number_2 {p : Program} {l : Launch} {e : Env} {R : Room} {s : State} {m : MethodId} {args : Array Value} {below : List Frame} {meth : Method} {c : Code} {H : Heap} {locs : List Loc} {Q : State → Prop} {cc : ByteArray} {pc : Nat} {ls : Array Slot} {st : List Value} {nL d : Nat} {D : va_G} {ty : Nat → ClassId} {A : Nat → Prop} {o : Nat} {ad : Nat → Nat} {rs : va_W} {σ : PS} {v1 : Int32} {v2 : Int32} {q : (Int32 × PS)} (C : Cx p R s m args c cc nL RX7 D ty A d) (h : Hw D A s H locs (wM ty o ad σ ++ rs)) (hc : M_number_2 σ v1 v2 = some q) (hd : 2 + 1 ≤ d) (hls : ls.size = nL) (hcat : (st.map fun v => v.category).sum ≤ 8) (dec : decode cc pc = .ok (.invokevirtual 152, 3)) (kk : ∀ (H : Heap) (locs : List Loc), Hw D A s H locs (wM ty o ad q.2 ++ rs) → W p l e R s m args below meth c H locs 0 0 Q (F0 m (pc + 3) ls (.int (q.1) :: st))) : W p l e R s m args below meth c H locs 0 0 Q (F0 m pc ls (.int v2 :: .int v1 :: .ref o :: st)) := KI.callV (As := [.int v1, .int v2]) C (kM_number_2 l hc) tM_number_2 ⟨rfl, by decide, by decide, by show _ = some 2; decide +kernel⟩ 0 7 rfl rfl rfl hd (by decide) (Nat.zero_le _) (Nat.zero_le _) h hls rfl hcat dec kk
def M_isRoom_j49 (σ : PS) (x0 : Int32) : Option (Int32 × PS) := tz x0 (some (x0, σ))
def M_isRoom_j48 (σ : PS) : Option (Int32 × PS) := M_isRoom_j49 σ 0
def M_isRoom_j33 (σ : PS) (v1 : Int32) : Option (Int32 × PS) := if v1 = 0 then M_isRoom_j48 σ else if (gI σ 12) = 0 then M_isRoom_j49 σ 1 else M_isRoom_j48 σ
def M_isRoom_j18 (σ : PS) (v1 : Int32) : Option (Int32 × PS) := if v1 = 0 then M_isRoom_j33 σ v1 else if (gI σ 12) = 0 then bd (M_next σ) (fun q_1 => M_isRoom_j33 q_1 v1) else M_isRoom_j33 σ v1
def M_isRoom (σ : PS) (v1 : Int32) (v2 : Int32) (v3 : Int32) : Option (Int32 × PS) := if v1 = 0 then M_isRoom_j18 σ v1 else bd (M_hasRead σ v2) (fun q_2 => if q_2 = v3 then bd (M_fails σ 3) (fun q_3 => M_isRoom_j18 q_3 v1) else M_isRoom_j18 σ v1)
set_option maxHeartbeats 4000000 in
theorem kM_isRoom (l : Launch) {D : va_G} {ty : Nat → ClassId} {A : Nat → Prop} {o : Nat} {ad : Nat → Nat} {rs : va_W} {σ : PS} {σ' : PS} {v1 : Int32} {v2 : Int32} {v3 : Int32} {r : Int32} (hf : M_isRoom σ v1 v2 v3 = some (r, σ')) : KI l yX7_isRoom cX7_isRoom 4 .boolean 2 D ty A (wM ty o ad σ ++ rs) (wM ty o ad σ' ++ rs) [.ref o, .int v1, .int v2, .int v3] r := by
  refine KI.of (by decide) (Nat.le_of_ble_eq_true rfl) ?_
  intro p e R s m args below meth c Q C hR
  have C : Cx p R s m args c cX7_isRoom 4 RX7 D ty A 2 := C
  have hR : ∀ (v : Int32) (σ2 : PS), (v, σ2) = (r, σ') → ∀ (H : Heap) (locs : List Loc) (pc : Nat) (ls : Array Slot), Hw D A s H locs (wM ty o ad σ2 ++ rs) → narrow .boolean (.int v) = .int v → decode cX7_isRoom pc = .ok (.ireturn, 1) → W p l e R s m args below meth c H locs 0 0 Q (F0 m pc ls [.int v]) := by intro v σ2 e9; cases e9; exact hR
  have j49 : ∀ (σ : PS) (x0 : Int32) (H : Heap) (locs : List Loc) (ls : Array Slot), Hw D A s H locs (wM ty o ad σ ++ rs) → lv_has ls 4 [] → M_isRoom_j49 σ x0 = some (r, σ') → W p l e R s m args below meth c H locs 0 0 Q (F0 m 49 ls [.int x0]) := by
    intro σ x0 H locs ls h hl hf
    unfold M_isRoom_j49 at hf
    obtain ⟨hz, hf⟩ := tz_k (K := fun x => x) rfl hf
    exact hR _ _ (some_k hf) _ _ _ _ h hz dX7_isRoom_49
  have j48 : ∀ (σ : PS) (H : Heap) (locs : List Loc) (ls : Array Slot), Hw D A s H locs (wM ty o ad σ ++ rs) → lv_has ls 4 [] → M_isRoom_j48 σ = some (r, σ') → W p l e R s m args below meth c H locs 0 0 Q (F0 m 48 ls []) := by
    intro σ H locs ls h hl hf
    unfold M_isRoom_j48 at hf
    refine lv_iconst (v := 0) C.x C.b dX7_isRoom_48 (by decide) ?_
    exact j49 σ 0 _ _ _ h (lv_sub hl [] rfl) hf
  have j33 : ∀ (σ : PS) (H : Heap) (locs : List Loc) (ls : Array Slot), Hw D A s H locs (wM ty o ad σ ++ rs) → lv_has ls 4 [(0, .ref o), (1, .int v1)] → M_isRoom_j33 σ v1 = some (r, σ') → W p l e R s m args below meth c H locs 0 0 Q (F0 m 33 ls []) := by
    intro σ H locs ls h hl hf
    unfold M_isRoom_j33 at hf
    refine lv_iload_n C.x C.b dX7_isRoom_33 rfl (lv_at hl 1 rfl) ?_
    refine lv_if_eq (tgt := 48) C.x C.b dX7_isRoom_34 (by decide) (fun c9 => ?_) (fun c9 => ?_)
    · have hf := if_t (K := fun x => x) c9 hf
      exact j48 σ _ _ _ h (lv_sub hl [] rfl) hf
    · have hf := if_f (K := fun x => x) c9 hf
      refine lv_aload_n C.x C.b dX7_isRoom_37 rfl (lv_at hl 0 rfl) ?_
      refine m_g12 C h dX7_isRoom_38 ?_
      refine lv_if_ne (tgt := 48) C.x C.b dX7_isRoom_41 (by decide) (fun c9 => ?_) (fun c9 => ?_)
      · have hf := if_f (K := fun x => x) c9 hf
        exact j48 σ _ _ _ h (lv_sub hl [] rfl) hf
      · have hf := if_t (K := fun x => x) c9 hf
        refine lv_iconst (v := 1) C.x C.b dX7_isRoom_44 (by decide) ?_
        refine lv_goto (tgt := 49) C.x C.b dX7_isRoom_45 (by decide) ?_
        exact j49 σ 1 _ _ _ h (lv_sub hl [] rfl) hf
  have j18 : ∀ (σ : PS) (H : Heap) (locs : List Loc) (ls : Array Slot), Hw D A s H locs (wM ty o ad σ ++ rs) → lv_has ls 4 [(0, .ref o), (1, .int v1)] → M_isRoom_j18 σ v1 = some (r, σ') → W p l e R s m args below meth c H locs 0 0 Q (F0 m 18 ls []) := by
    intro σ H locs ls h hl hf
    unfold M_isRoom_j18 at hf
    refine lv_iload_n C.x C.b dX7_isRoom_18 rfl (lv_at hl 1 rfl) ?_
    refine lv_if_eq (tgt := 33) C.x C.b dX7_isRoom_19 (by decide) (fun c9 => ?_) (fun c9 => ?_)
    · have hf := if_t (K := fun x => x) c9 hf
      exact j33 σ _ _ _ h (lv_sub hl [0, 1] rfl) hf
    · have hf := if_f (K := fun x => x) c9 hf
      refine lv_aload_n C.x C.b dX7_isRoom_22 rfl (lv_at hl 0 rfl) ?_
      refine m_g12 C h dX7_isRoom_23 ?_
      refine lv_if_ne (tgt := 33) C.x C.b dX7_isRoom_26 (by decide) (fun c9 => ?_) (fun c9 => ?_)
      · have hf := if_f (K := fun x => x) c9 hf
        exact j33 σ _ _ _ h (lv_sub hl [0, 1] rfl) hf
      · have hf := if_t (K := fun x => x) c9 hf
        refine lv_aload_n C.x C.b dX7_isRoom_29 rfl (lv_at hl 0 rfl) ?_
        obtain ⟨q_1, hc, hf⟩ := bd_k (K := fun x => x) rfl hf
        refine cM_next C h hc (Nat.le_of_ble_eq_true rfl) hl.1 (Nat.le_of_ble_eq_true rfl) dX7_isRoom_30 (fun H locs h => ?_)
        exact j33 q_1 _ _ _ h (lv_sub hl [0, 1] rfl) hf
  intro H locs ls h hl
  have hl : lv_has ls 4 [(0, .ref o), (1, .int v1), (2, .int v2), (3, .int v3)] := hl
  unfold M_isRoom at hf
  refine lv_iload_n C.x C.b dX7_isRoom_0 rfl (lv_at hl 1 rfl) ?_
  refine lv_if_eq (tgt := 18) C.x C.b dX7_isRoom_1 (by decide) (fun c9 => ?_) (fun c9 => ?_)
  · have hf := if_t (K := fun x => x) c9 hf
    exact j18 σ _ _ _ h (lv_sub hl [0, 1] rfl) hf
  · have hf := if_f (K := fun x => x) c9 hf
    refine lv_aload_n C.x C.b dX7_isRoom_4 rfl (lv_at hl 0 rfl) ?_
    refine lv_iload_n C.x C.b dX7_isRoom_5 rfl (lv_at hl 2 rfl) ?_
    obtain ⟨q_2, hc, hf⟩ := bd_k (K := fun x => x) rfl hf
    refine cM_hasRead C h hc (Nat.le_of_ble_eq_true rfl) hl.1 (Nat.le_of_ble_eq_true rfl) dX7_isRoom_6 (fun H locs h => ?_)
    refine lv_iload_n C.x C.b dX7_isRoom_9 rfl (lv_at hl 3 rfl) ?_
    refine lv_icmp_ne (tgt := 18) C.x C.b dX7_isRoom_10 (by decide) (fun c9 => ?_) (fun c9 => ?_)
    · have hf := if_f (K := fun x => x) c9 hf
      exact j18 σ _ _ _ h (lv_sub hl [0, 1] rfl) hf
    · have hf := if_t (K := fun x => x) c9 hf
      refine lv_aload_n C.x C.b dX7_isRoom_13 rfl (lv_at hl 0 rfl) ?_
      refine lv_iconst (v := 3) C.x C.b dX7_isRoom_14 (by decide) ?_
      obtain ⟨q_3, hc, hf⟩ := bd_k (K := fun x => x) rfl hf
      refine cM_fails C h hc (Nat.le_of_ble_eq_true rfl) hl.1 (Nat.le_of_ble_eq_true rfl) dX7_isRoom_15 (fun H locs h => ?_)
      exact j18 q_3 _ _ _ h (lv_sub hl [0, 1] rfl) hf
theorem tM_isRoom : GoodIn lw_all (wsV RX7 180 RX7 yX7_isRoom (ws_ yX7_isRoom cX7_isRoom 4 (some .boolean))) := lw_V q1763 q1765 qs84 q147 q1766
theorem cM_isRoom {p : Program} {l : Launch} {e : Env} {R : Room} {s : State} {m : MethodId} {args : Array Value} {below : List Frame} {meth : Method} {c : Code} {H : Heap} {locs : List Loc} {Q : State → Prop} {cc : ByteArray} {pc : Nat} {ls : Array Slot} {st : List Value} {nL d : Nat} {D : va_G} {ty : Nat → ClassId} {A : Nat → Prop} {o : Nat} {ad : Nat → Nat} {rs : va_W} {σ : PS} {v1 : Int32} {v2 : Int32} {v3 : Int32} {q : (Int32 × PS)} (C : Cx p R s m args c cc nL RX7 D ty A d) (h : Hw D A s H locs (wM ty o ad σ ++ rs)) (hc : M_isRoom σ v1 v2 v3 = some q) (hd : 2 + 1 ≤ d) (hls : ls.size = nL) (hcat : (st.map fun v => v.category).sum ≤ 8) (dec : decode cc pc = .ok (.invokevirtual 180, 3)) (kk : ∀ (H : Heap) (locs : List Loc), Hw D A s H locs (wM ty o ad q.2 ++ rs) → W p l e R s m args below meth c H locs 0 0 Q (F0 m (pc + 3) ls (.int (q.1) :: st))) : W p l e R s m args below meth c H locs 0 0 Q (F0 m pc ls (.int v3 :: .int v2 :: .int v1 :: .ref o :: st)) := KI.callV (As := [.int v1, .int v2, .int v3]) C (kM_isRoom l hc) tM_isRoom ⟨rfl, by decide, by decide, by show _ = some 3; decide +kernel⟩ 0 7 rfl rfl rfl hd (by decide) (Nat.zero_le _) (Nat.zero_le _) h hls rfl hcat dec kk
def M_ends_j24 (σ : PS) : Option PS := some σ
def M_ends_j13 (σ : PS) : Option PS := if (gI σ 12) = 0 then bd (M_next σ) (fun q_1 => M_ends_j24 q_1) else M_ends_j24 σ
def M_ends (σ : PS) : Option PS := if (gI σ 8) = 3 then M_ends_j13 σ else bd (M_fails σ 1) (fun q_2 => M_ends_j13 q_2)
set_option maxHeartbeats 4000000 in
theorem kM_ends (l : Launch) {D : va_G} {ty : Nat → ClassId} {A : Nat → Prop} {o : Nat} {ad : Nat → Nat} {rs : va_W} {σ : PS} {σ' : PS} (hf : M_ends σ = some σ') : KV l yX7_ends cX7_ends 1 2 D ty A (wM ty o ad σ ++ rs) (wM ty o ad σ' ++ rs) [.ref o] := by
  refine KV.of (by decide) (Nat.le_of_ble_eq_true rfl) ?_
  intro p e R s m args below meth c Q C hR
  have C : Cx p R s m args c cX7_ends 1 RX7 D ty A 2 := C
  have hR : ∀ (σ2 : PS), σ2 = σ' → ∀ (H : Heap) (locs : List Loc) (pc : Nat) (ls : Array Slot), Hw D A s H locs (wM ty o ad σ2 ++ rs) → decode cX7_ends pc = .ok (.return_, 1) → W p l e R s m args below meth c H locs 0 0 Q (F0 m pc ls []) := by intro σ2 e9; cases e9; exact hR
  have j24 : ∀ (σ : PS) (H : Heap) (locs : List Loc) (ls : Array Slot), Hw D A s H locs (wM ty o ad σ ++ rs) → lv_has ls 1 [] → M_ends_j24 σ = some σ' → W p l e R s m args below meth c H locs 0 0 Q (F0 m 24 ls []) := by
    intro σ H locs ls h hl hf
    unfold M_ends_j24 at hf
    exact hR _ (some_k hf) _ _ _ _ h dX7_ends_24
  have j13 : ∀ (σ : PS) (H : Heap) (locs : List Loc) (ls : Array Slot), Hw D A s H locs (wM ty o ad σ ++ rs) → lv_has ls 1 [(0, .ref o)] → M_ends_j13 σ = some σ' → W p l e R s m args below meth c H locs 0 0 Q (F0 m 13 ls []) := by
    intro σ H locs ls h hl hf
    unfold M_ends_j13 at hf
    refine lv_aload_n C.x C.b dX7_ends_13 rfl (lv_at hl 0 rfl) ?_
    refine m_g12 C h dX7_ends_14 ?_
    refine lv_if_ne (tgt := 24) C.x C.b dX7_ends_17 (by decide) (fun c9 => ?_) (fun c9 => ?_)
    · have hf := if_f (K := fun x => x) c9 hf
      exact j24 σ _ _ _ h (lv_sub hl [] rfl) hf
    · have hf := if_t (K := fun x => x) c9 hf
      refine lv_aload_n C.x C.b dX7_ends_20 rfl (lv_at hl 0 rfl) ?_
      obtain ⟨q_1, hc, hf⟩ := bd_k (K := fun x => x) rfl hf
      refine cM_next C h hc (Nat.le_of_ble_eq_true rfl) hl.1 (Nat.le_of_ble_eq_true rfl) dX7_ends_21 (fun H locs h => ?_)
      exact j24 q_1 _ _ _ h (lv_sub hl [] rfl) hf
  intro H locs ls h hl
  have hl : lv_has ls 1 [(0, .ref o)] := hl
  unfold M_ends at hf
  refine lv_aload_n C.x C.b dX7_ends_0 rfl (lv_at hl 0 rfl) ?_
  refine m_g8 C h dX7_ends_1 ?_
  refine lv_iconst (v := 3) C.x C.b dX7_ends_4 (by decide) ?_
  refine lv_icmp_eq (tgt := 13) C.x C.b dX7_ends_5 (by decide) (fun c9 => ?_) (fun c9 => ?_)
  · have hf := if_t (K := fun x => x) c9 hf
    exact j13 σ _ _ _ h (lv_sub hl [0] rfl) hf
  · have hf := if_f (K := fun x => x) c9 hf
    refine lv_aload_n C.x C.b dX7_ends_8 rfl (lv_at hl 0 rfl) ?_
    refine lv_iconst (v := 1) C.x C.b dX7_ends_9 (by decide) ?_
    obtain ⟨q_2, hc, hf⟩ := bd_k (K := fun x => x) rfl hf
    refine cM_fails C h hc (Nat.le_of_ble_eq_true rfl) hl.1 (Nat.le_of_ble_eq_true rfl) dX7_ends_10 (fun H locs h => ?_)
    exact j13 q_2 _ _ _ h (lv_sub hl [0] rfl) hf
theorem tM_ends : GoodIn lw_all (wsV RX7 214 RX7 yX7_ends (ws_ yX7_ends cX7_ends 1 none)) := lw_V q1780 q1782 qs87 q147 q1783
theorem cM_ends {p : Program} {l : Launch} {e : Env} {R : Room} {s : State} {m : MethodId} {args : Array Value} {below : List Frame} {meth : Method} {c : Code} {H : Heap} {locs : List Loc} {Q : State → Prop} {cc : ByteArray} {pc : Nat} {ls : Array Slot} {st : List Value} {nL d : Nat} {D : va_G} {ty : Nat → ClassId} {A : Nat → Prop} {o : Nat} {ad : Nat → Nat} {rs : va_W} {σ : PS} {q : PS} (C : Cx p R s m args c cc nL RX7 D ty A d) (h : Hw D A s H locs (wM ty o ad σ ++ rs)) (hc : M_ends σ = some q) (hd : 2 + 1 ≤ d) (hls : ls.size = nL) (hcat : (st.map fun v => v.category).sum ≤ 8) (dec : decode cc pc = .ok (.invokevirtual 214, 3)) (kk : ∀ (H : Heap) (locs : List Loc), Hw D A s H locs (wM ty o ad q ++ rs) → W p l e R s m args below meth c H locs 0 0 Q (F0 m (pc + 3) ls (st))) : W p l e R s m args below meth c H locs 0 0 Q (F0 m pc ls (.ref o :: st)) := KV.callV (As := []) C (kM_ends l hc) tM_ends ⟨rfl, by decide, by decide, by show _ = some 0; decide +kernel⟩ 0 7 rfl rfl rfl hd (by decide) (Nat.zero_le _) (Nat.zero_le _) h hls rfl hcat dec kk
def M_zone_j24 (σ : PS) (x0 : Int32) : Option (Int32 × PS) := some (x0, σ)
def M_zone (σ : PS) (v1 : Int32) : Option (Int32 × PS) := nm (sI σ 0 0) (fun σ_1 => bd (M_isZone σ_1 v1) (fun q_2 => if q_2 = 0 then M_zone_j24 σ_1 ((-2)) else ix v1 35 (M_zone_j24 σ_1 (rA σ_1 18 v1))))
set_option maxHeartbeats 4000000 in
theorem kM_zone (l : Launch) {D : va_G} {ty : Nat → ClassId} {A : Nat → Prop} {o : Nat} {ad : Nat → Nat} {rs : va_W} {σ : PS} {σ' : PS} {v1 : Int32} {r : Int32} (hf : M_zone σ v1 = some (r, σ')) : KI l yX7_zone cX7_zone 2 .int 2 D ty A (wM ty o ad σ ++ rs) (wM ty o ad σ' ++ rs) [.ref o, .int v1] r := by
  refine KI.of (by decide) (Nat.le_of_ble_eq_true rfl) ?_
  intro p e R s m args below meth c Q C hR
  have C : Cx p R s m args c cX7_zone 2 RX7 D ty A 2 := C
  have hR : ∀ (v : Int32) (σ2 : PS), (v, σ2) = (r, σ') → ∀ (H : Heap) (locs : List Loc) (pc : Nat) (ls : Array Slot), Hw D A s H locs (wM ty o ad σ2 ++ rs) → narrow .int (.int v) = .int v → decode cX7_zone pc = .ok (.ireturn, 1) → W p l e R s m args below meth c H locs 0 0 Q (F0 m pc ls [.int v]) := by intro v σ2 e9; cases e9; exact hR
  have j24 : ∀ (σ : PS) (x0 : Int32) (H : Heap) (locs : List Loc) (ls : Array Slot), Hw D A s H locs (wM ty o ad σ ++ rs) → lv_has ls 2 [] → M_zone_j24 σ x0 = some (r, σ') → W p l e R s m args below meth c H locs 0 0 Q (F0 m 24 ls [.int x0]) := by
    intro σ x0 H locs ls h hl hf
    unfold M_zone_j24 at hf
    exact hR _ _ (some_k hf) _ _ _ _ h rfl dX7_zone_24
  intro H locs ls h hl
  have hl : lv_has ls 2 [(0, .ref o), (1, .int v1)] := hl
  unfold M_zone at hf
  refine lv_aload_n C.x C.b dX7_zone_0 rfl (lv_at hl 0 rfl) ?_
  refine lv_iconst (v := 0) C.x C.b dX7_zone_1 (by decide) ?_
  obtain ⟨σ_1, e9, hf⟩ := nm_k (K := fun x => x) hf
  refine m_p0 C h e9 dX7_zone_2 (fun H locs h => ?_)
  refine lv_aload_n C.x C.b dX7_zone_5 rfl (lv_at hl 0 rfl) ?_
  refine lv_iload_n C.x C.b dX7_zone_6 rfl (lv_at hl 1 rfl) ?_
  obtain ⟨q_2, hc, hf⟩ := bd_k (K := fun x => x) rfl hf
  refine cM_isZone C h hc (Nat.le_of_ble_eq_true rfl) hl.1 (Nat.le_of_ble_eq_true rfl) dX7_zone_7 (fun H locs h => ?_)
  refine lv_if_eq (tgt := 22) C.x C.b dX7_zone_10 (by decide) (fun c9 => ?_) (fun c9 => ?_)
  · have hf := if_t (K := fun x => x) c9 hf
    refine lv_bipush (v := (-2)) C.x C.b dX7_zone_22 (by decide) ?_
    exact j24 σ_1 ((-2)) _ _ _ h (lv_sub hl [] rfl) hf
  · have hf := if_f (K := fun x => x) c9 hf
    refine lv_aload_n C.x C.b dX7_zone_13 rfl (lv_at hl 0 rfl) ?_
    refine m_g18 C h dX7_zone_14 ?_
    refine lv_iload_n C.x C.b dX7_zone_17 rfl (lv_at hl 1 rfl) ?_
    obtain ⟨hi, hf⟩ := ix_k (K := fun x => x) rfl hf
    refine m_a18 C h hi dX7_zone_18 ?_
    refine lv_goto (tgt := 24) C.x C.b dX7_zone_19 (by decide) ?_
    exact j24 σ_1 (rA σ_1 18 v1) _ _ _ h (lv_sub hl [] rfl) hf
def M_isPiece (σ : PS) (v1 : Int64) : Option Int32 := bd (M_pieces σ) (fun q_1 => bd (M_in v1 0 (q_1.toInt64 - 1)) (fun q_2 => tz q_2 (some q_2)))
set_option maxHeartbeats 4000000 in
theorem kM_isPiece (l : Launch) {D : va_G} {ty : Nat → ClassId} {A : Nat → Prop} {o : Nat} {ad : Nat → Nat} {rs : va_W} {σ : PS} {v1 : Int64} {r : Int32} (hf : M_isPiece σ v1 = some r) : KI l yX7_isPiece cX7_isPiece 3 .boolean 1 D ty A (wM ty o ad σ ++ rs) (wM ty o ad σ ++ rs) [.ref o, .long v1] r := by
  refine KI.of (by decide) (Nat.le_of_ble_eq_true rfl) ?_
  intro p e R s m args below meth c Q C hR
  have C : Cx p R s m args c cX7_isPiece 3 RX7 D ty A 1 := C
  have hR : ∀ (v : Int32), v = r → ∀ (H : Heap) (locs : List Loc) (pc : Nat) (ls : Array Slot), Hw D A s H locs (wM ty o ad σ ++ rs) → narrow .boolean (.int v) = .int v → decode cX7_isPiece pc = .ok (.ireturn, 1) → W p l e R s m args below meth c H locs 0 0 Q (F0 m pc ls [.int v]) := by intro v e9; cases e9; exact hR
  intro H locs ls h hl
  have hl : lv_has ls 3 [(0, .ref o), (1, .long v1)] := hl
  unfold M_isPiece at hf
  refine lv_lload_n C.x C.b dX7_isPiece_0 rfl (lv_at hl 1 rfl) ?_
  refine lv_lconst (v := 0) C.x C.b dX7_isPiece_1 (by decide) ?_
  refine lv_aload_n C.x C.b dX7_isPiece_2 rfl (lv_at hl 0 rfl) ?_
  obtain ⟨q_1, hc, hf⟩ := bd_k (K := fun x => x) rfl hf
  refine cM_pieces C h hc (Nat.le_of_ble_eq_true rfl) hl.1 (Nat.le_of_ble_eq_true rfl) dX7_isPiece_3 (fun H locs h => ?_)
  refine lv_i2l C.x C.b dX7_isPiece_6 rfl ?_
  refine lv_lconst (v := 1) C.x C.b dX7_isPiece_7 (by decide) ?_
  refine lv_lsub C.x C.b dX7_isPiece_8 ?_
  obtain ⟨q_2, hc, hf⟩ := bd_k (K := fun x => x) rfl hf
  refine cM_in C h hc (Nat.le_of_ble_eq_true rfl) hl.1 (Nat.le_of_ble_eq_true rfl) dX7_isPiece_9 (fun H locs h => ?_)
  obtain ⟨hz, hf⟩ := tz_k (K := fun x => x) rfl hf
  exact hR _ (some_k hf) _ _ _ _ h hz dX7_isPiece_12
theorem tM_isPiece : GoodIn lw_all (wsV RX7 237 RX7 yX7_isPiece (ws_ yX7_isPiece cX7_isPiece 3 (some .boolean))) := lw_V q1807 q1809 qs91 q147 q1810
theorem cM_isPiece {p : Program} {l : Launch} {e : Env} {R : Room} {s : State} {m : MethodId} {args : Array Value} {below : List Frame} {meth : Method} {c : Code} {H : Heap} {locs : List Loc} {Q : State → Prop} {cc : ByteArray} {pc : Nat} {ls : Array Slot} {st : List Value} {nL d : Nat} {D : va_G} {ty : Nat → ClassId} {A : Nat → Prop} {o : Nat} {ad : Nat → Nat} {rs : va_W} {σ : PS} {v1 : Int64} {q : Int32} (C : Cx p R s m args c cc nL RX7 D ty A d) (h : Hw D A s H locs (wM ty o ad σ ++ rs)) (hc : M_isPiece σ v1 = some q) (hd : 1 + 1 ≤ d) (hls : ls.size = nL) (hcat : (st.map fun v => v.category).sum ≤ 8) (dec : decode cc pc = .ok (.invokevirtual 237, 3)) (kk : ∀ (H : Heap) (locs : List Loc), Hw D A s H locs (wM ty o ad σ ++ rs) → W p l e R s m args below meth c H locs 0 0 Q (F0 m (pc + 3) ls (.int q :: st))) : W p l e R s m args below meth c H locs 0 0 Q (F0 m pc ls (.long v1 :: .ref o :: st)) := KI.callV (As := [.long v1]) C (kM_isPiece l hc) tM_isPiece ⟨rfl, by decide, by decide, by show _ = some 1; decide +kernel⟩ 0 7 rfl rfl rfl hd (by decide) (Nat.zero_le _) (Nat.zero_le _) h hls rfl hcat dec kk
def M_isStep_j25 (σ : PS) (x0 : Int32) : Option Int32 := tz x0 (some x0)
def M_isStep_j24 (σ : PS) : Option Int32 := M_isStep_j25 σ 0
def M_isStep (σ : PS) (v1 : Int64) : Option Int32 := bd (M_isLehr σ) (fun q_1 => if q_1 = 0 then M_isStep_j24 σ else bd (M_steps σ) (fun q_2 => bd (M_in v1 0 q_2.toInt64) (fun q_3 => if q_3 = 0 then M_isStep_j24 σ else M_isStep_j25 σ 1)))
set_option maxHeartbeats 4000000 in
theorem kM_isStep (l : Launch) {D : va_G} {ty : Nat → ClassId} {A : Nat → Prop} {o : Nat} {ad : Nat → Nat} {rs : va_W} {σ : PS} {v1 : Int64} {r : Int32} (hf : M_isStep σ v1 = some r) : KI l yX7_isStep cX7_isStep 3 .boolean 1 D ty A (wM ty o ad σ ++ rs) (wM ty o ad σ ++ rs) [.ref o, .long v1] r := by
  refine KI.of (by decide) (Nat.le_of_ble_eq_true rfl) ?_
  intro p e R s m args below meth c Q C hR
  have C : Cx p R s m args c cX7_isStep 3 RX7 D ty A 1 := C
  have hR : ∀ (v : Int32), v = r → ∀ (H : Heap) (locs : List Loc) (pc : Nat) (ls : Array Slot), Hw D A s H locs (wM ty o ad σ ++ rs) → narrow .boolean (.int v) = .int v → decode cX7_isStep pc = .ok (.ireturn, 1) → W p l e R s m args below meth c H locs 0 0 Q (F0 m pc ls [.int v]) := by intro v e9; cases e9; exact hR
  have j25 : ∀ (x0 : Int32) (H : Heap) (locs : List Loc) (ls : Array Slot), Hw D A s H locs (wM ty o ad σ ++ rs) → lv_has ls 3 [] → M_isStep_j25 σ x0 = some r → W p l e R s m args below meth c H locs 0 0 Q (F0 m 25 ls [.int x0]) := by
    intro x0 H locs ls h hl hf
    unfold M_isStep_j25 at hf
    obtain ⟨hz, hf⟩ := tz_k (K := fun x => x) rfl hf
    exact hR _ (some_k hf) _ _ _ _ h hz dX7_isStep_25
  have j24 : ∀ (H : Heap) (locs : List Loc) (ls : Array Slot), Hw D A s H locs (wM ty o ad σ ++ rs) → lv_has ls 3 [] → M_isStep_j24 σ = some r → W p l e R s m args below meth c H locs 0 0 Q (F0 m 24 ls []) := by
    intro  H locs ls h hl hf
    unfold M_isStep_j24 at hf
    refine lv_iconst (v := 0) C.x C.b dX7_isStep_24 (by decide) ?_
    exact j25 0 _ _ _ h (lv_sub hl [] rfl) hf
  intro H locs ls h hl
  have hl : lv_has ls 3 [(0, .ref o), (1, .long v1)] := hl
  unfold M_isStep at hf
  refine lv_aload_n C.x C.b dX7_isStep_0 rfl (lv_at hl 0 rfl) ?_
  obtain ⟨q_1, hc, hf⟩ := bd_k (K := fun x => x) rfl hf
  refine cM_isLehr C h hc (Nat.le_of_ble_eq_true rfl) hl.1 (Nat.le_of_ble_eq_true rfl) dX7_isStep_1 (fun H locs h => ?_)
  refine lv_if_eq (tgt := 24) C.x C.b dX7_isStep_4 (by decide) (fun c9 => ?_) (fun c9 => ?_)
  · have hf := if_t (K := fun x => x) c9 hf
    exact j24  _ _ _ h (lv_sub hl [] rfl) hf
  · have hf := if_f (K := fun x => x) c9 hf
    refine lv_lload_n C.x C.b dX7_isStep_7 rfl (lv_at hl 1 rfl) ?_
    refine lv_lconst (v := 0) C.x C.b dX7_isStep_8 (by decide) ?_
    refine lv_aload_n C.x C.b dX7_isStep_9 rfl (lv_at hl 0 rfl) ?_
    obtain ⟨q_2, hc, hf⟩ := bd_k (K := fun x => x) rfl hf
    refine cM_steps C h hc (Nat.le_of_ble_eq_true rfl) hl.1 (Nat.le_of_ble_eq_true rfl) dX7_isStep_10 (fun H locs h => ?_)
    refine lv_i2l C.x C.b dX7_isStep_13 rfl ?_
    obtain ⟨q_3, hc, hf⟩ := bd_k (K := fun x => x) rfl hf
    refine cM_in C h hc (Nat.le_of_ble_eq_true rfl) hl.1 (Nat.le_of_ble_eq_true rfl) dX7_isStep_14 (fun H locs h => ?_)
    refine lv_if_eq (tgt := 24) C.x C.b dX7_isStep_17 (by decide) (fun c9 => ?_) (fun c9 => ?_)
    · have hf := if_t (K := fun x => x) c9 hf
      exact j24  _ _ _ h (lv_sub hl [] rfl) hf
    · have hf := if_f (K := fun x => x) c9 hf
      refine lv_iconst (v := 1) C.x C.b dX7_isStep_20 (by decide) ?_
      refine lv_goto (tgt := 25) C.x C.b dX7_isStep_21 (by decide) ?_
      exact j25 1 _ _ _ h (lv_sub hl [] rfl) hf
theorem tM_isStep : GoodIn lw_all (wsV RX7 240 RX7 yX7_isStep (ws_ yX7_isStep cX7_isStep 3 (some .boolean))) := lw_V q1819 q1821 qs93 q147 q1822
theorem cM_isStep {p : Program} {l : Launch} {e : Env} {R : Room} {s : State} {m : MethodId} {args : Array Value} {below : List Frame} {meth : Method} {c : Code} {H : Heap} {locs : List Loc} {Q : State → Prop} {cc : ByteArray} {pc : Nat} {ls : Array Slot} {st : List Value} {nL d : Nat} {D : va_G} {ty : Nat → ClassId} {A : Nat → Prop} {o : Nat} {ad : Nat → Nat} {rs : va_W} {σ : PS} {v1 : Int64} {q : Int32} (C : Cx p R s m args c cc nL RX7 D ty A d) (h : Hw D A s H locs (wM ty o ad σ ++ rs)) (hc : M_isStep σ v1 = some q) (hd : 1 + 1 ≤ d) (hls : ls.size = nL) (hcat : (st.map fun v => v.category).sum ≤ 8) (dec : decode cc pc = .ok (.invokevirtual 240, 3)) (kk : ∀ (H : Heap) (locs : List Loc), Hw D A s H locs (wM ty o ad σ ++ rs) → W p l e R s m args below meth c H locs 0 0 Q (F0 m (pc + 3) ls (.int q :: st))) : W p l e R s m args below meth c H locs 0 0 Q (F0 m pc ls (.long v1 :: .ref o :: st)) := KI.callV (As := [.long v1]) C (kM_isStep l hc) tM_isStep ⟨rfl, by decide, by decide, by show _ = some 1; decide +kernel⟩ 0 7 rfl rfl rfl hd (by decide) (Nat.zero_le _) (Nat.zero_le _) h hls rfl hcat dec kk
def M_airOf_j175 (σ : PS) (x0 : Int32) : Option Int32 := some x0
def M_airOf_j158 (σ : PS) (v3 : Int32) (v4 : Int32) : Option Int32 := if v4 = 0 then M_airOf_j175 σ v3 else bd (M_moreOf 0 (v3 - 80)) (fun q_1 => M_airOf_j175 σ q_1)
def M_airOf_j149 (σ : PS) (v1 : Int32) (v2 : Int32) (v3 : Int32) (v5 : Int32) (x0 : Int32) (x1 : Int32) : Option ((Int32 × Int32 × Int32) ⊕ Int32) := nm (x1 ||| x0) (fun v4_2 => nm (v5 + 1) (fun v5_3 => some (.inl (v3, v4_2, v5_3))))
def M_airOf_j148 (σ : PS) (v1 : Int32) (v2 : Int32) (v3 : Int32) (v5 : Int32) (x0 : Int32) : Option ((Int32 × Int32 × Int32) ⊕ Int32) := M_airOf_j149 σ v1 v2 v3 v5 0 x0
def M_airOf_j114 (σ : PS) (v1 : Int32) (v2 : Int32) (v3 : Int32) (v4 : Int32) (v5 : Int32) : Option ((Int32 × Int32 × Int32) ⊕ Int32) := ix (4 * v5) 600 (if (rA σ 20 (4 * v5)) = 1 then ix ((4 * v5) + 3) 600 (if (rA σ 20 ((4 * v5) + 3)) = v2 then M_airOf_j149 σ v1 v2 v3 v5 1 v4 else M_airOf_j148 σ v1 v2 v3 v5 v4) else M_airOf_j148 σ v1 v2 v3 v5 v4)
def M_airOf_j66 (σ : PS) (v1 : Int32) (v2 : Int32) (v3 : Int32) (v4 : Int32) (v5 : Int32) (x0 : Int32) : Option ((Int32 × Int32 × Int32) ⊕ Int32) := ix (4 * v5) 600 (if (rA σ 20 (4 * v5)) = 0 then if x0 = 0 then M_airOf_j114 σ v1 v2 v3 v4 v5 else ix ((4 * v5) + 3) 600 (if v2 < (rA σ 20 ((4 * v5) + 3)) then M_airOf_j114 σ v1 v2 v3 v4 v5 else ix ((4 * v5) + 2) 600 (nm (v3 + (rA σ 20 ((4 * v5) + 2))) (fun v3_4 => M_airOf_j114 σ v1 v2 v3_4 v4 v5))) else M_airOf_j114 σ v1 v2 v3 v4 v5)
def M_airOf_j58 (σ : PS) (v1 : Int32) (v2 : Int32) (v3 : Int32) (v4 : Int32) (v5 : Int32) (x0 : Int32) (x1 : Int32) : Option ((Int32 × Int32 × Int32) ⊕ Int32) := if x1 = x0 then M_airOf_j66 σ v1 v2 v3 v4 v5 1 else M_airOf_j66 σ v1 v2 v3 v4 v5 0
def M_airOf_l20 (σ : PS) (v1 : Int32) (v2 : Int32) (v3 : Int32) (v4 : Int32) (v5 : Int32) : Option ((Int32 × Int32 × Int32) ⊕ Int32) := ix 7 40 (if (rA σ 17 7) ≤ v5 then up (M_airOf_j158 σ v3 v4) else ix ((4 * v5) + 1) 600 (if (gI σ 26) ≤ v1 then M_airOf_j58 σ v1 v2 v3 v4 v5 (v1 + 1) (rA σ 20 ((4 * v5) + 1)) else M_airOf_j58 σ v1 v2 v3 v4 v5 v1 (rA σ 20 ((4 * v5) + 1))))
def M_airOf_B20 (σ : PS) (v1 : Int32) (v2 : Int32) : (Int32 × Int32 × Int32) → Option ((Int32 × Int32 × Int32) ⊕ Int32) := fun t => M_airOf_l20 σ v1 v2 t.1 t.2.1 t.2.2
def M_airOf (σ : PS) (v1 : Int32) (v2 : Int32) : Option Int32 := ix v1 7 (nm (rA σ 27 v1) (fun v3_5 => bd (M_isBit (gI σ 24) v2) (fun q_6 => loop (M_airOf_B20 σ v1 v2) fu (v3_5, q_6, 0))))
set_option maxHeartbeats 4000000 in
theorem kM_airOf (l : Launch) {D : va_G} {ty : Nat → ClassId} {A : Nat → Prop} {o : Nat} {ad : Nat → Nat} {rs : va_W} {σ : PS} {v1 : Int32} {v2 : Int32} {r : Int32} (hf : M_airOf σ v1 v2 = some r) : KI l yX7_airOf cX7_airOf 7 .int 1 D ty A (wM ty o ad σ ++ rs) (wM ty o ad σ ++ rs) [.ref o, .int v1, .int v2] r := by
  refine KI.of (by decide) (Nat.le_of_ble_eq_true rfl) ?_
  intro p e R s m args below meth c Q C hR
  have C : Cx p R s m args c cX7_airOf 7 RX7 D ty A 1 := C
  have hR : ∀ (v : Int32), v = r → ∀ (H : Heap) (locs : List Loc) (pc : Nat) (ls : Array Slot), Hw D A s H locs (wM ty o ad σ ++ rs) → narrow .int (.int v) = .int v → decode cX7_airOf pc = .ok (.ireturn, 1) → W p l e R s m args below meth c H locs 0 0 Q (F0 m pc ls [.int v]) := by intro v e9; cases e9; exact hR
  have j175 : ∀ (x0 : Int32) (H : Heap) (locs : List Loc) (ls : Array Slot), Hw D A s H locs (wM ty o ad σ ++ rs) → lv_has ls 7 [] → M_airOf_j175 σ x0 = some r → W p l e R s m args below meth c H locs 0 0 Q (F0 m 175 ls [.int x0]) := by
    intro x0 H locs ls h hl hf
    unfold M_airOf_j175 at hf
    exact hR _ (some_k hf) _ _ _ _ h rfl dX7_airOf_175
  have j158 : ∀ (v3 : Int32) (v4 : Int32) (H : Heap) (locs : List Loc) (ls : Array Slot), Hw D A s H locs (wM ty o ad σ ++ rs) → lv_has ls 7 [(3, .int v3), (4, .int v4)] → M_airOf_j158 σ v3 v4 = some r → W p l e R s m args below meth c H locs 0 0 Q (F0 m 158 ls []) := by
    intro v3 v4 H locs ls h hl hf
    unfold M_airOf_j158 at hf
    refine lv_iload C.x C.b dX7_airOf_158 (lv_at hl 1 rfl) ?_
    refine lv_if_eq (tgt := 174) C.x C.b dX7_airOf_160 (by decide) (fun c9 => ?_) (fun c9 => ?_)
    · have hf := if_t (K := fun x => x) c9 hf
      refine lv_iload_n C.x C.b dX7_airOf_174 rfl (lv_at hl 0 rfl) ?_
      exact j175 v3 _ _ _ h (lv_sub hl [] rfl) hf
    · have hf := if_f (K := fun x => x) c9 hf
      refine lv_iconst (v := 0) C.x C.b dX7_airOf_163 (by decide) ?_
      refine lv_iload_n C.x C.b dX7_airOf_164 rfl (lv_at hl 0 rfl) ?_
      refine lv_bipush (v := 80) C.x C.b dX7_airOf_165 (by decide) ?_
      refine lv_isub C.x C.b dX7_airOf_167 ?_
      obtain ⟨q_1, hc, hf⟩ := bd_k (K := fun x => x) rfl hf
      refine cM_moreOf C h hc (Nat.le_of_ble_eq_true rfl) hl.1 (Nat.le_of_ble_eq_true rfl) dX7_airOf_168 (fun H locs h => ?_)
      refine lv_goto (tgt := 175) C.x C.b dX7_airOf_171 (by decide) ?_
      exact j175 q_1 _ _ _ h (lv_sub hl [] rfl) hf
  have l20 : ∀ (n20 : Nat) (v3 : Int32) (v4 : Int32) (v5 : Int32) (H : Heap) (locs : List Loc) (ls : Array Slot), Hw D A s H locs (wM ty o ad σ ++ rs) → lv_has ls 7 [(0, .ref o), (1, .int v1), (2, .int v2), (3, .int v3), (4, .int v4), (5, .int v5)] → loop (M_airOf_B20 σ v1 v2) n20 (v3, v4, v5) = some r → W p l e R s m args below meth c H locs 0 0 Q (F0 m 20 ls []) := by
    intro n20
    induction n20 with
    | zero => intro v3 v4 v5 H locs ls h hl hf; exact (none_k hf).elim
    | succ n20 ih20 =>
      have j149 : ∀ (v3 : Int32) (v5 : Int32) (x0 : Int32) (x1 : Int32) (H : Heap) (locs : List Loc) (ls : Array Slot), Hw D A s H locs (wM ty o ad σ ++ rs) → lv_has ls 7 [(0, .ref o), (1, .int v1), (2, .int v2), (3, .int v3), (5, .int v5)] → bl (M_airOf_B20 σ v1 v2) n20 (M_airOf_j149 σ v1 v2 v3 v5 x0 x1) = some r → W p l e R s m args below meth c H locs 0 0 Q (F0 m 149 ls [.int x0, .int x1]) := by
        intro v3 v5 x0 x1 H locs ls h hl hf
        unfold M_airOf_j149 at hf
        refine lv_ior C.x C.b dX7_airOf_149 ?_
        obtain ⟨v4_2, e9, hf⟩ := nm_k (K := bl (M_airOf_B20 σ v1 v2) n20) hf
        refine lv_topI e9 ?_
        refine lv_istore (lv' := [(4, .int v4_2), (0, .ref o), (1, .int v1), (2, .int v2), (3, .int v3), (5, .int v5)]) C.x C.b dX7_airOf_150 hl (by decide) rfl (fun ls hl => ?_)
        obtain ⟨v5_3, e9, hf⟩ := nm_k (K := bl (M_airOf_B20 σ v1 v2) n20) hf
        refine lv_iinc (v := v5_3) (lv' := [(5, .int v5_3), (4, .int v4_2), (0, .ref o), (1, .int v1), (2, .int v2), (3, .int v3)]) C.x C.b dX7_airOf_152 hl (k := 5) rfl (iinc_e (k := 1) (by decide) e9) (by decide) rfl (fun ls hl => ?_)
        refine lv_goto (tgt := 20) C.x C.b dX7_airOf_155 (by decide) ?_
        exact ih20 v3 v4_2 v5_3 _ _ _ h (lv_sub hl [2, 3, 4, 5, 1, 0] rfl) hf
      have j148 : ∀ (v3 : Int32) (v5 : Int32) (x0 : Int32) (H : Heap) (locs : List Loc) (ls : Array Slot), Hw D A s H locs (wM ty o ad σ ++ rs) → lv_has ls 7 [(0, .ref o), (1, .int v1), (2, .int v2), (3, .int v3), (5, .int v5)] → bl (M_airOf_B20 σ v1 v2) n20 (M_airOf_j148 σ v1 v2 v3 v5 x0) = some r → W p l e R s m args below meth c H locs 0 0 Q (F0 m 148 ls [.int x0]) := by
        intro v3 v5 x0 H locs ls h hl hf
        unfold M_airOf_j148 at hf
        refine lv_iconst (v := 0) C.x C.b dX7_airOf_148 (by decide) ?_
        exact j149 v3 v5 0 x0 _ _ _ h (lv_sub hl [0, 1, 2, 3, 4] rfl) hf
      have j114 : ∀ (v3 : Int32) (v4 : Int32) (v5 : Int32) (H : Heap) (locs : List Loc) (ls : Array Slot), Hw D A s H locs (wM ty o ad σ ++ rs) → lv_has ls 7 [(0, .ref o), (1, .int v1), (2, .int v2), (3, .int v3), (4, .int v4), (5, .int v5)] → bl (M_airOf_B20 σ v1 v2) n20 (M_airOf_j114 σ v1 v2 v3 v4 v5) = some r → W p l e R s m args below meth c H locs 0 0 Q (F0 m 114 ls []) := by
        intro v3 v4 v5 H locs ls h hl hf
        unfold M_airOf_j114 at hf
        refine lv_iload C.x C.b dX7_airOf_114 (lv_at hl 4 rfl) ?_
        refine lv_aload_n C.x C.b dX7_airOf_116 rfl (lv_at hl 0 rfl) ?_
        refine m_g20 C h dX7_airOf_117 ?_
        refine lv_iconst (v := 4) C.x C.b dX7_airOf_120 (by decide) ?_
        refine lv_iload C.x C.b dX7_airOf_121 (lv_at hl 5 rfl) ?_
        refine lv_imul C.x C.b dX7_airOf_123 ?_
        obtain ⟨hi, hf⟩ := ix_k (K := bl (M_airOf_B20 σ v1 v2) n20) rfl hf
        refine m_a20 C h hi dX7_airOf_124 ?_
        refine lv_iconst (v := 1) C.x C.b dX7_airOf_125 (by decide) ?_
        refine lv_icmp_ne (tgt := 148) C.x C.b dX7_airOf_126 (by decide) (fun c9 => ?_) (fun c9 => ?_)
        · have hf := if_f (K := bl (M_airOf_B20 σ v1 v2) n20) c9 hf
          exact j148 v3 v5 v4 _ _ _ h (lv_sub hl [0, 1, 2, 3, 5] rfl) hf
        · have hf := if_t (K := bl (M_airOf_B20 σ v1 v2) n20) c9 hf
          refine lv_aload_n C.x C.b dX7_airOf_129 rfl (lv_at hl 0 rfl) ?_
          refine m_g20 C h dX7_airOf_130 ?_
          refine lv_iconst (v := 4) C.x C.b dX7_airOf_133 (by decide) ?_
          refine lv_iload C.x C.b dX7_airOf_134 (lv_at hl 5 rfl) ?_
          refine lv_imul C.x C.b dX7_airOf_136 ?_
          refine lv_iconst (v := 3) C.x C.b dX7_airOf_137 (by decide) ?_
          refine lv_iadd C.x C.b dX7_airOf_138 ?_
          obtain ⟨hi, hf⟩ := ix_k (K := bl (M_airOf_B20 σ v1 v2) n20) rfl hf
          refine m_a20 C h hi dX7_airOf_139 ?_
          refine lv_iload_n C.x C.b dX7_airOf_140 rfl (lv_at hl 2 rfl) ?_
          refine lv_icmp_ne (tgt := 148) C.x C.b dX7_airOf_141 (by decide) (fun c9 => ?_) (fun c9 => ?_)
          · have hf := if_f (K := bl (M_airOf_B20 σ v1 v2) n20) c9 hf
            exact j148 v3 v5 v4 _ _ _ h (lv_sub hl [0, 1, 2, 3, 5] rfl) hf
          · have hf := if_t (K := bl (M_airOf_B20 σ v1 v2) n20) c9 hf
            refine lv_iconst (v := 1) C.x C.b dX7_airOf_144 (by decide) ?_
            refine lv_goto (tgt := 149) C.x C.b dX7_airOf_145 (by decide) ?_
            exact j149 v3 v5 1 v4 _ _ _ h (lv_sub hl [0, 1, 2, 3, 5] rfl) hf
      have j66 : ∀ (v3 : Int32) (v4 : Int32) (v5 : Int32) (x0 : Int32) (H : Heap) (locs : List Loc) (ls : Array Slot), Hw D A s H locs (wM ty o ad σ ++ rs) → lv_has ls 7 [(0, .ref o), (1, .int v1), (2, .int v2), (3, .int v3), (4, .int v4), (5, .int v5)] → bl (M_airOf_B20 σ v1 v2) n20 (M_airOf_j66 σ v1 v2 v3 v4 v5 x0) = some r → W p l e R s m args below meth c H locs 0 0 Q (F0 m 66 ls [.int x0]) := by
        intro v3 v4 v5 x0 H locs ls h hl hf
        unfold M_airOf_j66 at hf
        refine lv_istore (lv' := [(6, .int x0), (0, .ref o), (1, .int v1), (2, .int v2), (3, .int v3), (4, .int v4), (5, .int v5)]) C.x C.b dX7_airOf_66 hl (by decide) rfl (fun ls hl => ?_)
        refine lv_aload_n C.x C.b dX7_airOf_68 rfl (lv_at hl 1 rfl) ?_
        refine m_g20 C h dX7_airOf_69 ?_
        refine lv_iconst (v := 4) C.x C.b dX7_airOf_72 (by decide) ?_
        refine lv_iload C.x C.b dX7_airOf_73 (lv_at hl 6 rfl) ?_
        refine lv_imul C.x C.b dX7_airOf_75 ?_
        obtain ⟨hi, hf⟩ := ix_k (K := bl (M_airOf_B20 σ v1 v2) n20) rfl hf
        refine m_a20 C h hi dX7_airOf_76 ?_
        refine lv_if_ne (tgt := 114) C.x C.b dX7_airOf_77 (by decide) (fun c9 => ?_) (fun c9 => ?_)
        · have hf := if_f (K := bl (M_airOf_B20 σ v1 v2) n20) c9 hf
          exact j114 v3 v4 v5 _ _ _ h (lv_sub hl [1, 2, 3, 4, 5, 6] rfl) hf
        · have hf := if_t (K := bl (M_airOf_B20 σ v1 v2) n20) c9 hf
          refine lv_iload C.x C.b dX7_airOf_80 (lv_at hl 0 rfl) ?_
          refine lv_if_eq (tgt := 114) C.x C.b dX7_airOf_82 (by decide) (fun c9 => ?_) (fun c9 => ?_)
          · have hf := if_t (K := bl (M_airOf_B20 σ v1 v2) n20) c9 hf
            exact j114 v3 v4 v5 _ _ _ h (lv_sub hl [1, 2, 3, 4, 5, 6] rfl) hf
          · have hf := if_f (K := bl (M_airOf_B20 σ v1 v2) n20) c9 hf
            refine lv_aload_n C.x C.b dX7_airOf_85 rfl (lv_at hl 1 rfl) ?_
            refine m_g20 C h dX7_airOf_86 ?_
            refine lv_iconst (v := 4) C.x C.b dX7_airOf_89 (by decide) ?_
            refine lv_iload C.x C.b dX7_airOf_90 (lv_at hl 6 rfl) ?_
            refine lv_imul C.x C.b dX7_airOf_92 ?_
            refine lv_iconst (v := 3) C.x C.b dX7_airOf_93 (by decide) ?_
            refine lv_iadd C.x C.b dX7_airOf_94 ?_
            obtain ⟨hi, hf⟩ := ix_k (K := bl (M_airOf_B20 σ v1 v2) n20) rfl hf
            refine m_a20 C h hi dX7_airOf_95 ?_
            refine lv_iload_n C.x C.b dX7_airOf_96 rfl (lv_at hl 3 rfl) ?_
            refine lv_icmp_gt (tgt := 114) C.x C.b dX7_airOf_97 (by decide) (fun c9 => ?_) (fun c9 => ?_)
            · have hf := if_t (K := bl (M_airOf_B20 σ v1 v2) n20) c9 hf
              exact j114 v3 v4 v5 _ _ _ h (lv_sub hl [1, 2, 3, 4, 5, 6] rfl) hf
            · have hf := if_f (K := bl (M_airOf_B20 σ v1 v2) n20) c9 hf
              refine lv_iload_n C.x C.b dX7_airOf_100 rfl (lv_at hl 4 rfl) ?_
              refine lv_aload_n C.x C.b dX7_airOf_101 rfl (lv_at hl 1 rfl) ?_
              refine m_g20 C h dX7_airOf_102 ?_
              refine lv_iconst (v := 4) C.x C.b dX7_airOf_105 (by decide) ?_
              refine lv_iload C.x C.b dX7_airOf_106 (lv_at hl 6 rfl) ?_
              refine lv_imul C.x C.b dX7_airOf_108 ?_
              refine lv_iconst (v := 2) C.x C.b dX7_airOf_109 (by decide) ?_
              refine lv_iadd C.x C.b dX7_airOf_110 ?_
              obtain ⟨hi, hf⟩ := ix_k (K := bl (M_airOf_B20 σ v1 v2) n20) rfl hf
              refine m_a20 C h hi dX7_airOf_111 ?_
              refine lv_iadd C.x C.b dX7_airOf_112 ?_
              obtain ⟨v3_4, e9, hf⟩ := nm_k (K := bl (M_airOf_B20 σ v1 v2) n20) hf
              refine lv_topI e9 ?_
              refine lv_istore_n (lv' := [(3, .int v3_4), (6, .int x0), (0, .ref o), (1, .int v1), (2, .int v2), (4, .int v4), (5, .int v5)]) C.x C.b dX7_airOf_113 rfl hl (by decide) rfl (fun ls hl => ?_)
              exact j114 v3_4 v4 v5 _ _ _ h (lv_sub hl [2, 3, 4, 0, 5, 6] rfl) hf
      have j58 : ∀ (v3 : Int32) (v4 : Int32) (v5 : Int32) (x0 : Int32) (x1 : Int32) (H : Heap) (locs : List Loc) (ls : Array Slot), Hw D A s H locs (wM ty o ad σ ++ rs) → lv_has ls 7 [(0, .ref o), (1, .int v1), (2, .int v2), (3, .int v3), (4, .int v4), (5, .int v5)] → bl (M_airOf_B20 σ v1 v2) n20 (M_airOf_j58 σ v1 v2 v3 v4 v5 x0 x1) = some r → W p l e R s m args below meth c H locs 0 0 Q (F0 m 58 ls [.int x0, .int x1]) := by
        intro v3 v4 v5 x0 x1 H locs ls h hl hf
        unfold M_airOf_j58 at hf
        refine lv_icmp_ne (tgt := 65) C.x C.b dX7_airOf_58 (by decide) (fun c9 => ?_) (fun c9 => ?_)
        · have hf := if_f (K := bl (M_airOf_B20 σ v1 v2) n20) c9 hf
          refine lv_iconst (v := 0) C.x C.b dX7_airOf_65 (by decide) ?_
          exact j66 v3 v4 v5 0 _ _ _ h (lv_sub hl [0, 1, 2, 3, 4, 5] rfl) hf
        · have hf := if_t (K := bl (M_airOf_B20 σ v1 v2) n20) c9 hf
          refine lv_iconst (v := 1) C.x C.b dX7_airOf_61 (by decide) ?_
          refine lv_goto (tgt := 66) C.x C.b dX7_airOf_62 (by decide) ?_
          exact j66 v3 v4 v5 1 _ _ _ h (lv_sub hl [0, 1, 2, 3, 4, 5] rfl) hf
      intro v3 v4 v5 H locs ls h hl hf
      have hf : bl (M_airOf_B20 σ v1 v2) n20 (M_airOf_l20 σ v1 v2 v3 v4 v5) = some r := hf
      unfold M_airOf_l20 at hf
      refine lv_iload C.x C.b dX7_airOf_20 (lv_at hl 5 rfl) ?_
      refine lv_aload_n C.x C.b dX7_airOf_22 rfl (lv_at hl 0 rfl) ?_
      refine m_g17 C h dX7_airOf_23 ?_
      refine lv_bipush (v := 7) C.x C.b dX7_airOf_26 (by decide) ?_
      obtain ⟨hi, hf⟩ := ix_k (K := bl (M_airOf_B20 σ v1 v2) n20) rfl hf
      refine m_a17 C h hi dX7_airOf_28 ?_
      refine lv_icmp_ge (tgt := 158) C.x C.b dX7_airOf_29 (by decide) (fun c9 => ?_) (fun c9 => ?_)
      · have hf := if_t (K := bl (M_airOf_B20 σ v1 v2) n20) c9 hf
        have hf := bl_upK (K := fun x => x) hf
        exact j158 v3 v4 _ _ _ h (lv_sub hl [3, 4] rfl) hf
      · have hf := if_f (K := bl (M_airOf_B20 σ v1 v2) n20) c9 hf
        refine lv_aload_n C.x C.b dX7_airOf_32 rfl (lv_at hl 0 rfl) ?_
        refine m_g20 C h dX7_airOf_33 ?_
        refine lv_iconst (v := 4) C.x C.b dX7_airOf_36 (by decide) ?_
        refine lv_iload C.x C.b dX7_airOf_37 (lv_at hl 5 rfl) ?_
        refine lv_imul C.x C.b dX7_airOf_39 ?_
        refine lv_iconst (v := 1) C.x C.b dX7_airOf_40 (by decide) ?_
        refine lv_iadd C.x C.b dX7_airOf_41 ?_
        obtain ⟨hi, hf⟩ := ix_k (K := bl (M_airOf_B20 σ v1 v2) n20) rfl hf
        refine m_a20 C h hi dX7_airOf_42 ?_
        refine lv_iload_n C.x C.b dX7_airOf_43 rfl (lv_at hl 1 rfl) ?_
        refine lv_aload_n C.x C.b dX7_airOf_44 rfl (lv_at hl 0 rfl) ?_
        refine m_g26 C h dX7_airOf_45 ?_
        refine lv_icmp_ge (tgt := 55) C.x C.b dX7_airOf_48 (by decide) (fun c9 => ?_) (fun c9 => ?_)
        · have hf := if_t (K := bl (M_airOf_B20 σ v1 v2) n20) c9 hf
          refine lv_iload_n C.x C.b dX7_airOf_55 rfl (lv_at hl 1 rfl) ?_
          refine lv_iconst (v := 1) C.x C.b dX7_airOf_56 (by decide) ?_
          refine lv_iadd C.x C.b dX7_airOf_57 ?_
          exact j58 v3 v4 v5 (v1 + 1) (rA σ 20 ((4 * v5) + 1)) _ _ _ h (lv_sub hl [0, 1, 2, 3, 4, 5] rfl) hf
        · have hf := if_f (K := bl (M_airOf_B20 σ v1 v2) n20) c9 hf
          refine lv_iload_n C.x C.b dX7_airOf_51 rfl (lv_at hl 1 rfl) ?_
          refine lv_goto (tgt := 58) C.x C.b dX7_airOf_52 (by decide) ?_
          exact j58 v3 v4 v5 v1 (rA σ 20 ((4 * v5) + 1)) _ _ _ h (lv_sub hl [0, 1, 2, 3, 4, 5] rfl) hf
  intro H locs ls h hl
  have hl : lv_has ls 7 [(0, .ref o), (1, .int v1), (2, .int v2)] := hl
  unfold M_airOf at hf
  refine lv_aload_n C.x C.b dX7_airOf_0 rfl (lv_at hl 0 rfl) ?_
  refine m_g27 C h dX7_airOf_1 ?_
  refine lv_iload_n C.x C.b dX7_airOf_4 rfl (lv_at hl 1 rfl) ?_
  obtain ⟨hi, hf⟩ := ix_k (K := fun x => x) rfl hf
  refine m_a27 C h hi dX7_airOf_5 ?_
  obtain ⟨v3_5, e9, hf⟩ := nm_k (K := fun x => x) hf
  refine lv_topI e9 ?_
  refine lv_istore_n (lv' := [(3, .int v3_5), (0, .ref o), (1, .int v1), (2, .int v2)]) C.x C.b dX7_airOf_6 rfl hl (by decide) rfl (fun ls hl => ?_)
  refine lv_aload_n C.x C.b dX7_airOf_7 rfl (lv_at hl 1 rfl) ?_
  refine m_g24 C h dX7_airOf_8 ?_
  refine lv_iload_n C.x C.b dX7_airOf_11 rfl (lv_at hl 3 rfl) ?_
  obtain ⟨q_6, hc, hf⟩ := bd_k (K := fun x => x) rfl hf
  refine cM_isBit C h hc (Nat.le_of_ble_eq_true rfl) hl.1 (Nat.le_of_ble_eq_true rfl) dX7_airOf_12 (fun H locs h => ?_)
  refine lv_istore (lv' := [(4, .int q_6), (3, .int v3_5), (0, .ref o), (1, .int v1), (2, .int v2)]) C.x C.b dX7_airOf_15 hl (by decide) rfl (fun ls hl => ?_)
  refine lv_iconst (v := 0) C.x C.b dX7_airOf_17 (by decide) ?_
  refine lv_istore (lv' := [(5, .int 0), (4, .int q_6), (3, .int v3_5), (0, .ref o), (1, .int v1), (2, .int v2)]) C.x C.b dX7_airOf_18 hl (by decide) rfl (fun ls hl => ?_)
  exact l20  fu v3_5 q_6 0 _ _ _ h (lv_sub hl [3, 4, 5, 2, 1, 0] rfl) hf
theorem tM_airOf : GoodIn lw_all (wsV RX7 277 RX7 yX7_airOf (ws_ yX7_airOf cX7_airOf 7 (some .int))) := lw_V q1835 q1837 qs97 q147 q1838
theorem cM_airOf {p : Program} {l : Launch} {e : Env} {R : Room} {s : State} {m : MethodId} {args : Array Value} {below : List Frame} {meth : Method} {c : Code} {H : Heap} {locs : List Loc} {Q : State → Prop} {cc : ByteArray} {pc : Nat} {ls : Array Slot} {st : List Value} {nL d : Nat} {D : va_G} {ty : Nat → ClassId} {A : Nat → Prop} {o : Nat} {ad : Nat → Nat} {rs : va_W} {σ : PS} {v1 : Int32} {v2 : Int32} {q : Int32} (C : Cx p R s m args c cc nL RX7 D ty A d) (h : Hw D A s H locs (wM ty o ad σ ++ rs)) (hc : M_airOf σ v1 v2 = some q) (hd : 1 + 1 ≤ d) (hls : ls.size = nL) (hcat : (st.map fun v => v.category).sum ≤ 8) (dec : decode cc pc = .ok (.invokevirtual 277, 3)) (kk : ∀ (H : Heap) (locs : List Loc), Hw D A s H locs (wM ty o ad σ ++ rs) → W p l e R s m args below meth c H locs 0 0 Q (F0 m (pc + 3) ls (.int q :: st))) : W p l e R s m args below meth c H locs 0 0 Q (F0 m pc ls (.int v2 :: .int v1 :: .ref o :: st)) := KI.callV (As := [.int v1, .int v2]) C (kM_airOf l hc) tM_airOf ⟨rfl, by decide, by decide, by show _ = some 2; decide +kernel⟩ 0 7 rfl rfl rfl hd (by decide) (Nat.zero_le _) (Nat.zero_le _) h hls rfl hcat dec kk
def M_isThen_j23 (σ : PS) (x0 : Int32) : Option Int32 := tz x0 (some x0)
def M_isThen_j22 (σ : PS) : Option Int32 := M_isThen_j23 σ 0
def M_isThen (σ : PS) (v1 : Int32) (v2 : Int32) : Option Int32 := bd (M_isPiece σ v1.toInt64) (fun q_1 => if q_1 = 0 then M_isThen_j22 σ else bd (M_isStep σ v2.toInt64) (fun q_2 => if q_2 = 0 then M_isThen_j22 σ else M_isThen_j23 σ 1))
set_option maxHeartbeats 4000000 in
theorem kM_isThen (l : Launch) {D : va_G} {ty : Nat → ClassId} {A : Nat → Prop} {o : Nat} {ad : Nat → Nat} {rs : va_W} {σ : PS} {v1 : Int32} {v2 : Int32} {r : Int32} (hf : M_isThen σ v1 v2 = some r) : KI l yX7_isThen cX7_isThen 3 .boolean 2 D ty A (wM ty o ad σ ++ rs) (wM ty o ad σ ++ rs) [.ref o, .int v1, .int v2] r := by
  refine KI.of (by decide) (Nat.le_of_ble_eq_true rfl) ?_
  intro p e R s m args below meth c Q C hR
  have C : Cx p R s m args c cX7_isThen 3 RX7 D ty A 2 := C
  have hR : ∀ (v : Int32), v = r → ∀ (H : Heap) (locs : List Loc) (pc : Nat) (ls : Array Slot), Hw D A s H locs (wM ty o ad σ ++ rs) → narrow .boolean (.int v) = .int v → decode cX7_isThen pc = .ok (.ireturn, 1) → W p l e R s m args below meth c H locs 0 0 Q (F0 m pc ls [.int v]) := by intro v e9; cases e9; exact hR
  have j23 : ∀ (x0 : Int32) (H : Heap) (locs : List Loc) (ls : Array Slot), Hw D A s H locs (wM ty o ad σ ++ rs) → lv_has ls 3 [] → M_isThen_j23 σ x0 = some r → W p l e R s m args below meth c H locs 0 0 Q (F0 m 23 ls [.int x0]) := by
    intro x0 H locs ls h hl hf
    unfold M_isThen_j23 at hf
    obtain ⟨hz, hf⟩ := tz_k (K := fun x => x) rfl hf
    exact hR _ (some_k hf) _ _ _ _ h hz dX7_isThen_23
  have j22 : ∀ (H : Heap) (locs : List Loc) (ls : Array Slot), Hw D A s H locs (wM ty o ad σ ++ rs) → lv_has ls 3 [] → M_isThen_j22 σ = some r → W p l e R s m args below meth c H locs 0 0 Q (F0 m 22 ls []) := by
    intro  H locs ls h hl hf
    unfold M_isThen_j22 at hf
    refine lv_iconst (v := 0) C.x C.b dX7_isThen_22 (by decide) ?_
    exact j23 0 _ _ _ h (lv_sub hl [] rfl) hf
  intro H locs ls h hl
  have hl : lv_has ls 3 [(0, .ref o), (1, .int v1), (2, .int v2)] := hl
  unfold M_isThen at hf
  refine lv_aload_n C.x C.b dX7_isThen_0 rfl (lv_at hl 0 rfl) ?_
  refine lv_iload_n C.x C.b dX7_isThen_1 rfl (lv_at hl 1 rfl) ?_
  refine lv_i2l C.x C.b dX7_isThen_2 rfl ?_
  obtain ⟨q_1, hc, hf⟩ := bd_k (K := fun x => x) rfl hf
  refine cM_isPiece C h hc (Nat.le_of_ble_eq_true rfl) hl.1 (Nat.le_of_ble_eq_true rfl) dX7_isThen_3 (fun H locs h => ?_)
  refine lv_if_eq (tgt := 22) C.x C.b dX7_isThen_6 (by decide) (fun c9 => ?_) (fun c9 => ?_)
  · have hf := if_t (K := fun x => x) c9 hf
    exact j22  _ _ _ h (lv_sub hl [] rfl) hf
  · have hf := if_f (K := fun x => x) c9 hf
    refine lv_aload_n C.x C.b dX7_isThen_9 rfl (lv_at hl 0 rfl) ?_
    refine lv_iload_n C.x C.b dX7_isThen_10 rfl (lv_at hl 2 rfl) ?_
    refine lv_i2l C.x C.b dX7_isThen_11 rfl ?_
    obtain ⟨q_2, hc, hf⟩ := bd_k (K := fun x => x) rfl hf
    refine cM_isStep C h hc (Nat.le_of_ble_eq_true rfl) hl.1 (Nat.le_of_ble_eq_true rfl) dX7_isThen_12 (fun H locs h => ?_)
    refine lv_if_eq (tgt := 22) C.x C.b dX7_isThen_15 (by decide) (fun c9 => ?_) (fun c9 => ?_)
    · have hf := if_t (K := fun x => x) c9 hf
      exact j22  _ _ _ h (lv_sub hl [] rfl) hf
    · have hf := if_f (K := fun x => x) c9 hf
      refine lv_iconst (v := 1) C.x C.b dX7_isThen_18 (by decide) ?_
      refine lv_goto (tgt := 23) C.x C.b dX7_isThen_19 (by decide) ?_
      exact j23 1 _ _ _ h (lv_sub hl [] rfl) hf
theorem tM_isThen : GoodIn lw_all (wsV RX7 305 RX7 yX7_isThen (ws_ yX7_isThen cX7_isThen 3 (some .boolean))) := lw_V q1849 q1851 qs98 q147 q1852
theorem cM_isThen {p : Program} {l : Launch} {e : Env} {R : Room} {s : State} {m : MethodId} {args : Array Value} {below : List Frame} {meth : Method} {c : Code} {H : Heap} {locs : List Loc} {Q : State → Prop} {cc : ByteArray} {pc : Nat} {ls : Array Slot} {st : List Value} {nL d : Nat} {D : va_G} {ty : Nat → ClassId} {A : Nat → Prop} {o : Nat} {ad : Nat → Nat} {rs : va_W} {σ : PS} {v1 : Int32} {v2 : Int32} {q : Int32} (C : Cx p R s m args c cc nL RX7 D ty A d) (h : Hw D A s H locs (wM ty o ad σ ++ rs)) (hc : M_isThen σ v1 v2 = some q) (hd : 2 + 1 ≤ d) (hls : ls.size = nL) (hcat : (st.map fun v => v.category).sum ≤ 8) (dec : decode cc pc = .ok (.invokevirtual 305, 3)) (kk : ∀ (H : Heap) (locs : List Loc), Hw D A s H locs (wM ty o ad σ ++ rs) → W p l e R s m args below meth c H locs 0 0 Q (F0 m (pc + 3) ls (.int q :: st))) : W p l e R s m args below meth c H locs 0 0 Q (F0 m pc ls (.int v2 :: .int v1 :: .ref o :: st)) := KI.callV (As := [.int v1, .int v2]) C (kM_isThen l hc) tM_isThen ⟨rfl, by decide, by decide, by show _ = some 2; decide +kernel⟩ 0 7 rfl rfl rfl hd (by decide) (Nat.zero_le _) (Nat.zero_le _) h hls rfl hcat dec kk
def M_whereOf_j38 (σ : PS) (x0 : Int32) : Option Int32 := some x0
def M_whereOf (σ : PS) (v1 : Int32) (v2 : Int32) : Option Int32 := bd (M_comes σ v1) (fun q_1 => if q_1 ≤ v2 then bd (M_comes σ v1) (fun q_2 => nz (gI σ 23) (nm ((v2 - q_2) / (gI σ 23)) (fun v3_3 => if (gI σ 25) ≤ v3_3 then M_whereOf_j38 σ 10 else M_whereOf_j38 σ v3_3))) else some ((-1)))
set_option maxHeartbeats 4000000 in
theorem kM_whereOf (l : Launch) {D : va_G} {ty : Nat → ClassId} {A : Nat → Prop} {o : Nat} {ad : Nat → Nat} {rs : va_W} {σ : PS} {v1 : Int32} {v2 : Int32} {r : Int32} (hf : M_whereOf σ v1 v2 = some r) : KI l yX7_whereOf cX7_whereOf 4 .int 1 D ty A (wM ty o ad σ ++ rs) (wM ty o ad σ ++ rs) [.ref o, .int v1, .int v2] r := by
  refine KI.of (by decide) (Nat.le_of_ble_eq_true rfl) ?_
  intro p e R s m args below meth c Q C hR
  have C : Cx p R s m args c cX7_whereOf 4 RX7 D ty A 1 := C
  have hR : ∀ (v : Int32), v = r → ∀ (H : Heap) (locs : List Loc) (pc : Nat) (ls : Array Slot), Hw D A s H locs (wM ty o ad σ ++ rs) → narrow .int (.int v) = .int v → decode cX7_whereOf pc = .ok (.ireturn, 1) → W p l e R s m args below meth c H locs 0 0 Q (F0 m pc ls [.int v]) := by intro v e9; cases e9; exact hR
  have j38 : ∀ (x0 : Int32) (H : Heap) (locs : List Loc) (ls : Array Slot), Hw D A s H locs (wM ty o ad σ ++ rs) → lv_has ls 4 [] → M_whereOf_j38 σ x0 = some r → W p l e R s m args below meth c H locs 0 0 Q (F0 m 38 ls [.int x0]) := by
    intro x0 H locs ls h hl hf
    unfold M_whereOf_j38 at hf
    exact hR _ (some_k hf) _ _ _ _ h rfl dX7_whereOf_38
  intro H locs ls h hl
  have hl : lv_has ls 4 [(0, .ref o), (1, .int v1), (2, .int v2)] := hl
  unfold M_whereOf at hf
  refine lv_iload_n C.x C.b dX7_whereOf_0 rfl (lv_at hl 2 rfl) ?_
  refine lv_aload_n C.x C.b dX7_whereOf_1 rfl (lv_at hl 0 rfl) ?_
  refine lv_iload_n C.x C.b dX7_whereOf_2 rfl (lv_at hl 1 rfl) ?_
  obtain ⟨q_1, hc, hf⟩ := bd_k (K := fun x => x) rfl hf
  refine cM_comes C h hc (Nat.le_of_ble_eq_true rfl) hl.1 (Nat.le_of_ble_eq_true rfl) dX7_whereOf_3 (fun H locs h => ?_)
  refine lv_icmp_ge (tgt := 11) C.x C.b dX7_whereOf_6 (by decide) (fun c9 => ?_) (fun c9 => ?_)
  · have hf := if_t (K := fun x => x) c9 hf
    refine lv_iload_n C.x C.b dX7_whereOf_11 rfl (lv_at hl 2 rfl) ?_
    refine lv_aload_n C.x C.b dX7_whereOf_12 rfl (lv_at hl 0 rfl) ?_
    refine lv_iload_n C.x C.b dX7_whereOf_13 rfl (lv_at hl 1 rfl) ?_
    obtain ⟨q_2, hc, hf⟩ := bd_k (K := fun x => x) rfl hf
    refine cM_comes C h hc (Nat.le_of_ble_eq_true rfl) hl.1 (Nat.le_of_ble_eq_true rfl) dX7_whereOf_14 (fun H locs h => ?_)
    refine lv_isub C.x C.b dX7_whereOf_17 ?_
    refine lv_aload_n C.x C.b dX7_whereOf_18 rfl (lv_at hl 0 rfl) ?_
    refine m_g23 C h dX7_whereOf_19 ?_
    obtain ⟨hz, hf⟩ := nz_k (K := fun x => x) rfl hf
    refine lv_idiv C.x C.b dX7_whereOf_22 hz ?_
    obtain ⟨v3_3, e9, hf⟩ := nm_k (K := fun x => x) hf
    refine lv_topI e9 ?_
    refine lv_istore_n (lv' := [(3, .int v3_3), (0, .ref o), (1, .int v1), (2, .int v2)]) C.x C.b dX7_whereOf_23 rfl hl (by decide) rfl (fun ls hl => ?_)
    refine lv_iload_n C.x C.b dX7_whereOf_24 rfl (lv_at hl 0 rfl) ?_
    refine lv_aload_n C.x C.b dX7_whereOf_25 rfl (lv_at hl 1 rfl) ?_
    refine m_g25 C h dX7_whereOf_26 ?_
    refine lv_icmp_ge (tgt := 36) C.x C.b dX7_whereOf_29 (by decide) (fun c9 => ?_) (fun c9 => ?_)
    · have hf := if_t (K := fun x => x) c9 hf
      refine lv_bipush (v := 10) C.x C.b dX7_whereOf_36 (by decide) ?_
      exact j38 10 _ _ _ h (lv_sub hl [] rfl) hf
    · have hf := if_f (K := fun x => x) c9 hf
      refine lv_iload_n C.x C.b dX7_whereOf_32 rfl (lv_at hl 0 rfl) ?_
      refine lv_goto (tgt := 38) C.x C.b dX7_whereOf_33 (by decide) ?_
      exact j38 v3_3 _ _ _ h (lv_sub hl [] rfl) hf
  · have hf := if_f (K := fun x => x) c9 hf
    refine lv_iconst (v := (-1)) C.x C.b dX7_whereOf_9 (by decide) ?_
    exact hR _ (some_k hf) _ _ _ _ h rfl dX7_whereOf_10
theorem tM_whereOf : GoodIn lw_all (wsV RX7 280 RX7 yX7_whereOf (ws_ yX7_whereOf cX7_whereOf 4 (some .int))) := lw_V q1853 q1855 qs99 q147 q1856
theorem cM_whereOf {p : Program} {l : Launch} {e : Env} {R : Room} {s : State} {m : MethodId} {args : Array Value} {below : List Frame} {meth : Method} {c : Code} {H : Heap} {locs : List Loc} {Q : State → Prop} {cc : ByteArray} {pc : Nat} {ls : Array Slot} {st : List Value} {nL d : Nat} {D : va_G} {ty : Nat → ClassId} {A : Nat → Prop} {o : Nat} {ad : Nat → Nat} {rs : va_W} {σ : PS} {v1 : Int32} {v2 : Int32} {q : Int32} (C : Cx p R s m args c cc nL RX7 D ty A d) (h : Hw D A s H locs (wM ty o ad σ ++ rs)) (hc : M_whereOf σ v1 v2 = some q) (hd : 1 + 1 ≤ d) (hls : ls.size = nL) (hcat : (st.map fun v => v.category).sum ≤ 8) (dec : decode cc pc = .ok (.invokevirtual 280, 3)) (kk : ∀ (H : Heap) (locs : List Loc), Hw D A s H locs (wM ty o ad σ ++ rs) → W p l e R s m args below meth c H locs 0 0 Q (F0 m (pc + 3) ls (.int q :: st))) : W p l e R s m args below meth c H locs 0 0 Q (F0 m pc ls (.int v2 :: .int v1 :: .ref o :: st)) := KI.callV (As := [.int v1, .int v2]) C (kM_whereOf l hc) tM_whereOf ⟨rfl, by decide, by decide, by show _ = some 2; decide +kernel⟩ 0 7 rfl rfl rfl hd (by decide) (Nat.zero_le _) (Nat.zero_le _) h hls rfl hcat dec kk
def M_insideOf_j42 (σ : PS) (v3 : Int32) : Option Int32 := some v3
def M_insideOf_j34 (σ : PS) (v1 : Int32) (v2 : Int32) (v4 : Int32) (x0 : Int32) (x1 : Int32) : Option ((Int32 × Int32) ⊕ Int32) := nm (x1 ||| x0) (fun v3_1 => nm (v4 + 1) (fun v4_2 => some (.inl (v3_1, v4_2))))
def M_insideOf_l5 (σ : PS) (v1 : Int32) (v2 : Int32) (v3 : Int32) (v4 : Int32) : Option ((Int32 × Int32) ⊕ Int32) := bd (M_pieces σ) (fun q_3 => if q_3 ≤ v4 then up (M_insideOf_j42 σ v3) else bd (M_whereOf σ v4 v2) (fun q_4 => if q_4 = v1 then M_insideOf_j34 σ v1 v2 v4 (1 <<< (v4 &&& 31)) v3 else M_insideOf_j34 σ v1 v2 v4 0 v3))
def M_insideOf_B5 (σ : PS) (v1 : Int32) (v2 : Int32) : (Int32 × Int32) → Option ((Int32 × Int32) ⊕ Int32) := fun t => M_insideOf_l5 σ v1 v2 t.1 t.2
def M_insideOf (σ : PS) (v1 : Int32) (v2 : Int32) : Option Int32 := loop (M_insideOf_B5 σ v1 v2) fu (0, 0)
set_option maxHeartbeats 4000000 in
theorem kM_insideOf (l : Launch) {D : va_G} {ty : Nat → ClassId} {A : Nat → Prop} {o : Nat} {ad : Nat → Nat} {rs : va_W} {σ : PS} {v1 : Int32} {v2 : Int32} {r : Int32} (hf : M_insideOf σ v1 v2 = some r) : KI l yX7_insideOf cX7_insideOf 5 .int 2 D ty A (wM ty o ad σ ++ rs) (wM ty o ad σ ++ rs) [.ref o, .int v1, .int v2] r := by
  refine KI.of (by decide) (Nat.le_of_ble_eq_true rfl) ?_
  intro p e R s m args below meth c Q C hR
  have C : Cx p R s m args c cX7_insideOf 5 RX7 D ty A 2 := C
  have hR : ∀ (v : Int32), v = r → ∀ (H : Heap) (locs : List Loc) (pc : Nat) (ls : Array Slot), Hw D A s H locs (wM ty o ad σ ++ rs) → narrow .int (.int v) = .int v → decode cX7_insideOf pc = .ok (.ireturn, 1) → W p l e R s m args below meth c H locs 0 0 Q (F0 m pc ls [.int v]) := by intro v e9; cases e9; exact hR
  have j42 : ∀ (v3 : Int32) (H : Heap) (locs : List Loc) (ls : Array Slot), Hw D A s H locs (wM ty o ad σ ++ rs) → lv_has ls 5 [(3, .int v3)] → M_insideOf_j42 σ v3 = some r → W p l e R s m args below meth c H locs 0 0 Q (F0 m 42 ls []) := by
    intro v3 H locs ls h hl hf
    unfold M_insideOf_j42 at hf
    refine lv_iload_n C.x C.b dX7_insideOf_42 rfl (lv_at hl 0 rfl) ?_
    exact hR _ (some_k hf) _ _ _ _ h rfl dX7_insideOf_43
  have l5 : ∀ (n5 : Nat) (v3 : Int32) (v4 : Int32) (H : Heap) (locs : List Loc) (ls : Array Slot), Hw D A s H locs (wM ty o ad σ ++ rs) → lv_has ls 5 [(0, .ref o), (1, .int v1), (2, .int v2), (3, .int v3), (4, .int v4)] → loop (M_insideOf_B5 σ v1 v2) n5 (v3, v4) = some r → W p l e R s m args below meth c H locs 0 0 Q (F0 m 5 ls []) := by
    intro n5
    induction n5 with
    | zero => intro v3 v4 H locs ls h hl hf; exact (none_k hf).elim
    | succ n5 ih5 =>
      have j34 : ∀ (v4 : Int32) (x0 : Int32) (x1 : Int32) (H : Heap) (locs : List Loc) (ls : Array Slot), Hw D A s H locs (wM ty o ad σ ++ rs) → lv_has ls 5 [(0, .ref o), (1, .int v1), (2, .int v2), (4, .int v4)] → bl (M_insideOf_B5 σ v1 v2) n5 (M_insideOf_j34 σ v1 v2 v4 x0 x1) = some r → W p l e R s m args below meth c H locs 0 0 Q (F0 m 34 ls [.int x0, .int x1]) := by
        intro v4 x0 x1 H locs ls h hl hf
        unfold M_insideOf_j34 at hf
        refine lv_ior C.x C.b dX7_insideOf_34 ?_
        obtain ⟨v3_1, e9, hf⟩ := nm_k (K := bl (M_insideOf_B5 σ v1 v2) n5) hf
        refine lv_topI e9 ?_
        refine lv_istore_n (lv' := [(3, .int v3_1), (0, .ref o), (1, .int v1), (2, .int v2), (4, .int v4)]) C.x C.b dX7_insideOf_35 rfl hl (by decide) rfl (fun ls hl => ?_)
        obtain ⟨v4_2, e9, hf⟩ := nm_k (K := bl (M_insideOf_B5 σ v1 v2) n5) hf
        refine lv_iinc (v := v4_2) (lv' := [(4, .int v4_2), (3, .int v3_1), (0, .ref o), (1, .int v1), (2, .int v2)]) C.x C.b dX7_insideOf_36 hl (k := 4) rfl (iinc_e (k := 1) (by decide) e9) (by decide) rfl (fun ls hl => ?_)
        refine lv_goto (tgt := 5) C.x C.b dX7_insideOf_39 (by decide) ?_
        exact ih5 v3_1 v4_2 _ _ _ h (lv_sub hl [2, 3, 4, 1, 0] rfl) hf
      intro v3 v4 H locs ls h hl hf
      have hf : bl (M_insideOf_B5 σ v1 v2) n5 (M_insideOf_l5 σ v1 v2 v3 v4) = some r := hf
      unfold M_insideOf_l5 at hf
      refine lv_iload C.x C.b dX7_insideOf_5 (lv_at hl 4 rfl) ?_
      refine lv_aload_n C.x C.b dX7_insideOf_7 rfl (lv_at hl 0 rfl) ?_
      obtain ⟨q_3, hc, hf⟩ := bd_k (K := bl (M_insideOf_B5 σ v1 v2) n5) rfl hf
      refine cM_pieces C h hc (Nat.le_of_ble_eq_true rfl) hl.1 (Nat.le_of_ble_eq_true rfl) dX7_insideOf_8 (fun H locs h => ?_)
      refine lv_icmp_ge (tgt := 42) C.x C.b dX7_insideOf_11 (by decide) (fun c9 => ?_) (fun c9 => ?_)
      · have hf := if_t (K := bl (M_insideOf_B5 σ v1 v2) n5) c9 hf
        have hf := bl_upK (K := fun x => x) hf
        exact j42 v3 _ _ _ h (lv_sub hl [3] rfl) hf
      · have hf := if_f (K := bl (M_insideOf_B5 σ v1 v2) n5) c9 hf
        refine lv_iload_n C.x C.b dX7_insideOf_14 rfl (lv_at hl 3 rfl) ?_
        refine lv_aload_n C.x C.b dX7_insideOf_15 rfl (lv_at hl 0 rfl) ?_
        refine lv_iload C.x C.b dX7_insideOf_16 (lv_at hl 4 rfl) ?_
        refine lv_iload_n C.x C.b dX7_insideOf_18 rfl (lv_at hl 2 rfl) ?_
        obtain ⟨q_4, hc, hf⟩ := bd_k (K := bl (M_insideOf_B5 σ v1 v2) n5) rfl hf
        refine cM_whereOf C h hc (Nat.le_of_ble_eq_true rfl) hl.1 (Nat.le_of_ble_eq_true rfl) dX7_insideOf_19 (fun H locs h => ?_)
        refine lv_iload_n C.x C.b dX7_insideOf_22 rfl (lv_at hl 1 rfl) ?_
        refine lv_icmp_ne (tgt := 33) C.x C.b dX7_insideOf_23 (by decide) (fun c9 => ?_) (fun c9 => ?_)
        · have hf := if_f (K := bl (M_insideOf_B5 σ v1 v2) n5) c9 hf
          refine lv_iconst (v := 0) C.x C.b dX7_insideOf_33 (by decide) ?_
          exact j34 v4 0 v3 _ _ _ h (lv_sub hl [0, 1, 2, 4] rfl) hf
        · have hf := if_t (K := bl (M_insideOf_B5 σ v1 v2) n5) c9 hf
          refine lv_iconst (v := 1) C.x C.b dX7_insideOf_26 (by decide) ?_
          refine lv_iload C.x C.b dX7_insideOf_27 (lv_at hl 4 rfl) ?_
          refine lv_ishl C.x C.b dX7_insideOf_29 ?_
          refine lv_goto (tgt := 34) C.x C.b dX7_insideOf_30 (by decide) ?_
          exact j34 v4 (1 <<< (v4 &&& 31)) v3 _ _ _ h (lv_sub hl [0, 1, 2, 4] rfl) hf
  intro H locs ls h hl
  have hl : lv_has ls 5 [(0, .ref o), (1, .int v1), (2, .int v2)] := hl
  unfold M_insideOf at hf
  refine lv_iconst (v := 0) C.x C.b dX7_insideOf_0 (by decide) ?_
  refine lv_istore_n (lv' := [(3, .int 0), (0, .ref o), (1, .int v1), (2, .int v2)]) C.x C.b dX7_insideOf_1 rfl hl (by decide) rfl (fun ls hl => ?_)
  refine lv_iconst (v := 0) C.x C.b dX7_insideOf_2 (by decide) ?_
  refine lv_istore (lv' := [(4, .int 0), (3, .int 0), (0, .ref o), (1, .int v1), (2, .int v2)]) C.x C.b dX7_insideOf_3 hl (by decide) rfl (fun ls hl => ?_)
  exact l5  fu 0 0 _ _ _ h (lv_sub hl [2, 3, 4, 1, 0] rfl) hf
theorem tM_insideOf : GoodIn lw_all (wsV RX7 308 RX7 yX7_insideOf (ws_ yX7_insideOf cX7_insideOf 5 (some .int))) := lw_V q1865 q1867 qs101 q147 q1868
theorem cM_insideOf {p : Program} {l : Launch} {e : Env} {R : Room} {s : State} {m : MethodId} {args : Array Value} {below : List Frame} {meth : Method} {c : Code} {H : Heap} {locs : List Loc} {Q : State → Prop} {cc : ByteArray} {pc : Nat} {ls : Array Slot} {st : List Value} {nL d : Nat} {D : va_G} {ty : Nat → ClassId} {A : Nat → Prop} {o : Nat} {ad : Nat → Nat} {rs : va_W} {σ : PS} {v1 : Int32} {v2 : Int32} {q : Int32} (C : Cx p R s m args c cc nL RX7 D ty A d) (h : Hw D A s H locs (wM ty o ad σ ++ rs)) (hc : M_insideOf σ v1 v2 = some q) (hd : 2 + 1 ≤ d) (hls : ls.size = nL) (hcat : (st.map fun v => v.category).sum ≤ 8) (dec : decode cc pc = .ok (.invokevirtual 308, 3)) (kk : ∀ (H : Heap) (locs : List Loc), Hw D A s H locs (wM ty o ad σ ++ rs) → W p l e R s m args below meth c H locs 0 0 Q (F0 m (pc + 3) ls (.int q :: st))) : W p l e R s m args below meth c H locs 0 0 Q (F0 m pc ls (.int v2 :: .int v1 :: .ref o :: st)) := KI.callV (As := [.int v1, .int v2]) C (kM_insideOf l hc) tM_insideOf ⟨rfl, by decide, by decide, by show _ = some 2; decide +kernel⟩ 0 7 rfl rfl rfl hd (by decide) (Nat.zero_le _) (Nat.zero_le _) h hls rfl hcat dec kk
def M_out (σ : PS) (v1 : Int32) : Option (Int32 × PS) := nm (sI σ 0 0) (fun σ_1 => bd (M_isStep σ_1 v1.toInt64) (fun q_2 => if q_2 = 0 then some ((-2), σ_1) else bd (M_lays σ_1) (fun q_3 => bd (M_insideOf q_3 10 v1) (fun q_4 => some (q_4, q_3)))))
set_option maxHeartbeats 4000000 in
theorem kM_out (l : Launch) {D : va_G} {ty : Nat → ClassId} {A : Nat → Prop} {o : Nat} {ad : Nat → Nat} {rs : va_W} {σ : PS} {σ' : PS} {v1 : Int32} {r : Int32} (hf : M_out σ v1 = some (r, σ')) : KI l yX7_out cX7_out 2 .int 3 D ty A (wM ty o ad σ ++ rs) (wM ty o ad σ' ++ rs) [.ref o, .int v1] r := by
  refine KI.of (by decide) (Nat.le_of_ble_eq_true rfl) ?_
  intro p e R s m args below meth c Q C hR
  have C : Cx p R s m args c cX7_out 2 RX7 D ty A 3 := C
  have hR : ∀ (v : Int32) (σ2 : PS), (v, σ2) = (r, σ') → ∀ (H : Heap) (locs : List Loc) (pc : Nat) (ls : Array Slot), Hw D A s H locs (wM ty o ad σ2 ++ rs) → narrow .int (.int v) = .int v → decode cX7_out pc = .ok (.ireturn, 1) → W p l e R s m args below meth c H locs 0 0 Q (F0 m pc ls [.int v]) := by intro v σ2 e9; cases e9; exact hR
  intro H locs ls h hl
  have hl : lv_has ls 2 [(0, .ref o), (1, .int v1)] := hl
  unfold M_out at hf
  refine lv_aload_n C.x C.b dX7_out_0 rfl (lv_at hl 0 rfl) ?_
  refine lv_iconst (v := 0) C.x C.b dX7_out_1 (by decide) ?_
  obtain ⟨σ_1, e9, hf⟩ := nm_k (K := fun x => x) hf
  refine m_p0 C h e9 dX7_out_2 (fun H locs h => ?_)
  refine lv_aload_n C.x C.b dX7_out_5 rfl (lv_at hl 0 rfl) ?_
  refine lv_iload_n C.x C.b dX7_out_6 rfl (lv_at hl 1 rfl) ?_
  refine lv_i2l C.x C.b dX7_out_7 rfl ?_
  obtain ⟨q_2, hc, hf⟩ := bd_k (K := fun x => x) rfl hf
  refine cM_isStep C h hc (Nat.le_of_ble_eq_true rfl) hl.1 (Nat.le_of_ble_eq_true rfl) dX7_out_8 (fun H locs h => ?_)
  refine lv_if_ne (tgt := 17) C.x C.b dX7_out_11 (by decide) (fun c9 => ?_) (fun c9 => ?_)
  · have hf := if_f (K := fun x => x) c9 hf
    refine lv_aload_n C.x C.b dX7_out_17 rfl (lv_at hl 0 rfl) ?_
    obtain ⟨q_3, hc, hf⟩ := bd_k (K := fun x => x) rfl hf
    refine cM_lays C h hc (Nat.le_of_ble_eq_true rfl) hl.1 (Nat.le_of_ble_eq_true rfl) dX7_out_18 (fun H locs h => ?_)
    refine lv_aload_n C.x C.b dX7_out_21 rfl (lv_at hl 0 rfl) ?_
    refine lv_bipush (v := 10) C.x C.b dX7_out_22 (by decide) ?_
    refine lv_iload_n C.x C.b dX7_out_24 rfl (lv_at hl 1 rfl) ?_
    obtain ⟨q_4, hc, hf⟩ := bd_k (K := fun x => x) rfl hf
    refine cM_insideOf C h hc (Nat.le_of_ble_eq_true rfl) hl.1 (Nat.le_of_ble_eq_true rfl) dX7_out_25 (fun H locs h => ?_)
    exact hR _ _ (some_k hf) _ _ _ _ h rfl dX7_out_28
  · have hf := if_t (K := fun x => x) c9 hf
    refine lv_bipush (v := (-2)) C.x C.b dX7_out_14 (by decide) ?_
    exact hR _ _ (some_k hf) _ _ _ _ h rfl dX7_out_16
def M_leaves_j50 (σ : PS) : Option (Int32 × PS) := some ((-1), σ)
def M_leaves_j42 (σ : PS) (v2 : Int32) : Option (Int32 × PS) := some (v2, σ)
def M_leaves_l23 (σ : PS) (v1 : Int32) (v2 : Int32) : Option ((Int32) ⊕ (Int32 × PS)) := bd (M_steps σ) (fun q_1 => if q_1 < v2 then up (M_leaves_j50 σ) else bd (M_whereOf σ v1 v2) (fun q_2 => if q_2 = 10 then up (M_leaves_j42 σ v2) else nm (v2 + 1) (fun v2_3 => some (.inl (v2_3)))))
def M_leaves_B23 (σ : PS) (v1 : Int32) : (Int32) → Option ((Int32) ⊕ (Int32 × PS)) := fun t => M_leaves_l23 σ v1 t
def M_leaves (σ : PS) (v1 : Int32) : Option (Int32 × PS) := nm (sI σ 0 0) (fun σ_4 => bd (M_isPiece σ_4 v1.toInt64) (fun q_5 => if q_5 = 0 then some ((-2), σ_4) else bd (M_lays σ_4) (fun q_6 => loop (M_leaves_B23 q_6 v1) fu (0))))
set_option maxHeartbeats 4000000 in
theorem kM_leaves (l : Launch) {D : va_G} {ty : Nat → ClassId} {A : Nat → Prop} {o : Nat} {ad : Nat → Nat} {rs : va_W} {σ : PS} {σ' : PS} {v1 : Int32} {r : Int32} (hf : M_leaves σ v1 = some (r, σ')) : KI l yX7_leaves cX7_leaves 3 .int 2 D ty A (wM ty o ad σ ++ rs) (wM ty o ad σ' ++ rs) [.ref o, .int v1] r := by
  refine KI.of (by decide) (Nat.le_of_ble_eq_true rfl) ?_
  intro p e R s m args below meth c Q C hR
  have C : Cx p R s m args c cX7_leaves 3 RX7 D ty A 2 := C
  have hR : ∀ (v : Int32) (σ2 : PS), (v, σ2) = (r, σ') → ∀ (H : Heap) (locs : List Loc) (pc : Nat) (ls : Array Slot), Hw D A s H locs (wM ty o ad σ2 ++ rs) → narrow .int (.int v) = .int v → decode cX7_leaves pc = .ok (.ireturn, 1) → W p l e R s m args below meth c H locs 0 0 Q (F0 m pc ls [.int v]) := by intro v σ2 e9; cases e9; exact hR
  have j50 : ∀ (σ : PS) (H : Heap) (locs : List Loc) (ls : Array Slot), Hw D A s H locs (wM ty o ad σ ++ rs) → lv_has ls 3 [] → M_leaves_j50 σ = some (r, σ') → W p l e R s m args below meth c H locs 0 0 Q (F0 m 50 ls []) := by
    intro σ H locs ls h hl hf
    unfold M_leaves_j50 at hf
    refine lv_iconst (v := (-1)) C.x C.b dX7_leaves_50 (by decide) ?_
    exact hR _ _ (some_k hf) _ _ _ _ h rfl dX7_leaves_51
  have j42 : ∀ (σ : PS) (v2 : Int32) (H : Heap) (locs : List Loc) (ls : Array Slot), Hw D A s H locs (wM ty o ad σ ++ rs) → lv_has ls 3 [(2, .int v2)] → M_leaves_j42 σ v2 = some (r, σ') → W p l e R s m args below meth c H locs 0 0 Q (F0 m 42 ls []) := by
    intro σ v2 H locs ls h hl hf
    unfold M_leaves_j42 at hf
    refine lv_iload_n C.x C.b dX7_leaves_42 rfl (lv_at hl 0 rfl) ?_
    exact hR _ _ (some_k hf) _ _ _ _ h rfl dX7_leaves_43
  have l23 : ∀ (σ : PS) (n23 : Nat) (v2 : Int32) (H : Heap) (locs : List Loc) (ls : Array Slot), Hw D A s H locs (wM ty o ad σ ++ rs) → lv_has ls 3 [(0, .ref o), (1, .int v1), (2, .int v2)] → loop (M_leaves_B23 σ v1) n23 (v2) = some (r, σ') → W p l e R s m args below meth c H locs 0 0 Q (F0 m 23 ls []) := by
    intro σ n23
    induction n23 with
    | zero => intro v2 H locs ls h hl hf; exact (none_k hf).elim
    | succ n23 ih23 =>
      intro v2 H locs ls h hl hf
      have hf : bl (M_leaves_B23 σ v1) n23 (M_leaves_l23 σ v1 v2) = some (r, σ') := hf
      unfold M_leaves_l23 at hf
      refine lv_iload_n C.x C.b dX7_leaves_23 rfl (lv_at hl 2 rfl) ?_
      refine lv_aload_n C.x C.b dX7_leaves_24 rfl (lv_at hl 0 rfl) ?_
      obtain ⟨q_1, hc, hf⟩ := bd_k (K := bl (M_leaves_B23 σ v1) n23) rfl hf
      refine cM_steps C h hc (Nat.le_of_ble_eq_true rfl) hl.1 (Nat.le_of_ble_eq_true rfl) dX7_leaves_25 (fun H locs h => ?_)
      refine lv_icmp_gt (tgt := 50) C.x C.b dX7_leaves_28 (by decide) (fun c9 => ?_) (fun c9 => ?_)
      · have hf := if_t (K := bl (M_leaves_B23 σ v1) n23) c9 hf
        have hf := bl_upK (K := fun x => x) hf
        exact j50 σ _ _ _ h (lv_sub hl [] rfl) hf
      · have hf := if_f (K := bl (M_leaves_B23 σ v1) n23) c9 hf
        refine lv_aload_n C.x C.b dX7_leaves_31 rfl (lv_at hl 0 rfl) ?_
        refine lv_iload_n C.x C.b dX7_leaves_32 rfl (lv_at hl 1 rfl) ?_
        refine lv_iload_n C.x C.b dX7_leaves_33 rfl (lv_at hl 2 rfl) ?_
        obtain ⟨q_2, hc, hf⟩ := bd_k (K := bl (M_leaves_B23 σ v1) n23) rfl hf
        refine cM_whereOf C h hc (Nat.le_of_ble_eq_true rfl) hl.1 (Nat.le_of_ble_eq_true rfl) dX7_leaves_34 (fun H locs h => ?_)
        refine lv_bipush (v := 10) C.x C.b dX7_leaves_37 (by decide) ?_
        refine lv_icmp_ne (tgt := 44) C.x C.b dX7_leaves_39 (by decide) (fun c9 => ?_) (fun c9 => ?_)
        · have hf := if_f (K := bl (M_leaves_B23 σ v1) n23) c9 hf
          obtain ⟨v2_3, e9, hf⟩ := nm_k (K := bl (M_leaves_B23 σ v1) n23) hf
          refine lv_iinc (v := v2_3) (lv' := [(2, .int v2_3), (0, .ref o), (1, .int v1)]) C.x C.b dX7_leaves_44 hl (k := 2) rfl (iinc_e (k := 1) (by decide) e9) (by decide) rfl (fun ls hl => ?_)
          refine lv_goto (tgt := 23) C.x C.b dX7_leaves_47 (by decide) ?_
          exact ih23 v2_3 _ _ _ h (lv_sub hl [1, 2, 0] rfl) hf
        · have hf := if_t (K := bl (M_leaves_B23 σ v1) n23) c9 hf
          have hf := bl_upK (K := fun x => x) hf
          exact j42 σ v2 _ _ _ h (lv_sub hl [2] rfl) hf
  intro H locs ls h hl
  have hl : lv_has ls 3 [(0, .ref o), (1, .int v1)] := hl
  unfold M_leaves at hf
  refine lv_aload_n C.x C.b dX7_leaves_0 rfl (lv_at hl 0 rfl) ?_
  refine lv_iconst (v := 0) C.x C.b dX7_leaves_1 (by decide) ?_
  obtain ⟨σ_4, e9, hf⟩ := nm_k (K := fun x => x) hf
  refine m_p0 C h e9 dX7_leaves_2 (fun H locs h => ?_)
  refine lv_aload_n C.x C.b dX7_leaves_5 rfl (lv_at hl 0 rfl) ?_
  refine lv_iload_n C.x C.b dX7_leaves_6 rfl (lv_at hl 1 rfl) ?_
  refine lv_i2l C.x C.b dX7_leaves_7 rfl ?_
  obtain ⟨q_5, hc, hf⟩ := bd_k (K := fun x => x) rfl hf
  refine cM_isPiece C h hc (Nat.le_of_ble_eq_true rfl) hl.1 (Nat.le_of_ble_eq_true rfl) dX7_leaves_8 (fun H locs h => ?_)
  refine lv_if_ne (tgt := 17) C.x C.b dX7_leaves_11 (by decide) (fun c9 => ?_) (fun c9 => ?_)
  · have hf := if_f (K := fun x => x) c9 hf
    refine lv_aload_n C.x C.b dX7_leaves_17 rfl (lv_at hl 0 rfl) ?_
    obtain ⟨q_6, hc, hf⟩ := bd_k (K := fun x => x) rfl hf
    refine cM_lays C h hc (Nat.le_of_ble_eq_true rfl) hl.1 (Nat.le_of_ble_eq_true rfl) dX7_leaves_18 (fun H locs h => ?_)
    refine lv_iconst (v := 0) C.x C.b dX7_leaves_21 (by decide) ?_
    refine lv_istore_n (lv' := [(2, .int 0), (0, .ref o), (1, .int v1)]) C.x C.b dX7_leaves_22 rfl hl (by decide) rfl (fun ls hl => ?_)
    exact l23 q_6 fu 0 _ _ _ h (lv_sub hl [1, 2, 0] rfl) hf
  · have hf := if_t (K := fun x => x) c9 hf
    refine lv_bipush (v := (-2)) C.x C.b dX7_leaves_14 (by decide) ?_
    exact hR _ _ (some_k hf) _ _ _ _ h rfl dX7_leaves_16
def M_pullOf_j134 (σ : PS) (x0 : Int32) : Option Int32 := some x0
def M_pullOf_j79 (σ : PS) (v1 : Int32) (v2 : Int32) (v4 : Int32) : Option Int32 := bd (M_skinOf σ v1 v2) (fun q_1 => nm (v4 - q_1) (fun v5_2 => if (gI σ 22) = 3 then some (v5_2 / 3) else nm (v5_2 / 2) (fun v5_3 => if (gI σ 22) = 1 then bd (M_moreOf ((-60)) v5_3) (fun q_4 => bd (M_lessOf 60 q_4) (fun q_5 => M_pullOf_j134 σ q_5)) else M_pullOf_j134 σ v5_3)))
def M_pullOf_j72 (σ : PS) (v1 : Int32) (v2 : Int32) (v4 : Int32) (v5 : Int32) : Option Int32 := nz v5 (nm (v4 / v5) (fun v4_6 => M_pullOf_j79 σ v1 v2 v4_6))
def M_pullOf_j66 (σ : PS) (v1 : Int32) (v2 : Int32) (v3 : Int32) (v4 : Int32) (v5 : Int32) (v6 : Int32) : Option ((Int32 × Int32 × Int32) ⊕ Int32) := nm (v6 + 1) (fun v6_7 => some (.inl (v4, v5, v6_7)))
def M_pullOf_l22 (σ : PS) (v1 : Int32) (v2 : Int32) (v3 : Int32) (v4 : Int32) (v5 : Int32) (v6 : Int32) : Option ((Int32 × Int32 × Int32) ⊕ Int32) := bd (M_pieces σ) (fun q_8 => if q_8 ≤ v6 then up (M_pullOf_j72 σ v1 v2 v4 v5) else if v6 = v1 then M_pullOf_j66 σ v1 v2 v3 v4 v5 v6 else bd (M_whereOf σ v6 v2) (fun q_9 => if q_9 = v3 then bd (M_skinOf σ v6 v2) (fun q_10 => nm (v4 + q_10) (fun v4_11 => nm (v5 + 1) (fun v5_12 => M_pullOf_j66 σ v1 v2 v3 v4_11 v5_12 v6))) else M_pullOf_j66 σ v1 v2 v3 v4 v5 v6))
def M_pullOf_B22 (σ : PS) (v1 : Int32) (v2 : Int32) (v3 : Int32) : (Int32 × Int32 × Int32) → Option ((Int32 × Int32 × Int32) ⊕ Int32) := fun t => M_pullOf_l22 σ v1 v2 v3 t.1 t.2.1 t.2.2
def M_pullOf (σ : PS) (v1 : Int32) (v2 : Int32) (v3 : Int32) : Option Int32 := bd (M_airOf σ v3 v2) (fun q_13 => if (gI σ 22) = 2 then loop (M_pullOf_B22 σ v1 v2 v3) fu (q_13, 1, 0) else M_pullOf_j79 σ v1 v2 q_13)
set_option maxHeartbeats 4000000 in
theorem kM_pullOf (l : Launch) {D : va_G} {ty : Nat → ClassId} {A : Nat → Prop} {o : Nat} {ad : Nat → Nat} {rs : va_W} {σ : PS} {v1 : Int32} {v2 : Int32} {v3 : Int32} {r : Int32} (hf : M_pullOf σ v1 v2 v3 = some r) : KI l yX7_pullOf cX7_pullOf 7 .int 2 D ty A (wM ty o ad σ ++ rs) (wM ty o ad σ ++ rs) [.ref o, .int v1, .int v2, .int v3] r := by
  refine KI.of (by decide) (Nat.le_of_ble_eq_true rfl) ?_
  intro p e R s m args below meth c Q C hR
  have C : Cx p R s m args c cX7_pullOf 7 RX7 D ty A 2 := C
  have hR : ∀ (v : Int32), v = r → ∀ (H : Heap) (locs : List Loc) (pc : Nat) (ls : Array Slot), Hw D A s H locs (wM ty o ad σ ++ rs) → narrow .int (.int v) = .int v → decode cX7_pullOf pc = .ok (.ireturn, 1) → W p l e R s m args below meth c H locs 0 0 Q (F0 m pc ls [.int v]) := by intro v e9; cases e9; exact hR
  have j134 : ∀ (x0 : Int32) (H : Heap) (locs : List Loc) (ls : Array Slot), Hw D A s H locs (wM ty o ad σ ++ rs) → lv_has ls 7 [] → M_pullOf_j134 σ x0 = some r → W p l e R s m args below meth c H locs 0 0 Q (F0 m 134 ls [.int x0]) := by
    intro x0 H locs ls h hl hf
    unfold M_pullOf_j134 at hf
    exact hR _ (some_k hf) _ _ _ _ h rfl dX7_pullOf_134
  have j79 : ∀ (v4 : Int32) (H : Heap) (locs : List Loc) (ls : Array Slot), Hw D A s H locs (wM ty o ad σ ++ rs) → lv_has ls 7 [(0, .ref o), (1, .int v1), (2, .int v2), (4, .int v4)] → M_pullOf_j79 σ v1 v2 v4 = some r → W p l e R s m args below meth c H locs 0 0 Q (F0 m 79 ls []) := by
    intro v4 H locs ls h hl hf
    unfold M_pullOf_j79 at hf
    refine lv_iload C.x C.b dX7_pullOf_79 (lv_at hl 3 rfl) ?_
    refine lv_aload_n C.x C.b dX7_pullOf_81 rfl (lv_at hl 0 rfl) ?_
    refine lv_iload_n C.x C.b dX7_pullOf_82 rfl (lv_at hl 1 rfl) ?_
    refine lv_iload_n C.x C.b dX7_pullOf_83 rfl (lv_at hl 2 rfl) ?_
    obtain ⟨q_1, hc, hf⟩ := bd_k (K := fun x => x) rfl hf
    refine cM_skinOf C h hc (Nat.le_of_ble_eq_true rfl) hl.1 (Nat.le_of_ble_eq_true rfl) dX7_pullOf_84 (fun H locs h => ?_)
    refine lv_isub C.x C.b dX7_pullOf_87 ?_
    obtain ⟨v5_2, e9, hf⟩ := nm_k (K := fun x => x) hf
    refine lv_topI e9 ?_
    refine lv_istore (lv' := [(5, .int v5_2), (0, .ref o), (1, .int v1), (2, .int v2), (4, .int v4)]) C.x C.b dX7_pullOf_88 hl (by decide) rfl (fun ls hl => ?_)
    refine lv_aload_n C.x C.b dX7_pullOf_90 rfl (lv_at hl 1 rfl) ?_
    refine m_g22 C h dX7_pullOf_91 ?_
    refine lv_iconst (v := 3) C.x C.b dX7_pullOf_94 (by decide) ?_
    refine lv_icmp_ne (tgt := 103) C.x C.b dX7_pullOf_95 (by decide) (fun c9 => ?_) (fun c9 => ?_)
    · have hf := if_f (K := fun x => x) c9 hf
      refine lv_iload C.x C.b dX7_pullOf_103 (lv_at hl 0 rfl) ?_
      refine lv_iconst (v := 2) C.x C.b dX7_pullOf_105 (by decide) ?_
      refine lv_idiv C.x C.b dX7_pullOf_106 (by decide) ?_
      obtain ⟨v5_3, e9, hf⟩ := nm_k (K := fun x => x) hf
      refine lv_topI e9 ?_
      refine lv_istore (lv' := [(5, .int v5_3), (0, .ref o), (1, .int v1), (2, .int v2), (4, .int v4)]) C.x C.b dX7_pullOf_107 hl (by decide) rfl (fun ls hl => ?_)
      refine lv_aload_n C.x C.b dX7_pullOf_109 rfl (lv_at hl 1 rfl) ?_
      refine m_g22 C h dX7_pullOf_110 ?_
      refine lv_iconst (v := 1) C.x C.b dX7_pullOf_113 (by decide) ?_
      refine lv_icmp_ne (tgt := 132) C.x C.b dX7_pullOf_114 (by decide) (fun c9 => ?_) (fun c9 => ?_)
      · have hf := if_f (K := fun x => x) c9 hf
        refine lv_iload C.x C.b dX7_pullOf_132 (lv_at hl 0 rfl) ?_
        exact j134 v5_3 _ _ _ h (lv_sub hl [] rfl) hf
      · have hf := if_t (K := fun x => x) c9 hf
        refine lv_bipush (v := 60) C.x C.b dX7_pullOf_117 (by decide) ?_
        refine lv_bipush (v := (-60)) C.x C.b dX7_pullOf_119 (by decide) ?_
        refine lv_iload C.x C.b dX7_pullOf_121 (lv_at hl 0 rfl) ?_
        obtain ⟨q_4, hc, hf⟩ := bd_k (K := fun x => x) rfl hf
        refine cM_moreOf C h hc (Nat.le_of_ble_eq_true rfl) hl.1 (Nat.le_of_ble_eq_true rfl) dX7_pullOf_123 (fun H locs h => ?_)
        obtain ⟨q_5, hc, hf⟩ := bd_k (K := fun x => x) rfl hf
        refine cM_lessOf C h hc (Nat.le_of_ble_eq_true rfl) hl.1 (Nat.le_of_ble_eq_true rfl) dX7_pullOf_126 (fun H locs h => ?_)
        refine lv_goto (tgt := 134) C.x C.b dX7_pullOf_129 (by decide) ?_
        exact j134 q_5 _ _ _ h (lv_sub hl [] rfl) hf
    · have hf := if_t (K := fun x => x) c9 hf
      refine lv_iload C.x C.b dX7_pullOf_98 (lv_at hl 0 rfl) ?_
      refine lv_iconst (v := 3) C.x C.b dX7_pullOf_100 (by decide) ?_
      refine lv_idiv C.x C.b dX7_pullOf_101 (by decide) ?_
      exact hR _ (some_k hf) _ _ _ _ h rfl dX7_pullOf_102
  have j72 : ∀ (v4 : Int32) (v5 : Int32) (H : Heap) (locs : List Loc) (ls : Array Slot), Hw D A s H locs (wM ty o ad σ ++ rs) → lv_has ls 7 [(0, .ref o), (1, .int v1), (2, .int v2), (4, .int v4), (5, .int v5)] → M_pullOf_j72 σ v1 v2 v4 v5 = some r → W p l e R s m args below meth c H locs 0 0 Q (F0 m 72 ls []) := by
    intro v4 v5 H locs ls h hl hf
    unfold M_pullOf_j72 at hf
    refine lv_iload C.x C.b dX7_pullOf_72 (lv_at hl 3 rfl) ?_
    refine lv_iload C.x C.b dX7_pullOf_74 (lv_at hl 4 rfl) ?_
    obtain ⟨hz, hf⟩ := nz_k (K := fun x => x) rfl hf
    refine lv_idiv C.x C.b dX7_pullOf_76 hz ?_
    obtain ⟨v4_6, e9, hf⟩ := nm_k (K := fun x => x) hf
    refine lv_topI e9 ?_
    refine lv_istore (lv' := [(4, .int v4_6), (0, .ref o), (1, .int v1), (2, .int v2), (5, .int v5)]) C.x C.b dX7_pullOf_77 hl (by decide) rfl (fun ls hl => ?_)
    exact j79 v4_6 _ _ _ h (lv_sub hl [1, 2, 3, 0] rfl) hf
  have l22 : ∀ (n22 : Nat) (v4 : Int32) (v5 : Int32) (v6 : Int32) (H : Heap) (locs : List Loc) (ls : Array Slot), Hw D A s H locs (wM ty o ad σ ++ rs) → lv_has ls 7 [(0, .ref o), (1, .int v1), (2, .int v2), (3, .int v3), (4, .int v4), (5, .int v5), (6, .int v6)] → loop (M_pullOf_B22 σ v1 v2 v3) n22 (v4, v5, v6) = some r → W p l e R s m args below meth c H locs 0 0 Q (F0 m 22 ls []) := by
    intro n22
    induction n22 with
    | zero => intro v4 v5 v6 H locs ls h hl hf; exact (none_k hf).elim
    | succ n22 ih22 =>
      have j66 : ∀ (v4 : Int32) (v5 : Int32) (v6 : Int32) (H : Heap) (locs : List Loc) (ls : Array Slot), Hw D A s H locs (wM ty o ad σ ++ rs) → lv_has ls 7 [(0, .ref o), (1, .int v1), (2, .int v2), (3, .int v3), (4, .int v4), (5, .int v5), (6, .int v6)] → bl (M_pullOf_B22 σ v1 v2 v3) n22 (M_pullOf_j66 σ v1 v2 v3 v4 v5 v6) = some r → W p l e R s m args below meth c H locs 0 0 Q (F0 m 66 ls []) := by
        intro v4 v5 v6 H locs ls h hl hf
        unfold M_pullOf_j66 at hf
        obtain ⟨v6_7, e9, hf⟩ := nm_k (K := bl (M_pullOf_B22 σ v1 v2 v3) n22) hf
        refine lv_iinc (v := v6_7) (lv' := [(6, .int v6_7), (0, .ref o), (1, .int v1), (2, .int v2), (3, .int v3), (4, .int v4), (5, .int v5)]) C.x C.b dX7_pullOf_66 hl (k := 6) rfl (iinc_e (k := 1) (by decide) e9) (by decide) rfl (fun ls hl => ?_)
        refine lv_goto (tgt := 22) C.x C.b dX7_pullOf_69 (by decide) ?_
        exact ih22 v4 v5 v6_7 _ _ _ h (lv_sub hl [1, 2, 3, 4, 5, 6, 0] rfl) hf
      intro v4 v5 v6 H locs ls h hl hf
      have hf : bl (M_pullOf_B22 σ v1 v2 v3) n22 (M_pullOf_l22 σ v1 v2 v3 v4 v5 v6) = some r := hf
      unfold M_pullOf_l22 at hf
      refine lv_iload C.x C.b dX7_pullOf_22 (lv_at hl 6 rfl) ?_
      refine lv_aload_n C.x C.b dX7_pullOf_24 rfl (lv_at hl 0 rfl) ?_
      obtain ⟨q_8, hc, hf⟩ := bd_k (K := bl (M_pullOf_B22 σ v1 v2 v3) n22) rfl hf
      refine cM_pieces C h hc (Nat.le_of_ble_eq_true rfl) hl.1 (Nat.le_of_ble_eq_true rfl) dX7_pullOf_25 (fun H locs h => ?_)
      refine lv_icmp_ge (tgt := 72) C.x C.b dX7_pullOf_28 (by decide) (fun c9 => ?_) (fun c9 => ?_)
      · have hf := if_t (K := bl (M_pullOf_B22 σ v1 v2 v3) n22) c9 hf
        have hf := bl_upK (K := fun x => x) hf
        exact j72 v4 v5 _ _ _ h (lv_sub hl [0, 1, 2, 4, 5] rfl) hf
      · have hf := if_f (K := bl (M_pullOf_B22 σ v1 v2 v3) n22) c9 hf
        refine lv_iload C.x C.b dX7_pullOf_31 (lv_at hl 6 rfl) ?_
        refine lv_iload_n C.x C.b dX7_pullOf_33 rfl (lv_at hl 1 rfl) ?_
        refine lv_icmp_eq (tgt := 66) C.x C.b dX7_pullOf_34 (by decide) (fun c9 => ?_) (fun c9 => ?_)
        · have hf := if_t (K := bl (M_pullOf_B22 σ v1 v2 v3) n22) c9 hf
          exact j66 v4 v5 v6 _ _ _ h (lv_sub hl [0, 1, 2, 3, 4, 5, 6] rfl) hf
        · have hf := if_f (K := bl (M_pullOf_B22 σ v1 v2 v3) n22) c9 hf
          refine lv_aload_n C.x C.b dX7_pullOf_37 rfl (lv_at hl 0 rfl) ?_
          refine lv_iload C.x C.b dX7_pullOf_38 (lv_at hl 6 rfl) ?_
          refine lv_iload_n C.x C.b dX7_pullOf_40 rfl (lv_at hl 2 rfl) ?_
          obtain ⟨q_9, hc, hf⟩ := bd_k (K := bl (M_pullOf_B22 σ v1 v2 v3) n22) rfl hf
          refine cM_whereOf C h hc (Nat.le_of_ble_eq_true rfl) hl.1 (Nat.le_of_ble_eq_true rfl) dX7_pullOf_41 (fun H locs h => ?_)
          refine lv_iload_n C.x C.b dX7_pullOf_44 rfl (lv_at hl 3 rfl) ?_
          refine lv_icmp_eq (tgt := 51) C.x C.b dX7_pullOf_45 (by decide) (fun c9 => ?_) (fun c9 => ?_)
          · have hf := if_t (K := bl (M_pullOf_B22 σ v1 v2 v3) n22) c9 hf
            refine lv_iload C.x C.b dX7_pullOf_51 (lv_at hl 4 rfl) ?_
            refine lv_aload_n C.x C.b dX7_pullOf_53 rfl (lv_at hl 0 rfl) ?_
            refine lv_iload C.x C.b dX7_pullOf_54 (lv_at hl 6 rfl) ?_
            refine lv_iload_n C.x C.b dX7_pullOf_56 rfl (lv_at hl 2 rfl) ?_
            obtain ⟨q_10, hc, hf⟩ := bd_k (K := bl (M_pullOf_B22 σ v1 v2 v3) n22) rfl hf
            refine cM_skinOf C h hc (Nat.le_of_ble_eq_true rfl) hl.1 (Nat.le_of_ble_eq_true rfl) dX7_pullOf_57 (fun H locs h => ?_)
            refine lv_iadd C.x C.b dX7_pullOf_60 ?_
            obtain ⟨v4_11, e9, hf⟩ := nm_k (K := bl (M_pullOf_B22 σ v1 v2 v3) n22) hf
            refine lv_topI e9 ?_
            refine lv_istore (lv' := [(4, .int v4_11), (0, .ref o), (1, .int v1), (2, .int v2), (3, .int v3), (5, .int v5), (6, .int v6)]) C.x C.b dX7_pullOf_61 hl (by decide) rfl (fun ls hl => ?_)
            obtain ⟨v5_12, e9, hf⟩ := nm_k (K := bl (M_pullOf_B22 σ v1 v2 v3) n22) hf
            refine lv_iinc (v := v5_12) (lv' := [(5, .int v5_12), (4, .int v4_11), (0, .ref o), (1, .int v1), (2, .int v2), (3, .int v3), (6, .int v6)]) C.x C.b dX7_pullOf_63 hl (k := 5) rfl (iinc_e (k := 1) (by decide) e9) (by decide) rfl (fun ls hl => ?_)
            exact j66 v4_11 v5_12 v6 _ _ _ h (lv_sub hl [2, 3, 4, 5, 1, 0, 6] rfl) hf
          · have hf := if_f (K := bl (M_pullOf_B22 σ v1 v2 v3) n22) c9 hf
            refine lv_goto (tgt := 66) C.x C.b dX7_pullOf_48 (by decide) ?_
            exact j66 v4 v5 v6 _ _ _ h (lv_sub hl [0, 1, 2, 3, 4, 5, 6] rfl) hf
  intro H locs ls h hl
  have hl : lv_has ls 7 [(0, .ref o), (1, .int v1), (2, .int v2), (3, .int v3)] := hl
  unfold M_pullOf at hf
  refine lv_aload_n C.x C.b dX7_pullOf_0 rfl (lv_at hl 0 rfl) ?_
  refine lv_iload_n C.x C.b dX7_pullOf_1 rfl (lv_at hl 3 rfl) ?_
  refine lv_iload_n C.x C.b dX7_pullOf_2 rfl (lv_at hl 2 rfl) ?_
  obtain ⟨q_13, hc, hf⟩ := bd_k (K := fun x => x) rfl hf
  refine cM_airOf C h hc (Nat.le_of_ble_eq_true rfl) hl.1 (Nat.le_of_ble_eq_true rfl) dX7_pullOf_3 (fun H locs h => ?_)
  refine lv_istore (lv' := [(4, .int q_13), (0, .ref o), (1, .int v1), (2, .int v2), (3, .int v3)]) C.x C.b dX7_pullOf_6 hl (by decide) rfl (fun ls hl => ?_)
  refine lv_aload_n C.x C.b dX7_pullOf_8 rfl (lv_at hl 1 rfl) ?_
  refine m_g22 C h dX7_pullOf_9 ?_
  refine lv_iconst (v := 2) C.x C.b dX7_pullOf_12 (by decide) ?_
  refine lv_icmp_ne (tgt := 79) C.x C.b dX7_pullOf_13 (by decide) (fun c9 => ?_) (fun c9 => ?_)
  · have hf := if_f (K := fun x => x) c9 hf
    exact j79 q_13 _ _ _ h (lv_sub hl [1, 2, 3, 0] rfl) hf
  · have hf := if_t (K := fun x => x) c9 hf
    refine lv_iconst (v := 1) C.x C.b dX7_pullOf_16 (by decide) ?_
    refine lv_istore (lv' := [(5, .int 1), (4, .int q_13), (0, .ref o), (1, .int v1), (2, .int v2), (3, .int v3)]) C.x C.b dX7_pullOf_17 hl (by decide) rfl (fun ls hl => ?_)
    refine lv_iconst (v := 0) C.x C.b dX7_pullOf_19 (by decide) ?_
    refine lv_istore (lv' := [(6, .int 0), (5, .int 1), (4, .int q_13), (0, .ref o), (1, .int v1), (2, .int v2), (3, .int v3)]) C.x C.b dX7_pullOf_20 hl (by decide) rfl (fun ls hl => ?_)
    exact l22  fu q_13 1 0 _ _ _ h (lv_sub hl [3, 4, 5, 6, 2, 1, 0] rfl) hf
theorem tM_pullOf : GoodIn lw_all (wsV RX7 286 RX7 yX7_pullOf (ws_ yX7_pullOf cX7_pullOf 7 (some .int))) := lw_V q1901 q1903 qs107 q147 q1904
theorem cM_pullOf {p : Program} {l : Launch} {e : Env} {R : Room} {s : State} {m : MethodId} {args : Array Value} {below : List Frame} {meth : Method} {c : Code} {H : Heap} {locs : List Loc} {Q : State → Prop} {cc : ByteArray} {pc : Nat} {ls : Array Slot} {st : List Value} {nL d : Nat} {D : va_G} {ty : Nat → ClassId} {A : Nat → Prop} {o : Nat} {ad : Nat → Nat} {rs : va_W} {σ : PS} {v1 : Int32} {v2 : Int32} {v3 : Int32} {q : Int32} (C : Cx p R s m args c cc nL RX7 D ty A d) (h : Hw D A s H locs (wM ty o ad σ ++ rs)) (hc : M_pullOf σ v1 v2 v3 = some q) (hd : 2 + 1 ≤ d) (hls : ls.size = nL) (hcat : (st.map fun v => v.category).sum ≤ 8) (dec : decode cc pc = .ok (.invokevirtual 286, 3)) (kk : ∀ (H : Heap) (locs : List Loc), Hw D A s H locs (wM ty o ad σ ++ rs) → W p l e R s m args below meth c H locs 0 0 Q (F0 m (pc + 3) ls (.int q :: st))) : W p l e R s m args below meth c H locs 0 0 Q (F0 m pc ls (.int v3 :: .int v2 :: .int v1 :: .ref o :: st)) := KI.callV (As := [.int v1, .int v2, .int v3]) C (kM_pullOf l hc) tM_pullOf ⟨rfl, by decide, by decide, by show _ = some 3; decide +kernel⟩ 0 7 rfl rfl rfl hd (by decide) (Nat.zero_le _) (Nat.zero_le _) h hls rfl hcat dec kk
def M_strainOf (σ : PS) (v1 : Int32) (v2 : Int32) : Option Int32 := bd (M_skinOf σ v1 v2) (fun q_1 => bd (M_coreOf σ v1 v2) (fun q_2 => bd (M_apart q_1 q_2) (fun q_3 => some q_3)))
set_option maxHeartbeats 4000000 in
theorem kM_strainOf (l : Launch) {D : va_G} {ty : Nat → ClassId} {A : Nat → Prop} {o : Nat} {ad : Nat → Nat} {rs : va_W} {σ : PS} {v1 : Int32} {v2 : Int32} {r : Int32} (hf : M_strainOf σ v1 v2 = some r) : KI l yX7_strainOf cX7_strainOf 3 .int 1 D ty A (wM ty o ad σ ++ rs) (wM ty o ad σ ++ rs) [.ref o, .int v1, .int v2] r := by
  refine KI.of (by decide) (Nat.le_of_ble_eq_true rfl) ?_
  intro p e R s m args below meth c Q C hR
  have C : Cx p R s m args c cX7_strainOf 3 RX7 D ty A 1 := C
  have hR : ∀ (v : Int32), v = r → ∀ (H : Heap) (locs : List Loc) (pc : Nat) (ls : Array Slot), Hw D A s H locs (wM ty o ad σ ++ rs) → narrow .int (.int v) = .int v → decode cX7_strainOf pc = .ok (.ireturn, 1) → W p l e R s m args below meth c H locs 0 0 Q (F0 m pc ls [.int v]) := by intro v e9; cases e9; exact hR
  intro H locs ls h hl
  have hl : lv_has ls 3 [(0, .ref o), (1, .int v1), (2, .int v2)] := hl
  unfold M_strainOf at hf
  refine lv_aload_n C.x C.b dX7_strainOf_0 rfl (lv_at hl 0 rfl) ?_
  refine lv_iload_n C.x C.b dX7_strainOf_1 rfl (lv_at hl 1 rfl) ?_
  refine lv_iload_n C.x C.b dX7_strainOf_2 rfl (lv_at hl 2 rfl) ?_
  obtain ⟨q_1, hc, hf⟩ := bd_k (K := fun x => x) rfl hf
  refine cM_skinOf C h hc (Nat.le_of_ble_eq_true rfl) hl.1 (Nat.le_of_ble_eq_true rfl) dX7_strainOf_3 (fun H locs h => ?_)
  refine lv_aload_n C.x C.b dX7_strainOf_6 rfl (lv_at hl 0 rfl) ?_
  refine lv_iload_n C.x C.b dX7_strainOf_7 rfl (lv_at hl 1 rfl) ?_
  refine lv_iload_n C.x C.b dX7_strainOf_8 rfl (lv_at hl 2 rfl) ?_
  obtain ⟨q_2, hc, hf⟩ := bd_k (K := fun x => x) rfl hf
  refine cM_coreOf C h hc (Nat.le_of_ble_eq_true rfl) hl.1 (Nat.le_of_ble_eq_true rfl) dX7_strainOf_9 (fun H locs h => ?_)
  obtain ⟨q_3, hc, hf⟩ := bd_k (K := fun x => x) rfl hf
  refine cM_apart C h hc (Nat.le_of_ble_eq_true rfl) hl.1 (Nat.le_of_ble_eq_true rfl) dX7_strainOf_12 (fun H locs h => ?_)
  exact hR _ (some_k hf) _ _ _ _ h rfl dX7_strainOf_15
theorem tM_strainOf : GoodIn lw_all (wsV RX7 290 RX7 yX7_strainOf (ws_ yX7_strainOf cX7_strainOf 3 (some .int))) := lw_V q1908 q1910 qs108 q147 q1911
theorem cM_strainOf {p : Program} {l : Launch} {e : Env} {R : Room} {s : State} {m : MethodId} {args : Array Value} {below : List Frame} {meth : Method} {c : Code} {H : Heap} {locs : List Loc} {Q : State → Prop} {cc : ByteArray} {pc : Nat} {ls : Array Slot} {st : List Value} {nL d : Nat} {D : va_G} {ty : Nat → ClassId} {A : Nat → Prop} {o : Nat} {ad : Nat → Nat} {rs : va_W} {σ : PS} {v1 : Int32} {v2 : Int32} {q : Int32} (C : Cx p R s m args c cc nL RX7 D ty A d) (h : Hw D A s H locs (wM ty o ad σ ++ rs)) (hc : M_strainOf σ v1 v2 = some q) (hd : 1 + 1 ≤ d) (hls : ls.size = nL) (hcat : (st.map fun v => v.category).sum ≤ 8) (dec : decode cc pc = .ok (.invokevirtual 290, 3)) (kk : ∀ (H : Heap) (locs : List Loc), Hw D A s H locs (wM ty o ad σ ++ rs) → W p l e R s m args below meth c H locs 0 0 Q (F0 m (pc + 3) ls (.int q :: st))) : W p l e R s m args below meth c H locs 0 0 Q (F0 m pc ls (.int v2 :: .int v1 :: .ref o :: st)) := KI.callV (As := [.int v1, .int v2]) C (kM_strainOf l hc) tM_strainOf ⟨rfl, by decide, by decide, by show _ = some 2; decide +kernel⟩ 0 7 rfl rfl rfl hd (by decide) (Nat.zero_le _) (Nat.zero_le _) h hls rfl hcat dec kk
def M_peakOf_j35 (σ : PS) (v2 : Int32) : Option Int32 := some v2
def M_peakOf_j29 (σ : PS) (v1 : Int32) (v2 : Int32) (v3 : Int32) : Option ((Int32 × Int32) ⊕ Int32) := nm (v3 + 1) (fun v3_1 => some (.inl (v2, v3_1)))
def M_peakOf_l4 (σ : PS) (v1 : Int32) (v2 : Int32) (v3 : Int32) : Option ((Int32 × Int32) ⊕ Int32) := bd (M_steps σ) (fun q_2 => if q_2 < v3 then up (M_peakOf_j35 σ v2) else bd (M_strainOf σ v1 v3) (fun q_3 => bd (M_strainOf σ v1 v2) (fun q_4 => if q_3 ≤ q_4 then M_peakOf_j29 σ v1 v2 v3 else M_peakOf_j29 σ v1 v3 v3)))
def M_peakOf_B4 (σ : PS) (v1 : Int32) : (Int32 × Int32) → Option ((Int32 × Int32) ⊕ Int32) := fun t => M_peakOf_l4 σ v1 t.1 t.2
def M_peakOf (σ : PS) (v1 : Int32) : Option Int32 := loop (M_peakOf_B4 σ v1) fu (0, 1)
set_option maxHeartbeats 4000000 in
theorem kM_peakOf (l : Launch) {D : va_G} {ty : Nat → ClassId} {A : Nat → Prop} {o : Nat} {ad : Nat → Nat} {rs : va_W} {σ : PS} {v1 : Int32} {r : Int32} (hf : M_peakOf σ v1 = some r) : KI l yX7_peakOf cX7_peakOf 4 .int 2 D ty A (wM ty o ad σ ++ rs) (wM ty o ad σ ++ rs) [.ref o, .int v1] r := by
  refine KI.of (by decide) (Nat.le_of_ble_eq_true rfl) ?_
  intro p e R s m args below meth c Q C hR
  have C : Cx p R s m args c cX7_peakOf 4 RX7 D ty A 2 := C
  have hR : ∀ (v : Int32), v = r → ∀ (H : Heap) (locs : List Loc) (pc : Nat) (ls : Array Slot), Hw D A s H locs (wM ty o ad σ ++ rs) → narrow .int (.int v) = .int v → decode cX7_peakOf pc = .ok (.ireturn, 1) → W p l e R s m args below meth c H locs 0 0 Q (F0 m pc ls [.int v]) := by intro v e9; cases e9; exact hR
  have j35 : ∀ (v2 : Int32) (H : Heap) (locs : List Loc) (ls : Array Slot), Hw D A s H locs (wM ty o ad σ ++ rs) → lv_has ls 4 [(2, .int v2)] → M_peakOf_j35 σ v2 = some r → W p l e R s m args below meth c H locs 0 0 Q (F0 m 35 ls []) := by
    intro v2 H locs ls h hl hf
    unfold M_peakOf_j35 at hf
    refine lv_iload_n C.x C.b dX7_peakOf_35 rfl (lv_at hl 0 rfl) ?_
    exact hR _ (some_k hf) _ _ _ _ h rfl dX7_peakOf_36
  have l4 : ∀ (n4 : Nat) (v2 : Int32) (v3 : Int32) (H : Heap) (locs : List Loc) (ls : Array Slot), Hw D A s H locs (wM ty o ad σ ++ rs) → lv_has ls 4 [(0, .ref o), (1, .int v1), (2, .int v2), (3, .int v3)] → loop (M_peakOf_B4 σ v1) n4 (v2, v3) = some r → W p l e R s m args below meth c H locs 0 0 Q (F0 m 4 ls []) := by
    intro n4
    induction n4 with
    | zero => intro v2 v3 H locs ls h hl hf; exact (none_k hf).elim
    | succ n4 ih4 =>
      have j29 : ∀ (v2 : Int32) (v3 : Int32) (H : Heap) (locs : List Loc) (ls : Array Slot), Hw D A s H locs (wM ty o ad σ ++ rs) → lv_has ls 4 [(0, .ref o), (1, .int v1), (2, .int v2), (3, .int v3)] → bl (M_peakOf_B4 σ v1) n4 (M_peakOf_j29 σ v1 v2 v3) = some r → W p l e R s m args below meth c H locs 0 0 Q (F0 m 29 ls []) := by
        intro v2 v3 H locs ls h hl hf
        unfold M_peakOf_j29 at hf
        obtain ⟨v3_1, e9, hf⟩ := nm_k (K := bl (M_peakOf_B4 σ v1) n4) hf
        refine lv_iinc (v := v3_1) (lv' := [(3, .int v3_1), (0, .ref o), (1, .int v1), (2, .int v2)]) C.x C.b dX7_peakOf_29 hl (k := 3) rfl (iinc_e (k := 1) (by decide) e9) (by decide) rfl (fun ls hl => ?_)
        refine lv_goto (tgt := 4) C.x C.b dX7_peakOf_32 (by decide) ?_
        exact ih4 v2 v3_1 _ _ _ h (lv_sub hl [1, 2, 3, 0] rfl) hf
      intro v2 v3 H locs ls h hl hf
      have hf : bl (M_peakOf_B4 σ v1) n4 (M_peakOf_l4 σ v1 v2 v3) = some r := hf
      unfold M_peakOf_l4 at hf
      refine lv_iload_n C.x C.b dX7_peakOf_4 rfl (lv_at hl 3 rfl) ?_
      refine lv_aload_n C.x C.b dX7_peakOf_5 rfl (lv_at hl 0 rfl) ?_
      obtain ⟨q_2, hc, hf⟩ := bd_k (K := bl (M_peakOf_B4 σ v1) n4) rfl hf
      refine cM_steps C h hc (Nat.le_of_ble_eq_true rfl) hl.1 (Nat.le_of_ble_eq_true rfl) dX7_peakOf_6 (fun H locs h => ?_)
      refine lv_icmp_gt (tgt := 35) C.x C.b dX7_peakOf_9 (by decide) (fun c9 => ?_) (fun c9 => ?_)
      · have hf := if_t (K := bl (M_peakOf_B4 σ v1) n4) c9 hf
        have hf := bl_upK (K := fun x => x) hf
        exact j35 v2 _ _ _ h (lv_sub hl [2] rfl) hf
      · have hf := if_f (K := bl (M_peakOf_B4 σ v1) n4) c9 hf
        refine lv_aload_n C.x C.b dX7_peakOf_12 rfl (lv_at hl 0 rfl) ?_
        refine lv_iload_n C.x C.b dX7_peakOf_13 rfl (lv_at hl 1 rfl) ?_
        refine lv_iload_n C.x C.b dX7_peakOf_14 rfl (lv_at hl 3 rfl) ?_
        obtain ⟨q_3, hc, hf⟩ := bd_k (K := bl (M_peakOf_B4 σ v1) n4) rfl hf
        refine cM_strainOf C h hc (Nat.le_of_ble_eq_true rfl) hl.1 (Nat.le_of_ble_eq_true rfl) dX7_peakOf_15 (fun H locs h => ?_)
        refine lv_aload_n C.x C.b dX7_peakOf_18 rfl (lv_at hl 0 rfl) ?_
        refine lv_iload_n C.x C.b dX7_peakOf_19 rfl (lv_at hl 1 rfl) ?_
        refine lv_iload_n C.x C.b dX7_peakOf_20 rfl (lv_at hl 2 rfl) ?_
        obtain ⟨q_4, hc, hf⟩ := bd_k (K := bl (M_peakOf_B4 σ v1) n4) rfl hf
        refine cM_strainOf C h hc (Nat.le_of_ble_eq_true rfl) hl.1 (Nat.le_of_ble_eq_true rfl) dX7_peakOf_21 (fun H locs h => ?_)
        refine lv_icmp_le (tgt := 29) C.x C.b dX7_peakOf_24 (by decide) (fun c9 => ?_) (fun c9 => ?_)
        · have hf := if_t (K := bl (M_peakOf_B4 σ v1) n4) c9 hf
          exact j29 v2 v3 _ _ _ h (lv_sub hl [0, 1, 2, 3] rfl) hf
        · have hf := if_f (K := bl (M_peakOf_B4 σ v1) n4) c9 hf
          refine lv_iload_n C.x C.b dX7_peakOf_27 rfl (lv_at hl 3 rfl) ?_
          refine lv_istore_n (lv' := [(2, .int v3), (0, .ref o), (1, .int v1), (3, .int v3)]) C.x C.b dX7_peakOf_28 rfl hl (by decide) rfl (fun ls hl => ?_)
          exact j29 v3 v3 _ _ _ h (lv_sub hl [1, 2, 0, 3] rfl) hf
  intro H locs ls h hl
  have hl : lv_has ls 4 [(0, .ref o), (1, .int v1)] := hl
  unfold M_peakOf at hf
  refine lv_iconst (v := 0) C.x C.b dX7_peakOf_0 (by decide) ?_
  refine lv_istore_n (lv' := [(2, .int 0), (0, .ref o), (1, .int v1)]) C.x C.b dX7_peakOf_1 rfl hl (by decide) rfl (fun ls hl => ?_)
  refine lv_iconst (v := 1) C.x C.b dX7_peakOf_2 (by decide) ?_
  refine lv_istore_n (lv' := [(3, .int 1), (2, .int 0), (0, .ref o), (1, .int v1)]) C.x C.b dX7_peakOf_3 rfl hl (by decide) rfl (fun ls hl => ?_)
  exact l4  fu 0 1 _ _ _ h (lv_sub hl [2, 3, 1, 0] rfl) hf
theorem tM_peakOf : GoodIn lw_all (wsV RX7 314 RX7 yX7_peakOf (ws_ yX7_peakOf cX7_peakOf 4 (some .int))) := lw_V q1927 q1929 qs109 q147 q1930
theorem cM_peakOf {p : Program} {l : Launch} {e : Env} {R : Room} {s : State} {m : MethodId} {args : Array Value} {below : List Frame} {meth : Method} {c : Code} {H : Heap} {locs : List Loc} {Q : State → Prop} {cc : ByteArray} {pc : Nat} {ls : Array Slot} {st : List Value} {nL d : Nat} {D : va_G} {ty : Nat → ClassId} {A : Nat → Prop} {o : Nat} {ad : Nat → Nat} {rs : va_W} {σ : PS} {v1 : Int32} {q : Int32} (C : Cx p R s m args c cc nL RX7 D ty A d) (h : Hw D A s H locs (wM ty o ad σ ++ rs)) (hc : M_peakOf σ v1 = some q) (hd : 2 + 1 ≤ d) (hls : ls.size = nL) (hcat : (st.map fun v => v.category).sum ≤ 8) (dec : decode cc pc = .ok (.invokevirtual 314, 3)) (kk : ∀ (H : Heap) (locs : List Loc), Hw D A s H locs (wM ty o ad σ ++ rs) → W p l e R s m args below meth c H locs 0 0 Q (F0 m (pc + 3) ls (.int q :: st))) : W p l e R s m args below meth c H locs 0 0 Q (F0 m pc ls (.int v1 :: .ref o :: st)) := KI.callV (As := [.int v1]) C (kM_peakOf l hc) tM_peakOf ⟨rfl, by decide, by decide, by show _ = some 1; decide +kernel⟩ 0 7 rfl rfl rfl hd (by decide) (Nat.zero_le _) (Nat.zero_le _) h hls rfl hcat dec kk
def M_markOf_j33 (σ : PS) (x0 : Int32) : Option Int32 := some x0
def M_markOf (σ : PS) (v1 : Int32) (v2 : Int32) (v3 : Int32) : Option Int32 := if v3 = 0 then bd (M_strainOf σ v1 v2) (fun q_3 => M_markOf_j33 σ q_3) else if v3 = 1 then bd (M_skinOf σ v1 v2) (fun q_2 => M_markOf_j33 σ q_2) else bd (M_coreOf σ v1 v2) (fun q_1 => M_markOf_j33 σ q_1)
set_option maxHeartbeats 4000000 in
theorem kM_markOf (l : Launch) {D : va_G} {ty : Nat → ClassId} {A : Nat → Prop} {o : Nat} {ad : Nat → Nat} {rs : va_W} {σ : PS} {v1 : Int32} {v2 : Int32} {v3 : Int32} {r : Int32} (hf : M_markOf σ v1 v2 v3 = some r) : KI l yX7_markOf cX7_markOf 4 .int 2 D ty A (wM ty o ad σ ++ rs) (wM ty o ad σ ++ rs) [.ref o, .int v1, .int v2, .int v3] r := by
  refine KI.of (by decide) (Nat.le_of_ble_eq_true rfl) ?_
  intro p e R s m args below meth c Q C hR
  have C : Cx p R s m args c cX7_markOf 4 RX7 D ty A 2 := C
  have hR : ∀ (v : Int32), v = r → ∀ (H : Heap) (locs : List Loc) (pc : Nat) (ls : Array Slot), Hw D A s H locs (wM ty o ad σ ++ rs) → narrow .int (.int v) = .int v → decode cX7_markOf pc = .ok (.ireturn, 1) → W p l e R s m args below meth c H locs 0 0 Q (F0 m pc ls [.int v]) := by intro v e9; cases e9; exact hR
  have j33 : ∀ (x0 : Int32) (H : Heap) (locs : List Loc) (ls : Array Slot), Hw D A s H locs (wM ty o ad σ ++ rs) → lv_has ls 4 [] → M_markOf_j33 σ x0 = some r → W p l e R s m args below meth c H locs 0 0 Q (F0 m 33 ls [.int x0]) := by
    intro x0 H locs ls h hl hf
    unfold M_markOf_j33 at hf
    exact hR _ (some_k hf) _ _ _ _ h rfl dX7_markOf_33
  intro H locs ls h hl
  have hl : lv_has ls 4 [(0, .ref o), (1, .int v1), (2, .int v2), (3, .int v3)] := hl
  unfold M_markOf at hf
  refine lv_iload_n C.x C.b dX7_markOf_0 rfl (lv_at hl 3 rfl) ?_
  refine lv_if_ne (tgt := 13) C.x C.b dX7_markOf_1 (by decide) (fun c9 => ?_) (fun c9 => ?_)
  · have hf := if_f (K := fun x => x) c9 hf
    refine lv_iload_n C.x C.b dX7_markOf_13 rfl (lv_at hl 3 rfl) ?_
    refine lv_iconst (v := 1) C.x C.b dX7_markOf_14 (by decide) ?_
    refine lv_icmp_ne (tgt := 27) C.x C.b dX7_markOf_15 (by decide) (fun c9 => ?_) (fun c9 => ?_)
    · have hf := if_f (K := fun x => x) c9 hf
      refine lv_aload_n C.x C.b dX7_markOf_27 rfl (lv_at hl 0 rfl) ?_
      refine lv_iload_n C.x C.b dX7_markOf_28 rfl (lv_at hl 1 rfl) ?_
      refine lv_iload_n C.x C.b dX7_markOf_29 rfl (lv_at hl 2 rfl) ?_
      obtain ⟨q_1, hc, hf⟩ := bd_k (K := fun x => x) rfl hf
      refine cM_coreOf C h hc (Nat.le_of_ble_eq_true rfl) hl.1 (Nat.le_of_ble_eq_true rfl) dX7_markOf_30 (fun H locs h => ?_)
      exact j33 q_1 _ _ _ h (lv_sub hl [] rfl) hf
    · have hf := if_t (K := fun x => x) c9 hf
      refine lv_aload_n C.x C.b dX7_markOf_18 rfl (lv_at hl 0 rfl) ?_
      refine lv_iload_n C.x C.b dX7_markOf_19 rfl (lv_at hl 1 rfl) ?_
      refine lv_iload_n C.x C.b dX7_markOf_20 rfl (lv_at hl 2 rfl) ?_
      obtain ⟨q_2, hc, hf⟩ := bd_k (K := fun x => x) rfl hf
      refine cM_skinOf C h hc (Nat.le_of_ble_eq_true rfl) hl.1 (Nat.le_of_ble_eq_true rfl) dX7_markOf_21 (fun H locs h => ?_)
      refine lv_goto (tgt := 33) C.x C.b dX7_markOf_24 (by decide) ?_
      exact j33 q_2 _ _ _ h (lv_sub hl [] rfl) hf
  · have hf := if_t (K := fun x => x) c9 hf
    refine lv_aload_n C.x C.b dX7_markOf_4 rfl (lv_at hl 0 rfl) ?_
    refine lv_iload_n C.x C.b dX7_markOf_5 rfl (lv_at hl 1 rfl) ?_
    refine lv_iload_n C.x C.b dX7_markOf_6 rfl (lv_at hl 2 rfl) ?_
    obtain ⟨q_3, hc, hf⟩ := bd_k (K := fun x => x) rfl hf
    refine cM_strainOf C h hc (Nat.le_of_ble_eq_true rfl) hl.1 (Nat.le_of_ble_eq_true rfl) dX7_markOf_7 (fun H locs h => ?_)
    refine lv_goto (tgt := 33) C.x C.b dX7_markOf_10 (by decide) ?_
    exact j33 q_3 _ _ _ h (lv_sub hl [] rfl) hf
theorem tM_markOf : GoodIn lw_all (wsV RX7 326 RX7 yX7_markOf (ws_ yX7_markOf cX7_markOf 4 (some .int))) := lw_V q1983 q1985 qs114 q147 q1986
theorem cM_markOf {p : Program} {l : Launch} {e : Env} {R : Room} {s : State} {m : MethodId} {args : Array Value} {below : List Frame} {meth : Method} {c : Code} {H : Heap} {locs : List Loc} {Q : State → Prop} {cc : ByteArray} {pc : Nat} {ls : Array Slot} {st : List Value} {nL d : Nat} {D : va_G} {ty : Nat → ClassId} {A : Nat → Prop} {o : Nat} {ad : Nat → Nat} {rs : va_W} {σ : PS} {v1 : Int32} {v2 : Int32} {v3 : Int32} {q : Int32} (C : Cx p R s m args c cc nL RX7 D ty A d) (h : Hw D A s H locs (wM ty o ad σ ++ rs)) (hc : M_markOf σ v1 v2 v3 = some q) (hd : 2 + 1 ≤ d) (hls : ls.size = nL) (hcat : (st.map fun v => v.category).sum ≤ 8) (dec : decode cc pc = .ok (.invokevirtual 326, 3)) (kk : ∀ (H : Heap) (locs : List Loc), Hw D A s H locs (wM ty o ad σ ++ rs) → W p l e R s m args below meth c H locs 0 0 Q (F0 m (pc + 3) ls (.int q :: st))) : W p l e R s m args below meth c H locs 0 0 Q (F0 m pc ls (.int v3 :: .int v2 :: .int v1 :: .ref o :: st)) := KI.callV (As := [.int v1, .int v2, .int v3]) C (kM_markOf l hc) tM_markOf ⟨rfl, by decide, by decide, by show _ = some 3; decide +kernel⟩ 0 7 rfl rfl rfl hd (by decide) (Nat.zero_le _) (Nat.zero_le _) h hls rfl hcat dec kk
def M_pairs_j62 (σ : PS) (v2 : Int32) : Option (Int32 × PS) := some (v2, σ)
def M_pairs_l25 (σ : PS) (v1 : Int32) (v2 : Int32) (v3 : Int32) : Option ((Int32 × Int32) ⊕ (Int32 × PS)) := if (gI σ 25) ≤ v3 then up (M_pairs_j62 σ v2) else bd (M_insideOf σ v3 v1) (fun q_1 => bd (M_sizeOf q_1) (fun q_2 => nm (v2 + ((q_2 * (q_2 - 1)) / 2)) (fun v2_3 => nm (v3 + 1) (fun v3_4 => some (.inl (v2_3, v3_4))))))
def M_pairs_B25 (σ : PS) (v1 : Int32) : (Int32 × Int32) → Option ((Int32 × Int32) ⊕ (Int32 × PS)) := fun t => M_pairs_l25 σ v1 t.1 t.2
def M_pairs (σ : PS) (v1 : Int32) : Option (Int32 × PS) := nm (sI σ 0 0) (fun σ_5 => bd (M_isStep σ_5 v1.toInt64) (fun q_6 => if q_6 = 0 then some ((-2), σ_5) else bd (M_lays σ_5) (fun q_7 => loop (M_pairs_B25 q_7 v1) fu (0, 0))))
set_option maxHeartbeats 4000000 in
theorem kM_pairs (l : Launch) {D : va_G} {ty : Nat → ClassId} {A : Nat → Prop} {o : Nat} {ad : Nat → Nat} {rs : va_W} {σ : PS} {σ' : PS} {v1 : Int32} {r : Int32} (hf : M_pairs σ v1 = some (r, σ')) : KI l yX7_pairs cX7_pairs 5 .int 3 D ty A (wM ty o ad σ ++ rs) (wM ty o ad σ' ++ rs) [.ref o, .int v1] r := by
  refine KI.of (by decide) (Nat.le_of_ble_eq_true rfl) ?_
  intro p e R s m args below meth c Q C hR
  have C : Cx p R s m args c cX7_pairs 5 RX7 D ty A 3 := C
  have hR : ∀ (v : Int32) (σ2 : PS), (v, σ2) = (r, σ') → ∀ (H : Heap) (locs : List Loc) (pc : Nat) (ls : Array Slot), Hw D A s H locs (wM ty o ad σ2 ++ rs) → narrow .int (.int v) = .int v → decode cX7_pairs pc = .ok (.ireturn, 1) → W p l e R s m args below meth c H locs 0 0 Q (F0 m pc ls [.int v]) := by intro v σ2 e9; cases e9; exact hR
  have j62 : ∀ (σ : PS) (v2 : Int32) (H : Heap) (locs : List Loc) (ls : Array Slot), Hw D A s H locs (wM ty o ad σ ++ rs) → lv_has ls 5 [(2, .int v2)] → M_pairs_j62 σ v2 = some (r, σ') → W p l e R s m args below meth c H locs 0 0 Q (F0 m 62 ls []) := by
    intro σ v2 H locs ls h hl hf
    unfold M_pairs_j62 at hf
    refine lv_iload_n C.x C.b dX7_pairs_62 rfl (lv_at hl 0 rfl) ?_
    exact hR _ _ (some_k hf) _ _ _ _ h rfl dX7_pairs_63
  have l25 : ∀ (σ : PS) (n25 : Nat) (v2 : Int32) (v3 : Int32) (H : Heap) (locs : List Loc) (ls : Array Slot), Hw D A s H locs (wM ty o ad σ ++ rs) → lv_has ls 5 [(0, .ref o), (1, .int v1), (2, .int v2), (3, .int v3)] → loop (M_pairs_B25 σ v1) n25 (v2, v3) = some (r, σ') → W p l e R s m args below meth c H locs 0 0 Q (F0 m 25 ls []) := by
    intro σ n25
    induction n25 with
    | zero => intro v2 v3 H locs ls h hl hf; exact (none_k hf).elim
    | succ n25 ih25 =>
      intro v2 v3 H locs ls h hl hf
      have hf : bl (M_pairs_B25 σ v1) n25 (M_pairs_l25 σ v1 v2 v3) = some (r, σ') := hf
      unfold M_pairs_l25 at hf
      refine lv_iload_n C.x C.b dX7_pairs_25 rfl (lv_at hl 3 rfl) ?_
      refine lv_aload_n C.x C.b dX7_pairs_26 rfl (lv_at hl 0 rfl) ?_
      refine m_g25 C h dX7_pairs_27 ?_
      refine lv_icmp_ge (tgt := 62) C.x C.b dX7_pairs_30 (by decide) (fun c9 => ?_) (fun c9 => ?_)
      · have hf := if_t (K := bl (M_pairs_B25 σ v1) n25) c9 hf
        have hf := bl_upK (K := fun x => x) hf
        exact j62 σ v2 _ _ _ h (lv_sub hl [2] rfl) hf
      · have hf := if_f (K := bl (M_pairs_B25 σ v1) n25) c9 hf
        refine lv_aload_n C.x C.b dX7_pairs_33 rfl (lv_at hl 0 rfl) ?_
        refine lv_iload_n C.x C.b dX7_pairs_34 rfl (lv_at hl 3 rfl) ?_
        refine lv_iload_n C.x C.b dX7_pairs_35 rfl (lv_at hl 1 rfl) ?_
        obtain ⟨q_1, hc, hf⟩ := bd_k (K := bl (M_pairs_B25 σ v1) n25) rfl hf
        refine cM_insideOf C h hc (Nat.le_of_ble_eq_true rfl) hl.1 (Nat.le_of_ble_eq_true rfl) dX7_pairs_36 (fun H locs h => ?_)
        obtain ⟨q_2, hc, hf⟩ := bd_k (K := bl (M_pairs_B25 σ v1) n25) rfl hf
        refine cM_sizeOf C h hc (Nat.le_of_ble_eq_true rfl) hl.1 (Nat.le_of_ble_eq_true rfl) dX7_pairs_39 (fun H locs h => ?_)
        refine lv_istore (lv' := [(4, .int q_2), (0, .ref o), (1, .int v1), (2, .int v2), (3, .int v3)]) C.x C.b dX7_pairs_42 hl (by decide) rfl (fun ls hl => ?_)
        refine lv_iload_n C.x C.b dX7_pairs_44 rfl (lv_at hl 3 rfl) ?_
        refine lv_iload C.x C.b dX7_pairs_45 (lv_at hl 0 rfl) ?_
        refine lv_iload C.x C.b dX7_pairs_47 (lv_at hl 0 rfl) ?_
        refine lv_iconst (v := 1) C.x C.b dX7_pairs_49 (by decide) ?_
        refine lv_isub C.x C.b dX7_pairs_50 ?_
        refine lv_imul C.x C.b dX7_pairs_51 ?_
        refine lv_iconst (v := 2) C.x C.b dX7_pairs_52 (by decide) ?_
        refine lv_idiv C.x C.b dX7_pairs_53 (by decide) ?_
        refine lv_iadd C.x C.b dX7_pairs_54 ?_
        obtain ⟨v2_3, e9, hf⟩ := nm_k (K := bl (M_pairs_B25 σ v1) n25) hf
        refine lv_topI e9 ?_
        refine lv_istore_n (lv' := [(2, .int v2_3), (4, .int q_2), (0, .ref o), (1, .int v1), (3, .int v3)]) C.x C.b dX7_pairs_55 rfl hl (by decide) rfl (fun ls hl => ?_)
        obtain ⟨v3_4, e9, hf⟩ := nm_k (K := bl (M_pairs_B25 σ v1) n25) hf
        refine lv_iinc (v := v3_4) (lv' := [(3, .int v3_4), (2, .int v2_3), (4, .int q_2), (0, .ref o), (1, .int v1)]) C.x C.b dX7_pairs_56 hl (k := 4) rfl (iinc_e (k := 1) (by decide) e9) (by decide) rfl (fun ls hl => ?_)
        refine lv_goto (tgt := 25) C.x C.b dX7_pairs_59 (by decide) ?_
        exact ih25 v2_3 v3_4 _ _ _ h (lv_sub hl [3, 4, 1, 0] rfl) hf
  intro H locs ls h hl
  have hl : lv_has ls 5 [(0, .ref o), (1, .int v1)] := hl
  unfold M_pairs at hf
  refine lv_aload_n C.x C.b dX7_pairs_0 rfl (lv_at hl 0 rfl) ?_
  refine lv_iconst (v := 0) C.x C.b dX7_pairs_1 (by decide) ?_
  obtain ⟨σ_5, e9, hf⟩ := nm_k (K := fun x => x) hf
  refine m_p0 C h e9 dX7_pairs_2 (fun H locs h => ?_)
  refine lv_aload_n C.x C.b dX7_pairs_5 rfl (lv_at hl 0 rfl) ?_
  refine lv_iload_n C.x C.b dX7_pairs_6 rfl (lv_at hl 1 rfl) ?_
  refine lv_i2l C.x C.b dX7_pairs_7 rfl ?_
  obtain ⟨q_6, hc, hf⟩ := bd_k (K := fun x => x) rfl hf
  refine cM_isStep C h hc (Nat.le_of_ble_eq_true rfl) hl.1 (Nat.le_of_ble_eq_true rfl) dX7_pairs_8 (fun H locs h => ?_)
  refine lv_if_ne (tgt := 17) C.x C.b dX7_pairs_11 (by decide) (fun c9 => ?_) (fun c9 => ?_)
  · have hf := if_f (K := fun x => x) c9 hf
    refine lv_aload_n C.x C.b dX7_pairs_17 rfl (lv_at hl 0 rfl) ?_
    obtain ⟨q_7, hc, hf⟩ := bd_k (K := fun x => x) rfl hf
    refine cM_lays C h hc (Nat.le_of_ble_eq_true rfl) hl.1 (Nat.le_of_ble_eq_true rfl) dX7_pairs_18 (fun H locs h => ?_)
    refine lv_iconst (v := 0) C.x C.b dX7_pairs_21 (by decide) ?_
    refine lv_istore_n (lv' := [(2, .int 0), (0, .ref o), (1, .int v1)]) C.x C.b dX7_pairs_22 rfl hl (by decide) rfl (fun ls hl => ?_)
    refine lv_iconst (v := 0) C.x C.b dX7_pairs_23 (by decide) ?_
    refine lv_istore_n (lv' := [(3, .int 0), (2, .int 0), (0, .ref o), (1, .int v1)]) C.x C.b dX7_pairs_24 rfl hl (by decide) rfl (fun ls hl => ?_)
    exact l25 q_7 fu 0 0 _ _ _ h (lv_sub hl [2, 3, 1, 0] rfl) hf
  · have hf := if_t (K := fun x => x) c9 hf
    refine lv_bipush (v := (-2)) C.x C.b dX7_pairs_14 (by decide) ?_
    exact hR _ _ (some_k hf) _ _ _ _ h rfl dX7_pairs_16
def M_crowd_j67 (σ : PS) (v1 : Int32) : Option (Int32 × PS) := some (v1, σ)
def M_crowd_j61 (σ : PS) (v1 : Int32) (v2 : Int32) : Option ((Int32 × Int32) ⊕ (Int32 × PS)) := nm (v2 + 1) (fun v2_1 => some (.inl (v1, v2_1)))
def M_crowd_l33 (σ : PS) (v2 : Int32) (v1 : Int32) (v3 : Int32) : Option ((Int32 × Int32) ⊕ ((Int32 × Int32) ⊕ (Int32 × PS))) := if (gI σ 25) ≤ v3 then up (M_crowd_j61 σ v1 v2) else bd (M_insideOf σ v3 v2) (fun q_2 => bd (M_sizeOf q_2) (fun q_3 => bd (M_moreOf v1 q_3) (fun q_4 => nm (v3 + 1) (fun v3_5 => some (.inl (q_4, v3_5))))))
def M_crowd_B33 (σ : PS) (v2 : Int32) : (Int32 × Int32) → Option ((Int32 × Int32) ⊕ ((Int32 × Int32) ⊕ (Int32 × PS))) := fun t => M_crowd_l33 σ v2 t.1 t.2
def M_crowd_l23 (σ : PS) (v1 : Int32) (v2 : Int32) : Option ((Int32 × Int32) ⊕ (Int32 × PS)) := bd (M_steps σ) (fun q_6 => if q_6 < v2 then up (M_crowd_j67 σ v1) else loop (M_crowd_B33 σ v2) fu (v1, 0))
def M_crowd_B23 (σ : PS) : (Int32 × Int32) → Option ((Int32 × Int32) ⊕ (Int32 × PS)) := fun t => M_crowd_l23 σ t.1 t.2
def M_crowd (σ : PS) : Option (Int32 × PS) := nm (sI σ 0 0) (fun σ_7 => bd (M_isLehr σ_7) (fun q_8 => if q_8 = 0 then some ((-2), σ_7) else bd (M_lays σ_7) (fun q_9 => loop (M_crowd_B23 q_9) fu (0, 0))))
set_option maxHeartbeats 4000000 in
theorem kM_crowd (l : Launch) {D : va_G} {ty : Nat → ClassId} {A : Nat → Prop} {o : Nat} {ad : Nat → Nat} {rs : va_W} {σ : PS} {σ' : PS} {r : Int32} (hf : M_crowd σ = some (r, σ')) : KI l yX7_crowd cX7_crowd 4 .int 3 D ty A (wM ty o ad σ ++ rs) (wM ty o ad σ' ++ rs) [.ref o] r := by
  refine KI.of (by decide) (Nat.le_of_ble_eq_true rfl) ?_
  intro p e R s m args below meth c Q C hR
  have C : Cx p R s m args c cX7_crowd 4 RX7 D ty A 3 := C
  have hR : ∀ (v : Int32) (σ2 : PS), (v, σ2) = (r, σ') → ∀ (H : Heap) (locs : List Loc) (pc : Nat) (ls : Array Slot), Hw D A s H locs (wM ty o ad σ2 ++ rs) → narrow .int (.int v) = .int v → decode cX7_crowd pc = .ok (.ireturn, 1) → W p l e R s m args below meth c H locs 0 0 Q (F0 m pc ls [.int v]) := by intro v σ2 e9; cases e9; exact hR
  have j67 : ∀ (σ : PS) (v1 : Int32) (H : Heap) (locs : List Loc) (ls : Array Slot), Hw D A s H locs (wM ty o ad σ ++ rs) → lv_has ls 4 [(1, .int v1)] → M_crowd_j67 σ v1 = some (r, σ') → W p l e R s m args below meth c H locs 0 0 Q (F0 m 67 ls []) := by
    intro σ v1 H locs ls h hl hf
    unfold M_crowd_j67 at hf
    refine lv_iload_n C.x C.b dX7_crowd_67 rfl (lv_at hl 0 rfl) ?_
    exact hR _ _ (some_k hf) _ _ _ _ h rfl dX7_crowd_68
  have l23 : ∀ (σ : PS) (n23 : Nat) (v1 : Int32) (v2 : Int32) (H : Heap) (locs : List Loc) (ls : Array Slot), Hw D A s H locs (wM ty o ad σ ++ rs) → lv_has ls 4 [(0, .ref o), (1, .int v1), (2, .int v2)] → loop (M_crowd_B23 σ) n23 (v1, v2) = some (r, σ') → W p l e R s m args below meth c H locs 0 0 Q (F0 m 23 ls []) := by
    intro σ n23
    induction n23 with
    | zero => intro v1 v2 H locs ls h hl hf; exact (none_k hf).elim
    | succ n23 ih23 =>
      have j61 : ∀ (v1 : Int32) (v2 : Int32) (H : Heap) (locs : List Loc) (ls : Array Slot), Hw D A s H locs (wM ty o ad σ ++ rs) → lv_has ls 4 [(0, .ref o), (1, .int v1), (2, .int v2)] → bl (M_crowd_B23 σ) n23 (M_crowd_j61 σ v1 v2) = some (r, σ') → W p l e R s m args below meth c H locs 0 0 Q (F0 m 61 ls []) := by
        intro v1 v2 H locs ls h hl hf
        unfold M_crowd_j61 at hf
        obtain ⟨v2_1, e9, hf⟩ := nm_k (K := bl (M_crowd_B23 σ) n23) hf
        refine lv_iinc (v := v2_1) (lv' := [(2, .int v2_1), (0, .ref o), (1, .int v1)]) C.x C.b dX7_crowd_61 hl (k := 2) rfl (iinc_e (k := 1) (by decide) e9) (by decide) rfl (fun ls hl => ?_)
        refine lv_goto (tgt := 23) C.x C.b dX7_crowd_64 (by decide) ?_
        exact ih23 v1 v2_1 _ _ _ h (lv_sub hl [1, 2, 0] rfl) hf
      have l33 : ∀ (v2 : Int32) (n33 : Nat) (v1 : Int32) (v3 : Int32) (H : Heap) (locs : List Loc) (ls : Array Slot), Hw D A s H locs (wM ty o ad σ ++ rs) → lv_has ls 4 [(0, .ref o), (1, .int v1), (2, .int v2), (3, .int v3)] → bl (M_crowd_B23 σ) n23 (loop (M_crowd_B33 σ v2) n33 (v1, v3)) = some (r, σ') → W p l e R s m args below meth c H locs 0 0 Q (F0 m 33 ls []) := by
        intro v2 n33
        induction n33 with
        | zero => intro v1 v3 H locs ls h hl hf; exact (none_k hf).elim
        | succ n33 ih33 =>
          intro v1 v3 H locs ls h hl hf
          have hf : bl (M_crowd_B23 σ) n23 (bl (M_crowd_B33 σ v2) n33 (M_crowd_l33 σ v2 v1 v3)) = some (r, σ') := hf
          unfold M_crowd_l33 at hf
          refine lv_iload_n C.x C.b dX7_crowd_33 rfl (lv_at hl 3 rfl) ?_
          refine lv_aload_n C.x C.b dX7_crowd_34 rfl (lv_at hl 0 rfl) ?_
          refine m_g25 C h dX7_crowd_35 ?_
          refine lv_icmp_ge (tgt := 61) C.x C.b dX7_crowd_38 (by decide) (fun c9 => ?_) (fun c9 => ?_)
          · have hf := if_t (K := fun x => bl (M_crowd_B23 σ) n23 (bl (M_crowd_B33 σ v2) n33 x)) c9 hf
            have hf := bl_upK (K := bl (M_crowd_B23 σ) n23) hf
            exact j61 v1 v2 _ _ _ h (lv_sub hl [0, 1, 2] rfl) hf
          · have hf := if_f (K := fun x => bl (M_crowd_B23 σ) n23 (bl (M_crowd_B33 σ v2) n33 x)) c9 hf
            refine lv_iload_n C.x C.b dX7_crowd_41 rfl (lv_at hl 1 rfl) ?_
            refine lv_aload_n C.x C.b dX7_crowd_42 rfl (lv_at hl 0 rfl) ?_
            refine lv_iload_n C.x C.b dX7_crowd_43 rfl (lv_at hl 3 rfl) ?_
            refine lv_iload_n C.x C.b dX7_crowd_44 rfl (lv_at hl 2 rfl) ?_
            obtain ⟨q_2, hc, hf⟩ := bd_k (K := fun x => bl (M_crowd_B23 σ) n23 (bl (M_crowd_B33 σ v2) n33 x)) rfl hf
            refine cM_insideOf C h hc (Nat.le_of_ble_eq_true rfl) hl.1 (Nat.le_of_ble_eq_true rfl) dX7_crowd_45 (fun H locs h => ?_)
            obtain ⟨q_3, hc, hf⟩ := bd_k (K := fun x => bl (M_crowd_B23 σ) n23 (bl (M_crowd_B33 σ v2) n33 x)) rfl hf
            refine cM_sizeOf C h hc (Nat.le_of_ble_eq_true rfl) hl.1 (Nat.le_of_ble_eq_true rfl) dX7_crowd_48 (fun H locs h => ?_)
            obtain ⟨q_4, hc, hf⟩ := bd_k (K := fun x => bl (M_crowd_B23 σ) n23 (bl (M_crowd_B33 σ v2) n33 x)) rfl hf
            refine cM_moreOf C h hc (Nat.le_of_ble_eq_true rfl) hl.1 (Nat.le_of_ble_eq_true rfl) dX7_crowd_51 (fun H locs h => ?_)
            refine lv_istore_n (lv' := [(1, .int q_4), (0, .ref o), (2, .int v2), (3, .int v3)]) C.x C.b dX7_crowd_54 rfl hl (by decide) rfl (fun ls hl => ?_)
            obtain ⟨v3_5, e9, hf⟩ := nm_k (K := fun x => bl (M_crowd_B23 σ) n23 (bl (M_crowd_B33 σ v2) n33 x)) hf
            refine lv_iinc (v := v3_5) (lv' := [(3, .int v3_5), (1, .int q_4), (0, .ref o), (2, .int v2)]) C.x C.b dX7_crowd_55 hl (k := 3) rfl (iinc_e (k := 1) (by decide) e9) (by decide) rfl (fun ls hl => ?_)
            refine lv_goto (tgt := 33) C.x C.b dX7_crowd_58 (by decide) ?_
            exact ih33 q_4 v3_5 _ _ _ h (lv_sub hl [2, 1, 3, 0] rfl) hf
      intro v1 v2 H locs ls h hl hf
      have hf : bl (M_crowd_B23 σ) n23 (M_crowd_l23 σ v1 v2) = some (r, σ') := hf
      unfold M_crowd_l23 at hf
      refine lv_iload_n C.x C.b dX7_crowd_23 rfl (lv_at hl 2 rfl) ?_
      refine lv_aload_n C.x C.b dX7_crowd_24 rfl (lv_at hl 0 rfl) ?_
      obtain ⟨q_6, hc, hf⟩ := bd_k (K := bl (M_crowd_B23 σ) n23) rfl hf
      refine cM_steps C h hc (Nat.le_of_ble_eq_true rfl) hl.1 (Nat.le_of_ble_eq_true rfl) dX7_crowd_25 (fun H locs h => ?_)
      refine lv_icmp_gt (tgt := 67) C.x C.b dX7_crowd_28 (by decide) (fun c9 => ?_) (fun c9 => ?_)
      · have hf := if_t (K := bl (M_crowd_B23 σ) n23) c9 hf
        have hf := bl_upK (K := fun x => x) hf
        exact j67 σ v1 _ _ _ h (lv_sub hl [1] rfl) hf
      · have hf := if_f (K := bl (M_crowd_B23 σ) n23) c9 hf
        refine lv_iconst (v := 0) C.x C.b dX7_crowd_31 (by decide) ?_
        refine lv_istore_n (lv' := [(3, .int 0), (0, .ref o), (1, .int v1), (2, .int v2)]) C.x C.b dX7_crowd_32 rfl hl (by decide) rfl (fun ls hl => ?_)
        exact l33 v2 fu v1 0 _ _ _ h (lv_sub hl [1, 2, 3, 0] rfl) hf
  intro H locs ls h hl
  have hl : lv_has ls 4 [(0, .ref o)] := hl
  unfold M_crowd at hf
  refine lv_aload_n C.x C.b dX7_crowd_0 rfl (lv_at hl 0 rfl) ?_
  refine lv_iconst (v := 0) C.x C.b dX7_crowd_1 (by decide) ?_
  obtain ⟨σ_7, e9, hf⟩ := nm_k (K := fun x => x) hf
  refine m_p0 C h e9 dX7_crowd_2 (fun H locs h => ?_)
  refine lv_aload_n C.x C.b dX7_crowd_5 rfl (lv_at hl 0 rfl) ?_
  obtain ⟨q_8, hc, hf⟩ := bd_k (K := fun x => x) rfl hf
  refine cM_isLehr C h hc (Nat.le_of_ble_eq_true rfl) hl.1 (Nat.le_of_ble_eq_true rfl) dX7_crowd_6 (fun H locs h => ?_)
  refine lv_if_ne (tgt := 15) C.x C.b dX7_crowd_9 (by decide) (fun c9 => ?_) (fun c9 => ?_)
  · have hf := if_f (K := fun x => x) c9 hf
    refine lv_aload_n C.x C.b dX7_crowd_15 rfl (lv_at hl 0 rfl) ?_
    obtain ⟨q_9, hc, hf⟩ := bd_k (K := fun x => x) rfl hf
    refine cM_lays C h hc (Nat.le_of_ble_eq_true rfl) hl.1 (Nat.le_of_ble_eq_true rfl) dX7_crowd_16 (fun H locs h => ?_)
    refine lv_iconst (v := 0) C.x C.b dX7_crowd_19 (by decide) ?_
    refine lv_istore_n (lv' := [(1, .int 0), (0, .ref o)]) C.x C.b dX7_crowd_20 rfl hl (by decide) rfl (fun ls hl => ?_)
    refine lv_iconst (v := 0) C.x C.b dX7_crowd_21 (by decide) ?_
    refine lv_istore_n (lv' := [(2, .int 0), (1, .int 0), (0, .ref o)]) C.x C.b dX7_crowd_22 rfl hl (by decide) rfl (fun ls hl => ?_)
    exact l23 q_9 fu 0 0 _ _ _ h (lv_sub hl [2, 1, 0] rfl) hf
  · have hf := if_t (K := fun x => x) c9 hf
    refine lv_bipush (v := (-2)) C.x C.b dX7_crowd_12 (by decide) ?_
    exact hR _ _ (some_k hf) _ _ _ _ h rfl dX7_crowd_14
def M_oven_j61 (σ : PS) (v2 : Int32) : Option (Int32 × PS) := some (v2, σ)
def M_oven_j55 (σ : PS) (v1 : Int32) (v2 : Int32) (v3 : Int32) : Option ((Int32 × Int32) ⊕ (Int32 × PS)) := nm (v3 + 1) (fun v3_1 => some (.inl (v2, v3_1)))
def M_oven_j53 (σ : PS) (v1 : Int32) (v3 : Int32) : Option ((Int32 × Int32) ⊕ (Int32 × PS)) := M_oven_j55 σ v1 v3 v3
def M_oven_l25 (σ : PS) (v1 : Int32) (v2 : Int32) (v3 : Int32) : Option ((Int32 × Int32) ⊕ (Int32 × PS)) := if (gI σ 25) ≤ v3 then up (M_oven_j61 σ v2) else if v2 = ((-1)) then M_oven_j53 σ v1 v3 else bd (M_airOf σ v3 v1) (fun q_2 => bd (M_airOf σ v2 v1) (fun q_3 => if q_2 ≤ q_3 then M_oven_j55 σ v1 v2 v3 else M_oven_j53 σ v1 v3))
def M_oven_B25 (σ : PS) (v1 : Int32) : (Int32 × Int32) → Option ((Int32 × Int32) ⊕ (Int32 × PS)) := fun t => M_oven_l25 σ v1 t.1 t.2
def M_oven (σ : PS) (v1 : Int32) : Option (Int32 × PS) := nm (sI σ 0 0) (fun σ_4 => bd (M_isStep σ_4 v1.toInt64) (fun q_5 => if q_5 = 0 then some ((-2), σ_4) else bd (M_lays σ_4) (fun q_6 => loop (M_oven_B25 q_6 v1) fu ((-1), 0))))
set_option maxHeartbeats 4000000 in
theorem kM_oven (l : Launch) {D : va_G} {ty : Nat → ClassId} {A : Nat → Prop} {o : Nat} {ad : Nat → Nat} {rs : va_W} {σ : PS} {σ' : PS} {v1 : Int32} {r : Int32} (hf : M_oven σ v1 = some (r, σ')) : KI l yX7_oven cX7_oven 4 .int 2 D ty A (wM ty o ad σ ++ rs) (wM ty o ad σ' ++ rs) [.ref o, .int v1] r := by
  refine KI.of (by decide) (Nat.le_of_ble_eq_true rfl) ?_
  intro p e R s m args below meth c Q C hR
  have C : Cx p R s m args c cX7_oven 4 RX7 D ty A 2 := C
  have hR : ∀ (v : Int32) (σ2 : PS), (v, σ2) = (r, σ') → ∀ (H : Heap) (locs : List Loc) (pc : Nat) (ls : Array Slot), Hw D A s H locs (wM ty o ad σ2 ++ rs) → narrow .int (.int v) = .int v → decode cX7_oven pc = .ok (.ireturn, 1) → W p l e R s m args below meth c H locs 0 0 Q (F0 m pc ls [.int v]) := by intro v σ2 e9; cases e9; exact hR
  have j61 : ∀ (σ : PS) (v2 : Int32) (H : Heap) (locs : List Loc) (ls : Array Slot), Hw D A s H locs (wM ty o ad σ ++ rs) → lv_has ls 4 [(2, .int v2)] → M_oven_j61 σ v2 = some (r, σ') → W p l e R s m args below meth c H locs 0 0 Q (F0 m 61 ls []) := by
    intro σ v2 H locs ls h hl hf
    unfold M_oven_j61 at hf
    refine lv_iload_n C.x C.b dX7_oven_61 rfl (lv_at hl 0 rfl) ?_
    exact hR _ _ (some_k hf) _ _ _ _ h rfl dX7_oven_62
  have l25 : ∀ (σ : PS) (n25 : Nat) (v2 : Int32) (v3 : Int32) (H : Heap) (locs : List Loc) (ls : Array Slot), Hw D A s H locs (wM ty o ad σ ++ rs) → lv_has ls 4 [(0, .ref o), (1, .int v1), (2, .int v2), (3, .int v3)] → loop (M_oven_B25 σ v1) n25 (v2, v3) = some (r, σ') → W p l e R s m args below meth c H locs 0 0 Q (F0 m 25 ls []) := by
    intro σ n25
    induction n25 with
    | zero => intro v2 v3 H locs ls h hl hf; exact (none_k hf).elim
    | succ n25 ih25 =>
      have j55 : ∀ (v2 : Int32) (v3 : Int32) (H : Heap) (locs : List Loc) (ls : Array Slot), Hw D A s H locs (wM ty o ad σ ++ rs) → lv_has ls 4 [(0, .ref o), (1, .int v1), (2, .int v2), (3, .int v3)] → bl (M_oven_B25 σ v1) n25 (M_oven_j55 σ v1 v2 v3) = some (r, σ') → W p l e R s m args below meth c H locs 0 0 Q (F0 m 55 ls []) := by
        intro v2 v3 H locs ls h hl hf
        unfold M_oven_j55 at hf
        obtain ⟨v3_1, e9, hf⟩ := nm_k (K := bl (M_oven_B25 σ v1) n25) hf
        refine lv_iinc (v := v3_1) (lv' := [(3, .int v3_1), (0, .ref o), (1, .int v1), (2, .int v2)]) C.x C.b dX7_oven_55 hl (k := 3) rfl (iinc_e (k := 1) (by decide) e9) (by decide) rfl (fun ls hl => ?_)
        refine lv_goto (tgt := 25) C.x C.b dX7_oven_58 (by decide) ?_
        exact ih25 v2 v3_1 _ _ _ h (lv_sub hl [1, 2, 3, 0] rfl) hf
      have j53 : ∀ (v3 : Int32) (H : Heap) (locs : List Loc) (ls : Array Slot), Hw D A s H locs (wM ty o ad σ ++ rs) → lv_has ls 4 [(0, .ref o), (1, .int v1), (3, .int v3)] → bl (M_oven_B25 σ v1) n25 (M_oven_j53 σ v1 v3) = some (r, σ') → W p l e R s m args below meth c H locs 0 0 Q (F0 m 53 ls []) := by
        intro v3 H locs ls h hl hf
        unfold M_oven_j53 at hf
        refine lv_iload_n C.x C.b dX7_oven_53 rfl (lv_at hl 2 rfl) ?_
        refine lv_istore_n (lv' := [(2, .int v3), (0, .ref o), (1, .int v1), (3, .int v3)]) C.x C.b dX7_oven_54 rfl hl (by decide) rfl (fun ls hl => ?_)
        exact j55 v3 v3 _ _ _ h (lv_sub hl [1, 2, 0, 3] rfl) hf
      intro v2 v3 H locs ls h hl hf
      have hf : bl (M_oven_B25 σ v1) n25 (M_oven_l25 σ v1 v2 v3) = some (r, σ') := hf
      unfold M_oven_l25 at hf
      refine lv_iload_n C.x C.b dX7_oven_25 rfl (lv_at hl 3 rfl) ?_
      refine lv_aload_n C.x C.b dX7_oven_26 rfl (lv_at hl 0 rfl) ?_
      refine m_g25 C h dX7_oven_27 ?_
      refine lv_icmp_ge (tgt := 61) C.x C.b dX7_oven_30 (by decide) (fun c9 => ?_) (fun c9 => ?_)
      · have hf := if_t (K := bl (M_oven_B25 σ v1) n25) c9 hf
        have hf := bl_upK (K := fun x => x) hf
        exact j61 σ v2 _ _ _ h (lv_sub hl [2] rfl) hf
      · have hf := if_f (K := bl (M_oven_B25 σ v1) n25) c9 hf
        refine lv_iload_n C.x C.b dX7_oven_33 rfl (lv_at hl 2 rfl) ?_
        refine lv_iconst (v := (-1)) C.x C.b dX7_oven_34 (by decide) ?_
        refine lv_icmp_eq (tgt := 53) C.x C.b dX7_oven_35 (by decide) (fun c9 => ?_) (fun c9 => ?_)
        · have hf := if_t (K := bl (M_oven_B25 σ v1) n25) c9 hf
          exact j53 v3 _ _ _ h (lv_sub hl [0, 1, 3] rfl) hf
        · have hf := if_f (K := bl (M_oven_B25 σ v1) n25) c9 hf
          refine lv_aload_n C.x C.b dX7_oven_38 rfl (lv_at hl 0 rfl) ?_
          refine lv_iload_n C.x C.b dX7_oven_39 rfl (lv_at hl 3 rfl) ?_
          refine lv_iload_n C.x C.b dX7_oven_40 rfl (lv_at hl 1 rfl) ?_
          obtain ⟨q_2, hc, hf⟩ := bd_k (K := bl (M_oven_B25 σ v1) n25) rfl hf
          refine cM_airOf C h hc (Nat.le_of_ble_eq_true rfl) hl.1 (Nat.le_of_ble_eq_true rfl) dX7_oven_41 (fun H locs h => ?_)
          refine lv_aload_n C.x C.b dX7_oven_44 rfl (lv_at hl 0 rfl) ?_
          refine lv_iload_n C.x C.b dX7_oven_45 rfl (lv_at hl 2 rfl) ?_
          refine lv_iload_n C.x C.b dX7_oven_46 rfl (lv_at hl 1 rfl) ?_
          obtain ⟨q_3, hc, hf⟩ := bd_k (K := bl (M_oven_B25 σ v1) n25) rfl hf
          refine cM_airOf C h hc (Nat.le_of_ble_eq_true rfl) hl.1 (Nat.le_of_ble_eq_true rfl) dX7_oven_47 (fun H locs h => ?_)
          refine lv_icmp_le (tgt := 55) C.x C.b dX7_oven_50 (by decide) (fun c9 => ?_) (fun c9 => ?_)
          · have hf := if_t (K := bl (M_oven_B25 σ v1) n25) c9 hf
            exact j55 v2 v3 _ _ _ h (lv_sub hl [0, 1, 2, 3] rfl) hf
          · have hf := if_f (K := bl (M_oven_B25 σ v1) n25) c9 hf
            exact j53 v3 _ _ _ h (lv_sub hl [0, 1, 3] rfl) hf
  intro H locs ls h hl
  have hl : lv_has ls 4 [(0, .ref o), (1, .int v1)] := hl
  unfold M_oven at hf
  refine lv_aload_n C.x C.b dX7_oven_0 rfl (lv_at hl 0 rfl) ?_
  refine lv_iconst (v := 0) C.x C.b dX7_oven_1 (by decide) ?_
  obtain ⟨σ_4, e9, hf⟩ := nm_k (K := fun x => x) hf
  refine m_p0 C h e9 dX7_oven_2 (fun H locs h => ?_)
  refine lv_aload_n C.x C.b dX7_oven_5 rfl (lv_at hl 0 rfl) ?_
  refine lv_iload_n C.x C.b dX7_oven_6 rfl (lv_at hl 1 rfl) ?_
  refine lv_i2l C.x C.b dX7_oven_7 rfl ?_
  obtain ⟨q_5, hc, hf⟩ := bd_k (K := fun x => x) rfl hf
  refine cM_isStep C h hc (Nat.le_of_ble_eq_true rfl) hl.1 (Nat.le_of_ble_eq_true rfl) dX7_oven_8 (fun H locs h => ?_)
  refine lv_if_ne (tgt := 17) C.x C.b dX7_oven_11 (by decide) (fun c9 => ?_) (fun c9 => ?_)
  · have hf := if_f (K := fun x => x) c9 hf
    refine lv_aload_n C.x C.b dX7_oven_17 rfl (lv_at hl 0 rfl) ?_
    obtain ⟨q_6, hc, hf⟩ := bd_k (K := fun x => x) rfl hf
    refine cM_lays C h hc (Nat.le_of_ble_eq_true rfl) hl.1 (Nat.le_of_ble_eq_true rfl) dX7_oven_18 (fun H locs h => ?_)
    refine lv_iconst (v := (-1)) C.x C.b dX7_oven_21 (by decide) ?_
    refine lv_istore_n (lv' := [(2, .int ((-1))), (0, .ref o), (1, .int v1)]) C.x C.b dX7_oven_22 rfl hl (by decide) rfl (fun ls hl => ?_)
    refine lv_iconst (v := 0) C.x C.b dX7_oven_23 (by decide) ?_
    refine lv_istore_n (lv' := [(3, .int 0), (2, .int ((-1))), (0, .ref o), (1, .int v1)]) C.x C.b dX7_oven_24 rfl hl (by decide) rfl (fun ls hl => ?_)
    exact l25 q_6 fu ((-1)) 0 _ _ _ h (lv_sub hl [2, 3, 1, 0] rfl) hf
  · have hf := if_t (K := fun x => x) c9 hf
    refine lv_bipush (v := (-2)) C.x C.b dX7_oven_14 (by decide) ?_
    exact hR _ _ (some_k hf) _ _ _ _ h rfl dX7_oven_16
def M_fallOf (σ : PS) (v1 : Int32) (v2 : Int32) : Option Int32 := bd (M_airOf σ v1 v2) (fun q_1 => bd (M_airOf σ (v1 + 1) v2) (fun q_2 => some (q_1 - q_2)))
set_option maxHeartbeats 4000000 in
theorem kM_fallOf (l : Launch) {D : va_G} {ty : Nat → ClassId} {A : Nat → Prop} {o : Nat} {ad : Nat → Nat} {rs : va_W} {σ : PS} {v1 : Int32} {v2 : Int32} {r : Int32} (hf : M_fallOf σ v1 v2 = some r) : KI l yX7_fallOf cX7_fallOf 3 .int 2 D ty A (wM ty o ad σ ++ rs) (wM ty o ad σ ++ rs) [.ref o, .int v1, .int v2] r := by
  refine KI.of (by decide) (Nat.le_of_ble_eq_true rfl) ?_
  intro p e R s m args below meth c Q C hR
  have C : Cx p R s m args c cX7_fallOf 3 RX7 D ty A 2 := C
  have hR : ∀ (v : Int32), v = r → ∀ (H : Heap) (locs : List Loc) (pc : Nat) (ls : Array Slot), Hw D A s H locs (wM ty o ad σ ++ rs) → narrow .int (.int v) = .int v → decode cX7_fallOf pc = .ok (.ireturn, 1) → W p l e R s m args below meth c H locs 0 0 Q (F0 m pc ls [.int v]) := by intro v e9; cases e9; exact hR
  intro H locs ls h hl
  have hl : lv_has ls 3 [(0, .ref o), (1, .int v1), (2, .int v2)] := hl
  unfold M_fallOf at hf
  refine lv_aload_n C.x C.b dX7_fallOf_0 rfl (lv_at hl 0 rfl) ?_
  refine lv_iload_n C.x C.b dX7_fallOf_1 rfl (lv_at hl 1 rfl) ?_
  refine lv_iload_n C.x C.b dX7_fallOf_2 rfl (lv_at hl 2 rfl) ?_
  obtain ⟨q_1, hc, hf⟩ := bd_k (K := fun x => x) rfl hf
  refine cM_airOf C h hc (Nat.le_of_ble_eq_true rfl) hl.1 (Nat.le_of_ble_eq_true rfl) dX7_fallOf_3 (fun H locs h => ?_)
  refine lv_aload_n C.x C.b dX7_fallOf_6 rfl (lv_at hl 0 rfl) ?_
  refine lv_iload_n C.x C.b dX7_fallOf_7 rfl (lv_at hl 1 rfl) ?_
  refine lv_iconst (v := 1) C.x C.b dX7_fallOf_8 (by decide) ?_
  refine lv_iadd C.x C.b dX7_fallOf_9 ?_
  refine lv_iload_n C.x C.b dX7_fallOf_10 rfl (lv_at hl 2 rfl) ?_
  obtain ⟨q_2, hc, hf⟩ := bd_k (K := fun x => x) rfl hf
  refine cM_airOf C h hc (Nat.le_of_ble_eq_true rfl) hl.1 (Nat.le_of_ble_eq_true rfl) dX7_fallOf_11 (fun H locs h => ?_)
  refine lv_isub C.x C.b dX7_fallOf_14 ?_
  exact hR _ (some_k hf) _ _ _ _ h rfl dX7_fallOf_15
theorem tM_fallOf : GoodIn lw_all (wsV RX7 340 RX7 yX7_fallOf (ws_ yX7_fallOf cX7_fallOf 3 (some .int))) := lw_V q2047 q2049 qs116 q147 q2050
theorem cM_fallOf {p : Program} {l : Launch} {e : Env} {R : Room} {s : State} {m : MethodId} {args : Array Value} {below : List Frame} {meth : Method} {c : Code} {H : Heap} {locs : List Loc} {Q : State → Prop} {cc : ByteArray} {pc : Nat} {ls : Array Slot} {st : List Value} {nL d : Nat} {D : va_G} {ty : Nat → ClassId} {A : Nat → Prop} {o : Nat} {ad : Nat → Nat} {rs : va_W} {σ : PS} {v1 : Int32} {v2 : Int32} {q : Int32} (C : Cx p R s m args c cc nL RX7 D ty A d) (h : Hw D A s H locs (wM ty o ad σ ++ rs)) (hc : M_fallOf σ v1 v2 = some q) (hd : 2 + 1 ≤ d) (hls : ls.size = nL) (hcat : (st.map fun v => v.category).sum ≤ 8) (dec : decode cc pc = .ok (.invokevirtual 340, 3)) (kk : ∀ (H : Heap) (locs : List Loc), Hw D A s H locs (wM ty o ad σ ++ rs) → W p l e R s m args below meth c H locs 0 0 Q (F0 m (pc + 3) ls (.int q :: st))) : W p l e R s m args below meth c H locs 0 0 Q (F0 m pc ls (.int v2 :: .int v1 :: .ref o :: st)) := KI.callV (As := [.int v1, .int v2]) C (kM_fallOf l hc) tM_fallOf ⟨rfl, by decide, by decide, by show _ = some 2; decide +kernel⟩ 0 7 rfl rfl rfl hd (by decide) (Nat.zero_le _) (Nat.zero_le _) h hls rfl hcat dec kk
def M_cliff_j63 (σ : PS) (v2 : Int32) : Option (Int32 × PS) := some (v2, σ)
def M_cliff_j57 (σ : PS) (v1 : Int32) (v2 : Int32) (v3 : Int32) : Option ((Int32 × Int32) ⊕ (Int32 × PS)) := nm (v3 + 1) (fun v3_1 => some (.inl (v2, v3_1)))
def M_cliff_j55 (σ : PS) (v1 : Int32) (v3 : Int32) : Option ((Int32 × Int32) ⊕ (Int32 × PS)) := M_cliff_j57 σ v1 v3 v3
def M_cliff_l25 (σ : PS) (v1 : Int32) (v2 : Int32) (v3 : Int32) : Option ((Int32 × Int32) ⊕ (Int32 × PS)) := if (gI σ 25) ≤ (v3 + 1) then up (M_cliff_j63 σ v2) else if v2 = ((-1)) then M_cliff_j55 σ v1 v3 else bd (M_fallOf σ v3 v1) (fun q_2 => bd (M_fallOf σ v2 v1) (fun q_3 => if q_2 ≤ q_3 then M_cliff_j57 σ v1 v2 v3 else M_cliff_j55 σ v1 v3))
def M_cliff_B25 (σ : PS) (v1 : Int32) : (Int32 × Int32) → Option ((Int32 × Int32) ⊕ (Int32 × PS)) := fun t => M_cliff_l25 σ v1 t.1 t.2
def M_cliff (σ : PS) (v1 : Int32) : Option (Int32 × PS) := nm (sI σ 0 0) (fun σ_4 => bd (M_isStep σ_4 v1.toInt64) (fun q_5 => if q_5 = 0 then some ((-2), σ_4) else bd (M_lays σ_4) (fun q_6 => loop (M_cliff_B25 q_6 v1) fu ((-1), 0))))
set_option maxHeartbeats 4000000 in
theorem kM_cliff (l : Launch) {D : va_G} {ty : Nat → ClassId} {A : Nat → Prop} {o : Nat} {ad : Nat → Nat} {rs : va_W} {σ : PS} {σ' : PS} {v1 : Int32} {r : Int32} (hf : M_cliff σ v1 = some (r, σ')) : KI l yX7_cliff cX7_cliff 4 .int 3 D ty A (wM ty o ad σ ++ rs) (wM ty o ad σ' ++ rs) [.ref o, .int v1] r := by
  refine KI.of (by decide) (Nat.le_of_ble_eq_true rfl) ?_
  intro p e R s m args below meth c Q C hR
  have C : Cx p R s m args c cX7_cliff 4 RX7 D ty A 3 := C
  have hR : ∀ (v : Int32) (σ2 : PS), (v, σ2) = (r, σ') → ∀ (H : Heap) (locs : List Loc) (pc : Nat) (ls : Array Slot), Hw D A s H locs (wM ty o ad σ2 ++ rs) → narrow .int (.int v) = .int v → decode cX7_cliff pc = .ok (.ireturn, 1) → W p l e R s m args below meth c H locs 0 0 Q (F0 m pc ls [.int v]) := by intro v σ2 e9; cases e9; exact hR
  have j63 : ∀ (σ : PS) (v2 : Int32) (H : Heap) (locs : List Loc) (ls : Array Slot), Hw D A s H locs (wM ty o ad σ ++ rs) → lv_has ls 4 [(2, .int v2)] → M_cliff_j63 σ v2 = some (r, σ') → W p l e R s m args below meth c H locs 0 0 Q (F0 m 63 ls []) := by
    intro σ v2 H locs ls h hl hf
    unfold M_cliff_j63 at hf
    refine lv_iload_n C.x C.b dX7_cliff_63 rfl (lv_at hl 0 rfl) ?_
    exact hR _ _ (some_k hf) _ _ _ _ h rfl dX7_cliff_64
  have l25 : ∀ (σ : PS) (n25 : Nat) (v2 : Int32) (v3 : Int32) (H : Heap) (locs : List Loc) (ls : Array Slot), Hw D A s H locs (wM ty o ad σ ++ rs) → lv_has ls 4 [(0, .ref o), (1, .int v1), (2, .int v2), (3, .int v3)] → loop (M_cliff_B25 σ v1) n25 (v2, v3) = some (r, σ') → W p l e R s m args below meth c H locs 0 0 Q (F0 m 25 ls []) := by
    intro σ n25
    induction n25 with
    | zero => intro v2 v3 H locs ls h hl hf; exact (none_k hf).elim
    | succ n25 ih25 =>
      have j57 : ∀ (v2 : Int32) (v3 : Int32) (H : Heap) (locs : List Loc) (ls : Array Slot), Hw D A s H locs (wM ty o ad σ ++ rs) → lv_has ls 4 [(0, .ref o), (1, .int v1), (2, .int v2), (3, .int v3)] → bl (M_cliff_B25 σ v1) n25 (M_cliff_j57 σ v1 v2 v3) = some (r, σ') → W p l e R s m args below meth c H locs 0 0 Q (F0 m 57 ls []) := by
        intro v2 v3 H locs ls h hl hf
        unfold M_cliff_j57 at hf
        obtain ⟨v3_1, e9, hf⟩ := nm_k (K := bl (M_cliff_B25 σ v1) n25) hf
        refine lv_iinc (v := v3_1) (lv' := [(3, .int v3_1), (0, .ref o), (1, .int v1), (2, .int v2)]) C.x C.b dX7_cliff_57 hl (k := 3) rfl (iinc_e (k := 1) (by decide) e9) (by decide) rfl (fun ls hl => ?_)
        refine lv_goto (tgt := 25) C.x C.b dX7_cliff_60 (by decide) ?_
        exact ih25 v2 v3_1 _ _ _ h (lv_sub hl [1, 2, 3, 0] rfl) hf
      have j55 : ∀ (v3 : Int32) (H : Heap) (locs : List Loc) (ls : Array Slot), Hw D A s H locs (wM ty o ad σ ++ rs) → lv_has ls 4 [(0, .ref o), (1, .int v1), (3, .int v3)] → bl (M_cliff_B25 σ v1) n25 (M_cliff_j55 σ v1 v3) = some (r, σ') → W p l e R s m args below meth c H locs 0 0 Q (F0 m 55 ls []) := by
        intro v3 H locs ls h hl hf
        unfold M_cliff_j55 at hf
        refine lv_iload_n C.x C.b dX7_cliff_55 rfl (lv_at hl 2 rfl) ?_
        refine lv_istore_n (lv' := [(2, .int v3), (0, .ref o), (1, .int v1), (3, .int v3)]) C.x C.b dX7_cliff_56 rfl hl (by decide) rfl (fun ls hl => ?_)
        exact j57 v3 v3 _ _ _ h (lv_sub hl [1, 2, 0, 3] rfl) hf
      intro v2 v3 H locs ls h hl hf
      have hf : bl (M_cliff_B25 σ v1) n25 (M_cliff_l25 σ v1 v2 v3) = some (r, σ') := hf
      unfold M_cliff_l25 at hf
      refine lv_iload_n C.x C.b dX7_cliff_25 rfl (lv_at hl 3 rfl) ?_
      refine lv_iconst (v := 1) C.x C.b dX7_cliff_26 (by decide) ?_
      refine lv_iadd C.x C.b dX7_cliff_27 ?_
      refine lv_aload_n C.x C.b dX7_cliff_28 rfl (lv_at hl 0 rfl) ?_
      refine m_g25 C h dX7_cliff_29 ?_
      refine lv_icmp_ge (tgt := 63) C.x C.b dX7_cliff_32 (by decide) (fun c9 => ?_) (fun c9 => ?_)
      · have hf := if_t (K := bl (M_cliff_B25 σ v1) n25) c9 hf
        have hf := bl_upK (K := fun x => x) hf
        exact j63 σ v2 _ _ _ h (lv_sub hl [2] rfl) hf
      · have hf := if_f (K := bl (M_cliff_B25 σ v1) n25) c9 hf
        refine lv_iload_n C.x C.b dX7_cliff_35 rfl (lv_at hl 2 rfl) ?_
        refine lv_iconst (v := (-1)) C.x C.b dX7_cliff_36 (by decide) ?_
        refine lv_icmp_eq (tgt := 55) C.x C.b dX7_cliff_37 (by decide) (fun c9 => ?_) (fun c9 => ?_)
        · have hf := if_t (K := bl (M_cliff_B25 σ v1) n25) c9 hf
          exact j55 v3 _ _ _ h (lv_sub hl [0, 1, 3] rfl) hf
        · have hf := if_f (K := bl (M_cliff_B25 σ v1) n25) c9 hf
          refine lv_aload_n C.x C.b dX7_cliff_40 rfl (lv_at hl 0 rfl) ?_
          refine lv_iload_n C.x C.b dX7_cliff_41 rfl (lv_at hl 3 rfl) ?_
          refine lv_iload_n C.x C.b dX7_cliff_42 rfl (lv_at hl 1 rfl) ?_
          obtain ⟨q_2, hc, hf⟩ := bd_k (K := bl (M_cliff_B25 σ v1) n25) rfl hf
          refine cM_fallOf C h hc (Nat.le_of_ble_eq_true rfl) hl.1 (Nat.le_of_ble_eq_true rfl) dX7_cliff_43 (fun H locs h => ?_)
          refine lv_aload_n C.x C.b dX7_cliff_46 rfl (lv_at hl 0 rfl) ?_
          refine lv_iload_n C.x C.b dX7_cliff_47 rfl (lv_at hl 2 rfl) ?_
          refine lv_iload_n C.x C.b dX7_cliff_48 rfl (lv_at hl 1 rfl) ?_
          obtain ⟨q_3, hc, hf⟩ := bd_k (K := bl (M_cliff_B25 σ v1) n25) rfl hf
          refine cM_fallOf C h hc (Nat.le_of_ble_eq_true rfl) hl.1 (Nat.le_of_ble_eq_true rfl) dX7_cliff_49 (fun H locs h => ?_)
          refine lv_icmp_le (tgt := 57) C.x C.b dX7_cliff_52 (by decide) (fun c9 => ?_) (fun c9 => ?_)
          · have hf := if_t (K := bl (M_cliff_B25 σ v1) n25) c9 hf
            exact j57 v2 v3 _ _ _ h (lv_sub hl [0, 1, 2, 3] rfl) hf
          · have hf := if_f (K := bl (M_cliff_B25 σ v1) n25) c9 hf
            exact j55 v3 _ _ _ h (lv_sub hl [0, 1, 3] rfl) hf
  intro H locs ls h hl
  have hl : lv_has ls 4 [(0, .ref o), (1, .int v1)] := hl
  unfold M_cliff at hf
  refine lv_aload_n C.x C.b dX7_cliff_0 rfl (lv_at hl 0 rfl) ?_
  refine lv_iconst (v := 0) C.x C.b dX7_cliff_1 (by decide) ?_
  obtain ⟨σ_4, e9, hf⟩ := nm_k (K := fun x => x) hf
  refine m_p0 C h e9 dX7_cliff_2 (fun H locs h => ?_)
  refine lv_aload_n C.x C.b dX7_cliff_5 rfl (lv_at hl 0 rfl) ?_
  refine lv_iload_n C.x C.b dX7_cliff_6 rfl (lv_at hl 1 rfl) ?_
  refine lv_i2l C.x C.b dX7_cliff_7 rfl ?_
  obtain ⟨q_5, hc, hf⟩ := bd_k (K := fun x => x) rfl hf
  refine cM_isStep C h hc (Nat.le_of_ble_eq_true rfl) hl.1 (Nat.le_of_ble_eq_true rfl) dX7_cliff_8 (fun H locs h => ?_)
  refine lv_if_ne (tgt := 17) C.x C.b dX7_cliff_11 (by decide) (fun c9 => ?_) (fun c9 => ?_)
  · have hf := if_f (K := fun x => x) c9 hf
    refine lv_aload_n C.x C.b dX7_cliff_17 rfl (lv_at hl 0 rfl) ?_
    obtain ⟨q_6, hc, hf⟩ := bd_k (K := fun x => x) rfl hf
    refine cM_lays C h hc (Nat.le_of_ble_eq_true rfl) hl.1 (Nat.le_of_ble_eq_true rfl) dX7_cliff_18 (fun H locs h => ?_)
    refine lv_iconst (v := (-1)) C.x C.b dX7_cliff_21 (by decide) ?_
    refine lv_istore_n (lv' := [(2, .int ((-1))), (0, .ref o), (1, .int v1)]) C.x C.b dX7_cliff_22 rfl hl (by decide) rfl (fun ls hl => ?_)
    refine lv_iconst (v := 0) C.x C.b dX7_cliff_23 (by decide) ?_
    refine lv_istore_n (lv' := [(3, .int 0), (2, .int ((-1))), (0, .ref o), (1, .int v1)]) C.x C.b dX7_cliff_24 rfl hl (by decide) rfl (fun ls hl => ?_)
    exact l25 q_6 fu ((-1)) 0 _ _ _ h (lv_sub hl [2, 3, 1, 0] rfl) hf
  · have hf := if_t (K := fun x => x) c9 hf
    refine lv_bipush (v := (-2)) C.x C.b dX7_cliff_14 (by decide) ?_
    exact hR _ _ (some_k hf) _ _ _ _ h rfl dX7_cliff_16
def M_coming_j54 (σ : PS) (v2 : Int32) : Option (Int32 × PS) := some (v2, σ)
def M_coming_j46 (σ : PS) (v1 : Int32) (v3 : Int32) (x0 : Int32) (x1 : Int32) : Option ((Int32 × Int32) ⊕ (Int32 × PS)) := nm (x1 ||| x0) (fun v2_1 => nm (v3 + 1) (fun v3_2 => some (.inl (v2_1, v3_2))))
def M_coming_l21 (σ : PS) (v1 : Int32) (v2 : Int32) (v3 : Int32) : Option ((Int32 × Int32) ⊕ (Int32 × PS)) := bd (M_pieces σ) (fun q_3 => if q_3 ≤ v3 then up (M_coming_j54 σ v2) else bd (M_comes σ v3) (fun q_4 => if q_4 = v1 then M_coming_j46 σ v1 v3 (1 <<< (v3 &&& 31)) v2 else M_coming_j46 σ v1 v3 0 v2))
def M_coming_B21 (σ : PS) (v1 : Int32) : (Int32 × Int32) → Option ((Int32 × Int32) ⊕ (Int32 × PS)) := fun t => M_coming_l21 σ v1 t.1 t.2
def M_coming (σ : PS) (v1 : Int32) : Option (Int32 × PS) := nm (sI σ 0 0) (fun σ_5 => bd (M_isStep σ_5 v1.toInt64) (fun q_6 => if q_6 = 0 then some ((-2), σ_5) else loop (M_coming_B21 σ_5 v1) fu (0, 0)))
set_option maxHeartbeats 4000000 in
theorem kM_coming (l : Launch) {D : va_G} {ty : Nat → ClassId} {A : Nat → Prop} {o : Nat} {ad : Nat → Nat} {rs : va_W} {σ : PS} {σ' : PS} {v1 : Int32} {r : Int32} (hf : M_coming σ v1 = some (r, σ')) : KI l yX7_coming cX7_coming 4 .int 2 D ty A (wM ty o ad σ ++ rs) (wM ty o ad σ' ++ rs) [.ref o, .int v1] r := by
  refine KI.of (by decide) (Nat.le_of_ble_eq_true rfl) ?_
  intro p e R s m args below meth c Q C hR
  have C : Cx p R s m args c cX7_coming 4 RX7 D ty A 2 := C
  have hR : ∀ (v : Int32) (σ2 : PS), (v, σ2) = (r, σ') → ∀ (H : Heap) (locs : List Loc) (pc : Nat) (ls : Array Slot), Hw D A s H locs (wM ty o ad σ2 ++ rs) → narrow .int (.int v) = .int v → decode cX7_coming pc = .ok (.ireturn, 1) → W p l e R s m args below meth c H locs 0 0 Q (F0 m pc ls [.int v]) := by intro v σ2 e9; cases e9; exact hR
  have j54 : ∀ (σ : PS) (v2 : Int32) (H : Heap) (locs : List Loc) (ls : Array Slot), Hw D A s H locs (wM ty o ad σ ++ rs) → lv_has ls 4 [(2, .int v2)] → M_coming_j54 σ v2 = some (r, σ') → W p l e R s m args below meth c H locs 0 0 Q (F0 m 54 ls []) := by
    intro σ v2 H locs ls h hl hf
    unfold M_coming_j54 at hf
    refine lv_iload_n C.x C.b dX7_coming_54 rfl (lv_at hl 0 rfl) ?_
    exact hR _ _ (some_k hf) _ _ _ _ h rfl dX7_coming_55
  have l21 : ∀ (σ : PS) (n21 : Nat) (v2 : Int32) (v3 : Int32) (H : Heap) (locs : List Loc) (ls : Array Slot), Hw D A s H locs (wM ty o ad σ ++ rs) → lv_has ls 4 [(0, .ref o), (1, .int v1), (2, .int v2), (3, .int v3)] → loop (M_coming_B21 σ v1) n21 (v2, v3) = some (r, σ') → W p l e R s m args below meth c H locs 0 0 Q (F0 m 21 ls []) := by
    intro σ n21
    induction n21 with
    | zero => intro v2 v3 H locs ls h hl hf; exact (none_k hf).elim
    | succ n21 ih21 =>
      have j46 : ∀ (v3 : Int32) (x0 : Int32) (x1 : Int32) (H : Heap) (locs : List Loc) (ls : Array Slot), Hw D A s H locs (wM ty o ad σ ++ rs) → lv_has ls 4 [(0, .ref o), (1, .int v1), (3, .int v3)] → bl (M_coming_B21 σ v1) n21 (M_coming_j46 σ v1 v3 x0 x1) = some (r, σ') → W p l e R s m args below meth c H locs 0 0 Q (F0 m 46 ls [.int x0, .int x1]) := by
        intro v3 x0 x1 H locs ls h hl hf
        unfold M_coming_j46 at hf
        refine lv_ior C.x C.b dX7_coming_46 ?_
        obtain ⟨v2_1, e9, hf⟩ := nm_k (K := bl (M_coming_B21 σ v1) n21) hf
        refine lv_topI e9 ?_
        refine lv_istore_n (lv' := [(2, .int v2_1), (0, .ref o), (1, .int v1), (3, .int v3)]) C.x C.b dX7_coming_47 rfl hl (by decide) rfl (fun ls hl => ?_)
        obtain ⟨v3_2, e9, hf⟩ := nm_k (K := bl (M_coming_B21 σ v1) n21) hf
        refine lv_iinc (v := v3_2) (lv' := [(3, .int v3_2), (2, .int v2_1), (0, .ref o), (1, .int v1)]) C.x C.b dX7_coming_48 hl (k := 3) rfl (iinc_e (k := 1) (by decide) e9) (by decide) rfl (fun ls hl => ?_)
        refine lv_goto (tgt := 21) C.x C.b dX7_coming_51 (by decide) ?_
        exact ih21 v2_1 v3_2 _ _ _ h (lv_sub hl [2, 3, 1, 0] rfl) hf
      intro v2 v3 H locs ls h hl hf
      have hf : bl (M_coming_B21 σ v1) n21 (M_coming_l21 σ v1 v2 v3) = some (r, σ') := hf
      unfold M_coming_l21 at hf
      refine lv_iload_n C.x C.b dX7_coming_21 rfl (lv_at hl 3 rfl) ?_
      refine lv_aload_n C.x C.b dX7_coming_22 rfl (lv_at hl 0 rfl) ?_
      obtain ⟨q_3, hc, hf⟩ := bd_k (K := bl (M_coming_B21 σ v1) n21) rfl hf
      refine cM_pieces C h hc (Nat.le_of_ble_eq_true rfl) hl.1 (Nat.le_of_ble_eq_true rfl) dX7_coming_23 (fun H locs h => ?_)
      refine lv_icmp_ge (tgt := 54) C.x C.b dX7_coming_26 (by decide) (fun c9 => ?_) (fun c9 => ?_)
      · have hf := if_t (K := bl (M_coming_B21 σ v1) n21) c9 hf
        have hf := bl_upK (K := fun x => x) hf
        exact j54 σ v2 _ _ _ h (lv_sub hl [2] rfl) hf
      · have hf := if_f (K := bl (M_coming_B21 σ v1) n21) c9 hf
        refine lv_iload_n C.x C.b dX7_coming_29 rfl (lv_at hl 2 rfl) ?_
        refine lv_aload_n C.x C.b dX7_coming_30 rfl (lv_at hl 0 rfl) ?_
        refine lv_iload_n C.x C.b dX7_coming_31 rfl (lv_at hl 3 rfl) ?_
        obtain ⟨q_4, hc, hf⟩ := bd_k (K := bl (M_coming_B21 σ v1) n21) rfl hf
        refine cM_comes C h hc (Nat.le_of_ble_eq_true rfl) hl.1 (Nat.le_of_ble_eq_true rfl) dX7_coming_32 (fun H locs h => ?_)
        refine lv_iload_n C.x C.b dX7_coming_35 rfl (lv_at hl 1 rfl) ?_
        refine lv_icmp_ne (tgt := 45) C.x C.b dX7_coming_36 (by decide) (fun c9 => ?_) (fun c9 => ?_)
        · have hf := if_f (K := bl (M_coming_B21 σ v1) n21) c9 hf
          refine lv_iconst (v := 0) C.x C.b dX7_coming_45 (by decide) ?_
          exact j46 v3 0 v2 _ _ _ h (lv_sub hl [0, 1, 3] rfl) hf
        · have hf := if_t (K := bl (M_coming_B21 σ v1) n21) c9 hf
          refine lv_iconst (v := 1) C.x C.b dX7_coming_39 (by decide) ?_
          refine lv_iload_n C.x C.b dX7_coming_40 rfl (lv_at hl 3 rfl) ?_
          refine lv_ishl C.x C.b dX7_coming_41 ?_
          refine lv_goto (tgt := 46) C.x C.b dX7_coming_42 (by decide) ?_
          exact j46 v3 (1 <<< (v3 &&& 31)) v2 _ _ _ h (lv_sub hl [0, 1, 3] rfl) hf
  intro H locs ls h hl
  have hl : lv_has ls 4 [(0, .ref o), (1, .int v1)] := hl
  unfold M_coming at hf
  refine lv_aload_n C.x C.b dX7_coming_0 rfl (lv_at hl 0 rfl) ?_
  refine lv_iconst (v := 0) C.x C.b dX7_coming_1 (by decide) ?_
  obtain ⟨σ_5, e9, hf⟩ := nm_k (K := fun x => x) hf
  refine m_p0 C h e9 dX7_coming_2 (fun H locs h => ?_)
  refine lv_aload_n C.x C.b dX7_coming_5 rfl (lv_at hl 0 rfl) ?_
  refine lv_iload_n C.x C.b dX7_coming_6 rfl (lv_at hl 1 rfl) ?_
  refine lv_i2l C.x C.b dX7_coming_7 rfl ?_
  obtain ⟨q_6, hc, hf⟩ := bd_k (K := fun x => x) rfl hf
  refine cM_isStep C h hc (Nat.le_of_ble_eq_true rfl) hl.1 (Nat.le_of_ble_eq_true rfl) dX7_coming_8 (fun H locs h => ?_)
  refine lv_if_ne (tgt := 17) C.x C.b dX7_coming_11 (by decide) (fun c9 => ?_) (fun c9 => ?_)
  · have hf := if_f (K := fun x => x) c9 hf
    refine lv_iconst (v := 0) C.x C.b dX7_coming_17 (by decide) ?_
    refine lv_istore_n (lv' := [(2, .int 0), (0, .ref o), (1, .int v1)]) C.x C.b dX7_coming_18 rfl hl (by decide) rfl (fun ls hl => ?_)
    refine lv_iconst (v := 0) C.x C.b dX7_coming_19 (by decide) ?_
    refine lv_istore_n (lv' := [(3, .int 0), (2, .int 0), (0, .ref o), (1, .int v1)]) C.x C.b dX7_coming_20 rfl hl (by decide) rfl (fun ls hl => ?_)
    exact l21 σ_5 fu 0 0 _ _ _ h (lv_sub hl [2, 3, 1, 0] rfl) hf
  · have hf := if_t (K := fun x => x) c9 hf
    refine lv_bipush (v := (-2)) C.x C.b dX7_coming_14 (by decide) ?_
    exact hR _ _ (some_k hf) _ _ _ _ h rfl dX7_coming_16
def M_last_j46 (σ : PS) : Option (Int32 × PS) := some ((-1), σ)
def M_last_j38 (σ : PS) (v2 : Int32) : Option (Int32 × PS) := some (v2, σ)
def M_last_l25 (σ : PS) (v1 : Int32) (v2 : Int32) : Option ((Int32) ⊕ (Int32 × PS)) := if v2 < 0 then up (M_last_j46 σ) else bd (M_insideOf σ v1 v2) (fun q_1 => if q_1 = 0 then nm (v2 + (-1)) (fun v2_2 => some (.inl (v2_2))) else up (M_last_j38 σ v2))
def M_last_B25 (σ : PS) (v1 : Int32) : (Int32) → Option ((Int32) ⊕ (Int32 × PS)) := fun t => M_last_l25 σ v1 t
def M_last (σ : PS) (v1 : Int32) : Option (Int32 × PS) := nm (sI σ 0 0) (fun σ_3 => bd (M_isZone σ_3 v1) (fun q_4 => if q_4 = 0 then some ((-2), σ_3) else bd (M_lays σ_3) (fun q_5 => bd (M_steps q_5) (fun q_6 => loop (M_last_B25 q_5 v1) fu (q_6)))))
set_option maxHeartbeats 4000000 in
theorem kM_last (l : Launch) {D : va_G} {ty : Nat → ClassId} {A : Nat → Prop} {o : Nat} {ad : Nat → Nat} {rs : va_W} {σ : PS} {σ' : PS} {v1 : Int32} {r : Int32} (hf : M_last σ v1 = some (r, σ')) : KI l yX7_last cX7_last 3 .int 3 D ty A (wM ty o ad σ ++ rs) (wM ty o ad σ' ++ rs) [.ref o, .int v1] r := by
  refine KI.of (by decide) (Nat.le_of_ble_eq_true rfl) ?_
  intro p e R s m args below meth c Q C hR
  have C : Cx p R s m args c cX7_last 3 RX7 D ty A 3 := C
  have hR : ∀ (v : Int32) (σ2 : PS), (v, σ2) = (r, σ') → ∀ (H : Heap) (locs : List Loc) (pc : Nat) (ls : Array Slot), Hw D A s H locs (wM ty o ad σ2 ++ rs) → narrow .int (.int v) = .int v → decode cX7_last pc = .ok (.ireturn, 1) → W p l e R s m args below meth c H locs 0 0 Q (F0 m pc ls [.int v]) := by intro v σ2 e9; cases e9; exact hR
  have j46 : ∀ (σ : PS) (H : Heap) (locs : List Loc) (ls : Array Slot), Hw D A s H locs (wM ty o ad σ ++ rs) → lv_has ls 3 [] → M_last_j46 σ = some (r, σ') → W p l e R s m args below meth c H locs 0 0 Q (F0 m 46 ls []) := by
    intro σ H locs ls h hl hf
    unfold M_last_j46 at hf
    refine lv_iconst (v := (-1)) C.x C.b dX7_last_46 (by decide) ?_
    exact hR _ _ (some_k hf) _ _ _ _ h rfl dX7_last_47
  have j38 : ∀ (σ : PS) (v2 : Int32) (H : Heap) (locs : List Loc) (ls : Array Slot), Hw D A s H locs (wM ty o ad σ ++ rs) → lv_has ls 3 [(2, .int v2)] → M_last_j38 σ v2 = some (r, σ') → W p l e R s m args below meth c H locs 0 0 Q (F0 m 38 ls []) := by
    intro σ v2 H locs ls h hl hf
    unfold M_last_j38 at hf
    refine lv_iload_n C.x C.b dX7_last_38 rfl (lv_at hl 0 rfl) ?_
    exact hR _ _ (some_k hf) _ _ _ _ h rfl dX7_last_39
  have l25 : ∀ (σ : PS) (n25 : Nat) (v2 : Int32) (H : Heap) (locs : List Loc) (ls : Array Slot), Hw D A s H locs (wM ty o ad σ ++ rs) → lv_has ls 3 [(0, .ref o), (1, .int v1), (2, .int v2)] → loop (M_last_B25 σ v1) n25 (v2) = some (r, σ') → W p l e R s m args below meth c H locs 0 0 Q (F0 m 25 ls []) := by
    intro σ n25
    induction n25 with
    | zero => intro v2 H locs ls h hl hf; exact (none_k hf).elim
    | succ n25 ih25 =>
      intro v2 H locs ls h hl hf
      have hf : bl (M_last_B25 σ v1) n25 (M_last_l25 σ v1 v2) = some (r, σ') := hf
      unfold M_last_l25 at hf
      refine lv_iload_n C.x C.b dX7_last_25 rfl (lv_at hl 2 rfl) ?_
      refine lv_if_lt (tgt := 46) C.x C.b dX7_last_26 (by decide) (fun c9 => ?_) (fun c9 => ?_)
      · have hf := if_t (K := bl (M_last_B25 σ v1) n25) c9 hf
        have hf := bl_upK (K := fun x => x) hf
        exact j46 σ _ _ _ h (lv_sub hl [] rfl) hf
      · have hf := if_f (K := bl (M_last_B25 σ v1) n25) c9 hf
        refine lv_aload_n C.x C.b dX7_last_29 rfl (lv_at hl 0 rfl) ?_
        refine lv_iload_n C.x C.b dX7_last_30 rfl (lv_at hl 1 rfl) ?_
        refine lv_iload_n C.x C.b dX7_last_31 rfl (lv_at hl 2 rfl) ?_
        obtain ⟨q_1, hc, hf⟩ := bd_k (K := bl (M_last_B25 σ v1) n25) rfl hf
        refine cM_insideOf C h hc (Nat.le_of_ble_eq_true rfl) hl.1 (Nat.le_of_ble_eq_true rfl) dX7_last_32 (fun H locs h => ?_)
        refine lv_if_eq (tgt := 40) C.x C.b dX7_last_35 (by decide) (fun c9 => ?_) (fun c9 => ?_)
        · have hf := if_t (K := bl (M_last_B25 σ v1) n25) c9 hf
          obtain ⟨v2_2, e9, hf⟩ := nm_k (K := bl (M_last_B25 σ v1) n25) hf
          refine lv_iinc (v := v2_2) (lv' := [(2, .int v2_2), (0, .ref o), (1, .int v1)]) C.x C.b dX7_last_40 hl (k := 2) rfl (iinc_e (k := (-1)) (by decide) e9) (by decide) rfl (fun ls hl => ?_)
          refine lv_goto (tgt := 25) C.x C.b dX7_last_43 (by decide) ?_
          exact ih25 v2_2 _ _ _ h (lv_sub hl [1, 2, 0] rfl) hf
        · have hf := if_f (K := bl (M_last_B25 σ v1) n25) c9 hf
          have hf := bl_upK (K := fun x => x) hf
          exact j38 σ v2 _ _ _ h (lv_sub hl [2] rfl) hf
  intro H locs ls h hl
  have hl : lv_has ls 3 [(0, .ref o), (1, .int v1)] := hl
  unfold M_last at hf
  refine lv_aload_n C.x C.b dX7_last_0 rfl (lv_at hl 0 rfl) ?_
  refine lv_iconst (v := 0) C.x C.b dX7_last_1 (by decide) ?_
  obtain ⟨σ_3, e9, hf⟩ := nm_k (K := fun x => x) hf
  refine m_p0 C h e9 dX7_last_2 (fun H locs h => ?_)
  refine lv_aload_n C.x C.b dX7_last_5 rfl (lv_at hl 0 rfl) ?_
  refine lv_iload_n C.x C.b dX7_last_6 rfl (lv_at hl 1 rfl) ?_
  obtain ⟨q_4, hc, hf⟩ := bd_k (K := fun x => x) rfl hf
  refine cM_isZone C h hc (Nat.le_of_ble_eq_true rfl) hl.1 (Nat.le_of_ble_eq_true rfl) dX7_last_7 (fun H locs h => ?_)
  refine lv_if_ne (tgt := 16) C.x C.b dX7_last_10 (by decide) (fun c9 => ?_) (fun c9 => ?_)
  · have hf := if_f (K := fun x => x) c9 hf
    refine lv_aload_n C.x C.b dX7_last_16 rfl (lv_at hl 0 rfl) ?_
    obtain ⟨q_5, hc, hf⟩ := bd_k (K := fun x => x) rfl hf
    refine cM_lays C h hc (Nat.le_of_ble_eq_true rfl) hl.1 (Nat.le_of_ble_eq_true rfl) dX7_last_17 (fun H locs h => ?_)
    refine lv_aload_n C.x C.b dX7_last_20 rfl (lv_at hl 0 rfl) ?_
    obtain ⟨q_6, hc, hf⟩ := bd_k (K := fun x => x) rfl hf
    refine cM_steps C h hc (Nat.le_of_ble_eq_true rfl) hl.1 (Nat.le_of_ble_eq_true rfl) dX7_last_21 (fun H locs h => ?_)
    refine lv_istore_n (lv' := [(2, .int q_6), (0, .ref o), (1, .int v1)]) C.x C.b dX7_last_24 rfl hl (by decide) rfl (fun ls hl => ?_)
    exact l25 q_5 fu q_6 _ _ _ h (lv_sub hl [1, 2, 0] rfl) hf
  · have hf := if_t (K := fun x => x) c9 hf
    refine lv_bipush (v := (-2)) C.x C.b dX7_last_13 (by decide) ?_
    exact hR _ _ (some_k hf) _ _ _ _ h rfl dX7_last_15
def M_busyOf_j35 (σ : PS) (v2 : Int32) : Option Int32 := some v2
def M_busyOf_j27 (σ : PS) (v1 : Int32) (v3 : Int32) (x0 : Int32) (x1 : Int32) : Option ((Int32 × Int32) ⊕ Int32) := nm (x1 + x0) (fun v2_1 => nm (v3 + 1) (fun v3_2 => some (.inl (v2_1, v3_2))))
def M_busyOf_l4 (σ : PS) (v1 : Int32) (v2 : Int32) (v3 : Int32) : Option ((Int32 × Int32) ⊕ Int32) := bd (M_steps σ) (fun q_3 => if q_3 < v3 then up (M_busyOf_j35 σ v2) else bd (M_insideOf σ v1 v3) (fun q_4 => if q_4 = 0 then M_busyOf_j27 σ v1 v3 0 v2 else M_busyOf_j27 σ v1 v3 1 v2))
def M_busyOf_B4 (σ : PS) (v1 : Int32) : (Int32 × Int32) → Option ((Int32 × Int32) ⊕ Int32) := fun t => M_busyOf_l4 σ v1 t.1 t.2
def M_busyOf (σ : PS) (v1 : Int32) : Option Int32 := loop (M_busyOf_B4 σ v1) fu (0, 0)
set_option maxHeartbeats 4000000 in
theorem kM_busyOf (l : Launch) {D : va_G} {ty : Nat → ClassId} {A : Nat → Prop} {o : Nat} {ad : Nat → Nat} {rs : va_W} {σ : PS} {v1 : Int32} {r : Int32} (hf : M_busyOf σ v1 = some r) : KI l yX7_busyOf cX7_busyOf 4 .int 3 D ty A (wM ty o ad σ ++ rs) (wM ty o ad σ ++ rs) [.ref o, .int v1] r := by
  refine KI.of (by decide) (Nat.le_of_ble_eq_true rfl) ?_
  intro p e R s m args below meth c Q C hR
  have C : Cx p R s m args c cX7_busyOf 4 RX7 D ty A 3 := C
  have hR : ∀ (v : Int32), v = r → ∀ (H : Heap) (locs : List Loc) (pc : Nat) (ls : Array Slot), Hw D A s H locs (wM ty o ad σ ++ rs) → narrow .int (.int v) = .int v → decode cX7_busyOf pc = .ok (.ireturn, 1) → W p l e R s m args below meth c H locs 0 0 Q (F0 m pc ls [.int v]) := by intro v e9; cases e9; exact hR
  have j35 : ∀ (v2 : Int32) (H : Heap) (locs : List Loc) (ls : Array Slot), Hw D A s H locs (wM ty o ad σ ++ rs) → lv_has ls 4 [(2, .int v2)] → M_busyOf_j35 σ v2 = some r → W p l e R s m args below meth c H locs 0 0 Q (F0 m 35 ls []) := by
    intro v2 H locs ls h hl hf
    unfold M_busyOf_j35 at hf
    refine lv_iload_n C.x C.b dX7_busyOf_35 rfl (lv_at hl 0 rfl) ?_
    exact hR _ (some_k hf) _ _ _ _ h rfl dX7_busyOf_36
  have l4 : ∀ (n4 : Nat) (v2 : Int32) (v3 : Int32) (H : Heap) (locs : List Loc) (ls : Array Slot), Hw D A s H locs (wM ty o ad σ ++ rs) → lv_has ls 4 [(0, .ref o), (1, .int v1), (2, .int v2), (3, .int v3)] → loop (M_busyOf_B4 σ v1) n4 (v2, v3) = some r → W p l e R s m args below meth c H locs 0 0 Q (F0 m 4 ls []) := by
    intro n4
    induction n4 with
    | zero => intro v2 v3 H locs ls h hl hf; exact (none_k hf).elim
    | succ n4 ih4 =>
      have j27 : ∀ (v3 : Int32) (x0 : Int32) (x1 : Int32) (H : Heap) (locs : List Loc) (ls : Array Slot), Hw D A s H locs (wM ty o ad σ ++ rs) → lv_has ls 4 [(0, .ref o), (1, .int v1), (3, .int v3)] → bl (M_busyOf_B4 σ v1) n4 (M_busyOf_j27 σ v1 v3 x0 x1) = some r → W p l e R s m args below meth c H locs 0 0 Q (F0 m 27 ls [.int x0, .int x1]) := by
        intro v3 x0 x1 H locs ls h hl hf
        unfold M_busyOf_j27 at hf
        refine lv_iadd C.x C.b dX7_busyOf_27 ?_
        obtain ⟨v2_1, e9, hf⟩ := nm_k (K := bl (M_busyOf_B4 σ v1) n4) hf
        refine lv_topI e9 ?_
        refine lv_istore_n (lv' := [(2, .int v2_1), (0, .ref o), (1, .int v1), (3, .int v3)]) C.x C.b dX7_busyOf_28 rfl hl (by decide) rfl (fun ls hl => ?_)
        obtain ⟨v3_2, e9, hf⟩ := nm_k (K := bl (M_busyOf_B4 σ v1) n4) hf
        refine lv_iinc (v := v3_2) (lv' := [(3, .int v3_2), (2, .int v2_1), (0, .ref o), (1, .int v1)]) C.x C.b dX7_busyOf_29 hl (k := 3) rfl (iinc_e (k := 1) (by decide) e9) (by decide) rfl (fun ls hl => ?_)
        refine lv_goto (tgt := 4) C.x C.b dX7_busyOf_32 (by decide) ?_
        exact ih4 v2_1 v3_2 _ _ _ h (lv_sub hl [2, 3, 1, 0] rfl) hf
      intro v2 v3 H locs ls h hl hf
      have hf : bl (M_busyOf_B4 σ v1) n4 (M_busyOf_l4 σ v1 v2 v3) = some r := hf
      unfold M_busyOf_l4 at hf
      refine lv_iload_n C.x C.b dX7_busyOf_4 rfl (lv_at hl 3 rfl) ?_
      refine lv_aload_n C.x C.b dX7_busyOf_5 rfl (lv_at hl 0 rfl) ?_
      obtain ⟨q_3, hc, hf⟩ := bd_k (K := bl (M_busyOf_B4 σ v1) n4) rfl hf
      refine cM_steps C h hc (Nat.le_of_ble_eq_true rfl) hl.1 (Nat.le_of_ble_eq_true rfl) dX7_busyOf_6 (fun H locs h => ?_)
      refine lv_icmp_gt (tgt := 35) C.x C.b dX7_busyOf_9 (by decide) (fun c9 => ?_) (fun c9 => ?_)
      · have hf := if_t (K := bl (M_busyOf_B4 σ v1) n4) c9 hf
        have hf := bl_upK (K := fun x => x) hf
        exact j35 v2 _ _ _ h (lv_sub hl [2] rfl) hf
      · have hf := if_f (K := bl (M_busyOf_B4 σ v1) n4) c9 hf
        refine lv_iload_n C.x C.b dX7_busyOf_12 rfl (lv_at hl 2 rfl) ?_
        refine lv_aload_n C.x C.b dX7_busyOf_13 rfl (lv_at hl 0 rfl) ?_
        refine lv_iload_n C.x C.b dX7_busyOf_14 rfl (lv_at hl 1 rfl) ?_
        refine lv_iload_n C.x C.b dX7_busyOf_15 rfl (lv_at hl 3 rfl) ?_
        obtain ⟨q_4, hc, hf⟩ := bd_k (K := bl (M_busyOf_B4 σ v1) n4) rfl hf
        refine cM_insideOf C h hc (Nat.le_of_ble_eq_true rfl) hl.1 (Nat.le_of_ble_eq_true rfl) dX7_busyOf_16 (fun H locs h => ?_)
        refine lv_if_ne (tgt := 26) C.x C.b dX7_busyOf_19 (by decide) (fun c9 => ?_) (fun c9 => ?_)
        · have hf := if_f (K := bl (M_busyOf_B4 σ v1) n4) c9 hf
          refine lv_iconst (v := 1) C.x C.b dX7_busyOf_26 (by decide) ?_
          exact j27 v3 1 v2 _ _ _ h (lv_sub hl [0, 1, 3] rfl) hf
        · have hf := if_t (K := bl (M_busyOf_B4 σ v1) n4) c9 hf
          refine lv_iconst (v := 0) C.x C.b dX7_busyOf_22 (by decide) ?_
          refine lv_goto (tgt := 27) C.x C.b dX7_busyOf_23 (by decide) ?_
          exact j27 v3 0 v2 _ _ _ h (lv_sub hl [0, 1, 3] rfl) hf
  intro H locs ls h hl
  have hl : lv_has ls 4 [(0, .ref o), (1, .int v1)] := hl
  unfold M_busyOf at hf
  refine lv_iconst (v := 0) C.x C.b dX7_busyOf_0 (by decide) ?_
  refine lv_istore_n (lv' := [(2, .int 0), (0, .ref o), (1, .int v1)]) C.x C.b dX7_busyOf_1 rfl hl (by decide) rfl (fun ls hl => ?_)
  refine lv_iconst (v := 0) C.x C.b dX7_busyOf_2 (by decide) ?_
  refine lv_istore_n (lv' := [(3, .int 0), (2, .int 0), (0, .ref o), (1, .int v1)]) C.x C.b dX7_busyOf_3 rfl hl (by decide) rfl (fun ls hl => ?_)
  exact l4  fu 0 0 _ _ _ h (lv_sub hl [2, 3, 1, 0] rfl) hf
theorem tM_busyOf : GoodIn lw_all (wsV RX7 352 RX7 yX7_busyOf (ws_ yX7_busyOf cX7_busyOf 4 (some .int))) := lw_V q2105 q2107 qs119 q147 q2108
theorem cM_busyOf {p : Program} {l : Launch} {e : Env} {R : Room} {s : State} {m : MethodId} {args : Array Value} {below : List Frame} {meth : Method} {c : Code} {H : Heap} {locs : List Loc} {Q : State → Prop} {cc : ByteArray} {pc : Nat} {ls : Array Slot} {st : List Value} {nL d : Nat} {D : va_G} {ty : Nat → ClassId} {A : Nat → Prop} {o : Nat} {ad : Nat → Nat} {rs : va_W} {σ : PS} {v1 : Int32} {q : Int32} (C : Cx p R s m args c cc nL RX7 D ty A d) (h : Hw D A s H locs (wM ty o ad σ ++ rs)) (hc : M_busyOf σ v1 = some q) (hd : 3 + 1 ≤ d) (hls : ls.size = nL) (hcat : (st.map fun v => v.category).sum ≤ 8) (dec : decode cc pc = .ok (.invokevirtual 352, 3)) (kk : ∀ (H : Heap) (locs : List Loc), Hw D A s H locs (wM ty o ad σ ++ rs) → W p l e R s m args below meth c H locs 0 0 Q (F0 m (pc + 3) ls (.int q :: st))) : W p l e R s m args below meth c H locs 0 0 Q (F0 m pc ls (.int v1 :: .ref o :: st)) := KI.callV (As := [.int v1]) C (kM_busyOf l hc) tM_busyOf ⟨rfl, by decide, by decide, by show _ = some 1; decide +kernel⟩ 0 7 rfl rfl rfl hd (by decide) (Nat.zero_le _) (Nat.zero_le _) h hls rfl hcat dec kk
def M_idle_j55 (σ : PS) (v1 : Int32) : Option (Int32 × PS) := some (v1, σ)
def M_idle_j47 (σ : PS) (v2 : Int32) (x0 : Int32) (x1 : Int32) : Option ((Int32 × Int32) ⊕ (Int32 × PS)) := nm (x1 ||| x0) (fun v1_1 => nm (v2 + 1) (fun v2_2 => some (.inl (v1_1, v2_2))))
def M_idle_l23 (σ : PS) (v1 : Int32) (v2 : Int32) : Option ((Int32 × Int32) ⊕ (Int32 × PS)) := if (gI σ 25) ≤ v2 then up (M_idle_j55 σ v1) else bd (M_busyOf σ v2) (fun q_3 => if q_3 = 0 then M_idle_j47 σ v2 (1 <<< (v2 &&& 31)) v1 else M_idle_j47 σ v2 0 v1)
def M_idle_B23 (σ : PS) : (Int32 × Int32) → Option ((Int32 × Int32) ⊕ (Int32 × PS)) := fun t => M_idle_l23 σ t.1 t.2
def M_idle (σ : PS) : Option (Int32 × PS) := nm (sI σ 0 0) (fun σ_4 => bd (M_isLehr σ_4) (fun q_5 => if q_5 = 0 then some ((-2), σ_4) else bd (M_lays σ_4) (fun q_6 => loop (M_idle_B23 q_6) fu (0, 0))))
set_option maxHeartbeats 4000000 in
theorem kM_idle (l : Launch) {D : va_G} {ty : Nat → ClassId} {A : Nat → Prop} {o : Nat} {ad : Nat → Nat} {rs : va_W} {σ : PS} {σ' : PS} {r : Int32} (hf : M_idle σ = some (r, σ')) : KI l yX7_idle cX7_idle 3 .int 4 D ty A (wM ty o ad σ ++ rs) (wM ty o ad σ' ++ rs) [.ref o] r := by
  refine KI.of (by decide) (Nat.le_of_ble_eq_true rfl) ?_
  intro p e R s m args below meth c Q C hR
  have C : Cx p R s m args c cX7_idle 3 RX7 D ty A 4 := C
  have hR : ∀ (v : Int32) (σ2 : PS), (v, σ2) = (r, σ') → ∀ (H : Heap) (locs : List Loc) (pc : Nat) (ls : Array Slot), Hw D A s H locs (wM ty o ad σ2 ++ rs) → narrow .int (.int v) = .int v → decode cX7_idle pc = .ok (.ireturn, 1) → W p l e R s m args below meth c H locs 0 0 Q (F0 m pc ls [.int v]) := by intro v σ2 e9; cases e9; exact hR
  have j55 : ∀ (σ : PS) (v1 : Int32) (H : Heap) (locs : List Loc) (ls : Array Slot), Hw D A s H locs (wM ty o ad σ ++ rs) → lv_has ls 3 [(1, .int v1)] → M_idle_j55 σ v1 = some (r, σ') → W p l e R s m args below meth c H locs 0 0 Q (F0 m 55 ls []) := by
    intro σ v1 H locs ls h hl hf
    unfold M_idle_j55 at hf
    refine lv_iload_n C.x C.b dX7_idle_55 rfl (lv_at hl 0 rfl) ?_
    exact hR _ _ (some_k hf) _ _ _ _ h rfl dX7_idle_56
  have l23 : ∀ (σ : PS) (n23 : Nat) (v1 : Int32) (v2 : Int32) (H : Heap) (locs : List Loc) (ls : Array Slot), Hw D A s H locs (wM ty o ad σ ++ rs) → lv_has ls 3 [(0, .ref o), (1, .int v1), (2, .int v2)] → loop (M_idle_B23 σ) n23 (v1, v2) = some (r, σ') → W p l e R s m args below meth c H locs 0 0 Q (F0 m 23 ls []) := by
    intro σ n23
    induction n23 with
    | zero => intro v1 v2 H locs ls h hl hf; exact (none_k hf).elim
    | succ n23 ih23 =>
      have j47 : ∀ (v2 : Int32) (x0 : Int32) (x1 : Int32) (H : Heap) (locs : List Loc) (ls : Array Slot), Hw D A s H locs (wM ty o ad σ ++ rs) → lv_has ls 3 [(0, .ref o), (2, .int v2)] → bl (M_idle_B23 σ) n23 (M_idle_j47 σ v2 x0 x1) = some (r, σ') → W p l e R s m args below meth c H locs 0 0 Q (F0 m 47 ls [.int x0, .int x1]) := by
        intro v2 x0 x1 H locs ls h hl hf
        unfold M_idle_j47 at hf
        refine lv_ior C.x C.b dX7_idle_47 ?_
        obtain ⟨v1_1, e9, hf⟩ := nm_k (K := bl (M_idle_B23 σ) n23) hf
        refine lv_topI e9 ?_
        refine lv_istore_n (lv' := [(1, .int v1_1), (0, .ref o), (2, .int v2)]) C.x C.b dX7_idle_48 rfl hl (by decide) rfl (fun ls hl => ?_)
        obtain ⟨v2_2, e9, hf⟩ := nm_k (K := bl (M_idle_B23 σ) n23) hf
        refine lv_iinc (v := v2_2) (lv' := [(2, .int v2_2), (1, .int v1_1), (0, .ref o)]) C.x C.b dX7_idle_49 hl (k := 2) rfl (iinc_e (k := 1) (by decide) e9) (by decide) rfl (fun ls hl => ?_)
        refine lv_goto (tgt := 23) C.x C.b dX7_idle_52 (by decide) ?_
        exact ih23 v1_1 v2_2 _ _ _ h (lv_sub hl [2, 1, 0] rfl) hf
      intro v1 v2 H locs ls h hl hf
      have hf : bl (M_idle_B23 σ) n23 (M_idle_l23 σ v1 v2) = some (r, σ') := hf
      unfold M_idle_l23 at hf
      refine lv_iload_n C.x C.b dX7_idle_23 rfl (lv_at hl 2 rfl) ?_
      refine lv_aload_n C.x C.b dX7_idle_24 rfl (lv_at hl 0 rfl) ?_
      refine m_g25 C h dX7_idle_25 ?_
      refine lv_icmp_ge (tgt := 55) C.x C.b dX7_idle_28 (by decide) (fun c9 => ?_) (fun c9 => ?_)
      · have hf := if_t (K := bl (M_idle_B23 σ) n23) c9 hf
        have hf := bl_upK (K := fun x => x) hf
        exact j55 σ v1 _ _ _ h (lv_sub hl [1] rfl) hf
      · have hf := if_f (K := bl (M_idle_B23 σ) n23) c9 hf
        refine lv_iload_n C.x C.b dX7_idle_31 rfl (lv_at hl 1 rfl) ?_
        refine lv_aload_n C.x C.b dX7_idle_32 rfl (lv_at hl 0 rfl) ?_
        refine lv_iload_n C.x C.b dX7_idle_33 rfl (lv_at hl 2 rfl) ?_
        obtain ⟨q_3, hc, hf⟩ := bd_k (K := bl (M_idle_B23 σ) n23) rfl hf
        refine cM_busyOf C h hc (Nat.le_of_ble_eq_true rfl) hl.1 (Nat.le_of_ble_eq_true rfl) dX7_idle_34 (fun H locs h => ?_)
        refine lv_if_ne (tgt := 46) C.x C.b dX7_idle_37 (by decide) (fun c9 => ?_) (fun c9 => ?_)
        · have hf := if_f (K := bl (M_idle_B23 σ) n23) c9 hf
          refine lv_iconst (v := 0) C.x C.b dX7_idle_46 (by decide) ?_
          exact j47 v2 0 v1 _ _ _ h (lv_sub hl [0, 2] rfl) hf
        · have hf := if_t (K := bl (M_idle_B23 σ) n23) c9 hf
          refine lv_iconst (v := 1) C.x C.b dX7_idle_40 (by decide) ?_
          refine lv_iload_n C.x C.b dX7_idle_41 rfl (lv_at hl 2 rfl) ?_
          refine lv_ishl C.x C.b dX7_idle_42 ?_
          refine lv_goto (tgt := 47) C.x C.b dX7_idle_43 (by decide) ?_
          exact j47 v2 (1 <<< (v2 &&& 31)) v1 _ _ _ h (lv_sub hl [0, 2] rfl) hf
  intro H locs ls h hl
  have hl : lv_has ls 3 [(0, .ref o)] := hl
  unfold M_idle at hf
  refine lv_aload_n C.x C.b dX7_idle_0 rfl (lv_at hl 0 rfl) ?_
  refine lv_iconst (v := 0) C.x C.b dX7_idle_1 (by decide) ?_
  obtain ⟨σ_4, e9, hf⟩ := nm_k (K := fun x => x) hf
  refine m_p0 C h e9 dX7_idle_2 (fun H locs h => ?_)
  refine lv_aload_n C.x C.b dX7_idle_5 rfl (lv_at hl 0 rfl) ?_
  obtain ⟨q_5, hc, hf⟩ := bd_k (K := fun x => x) rfl hf
  refine cM_isLehr C h hc (Nat.le_of_ble_eq_true rfl) hl.1 (Nat.le_of_ble_eq_true rfl) dX7_idle_6 (fun H locs h => ?_)
  refine lv_if_ne (tgt := 15) C.x C.b dX7_idle_9 (by decide) (fun c9 => ?_) (fun c9 => ?_)
  · have hf := if_f (K := fun x => x) c9 hf
    refine lv_aload_n C.x C.b dX7_idle_15 rfl (lv_at hl 0 rfl) ?_
    obtain ⟨q_6, hc, hf⟩ := bd_k (K := fun x => x) rfl hf
    refine cM_lays C h hc (Nat.le_of_ble_eq_true rfl) hl.1 (Nat.le_of_ble_eq_true rfl) dX7_idle_16 (fun H locs h => ?_)
    refine lv_iconst (v := 0) C.x C.b dX7_idle_19 (by decide) ?_
    refine lv_istore_n (lv' := [(1, .int 0), (0, .ref o)]) C.x C.b dX7_idle_20 rfl hl (by decide) rfl (fun ls hl => ?_)
    refine lv_iconst (v := 0) C.x C.b dX7_idle_21 (by decide) ?_
    refine lv_istore_n (lv' := [(2, .int 0), (1, .int 0), (0, .ref o)]) C.x C.b dX7_idle_22 rfl hl (by decide) rfl (fun ls hl => ?_)
    exact l23 q_6 fu 0 0 _ _ _ h (lv_sub hl [2, 1, 0] rfl) hf
  · have hf := if_t (K := fun x => x) c9 hf
    refine lv_bipush (v := (-2)) C.x C.b dX7_idle_12 (by decide) ?_
    exact hR _ _ (some_k hf) _ _ _ _ h rfl dX7_idle_14
def M_whyNot_j126 (σ : PS) : Option Int32 := some 0
def M_whyNot_j117 (σ : PS) : Option Int32 := some ((-2))
def M_whyNot_l50 (σ : PS) (v1 : Int32) (v3 : Int32) : Option ((Int32) ⊕ Int32) := ix v1 4 (if (rA σ 2 v1) ≤ v3 then up (M_whyNot_j126 σ) else nm ((60 * v1) + v3) (fun v4_1 => ix v4_1 240 (bd (M_isPiece σ (rB σ 3 v4_1)) (fun q_2 => if q_2 = 0 then up (M_whyNot_j117 σ) else ix (v4_1 + 1) 240 (bd (M_isStep σ (rB σ 3 (v4_1 + 1))) (fun q_3 => if q_3 = 0 then up (M_whyNot_j117 σ) else ix (v4_1 + 2) 240 (bd (M_in (rB σ 3 (v4_1 + 2)) 0 100000) (fun q_4 => if q_4 = 0 then up (M_whyNot_j117 σ) else nm (v3 + 3) (fun v3_5 => some (.inl (v3_5)))))))))))
def M_whyNot_B50 (σ : PS) (v1 : Int32) : (Int32) → Option ((Int32) ⊕ Int32) := fun t => M_whyNot_l50 σ v1 t
def M_whyNot_j18 (σ : PS) : Option Int32 := some ((-2))
def M_whyNot (σ : PS) (v1 : Int32) (v2 : Int32) : Option Int32 := bd (M_isSlot v1) (fun q_6 => if q_6 = 0 then M_whyNot_j18 σ else bd (M_isLehr σ) (fun q_7 => if q_7 = 0 then M_whyNot_j18 σ else if v2 = 0 then M_whyNot_j18 σ else ix v1 4 (if (rA σ 1 v1) = ((-1)) then some ((-6)) else ix v1 4 (if ((rA σ 2 v1) - (rA σ 2 v1) / 3 * 3) = 0 then loop (M_whyNot_B50 σ v1) fu (0) else some ((-2))))))
set_option maxHeartbeats 4000000 in
theorem kM_whyNot (l : Launch) {D : va_G} {ty : Nat → ClassId} {A : Nat → Prop} {o : Nat} {ad : Nat → Nat} {rs : va_W} {σ : PS} {v1 : Int32} {v2 : Int32} {r : Int32} (hf : M_whyNot σ v1 v2 = some r) : KI l yX7_whyNot cX7_whyNot 5 .int 2 D ty A (wM ty o ad σ ++ rs) (wM ty o ad σ ++ rs) [.ref o, .int v1, .int v2] r := by
  refine KI.of (by decide) (Nat.le_of_ble_eq_true rfl) ?_
  intro p e R s m args below meth c Q C hR
  have C : Cx p R s m args c cX7_whyNot 5 RX7 D ty A 2 := C
  have hR : ∀ (v : Int32), v = r → ∀ (H : Heap) (locs : List Loc) (pc : Nat) (ls : Array Slot), Hw D A s H locs (wM ty o ad σ ++ rs) → narrow .int (.int v) = .int v → decode cX7_whyNot pc = .ok (.ireturn, 1) → W p l e R s m args below meth c H locs 0 0 Q (F0 m pc ls [.int v]) := by intro v e9; cases e9; exact hR
  have j126 : ∀ (H : Heap) (locs : List Loc) (ls : Array Slot), Hw D A s H locs (wM ty o ad σ ++ rs) → lv_has ls 5 [] → M_whyNot_j126 σ = some r → W p l e R s m args below meth c H locs 0 0 Q (F0 m 126 ls []) := by
    intro  H locs ls h hl hf
    unfold M_whyNot_j126 at hf
    refine lv_iconst (v := 0) C.x C.b dX7_whyNot_126 (by decide) ?_
    exact hR _ (some_k hf) _ _ _ _ h rfl dX7_whyNot_127
  have j117 : ∀ (H : Heap) (locs : List Loc) (ls : Array Slot), Hw D A s H locs (wM ty o ad σ ++ rs) → lv_has ls 5 [] → M_whyNot_j117 σ = some r → W p l e R s m args below meth c H locs 0 0 Q (F0 m 117 ls []) := by
    intro  H locs ls h hl hf
    unfold M_whyNot_j117 at hf
    refine lv_bipush (v := (-2)) C.x C.b dX7_whyNot_117 (by decide) ?_
    exact hR _ (some_k hf) _ _ _ _ h rfl dX7_whyNot_119
  have l50 : ∀ (n50 : Nat) (v3 : Int32) (H : Heap) (locs : List Loc) (ls : Array Slot), Hw D A s H locs (wM ty o ad σ ++ rs) → lv_has ls 5 [(0, .ref o), (1, .int v1), (3, .int v3)] → loop (M_whyNot_B50 σ v1) n50 (v3) = some r → W p l e R s m args below meth c H locs 0 0 Q (F0 m 50 ls []) := by
    intro n50
    induction n50 with
    | zero => intro v3 H locs ls h hl hf; exact (none_k hf).elim
    | succ n50 ih50 =>
      intro v3 H locs ls h hl hf
      have hf : bl (M_whyNot_B50 σ v1) n50 (M_whyNot_l50 σ v1 v3) = some r := hf
      unfold M_whyNot_l50 at hf
      refine lv_iload_n C.x C.b dX7_whyNot_50 rfl (lv_at hl 2 rfl) ?_
      refine lv_aload_n C.x C.b dX7_whyNot_51 rfl (lv_at hl 0 rfl) ?_
      refine m_g2 C h dX7_whyNot_52 ?_
      refine lv_iload_n C.x C.b dX7_whyNot_55 rfl (lv_at hl 1 rfl) ?_
      obtain ⟨hi, hf⟩ := ix_k (K := bl (M_whyNot_B50 σ v1) n50) rfl hf
      refine m_a2 C h hi dX7_whyNot_56 ?_
      refine lv_icmp_ge (tgt := 126) C.x C.b dX7_whyNot_57 (by decide) (fun c9 => ?_) (fun c9 => ?_)
      · have hf := if_t (K := bl (M_whyNot_B50 σ v1) n50) c9 hf
        have hf := bl_upK (K := fun x => x) hf
        exact j126  _ _ _ h (lv_sub hl [] rfl) hf
      · have hf := if_f (K := bl (M_whyNot_B50 σ v1) n50) c9 hf
        refine lv_bipush (v := 60) C.x C.b dX7_whyNot_60 (by decide) ?_
        refine lv_iload_n C.x C.b dX7_whyNot_62 rfl (lv_at hl 1 rfl) ?_
        refine lv_imul C.x C.b dX7_whyNot_63 ?_
        refine lv_iload_n C.x C.b dX7_whyNot_64 rfl (lv_at hl 2 rfl) ?_
        refine lv_iadd C.x C.b dX7_whyNot_65 ?_
        obtain ⟨v4_1, e9, hf⟩ := nm_k (K := bl (M_whyNot_B50 σ v1) n50) hf
        refine lv_topI e9 ?_
        refine lv_istore (lv' := [(4, .int v4_1), (0, .ref o), (1, .int v1), (3, .int v3)]) C.x C.b dX7_whyNot_66 hl (by decide) rfl (fun ls hl => ?_)
        refine lv_aload_n C.x C.b dX7_whyNot_68 rfl (lv_at hl 1 rfl) ?_
        refine lv_aload_n C.x C.b dX7_whyNot_69 rfl (lv_at hl 1 rfl) ?_
        refine m_g3 C h dX7_whyNot_70 ?_
        refine lv_iload C.x C.b dX7_whyNot_73 (lv_at hl 0 rfl) ?_
        obtain ⟨hi, hf⟩ := ix_k (K := bl (M_whyNot_B50 σ v1) n50) rfl hf
        refine m_a3 C h hi dX7_whyNot_75 ?_
        obtain ⟨q_2, hc, hf⟩ := bd_k (K := bl (M_whyNot_B50 σ v1) n50) rfl hf
        refine cM_isPiece C h hc (Nat.le_of_ble_eq_true rfl) hl.1 (Nat.le_of_ble_eq_true rfl) dX7_whyNot_76 (fun H locs h => ?_)
        refine lv_if_eq (tgt := 117) C.x C.b dX7_whyNot_79 (by decide) (fun c9 => ?_) (fun c9 => ?_)
        · have hf := if_t (K := bl (M_whyNot_B50 σ v1) n50) c9 hf
          have hf := bl_upK (K := fun x => x) hf
          exact j117  _ _ _ h (lv_sub hl [] rfl) hf
        · have hf := if_f (K := bl (M_whyNot_B50 σ v1) n50) c9 hf
          refine lv_aload_n C.x C.b dX7_whyNot_82 rfl (lv_at hl 1 rfl) ?_
          refine lv_aload_n C.x C.b dX7_whyNot_83 rfl (lv_at hl 1 rfl) ?_
          refine m_g3 C h dX7_whyNot_84 ?_
          refine lv_iload C.x C.b dX7_whyNot_87 (lv_at hl 0 rfl) ?_
          refine lv_iconst (v := 1) C.x C.b dX7_whyNot_89 (by decide) ?_
          refine lv_iadd C.x C.b dX7_whyNot_90 ?_
          obtain ⟨hi, hf⟩ := ix_k (K := bl (M_whyNot_B50 σ v1) n50) rfl hf
          refine m_a3 C h hi dX7_whyNot_91 ?_
          obtain ⟨q_3, hc, hf⟩ := bd_k (K := bl (M_whyNot_B50 σ v1) n50) rfl hf
          refine cM_isStep C h hc (Nat.le_of_ble_eq_true rfl) hl.1 (Nat.le_of_ble_eq_true rfl) dX7_whyNot_92 (fun H locs h => ?_)
          refine lv_if_eq (tgt := 117) C.x C.b dX7_whyNot_95 (by decide) (fun c9 => ?_) (fun c9 => ?_)
          · have hf := if_t (K := bl (M_whyNot_B50 σ v1) n50) c9 hf
            have hf := bl_upK (K := fun x => x) hf
            exact j117  _ _ _ h (lv_sub hl [] rfl) hf
          · have hf := if_f (K := bl (M_whyNot_B50 σ v1) n50) c9 hf
            refine lv_aload_n C.x C.b dX7_whyNot_98 rfl (lv_at hl 1 rfl) ?_
            refine m_g3 C h dX7_whyNot_99 ?_
            refine lv_iload C.x C.b dX7_whyNot_102 (lv_at hl 0 rfl) ?_
            refine lv_iconst (v := 2) C.x C.b dX7_whyNot_104 (by decide) ?_
            refine lv_iadd C.x C.b dX7_whyNot_105 ?_
            obtain ⟨hi, hf⟩ := ix_k (K := bl (M_whyNot_B50 σ v1) n50) rfl hf
            refine m_a3 C h hi dX7_whyNot_106 ?_
            refine lv_lconst (v := 0) C.x C.b dX7_whyNot_107 (by decide) ?_
            refine lv_ldc2 (v := 100000) C.x C.b C.own (C.ts _ q2181) dX7_whyNot_108 ?_
            obtain ⟨q_4, hc, hf⟩ := bd_k (K := bl (M_whyNot_B50 σ v1) n50) rfl hf
            refine cM_in C h hc (Nat.le_of_ble_eq_true rfl) hl.1 (Nat.le_of_ble_eq_true rfl) dX7_whyNot_111 (fun H locs h => ?_)
            refine lv_if_ne (tgt := 120) C.x C.b dX7_whyNot_114 (by decide) (fun c9 => ?_) (fun c9 => ?_)
            · have hf := if_f (K := bl (M_whyNot_B50 σ v1) n50) c9 hf
              obtain ⟨v3_5, e9, hf⟩ := nm_k (K := bl (M_whyNot_B50 σ v1) n50) hf
              refine lv_iinc (v := v3_5) (lv' := [(3, .int v3_5), (4, .int v4_1), (0, .ref o), (1, .int v1)]) C.x C.b dX7_whyNot_120 hl (k := 3) rfl (iinc_e (k := 3) (by decide) e9) (by decide) rfl (fun ls hl => ?_)
              refine lv_goto (tgt := 50) C.x C.b dX7_whyNot_123 (by decide) ?_
              exact ih50 v3_5 _ _ _ h (lv_sub hl [2, 3, 0] rfl) hf
            · have hf := if_t (K := bl (M_whyNot_B50 σ v1) n50) c9 hf
              have hf := bl_upK (K := fun x => x) hf
              exact j117  _ _ _ h (lv_sub hl [] rfl) hf
  have j18 : ∀ (H : Heap) (locs : List Loc) (ls : Array Slot), Hw D A s H locs (wM ty o ad σ ++ rs) → lv_has ls 5 [] → M_whyNot_j18 σ = some r → W p l e R s m args below meth c H locs 0 0 Q (F0 m 18 ls []) := by
    intro  H locs ls h hl hf
    unfold M_whyNot_j18 at hf
    refine lv_bipush (v := (-2)) C.x C.b dX7_whyNot_18 (by decide) ?_
    exact hR _ (some_k hf) _ _ _ _ h rfl dX7_whyNot_20
  intro H locs ls h hl
  have hl : lv_has ls 5 [(0, .ref o), (1, .int v1), (2, .int v2)] := hl
  unfold M_whyNot at hf
  refine lv_iload_n C.x C.b dX7_whyNot_0 rfl (lv_at hl 1 rfl) ?_
  obtain ⟨q_6, hc, hf⟩ := bd_k (K := fun x => x) rfl hf
  refine cM_isSlot C h hc (Nat.le_of_ble_eq_true rfl) hl.1 (Nat.le_of_ble_eq_true rfl) dX7_whyNot_1 (fun H locs h => ?_)
  refine lv_if_eq (tgt := 18) C.x C.b dX7_whyNot_4 (by decide) (fun c9 => ?_) (fun c9 => ?_)
  · have hf := if_t (K := fun x => x) c9 hf
    exact j18  _ _ _ h (lv_sub hl [] rfl) hf
  · have hf := if_f (K := fun x => x) c9 hf
    refine lv_aload_n C.x C.b dX7_whyNot_7 rfl (lv_at hl 0 rfl) ?_
    obtain ⟨q_7, hc, hf⟩ := bd_k (K := fun x => x) rfl hf
    refine cM_isLehr C h hc (Nat.le_of_ble_eq_true rfl) hl.1 (Nat.le_of_ble_eq_true rfl) dX7_whyNot_8 (fun H locs h => ?_)
    refine lv_if_eq (tgt := 18) C.x C.b dX7_whyNot_11 (by decide) (fun c9 => ?_) (fun c9 => ?_)
    · have hf := if_t (K := fun x => x) c9 hf
      exact j18  _ _ _ h (lv_sub hl [] rfl) hf
    · have hf := if_f (K := fun x => x) c9 hf
      refine lv_iload_n C.x C.b dX7_whyNot_14 rfl (lv_at hl 2 rfl) ?_
      refine lv_if_ne (tgt := 21) C.x C.b dX7_whyNot_15 (by decide) (fun c9 => ?_) (fun c9 => ?_)
      · have hf := if_f (K := fun x => x) c9 hf
        refine lv_aload_n C.x C.b dX7_whyNot_21 rfl (lv_at hl 0 rfl) ?_
        refine m_g1 C h dX7_whyNot_22 ?_
        refine lv_iload_n C.x C.b dX7_whyNot_25 rfl (lv_at hl 1 rfl) ?_
        obtain ⟨hi, hf⟩ := ix_k (K := fun x => x) rfl hf
        refine m_a1 C h hi dX7_whyNot_26 ?_
        refine lv_iconst (v := (-1)) C.x C.b dX7_whyNot_27 (by decide) ?_
        refine lv_icmp_ne (tgt := 34) C.x C.b dX7_whyNot_28 (by decide) (fun c9 => ?_) (fun c9 => ?_)
        · have hf := if_f (K := fun x => x) c9 hf
          refine lv_aload_n C.x C.b dX7_whyNot_34 rfl (lv_at hl 0 rfl) ?_
          refine m_g2 C h dX7_whyNot_35 ?_
          refine lv_iload_n C.x C.b dX7_whyNot_38 rfl (lv_at hl 1 rfl) ?_
          obtain ⟨hi, hf⟩ := ix_k (K := fun x => x) rfl hf
          refine m_a2 C h hi dX7_whyNot_39 ?_
          refine lv_iconst (v := 3) C.x C.b dX7_whyNot_40 (by decide) ?_
          refine lv_irem C.x C.b dX7_whyNot_41 (by decide) ?_
          refine lv_if_eq (tgt := 48) C.x C.b dX7_whyNot_42 (by decide) (fun c9 => ?_) (fun c9 => ?_)
          · have hf := if_t (K := fun x => x) c9 hf
            refine lv_iconst (v := 0) C.x C.b dX7_whyNot_48 (by decide) ?_
            refine lv_istore_n (lv' := [(3, .int 0), (0, .ref o), (1, .int v1), (2, .int v2)]) C.x C.b dX7_whyNot_49 rfl hl (by decide) rfl (fun ls hl => ?_)
            exact l50  fu 0 _ _ _ h (lv_sub hl [1, 2, 0] rfl) hf
          · have hf := if_f (K := fun x => x) c9 hf
            refine lv_bipush (v := (-2)) C.x C.b dX7_whyNot_45 (by decide) ?_
            exact hR _ (some_k hf) _ _ _ _ h rfl dX7_whyNot_47
        · have hf := if_t (K := fun x => x) c9 hf
          refine lv_bipush (v := (-6)) C.x C.b dX7_whyNot_31 (by decide) ?_
          exact hR _ (some_k hf) _ _ _ _ h rfl dX7_whyNot_33
      · have hf := if_t (K := fun x => x) c9 hf
        exact j18  _ _ _ h (lv_sub hl [] rfl) hf
theorem tM_whyNot : GoodIn lw_all (wsV RX7 384 RX7 yX7_whyNot (ws_ yX7_whyNot cX7_whyNot 5 (some .int))) := lw_V q2177 q2179 qs125 q147 q2180
theorem cM_whyNot {p : Program} {l : Launch} {e : Env} {R : Room} {s : State} {m : MethodId} {args : Array Value} {below : List Frame} {meth : Method} {c : Code} {H : Heap} {locs : List Loc} {Q : State → Prop} {cc : ByteArray} {pc : Nat} {ls : Array Slot} {st : List Value} {nL d : Nat} {D : va_G} {ty : Nat → ClassId} {A : Nat → Prop} {o : Nat} {ad : Nat → Nat} {rs : va_W} {σ : PS} {v1 : Int32} {v2 : Int32} {q : Int32} (C : Cx p R s m args c cc nL RX7 D ty A d) (h : Hw D A s H locs (wM ty o ad σ ++ rs)) (hc : M_whyNot σ v1 v2 = some q) (hd : 2 + 1 ≤ d) (hls : ls.size = nL) (hcat : (st.map fun v => v.category).sum ≤ 8) (dec : decode cc pc = .ok (.invokevirtual 384, 3)) (kk : ∀ (H : Heap) (locs : List Loc), Hw D A s H locs (wM ty o ad σ ++ rs) → W p l e R s m args below meth c H locs 0 0 Q (F0 m (pc + 3) ls (.int q :: st))) : W p l e R s m args below meth c H locs 0 0 Q (F0 m pc ls (.int v2 :: .int v1 :: .ref o :: st)) := KI.callV (As := [.int v1, .int v2]) C (kM_whyNot l hc) tM_whyNot ⟨rfl, by decide, by decide, by show _ = some 2; decide +kernel⟩ 0 7 rfl rfl rfl hd (by decide) (Nat.zero_le _) (Nat.zero_le _) h hls rfl hcat dec kk
def M_rate_j26 (σ : PS) : Option (Int32 × PS) := some ((-2), σ)
def M_rate (σ : PS) (v1 : Int32) (v2 : Int32) : Option (Int32 × PS) := nm (sI σ 0 0) (fun σ_1 => bd (M_isPiece σ_1 v1.toInt64) (fun q_2 => if q_2 = 0 then M_rate_j26 σ_1 else bd (M_in v2.toInt64 0 300) (fun q_3 => if q_3 = 0 then M_rate_j26 σ_1 else ix 7 40 (if (rA σ_1 17 7) ≤ 0 then ix ((4 * v1) + 2) 120 (nm (rA σ_1 19 ((4 * v1) + 2)) (fun v3_4 => ix ((4 * v1) + 2) 120 (nm (wA σ_1 19 ((4 * v1) + 2) v2) (fun σ_5 => some (v3_4, σ_5))))) else some ((-5), σ_1)))))
set_option maxHeartbeats 4000000 in
theorem kM_rate (l : Launch) {D : va_G} {ty : Nat → ClassId} {A : Nat → Prop} {o : Nat} {ad : Nat → Nat} {rs : va_W} {σ : PS} {σ' : PS} {v1 : Int32} {v2 : Int32} {r : Int32} (hf : M_rate σ v1 v2 = some (r, σ')) : KI l yX7_rate cX7_rate 4 .int 2 D ty A (wM ty o ad σ ++ rs) (wM ty o ad σ' ++ rs) [.ref o, .int v1, .int v2] r := by
  refine KI.of (by decide) (Nat.le_of_ble_eq_true rfl) ?_
  intro p e R s m args below meth c Q C hR
  have C : Cx p R s m args c cX7_rate 4 RX7 D ty A 2 := C
  have hR : ∀ (v : Int32) (σ2 : PS), (v, σ2) = (r, σ') → ∀ (H : Heap) (locs : List Loc) (pc : Nat) (ls : Array Slot), Hw D A s H locs (wM ty o ad σ2 ++ rs) → narrow .int (.int v) = .int v → decode cX7_rate pc = .ok (.ireturn, 1) → W p l e R s m args below meth c H locs 0 0 Q (F0 m pc ls [.int v]) := by intro v σ2 e9; cases e9; exact hR
  have j26 : ∀ (σ : PS) (H : Heap) (locs : List Loc) (ls : Array Slot), Hw D A s H locs (wM ty o ad σ ++ rs) → lv_has ls 4 [] → M_rate_j26 σ = some (r, σ') → W p l e R s m args below meth c H locs 0 0 Q (F0 m 26 ls []) := by
    intro σ H locs ls h hl hf
    unfold M_rate_j26 at hf
    refine lv_bipush (v := (-2)) C.x C.b dX7_rate_26 (by decide) ?_
    exact hR _ _ (some_k hf) _ _ _ _ h rfl dX7_rate_28
  intro H locs ls h hl
  have hl : lv_has ls 4 [(0, .ref o), (1, .int v1), (2, .int v2)] := hl
  unfold M_rate at hf
  refine lv_aload_n C.x C.b dX7_rate_0 rfl (lv_at hl 0 rfl) ?_
  refine lv_iconst (v := 0) C.x C.b dX7_rate_1 (by decide) ?_
  obtain ⟨σ_1, e9, hf⟩ := nm_k (K := fun x => x) hf
  refine m_p0 C h e9 dX7_rate_2 (fun H locs h => ?_)
  refine lv_aload_n C.x C.b dX7_rate_5 rfl (lv_at hl 0 rfl) ?_
  refine lv_iload_n C.x C.b dX7_rate_6 rfl (lv_at hl 1 rfl) ?_
  refine lv_i2l C.x C.b dX7_rate_7 rfl ?_
  obtain ⟨q_2, hc, hf⟩ := bd_k (K := fun x => x) rfl hf
  refine cM_isPiece C h hc (Nat.le_of_ble_eq_true rfl) hl.1 (Nat.le_of_ble_eq_true rfl) dX7_rate_8 (fun H locs h => ?_)
  refine lv_if_eq (tgt := 26) C.x C.b dX7_rate_11 (by decide) (fun c9 => ?_) (fun c9 => ?_)
  · have hf := if_t (K := fun x => x) c9 hf
    exact j26 σ_1 _ _ _ h (lv_sub hl [] rfl) hf
  · have hf := if_f (K := fun x => x) c9 hf
    refine lv_iload_n C.x C.b dX7_rate_14 rfl (lv_at hl 2 rfl) ?_
    refine lv_i2l C.x C.b dX7_rate_15 rfl ?_
    refine lv_lconst (v := 0) C.x C.b dX7_rate_16 (by decide) ?_
    refine lv_ldc2 (v := 300) C.x C.b C.own (C.ts _ q2326) dX7_rate_17 ?_
    obtain ⟨q_3, hc, hf⟩ := bd_k (K := fun x => x) rfl hf
    refine cM_in C h hc (Nat.le_of_ble_eq_true rfl) hl.1 (Nat.le_of_ble_eq_true rfl) dX7_rate_20 (fun H locs h => ?_)
    refine lv_if_ne (tgt := 29) C.x C.b dX7_rate_23 (by decide) (fun c9 => ?_) (fun c9 => ?_)
    · have hf := if_f (K := fun x => x) c9 hf
      refine lv_aload_n C.x C.b dX7_rate_29 rfl (lv_at hl 0 rfl) ?_
      refine m_g17 C h dX7_rate_30 ?_
      refine lv_bipush (v := 7) C.x C.b dX7_rate_33 (by decide) ?_
      obtain ⟨hi, hf⟩ := ix_k (K := fun x => x) rfl hf
      refine m_a17 C h hi dX7_rate_35 ?_
      refine lv_if_le (tgt := 42) C.x C.b dX7_rate_36 (by decide) (fun c9 => ?_) (fun c9 => ?_)
      · have hf := if_t (K := fun x => x) c9 hf
        refine lv_aload_n C.x C.b dX7_rate_42 rfl (lv_at hl 0 rfl) ?_
        refine m_g19 C h dX7_rate_43 ?_
        refine lv_iconst (v := 4) C.x C.b dX7_rate_46 (by decide) ?_
        refine lv_iload_n C.x C.b dX7_rate_47 rfl (lv_at hl 1 rfl) ?_
        refine lv_imul C.x C.b dX7_rate_48 ?_
        refine lv_iconst (v := 2) C.x C.b dX7_rate_49 (by decide) ?_
        refine lv_iadd C.x C.b dX7_rate_50 ?_
        obtain ⟨hi, hf⟩ := ix_k (K := fun x => x) rfl hf
        refine m_a19 C h hi dX7_rate_51 ?_
        obtain ⟨v3_4, e9, hf⟩ := nm_k (K := fun x => x) hf
        refine lv_topI e9 ?_
        refine lv_istore_n (lv' := [(3, .int v3_4), (0, .ref o), (1, .int v1), (2, .int v2)]) C.x C.b dX7_rate_52 rfl hl (by decide) rfl (fun ls hl => ?_)
        refine lv_aload_n C.x C.b dX7_rate_53 rfl (lv_at hl 1 rfl) ?_
        refine m_g19 C h dX7_rate_54 ?_
        refine lv_iconst (v := 4) C.x C.b dX7_rate_57 (by decide) ?_
        refine lv_iload_n C.x C.b dX7_rate_58 rfl (lv_at hl 2 rfl) ?_
        refine lv_imul C.x C.b dX7_rate_59 ?_
        refine lv_iconst (v := 2) C.x C.b dX7_rate_60 (by decide) ?_
        refine lv_iadd C.x C.b dX7_rate_61 ?_
        refine lv_iload_n C.x C.b dX7_rate_62 rfl (lv_at hl 3 rfl) ?_
        obtain ⟨hi, hf⟩ := ix_k (K := fun x => x) rfl hf
        obtain ⟨σ_5, e9, hf⟩ := nm_k (K := fun x => x) hf
        refine m_w19 C h hi e9 dX7_rate_63 (fun H locs h => ?_)
        refine lv_iload_n C.x C.b dX7_rate_64 rfl (lv_at hl 0 rfl) ?_
        exact hR _ _ (some_k hf) _ _ _ _ h rfl dX7_rate_65
      · have hf := if_f (K := fun x => x) c9 hf
        refine lv_bipush (v := (-5)) C.x C.b dX7_rate_39 (by decide) ?_
        exact hR _ _ (some_k hf) _ _ _ _ h rfl dX7_rate_41
    · have hf := if_t (K := fun x => x) c9 hf
      exact j26 σ_1 _ _ _ h (lv_sub hl [] rfl) hf
def M_row_j82 (σ : PS) : Option (Int32 × PS) := some (0, σ)
def M_row_l57 (v1 : Int32) (v3 : Int32) (v4 : Int32) (σ : PS) : Option ((Int32 × PS) ⊕ (Int32 × PS)) := if v3 ≤ v4 then up (M_row_j82 σ) else ix ((60 * v1) + v4) 240 (nm (wB σ 3 ((60 * v1) + v4) 0) (fun σ_1 => nm (v4 + 1) (fun v4_2 => some (.inl (v4_2, σ_1)))))
def M_row_B57 (v1 : Int32) (v3 : Int32) : (Int32 × PS) → Option ((Int32 × PS) ⊕ (Int32 × PS)) := fun t => M_row_l57 v1 v3 t.1 t.2
def M_row_j30 (σ : PS) : Option (Int32 × PS) := some ((-2), σ)
def M_row (σ : PS) (v1 : Int32) (v2 : Int32) (v3 : Int32) : Option (Int32 × PS) := nm (sI σ 0 0) (fun σ_3 => bd (M_isSlot v1) (fun q_4 => if q_4 = 0 then M_row_j30 σ_3 else bd (M_in v2.toInt64 0 3) (fun q_5 => if q_5 = 0 then M_row_j30 σ_3 else if v3 ≤ 60 then if 0 ≤ v3 then ix v1 4 (nm (wA σ_3 1 v1 v2) (fun σ_6 => ix v1 4 (nm (wA σ_6 2 v1 v3) (fun σ_7 => loop (M_row_B57 v1 v3) fu (0, σ_7))))) else some ((-3), σ_3) else M_row_j30 σ_3)))
set_option maxHeartbeats 4000000 in
theorem kM_row (l : Launch) {D : va_G} {ty : Nat → ClassId} {A : Nat → Prop} {o : Nat} {ad : Nat → Nat} {rs : va_W} {σ : PS} {σ' : PS} {v1 : Int32} {v2 : Int32} {v3 : Int32} {r : Int32} (hf : M_row σ v1 v2 v3 = some (r, σ')) : KI l yX7_row cX7_row 5 .int 2 D ty A (wM ty o ad σ ++ rs) (wM ty o ad σ' ++ rs) [.ref o, .int v1, .int v2, .int v3] r := by
  refine KI.of (by decide) (Nat.le_of_ble_eq_true rfl) ?_
  intro p e R s m args below meth c Q C hR
  have C : Cx p R s m args c cX7_row 5 RX7 D ty A 2 := C
  have hR : ∀ (v : Int32) (σ2 : PS), (v, σ2) = (r, σ') → ∀ (H : Heap) (locs : List Loc) (pc : Nat) (ls : Array Slot), Hw D A s H locs (wM ty o ad σ2 ++ rs) → narrow .int (.int v) = .int v → decode cX7_row pc = .ok (.ireturn, 1) → W p l e R s m args below meth c H locs 0 0 Q (F0 m pc ls [.int v]) := by intro v σ2 e9; cases e9; exact hR
  have j82 : ∀ (σ : PS) (H : Heap) (locs : List Loc) (ls : Array Slot), Hw D A s H locs (wM ty o ad σ ++ rs) → lv_has ls 5 [] → M_row_j82 σ = some (r, σ') → W p l e R s m args below meth c H locs 0 0 Q (F0 m 82 ls []) := by
    intro σ H locs ls h hl hf
    unfold M_row_j82 at hf
    refine lv_iconst (v := 0) C.x C.b dX7_row_82 (by decide) ?_
    exact hR _ _ (some_k hf) _ _ _ _ h rfl dX7_row_83
  have l57 : ∀ (n57 : Nat) (v4 : Int32) (σ : PS) (H : Heap) (locs : List Loc) (ls : Array Slot), Hw D A s H locs (wM ty o ad σ ++ rs) → lv_has ls 5 [(0, .ref o), (1, .int v1), (3, .int v3), (4, .int v4)] → loop (M_row_B57 v1 v3) n57 (v4, σ) = some (r, σ') → W p l e R s m args below meth c H locs 0 0 Q (F0 m 57 ls []) := by
    intro n57
    induction n57 with
    | zero => intro v4 σ H locs ls h hl hf; exact (none_k hf).elim
    | succ n57 ih57 =>
      intro v4 σ H locs ls h hl hf
      have hf : bl (M_row_B57 v1 v3) n57 (M_row_l57 v1 v3 v4 σ) = some (r, σ') := hf
      unfold M_row_l57 at hf
      refine lv_iload C.x C.b dX7_row_57 (lv_at hl 3 rfl) ?_
      refine lv_iload_n C.x C.b dX7_row_59 rfl (lv_at hl 2 rfl) ?_
      refine lv_icmp_ge (tgt := 82) C.x C.b dX7_row_60 (by decide) (fun c9 => ?_) (fun c9 => ?_)
      · have hf := if_t (K := bl (M_row_B57 v1 v3) n57) c9 hf
        have hf := bl_upK (K := fun x => x) hf
        exact j82 σ _ _ _ h (lv_sub hl [] rfl) hf
      · have hf := if_f (K := bl (M_row_B57 v1 v3) n57) c9 hf
        refine lv_aload_n C.x C.b dX7_row_63 rfl (lv_at hl 0 rfl) ?_
        refine m_g3 C h dX7_row_64 ?_
        refine lv_bipush (v := 60) C.x C.b dX7_row_67 (by decide) ?_
        refine lv_iload_n C.x C.b dX7_row_69 rfl (lv_at hl 1 rfl) ?_
        refine lv_imul C.x C.b dX7_row_70 ?_
        refine lv_iload C.x C.b dX7_row_71 (lv_at hl 3 rfl) ?_
        refine lv_iadd C.x C.b dX7_row_73 ?_
        refine lv_lconst (v := 0) C.x C.b dX7_row_74 (by decide) ?_
        obtain ⟨hi, hf⟩ := ix_k (K := bl (M_row_B57 v1 v3) n57) rfl hf
        obtain ⟨σ_1, e9, hf⟩ := nm_k (K := bl (M_row_B57 v1 v3) n57) hf
        refine m_w3 C h hi e9 dX7_row_75 (fun H locs h => ?_)
        obtain ⟨v4_2, e9, hf⟩ := nm_k (K := bl (M_row_B57 v1 v3) n57) hf
        refine lv_iinc (v := v4_2) (lv' := [(4, .int v4_2), (0, .ref o), (1, .int v1), (3, .int v3)]) C.x C.b dX7_row_76 hl (k := 3) rfl (iinc_e (k := 1) (by decide) e9) (by decide) rfl (fun ls hl => ?_)
        refine lv_goto (tgt := 57) C.x C.b dX7_row_79 (by decide) ?_
        exact ih57 v4_2 σ_1 _ _ _ h (lv_sub hl [1, 2, 3, 0] rfl) hf
  have j30 : ∀ (σ : PS) (H : Heap) (locs : List Loc) (ls : Array Slot), Hw D A s H locs (wM ty o ad σ ++ rs) → lv_has ls 5 [] → M_row_j30 σ = some (r, σ') → W p l e R s m args below meth c H locs 0 0 Q (F0 m 30 ls []) := by
    intro σ H locs ls h hl hf
    unfold M_row_j30 at hf
    refine lv_bipush (v := (-2)) C.x C.b dX7_row_30 (by decide) ?_
    exact hR _ _ (some_k hf) _ _ _ _ h rfl dX7_row_32
  intro H locs ls h hl
  have hl : lv_has ls 5 [(0, .ref o), (1, .int v1), (2, .int v2), (3, .int v3)] := hl
  unfold M_row at hf
  refine lv_aload_n C.x C.b dX7_row_0 rfl (lv_at hl 0 rfl) ?_
  refine lv_iconst (v := 0) C.x C.b dX7_row_1 (by decide) ?_
  obtain ⟨σ_3, e9, hf⟩ := nm_k (K := fun x => x) hf
  refine m_p0 C h e9 dX7_row_2 (fun H locs h => ?_)
  refine lv_iload_n C.x C.b dX7_row_5 rfl (lv_at hl 1 rfl) ?_
  obtain ⟨q_4, hc, hf⟩ := bd_k (K := fun x => x) rfl hf
  refine cM_isSlot C h hc (Nat.le_of_ble_eq_true rfl) hl.1 (Nat.le_of_ble_eq_true rfl) dX7_row_6 (fun H locs h => ?_)
  refine lv_if_eq (tgt := 30) C.x C.b dX7_row_9 (by decide) (fun c9 => ?_) (fun c9 => ?_)
  · have hf := if_t (K := fun x => x) c9 hf
    exact j30 σ_3 _ _ _ h (lv_sub hl [] rfl) hf
  · have hf := if_f (K := fun x => x) c9 hf
    refine lv_iload_n C.x C.b dX7_row_12 rfl (lv_at hl 2 rfl) ?_
    refine lv_i2l C.x C.b dX7_row_13 rfl ?_
    refine lv_lconst (v := 0) C.x C.b dX7_row_14 (by decide) ?_
    refine lv_ldc2 (v := 3) C.x C.b C.own (C.ts _ q1664) dX7_row_15 ?_
    obtain ⟨q_5, hc, hf⟩ := bd_k (K := fun x => x) rfl hf
    refine cM_in C h hc (Nat.le_of_ble_eq_true rfl) hl.1 (Nat.le_of_ble_eq_true rfl) dX7_row_18 (fun H locs h => ?_)
    refine lv_if_eq (tgt := 30) C.x C.b dX7_row_21 (by decide) (fun c9 => ?_) (fun c9 => ?_)
    · have hf := if_t (K := fun x => x) c9 hf
      exact j30 σ_3 _ _ _ h (lv_sub hl [] rfl) hf
    · have hf := if_f (K := fun x => x) c9 hf
      refine lv_iload_n C.x C.b dX7_row_24 rfl (lv_at hl 3 rfl) ?_
      refine lv_bipush (v := 60) C.x C.b dX7_row_25 (by decide) ?_
      refine lv_icmp_le (tgt := 33) C.x C.b dX7_row_27 (by decide) (fun c9 => ?_) (fun c9 => ?_)
      · have hf := if_t (K := fun x => x) c9 hf
        refine lv_iload_n C.x C.b dX7_row_33 rfl (lv_at hl 3 rfl) ?_
        refine lv_if_ge (tgt := 40) C.x C.b dX7_row_34 (by decide) (fun c9 => ?_) (fun c9 => ?_)
        · have hf := if_t (K := fun x => x) c9 hf
          refine lv_aload_n C.x C.b dX7_row_40 rfl (lv_at hl 0 rfl) ?_
          refine m_g1 C h dX7_row_41 ?_
          refine lv_iload_n C.x C.b dX7_row_44 rfl (lv_at hl 1 rfl) ?_
          refine lv_iload_n C.x C.b dX7_row_45 rfl (lv_at hl 2 rfl) ?_
          obtain ⟨hi, hf⟩ := ix_k (K := fun x => x) rfl hf
          obtain ⟨σ_6, e9, hf⟩ := nm_k (K := fun x => x) hf
          refine m_w1 C h hi e9 dX7_row_46 (fun H locs h => ?_)
          refine lv_aload_n C.x C.b dX7_row_47 rfl (lv_at hl 0 rfl) ?_
          refine m_g2 C h dX7_row_48 ?_
          refine lv_iload_n C.x C.b dX7_row_51 rfl (lv_at hl 1 rfl) ?_
          refine lv_iload_n C.x C.b dX7_row_52 rfl (lv_at hl 3 rfl) ?_
          obtain ⟨hi, hf⟩ := ix_k (K := fun x => x) rfl hf
          obtain ⟨σ_7, e9, hf⟩ := nm_k (K := fun x => x) hf
          refine m_w2 C h hi e9 dX7_row_53 (fun H locs h => ?_)
          refine lv_iconst (v := 0) C.x C.b dX7_row_54 (by decide) ?_
          refine lv_istore (lv' := [(4, .int 0), (0, .ref o), (1, .int v1), (2, .int v2), (3, .int v3)]) C.x C.b dX7_row_55 hl (by decide) rfl (fun ls hl => ?_)
          exact l57  fu 0 σ_7 _ _ _ h (lv_sub hl [1, 2, 4, 0] rfl) hf
        · have hf := if_f (K := fun x => x) c9 hf
          refine lv_bipush (v := (-3)) C.x C.b dX7_row_37 (by decide) ?_
          exact hR _ _ (some_k hf) _ _ _ _ h rfl dX7_row_39
      · have hf := if_f (K := fun x => x) c9 hf
        exact j30 σ_3 _ _ _ h (lv_sub hl [] rfl) hf
def M_begins (σ : PS) : Option PS := nm (sI σ 12 0) (fun σ_1 => nm (sI σ_1 13 ((-1))) (fun σ_2 => nm (sI σ_2 7 0) (fun σ_3 => bd (M_next σ_3) (fun q_4 => some q_4))))
set_option maxHeartbeats 4000000 in
theorem kM_begins (l : Launch) {D : va_G} {ty : Nat → ClassId} {A : Nat → Prop} {o : Nat} {ad : Nat → Nat} {rs : va_W} {σ : PS} {σ' : PS} (hf : M_begins σ = some σ') : KV l yX7_begins cX7_begins 1 2 D ty A (wM ty o ad σ ++ rs) (wM ty o ad σ' ++ rs) [.ref o] := by
  refine KV.of (by decide) (Nat.le_of_ble_eq_true rfl) ?_
  intro p e R s m args below meth c Q C hR
  have C : Cx p R s m args c cX7_begins 1 RX7 D ty A 2 := C
  have hR : ∀ (σ2 : PS), σ2 = σ' → ∀ (H : Heap) (locs : List Loc) (pc : Nat) (ls : Array Slot), Hw D A s H locs (wM ty o ad σ2 ++ rs) → decode cX7_begins pc = .ok (.return_, 1) → W p l e R s m args below meth c H locs 0 0 Q (F0 m pc ls []) := by intro σ2 e9; cases e9; exact hR
  intro H locs ls h hl
  have hl : lv_has ls 1 [(0, .ref o)] := hl
  unfold M_begins at hf
  refine lv_aload_n C.x C.b dX7_begins_0 rfl (lv_at hl 0 rfl) ?_
  refine lv_iconst (v := 0) C.x C.b dX7_begins_1 (by decide) ?_
  obtain ⟨σ_1, e9, hf⟩ := nm_k (K := fun x => x) hf
  refine m_p12 C h e9 dX7_begins_2 (fun H locs h => ?_)
  refine lv_aload_n C.x C.b dX7_begins_5 rfl (lv_at hl 0 rfl) ?_
  refine lv_iconst (v := (-1)) C.x C.b dX7_begins_6 (by decide) ?_
  obtain ⟨σ_2, e9, hf⟩ := nm_k (K := fun x => x) hf
  refine m_p13 C h e9 dX7_begins_7 (fun H locs h => ?_)
  refine lv_aload_n C.x C.b dX7_begins_10 rfl (lv_at hl 0 rfl) ?_
  refine lv_iconst (v := 0) C.x C.b dX7_begins_11 (by decide) ?_
  obtain ⟨σ_3, e9, hf⟩ := nm_k (K := fun x => x) hf
  refine m_p7 C h e9 dX7_begins_12 (fun H locs h => ?_)
  refine lv_aload_n C.x C.b dX7_begins_15 rfl (lv_at hl 0 rfl) ?_
  obtain ⟨q_4, hc, hf⟩ := bd_k (K := fun x => x) rfl hf
  refine cM_next C h hc (Nat.le_of_ble_eq_true rfl) hl.1 (Nat.le_of_ble_eq_true rfl) dX7_begins_16 (fun H locs h => ?_)
  exact hR _ (some_k hf) _ _ _ _ h dX7_begins_19
theorem tM_begins : GoodIn lw_all (wsV RX7 192 RX7 yX7_begins (ws_ yX7_begins cX7_begins 1 none)) := lw_V q1707 q1709 qs73 q147 q1710
theorem cM_begins {p : Program} {l : Launch} {e : Env} {R : Room} {s : State} {m : MethodId} {args : Array Value} {below : List Frame} {meth : Method} {c : Code} {H : Heap} {locs : List Loc} {Q : State → Prop} {cc : ByteArray} {pc : Nat} {ls : Array Slot} {st : List Value} {nL d : Nat} {D : va_G} {ty : Nat → ClassId} {A : Nat → Prop} {o : Nat} {ad : Nat → Nat} {rs : va_W} {σ : PS} {q : PS} (C : Cx p R s m args c cc nL RX7 D ty A d) (h : Hw D A s H locs (wM ty o ad σ ++ rs)) (hc : M_begins σ = some q) (hd : 2 + 1 ≤ d) (hls : ls.size = nL) (hcat : (st.map fun v => v.category).sum ≤ 8) (dec : decode cc pc = .ok (.invokevirtual 192, 3)) (kk : ∀ (H : Heap) (locs : List Loc), Hw D A s H locs (wM ty o ad q ++ rs) → W p l e R s m args below meth c H locs 0 0 Q (F0 m (pc + 3) ls (st))) : W p l e R s m args below meth c H locs 0 0 Q (F0 m pc ls (.ref o :: st)) := KV.callV (As := []) C (kM_begins l hc) tM_begins ⟨rfl, by decide, by decide, by show _ = some 0; decide +kernel⟩ 0 7 rfl rfl rfl hd (by decide) (Nat.zero_le _) (Nat.zero_le _) h hls rfl hcat dec kk
def M_asks_j13 (σ : PS) : Option PS := some σ
def M_asks (σ : PS) (v1 : Int64) : Option PS := bd (M_takesWord σ v1) (fun q_1 => if q_1.1 = 0 then bd (M_fails q_1.2 1) (fun q_2 => M_asks_j13 q_2) else M_asks_j13 q_1.2)
set_option maxHeartbeats 4000000 in
theorem kM_asks (l : Launch) {D : va_G} {ty : Nat → ClassId} {A : Nat → Prop} {o : Nat} {ad : Nat → Nat} {rs : va_W} {σ : PS} {σ' : PS} {v1 : Int64} (hf : M_asks σ v1 = some σ') : KV l yX7_asks cX7_asks 3 3 D ty A (wM ty o ad σ ++ rs) (wM ty o ad σ' ++ rs) [.ref o, .long v1] := by
  refine KV.of (by decide) (Nat.le_of_ble_eq_true rfl) ?_
  intro p e R s m args below meth c Q C hR
  have C : Cx p R s m args c cX7_asks 3 RX7 D ty A 3 := C
  have hR : ∀ (σ2 : PS), σ2 = σ' → ∀ (H : Heap) (locs : List Loc) (pc : Nat) (ls : Array Slot), Hw D A s H locs (wM ty o ad σ2 ++ rs) → decode cX7_asks pc = .ok (.return_, 1) → W p l e R s m args below meth c H locs 0 0 Q (F0 m pc ls []) := by intro σ2 e9; cases e9; exact hR
  have j13 : ∀ (σ : PS) (H : Heap) (locs : List Loc) (ls : Array Slot), Hw D A s H locs (wM ty o ad σ ++ rs) → lv_has ls 3 [] → M_asks_j13 σ = some σ' → W p l e R s m args below meth c H locs 0 0 Q (F0 m 13 ls []) := by
    intro σ H locs ls h hl hf
    unfold M_asks_j13 at hf
    exact hR _ (some_k hf) _ _ _ _ h dX7_asks_13
  intro H locs ls h hl
  have hl : lv_has ls 3 [(0, .ref o), (1, .long v1)] := hl
  unfold M_asks at hf
  refine lv_aload_n C.x C.b dX7_asks_0 rfl (lv_at hl 0 rfl) ?_
  refine lv_lload_n C.x C.b dX7_asks_1 rfl (lv_at hl 1 rfl) ?_
  obtain ⟨q_1, hc, hf⟩ := bd_k (K := fun x => x) rfl hf
  refine cM_takesWord C h hc (Nat.le_of_ble_eq_true rfl) hl.1 (Nat.le_of_ble_eq_true rfl) dX7_asks_2 (fun H locs h => ?_)
  refine lv_if_ne (tgt := 13) C.x C.b dX7_asks_5 (by decide) (fun c9 => ?_) (fun c9 => ?_)
  · have hf := if_f (K := fun x => x) c9 hf
    exact j13 q_1.2 _ _ _ h (lv_sub hl [] rfl) hf
  · have hf := if_t (K := fun x => x) c9 hf
    refine lv_aload_n C.x C.b dX7_asks_8 rfl (lv_at hl 0 rfl) ?_
    refine lv_iconst (v := 1) C.x C.b dX7_asks_9 (by decide) ?_
    obtain ⟨q_2, hc, hf⟩ := bd_k (K := fun x => x) rfl hf
    refine cM_fails C h hc (Nat.le_of_ble_eq_true rfl) hl.1 (Nat.le_of_ble_eq_true rfl) dX7_asks_10 (fun H locs h => ?_)
    exact j13 q_2 _ _ _ h (lv_sub hl [] rfl) hf
theorem tM_asks : GoodIn lw_all (wsV RX7 148 RX7 yX7_asks (ws_ yX7_asks cX7_asks 3 none)) := lw_V q1729 q1731 qs77 q147 q1732
theorem cM_asks {p : Program} {l : Launch} {e : Env} {R : Room} {s : State} {m : MethodId} {args : Array Value} {below : List Frame} {meth : Method} {c : Code} {H : Heap} {locs : List Loc} {Q : State → Prop} {cc : ByteArray} {pc : Nat} {ls : Array Slot} {st : List Value} {nL d : Nat} {D : va_G} {ty : Nat → ClassId} {A : Nat → Prop} {o : Nat} {ad : Nat → Nat} {rs : va_W} {σ : PS} {v1 : Int64} {q : PS} (C : Cx p R s m args c cc nL RX7 D ty A d) (h : Hw D A s H locs (wM ty o ad σ ++ rs)) (hc : M_asks σ v1 = some q) (hd : 3 + 1 ≤ d) (hls : ls.size = nL) (hcat : (st.map fun v => v.category).sum ≤ 8) (dec : decode cc pc = .ok (.invokevirtual 148, 3)) (kk : ∀ (H : Heap) (locs : List Loc), Hw D A s H locs (wM ty o ad q ++ rs) → W p l e R s m args below meth c H locs 0 0 Q (F0 m (pc + 3) ls (st))) : W p l e R s m args below meth c H locs 0 0 Q (F0 m pc ls (.long v1 :: .ref o :: st)) := KV.callV (As := [.long v1]) C (kM_asks l hc) tM_asks ⟨rfl, by decide, by decide, by show _ = some 1; decide +kernel⟩ 0 7 rfl rfl rfl hd (by decide) (Nat.zero_le _) (Nat.zero_le _) h hls rfl hcat dec kk
def M_number (σ : PS) (v1 : Int64) (v3 : Int32) (v4 : Int32) : Option (Int32 × PS) := bd (M_asks σ v1) (fun q_1 => bd (M_number_2 q_1 v3 v4) (fun q_2 => some (q_2.1, q_2.2)))
set_option maxHeartbeats 4000000 in
theorem kM_number (l : Launch) {D : va_G} {ty : Nat → ClassId} {A : Nat → Prop} {o : Nat} {ad : Nat → Nat} {rs : va_W} {σ : PS} {σ' : PS} {v1 : Int64} {v3 : Int32} {v4 : Int32} {r : Int32} (hf : M_number σ v1 v3 v4 = some (r, σ')) : KI l yX7_number cX7_number 5 .int 4 D ty A (wM ty o ad σ ++ rs) (wM ty o ad σ' ++ rs) [.ref o, .long v1, .int v3, .int v4] r := by
  refine KI.of (by decide) (Nat.le_of_ble_eq_true rfl) ?_
  intro p e R s m args below meth c Q C hR
  have C : Cx p R s m args c cX7_number 5 RX7 D ty A 4 := C
  have hR : ∀ (v : Int32) (σ2 : PS), (v, σ2) = (r, σ') → ∀ (H : Heap) (locs : List Loc) (pc : Nat) (ls : Array Slot), Hw D A s H locs (wM ty o ad σ2 ++ rs) → narrow .int (.int v) = .int v → decode cX7_number pc = .ok (.ireturn, 1) → W p l e R s m args below meth c H locs 0 0 Q (F0 m pc ls [.int v]) := by intro v σ2 e9; cases e9; exact hR
  intro H locs ls h hl
  have hl : lv_has ls 5 [(0, .ref o), (1, .long v1), (3, .int v3), (4, .int v4)] := hl
  unfold M_number at hf
  refine lv_aload_n C.x C.b dX7_number_0 rfl (lv_at hl 0 rfl) ?_
  refine lv_lload_n C.x C.b dX7_number_1 rfl (lv_at hl 1 rfl) ?_
  obtain ⟨q_1, hc, hf⟩ := bd_k (K := fun x => x) rfl hf
  refine cM_asks C h hc (Nat.le_of_ble_eq_true rfl) hl.1 (Nat.le_of_ble_eq_true rfl) dX7_number_2 (fun H locs h => ?_)
  refine lv_aload_n C.x C.b dX7_number_5 rfl (lv_at hl 0 rfl) ?_
  refine lv_iload_n C.x C.b dX7_number_6 rfl (lv_at hl 2 rfl) ?_
  refine lv_iload C.x C.b dX7_number_7 (lv_at hl 3 rfl) ?_
  obtain ⟨q_2, hc, hf⟩ := bd_k (K := fun x => x) rfl hf
  refine cM_number_2 C h hc (Nat.le_of_ble_eq_true rfl) hl.1 (Nat.le_of_ble_eq_true rfl) dX7_number_9 (fun H locs h => ?_)
  exact hR _ _ (some_k hf) _ _ _ _ h rfl dX7_number_12
theorem tM_number : GoodIn lw_all (wsV RX7 165 RX7 yX7_number (ws_ yX7_number cX7_number 5 (some .int))) := lw_V q1746 q1748 qs81 q147 q1749
theorem cM_number {p : Program} {l : Launch} {e : Env} {R : Room} {s : State} {m : MethodId} {args : Array Value} {below : List Frame} {meth : Method} {c : Code} {H : Heap} {locs : List Loc} {Q : State → Prop} {cc : ByteArray} {pc : Nat} {ls : Array Slot} {st : List Value} {nL d : Nat} {D : va_G} {ty : Nat → ClassId} {A : Nat → Prop} {o : Nat} {ad : Nat → Nat} {rs : va_W} {σ : PS} {v1 : Int64} {v3 : Int32} {v4 : Int32} {q : (Int32 × PS)} (C : Cx p R s m args c cc nL RX7 D ty A d) (h : Hw D A s H locs (wM ty o ad σ ++ rs)) (hc : M_number σ v1 v3 v4 = some q) (hd : 4 + 1 ≤ d) (hls : ls.size = nL) (hcat : (st.map fun v => v.category).sum ≤ 8) (dec : decode cc pc = .ok (.invokevirtual 165, 3)) (kk : ∀ (H : Heap) (locs : List Loc), Hw D A s H locs (wM ty o ad q.2 ++ rs) → W p l e R s m args below meth c H locs 0 0 Q (F0 m (pc + 3) ls (.int (q.1) :: st))) : W p l e R s m args below meth c H locs 0 0 Q (F0 m pc ls (.int v4 :: .int v3 :: .long v1 :: .ref o :: st)) := KI.callV (As := [.long v1, .int v3, .int v4]) C (kM_number l hc) tM_number ⟨rfl, by decide, by decide, by show _ = some 3; decide +kernel⟩ 0 7 rfl rfl rfl hd (by decide) (Nat.zero_le _) (Nat.zero_le _) h hls rfl hcat dec kk
def M_pieceLine (σ : PS) : Option PS := bd (M_hasRead σ 6) (fun q_1 => nm (4 * (24 + q_1)) (fun v1_2 => bd (M_number σ 161156 0 600) (fun q_3 => ix v1_2 120 (nm (wA q_3.2 19 v1_2 q_3.1) (fun σ_4 => bd (M_number σ_4 10792937 1 9) (fun q_5 => ix (v1_2 + 1) 120 (nm (wA q_5.2 19 (v1_2 + 1) q_5.1) (fun σ_6 => bd (M_number σ_6 1162531 0 300) (fun q_7 => ix (v1_2 + 2) 120 (nm (wA q_7.2 19 (v1_2 + 2) q_7.1) (fun σ_8 => bd (M_number σ_8 47 0 14) (fun q_9 => ix (v1_2 + 3) 120 (nm (wA q_9.2 19 (v1_2 + 3) q_9.1) (fun σ_10 => bd (M_hasRead σ_10 6) (fun q_11 => bd (M_tells σ_10 6 (q_11 + 1)) (fun q_12 => some q_12))))))))))))))))
set_option maxHeartbeats 4000000 in
theorem kM_pieceLine (l : Launch) {D : va_G} {ty : Nat → ClassId} {A : Nat → Prop} {o : Nat} {ad : Nat → Nat} {rs : va_W} {σ : PS} {σ' : PS} (hf : M_pieceLine σ = some σ') : KV l yX7_pieceLine cX7_pieceLine 2 5 D ty A (wM ty o ad σ ++ rs) (wM ty o ad σ' ++ rs) [.ref o] := by
  refine KV.of (by decide) (Nat.le_of_ble_eq_true rfl) ?_
  intro p e R s m args below meth c Q C hR
  have C : Cx p R s m args c cX7_pieceLine 2 RX7 D ty A 5 := C
  have hR : ∀ (σ2 : PS), σ2 = σ' → ∀ (H : Heap) (locs : List Loc) (pc : Nat) (ls : Array Slot), Hw D A s H locs (wM ty o ad σ2 ++ rs) → decode cX7_pieceLine pc = .ok (.return_, 1) → W p l e R s m args below meth c H locs 0 0 Q (F0 m pc ls []) := by intro σ2 e9; cases e9; exact hR
  intro H locs ls h hl
  have hl : lv_has ls 2 [(0, .ref o)] := hl
  unfold M_pieceLine at hf
  refine lv_iconst (v := 4) C.x C.b dX7_pieceLine_0 (by decide) ?_
  refine lv_bipush (v := 24) C.x C.b dX7_pieceLine_1 (by decide) ?_
  refine lv_aload_n C.x C.b dX7_pieceLine_3 rfl (lv_at hl 0 rfl) ?_
  refine lv_bipush (v := 6) C.x C.b dX7_pieceLine_4 (by decide) ?_
  obtain ⟨q_1, hc, hf⟩ := bd_k (K := fun x => x) rfl hf
  refine cM_hasRead C h hc (Nat.le_of_ble_eq_true rfl) hl.1 (Nat.le_of_ble_eq_true rfl) dX7_pieceLine_6 (fun H locs h => ?_)
  refine lv_iadd C.x C.b dX7_pieceLine_9 ?_
  refine lv_imul C.x C.b dX7_pieceLine_10 ?_
  obtain ⟨v1_2, e9, hf⟩ := nm_k (K := fun x => x) hf
  refine lv_topI e9 ?_
  refine lv_istore_n (lv' := [(1, .int v1_2), (0, .ref o)]) C.x C.b dX7_pieceLine_11 rfl hl (by decide) rfl (fun ls hl => ?_)
  refine lv_aload_n C.x C.b dX7_pieceLine_12 rfl (lv_at hl 1 rfl) ?_
  refine m_g19 C h dX7_pieceLine_13 ?_
  refine lv_iload_n C.x C.b dX7_pieceLine_16 rfl (lv_at hl 0 rfl) ?_
  refine lv_aload_n C.x C.b dX7_pieceLine_17 rfl (lv_at hl 1 rfl) ?_
  refine lv_ldc2 (v := 161156) C.x C.b C.own (C.ts _ q1776) dX7_pieceLine_18 ?_
  refine lv_iconst (v := 0) C.x C.b dX7_pieceLine_21 (by decide) ?_
  refine lv_sipush (v := 600) C.x C.b dX7_pieceLine_22 (by decide) ?_
  obtain ⟨q_3, hc, hf⟩ := bd_k (K := fun x => x) rfl hf
  refine cM_number C h hc (Nat.le_of_ble_eq_true rfl) hl.1 (Nat.le_of_ble_eq_true rfl) dX7_pieceLine_25 (fun H locs h => ?_)
  obtain ⟨hi, hf⟩ := ix_k (K := fun x => x) rfl hf
  obtain ⟨σ_4, e9, hf⟩ := nm_k (K := fun x => x) hf
  refine m_w19 C h hi e9 dX7_pieceLine_28 (fun H locs h => ?_)
  refine lv_aload_n C.x C.b dX7_pieceLine_29 rfl (lv_at hl 1 rfl) ?_
  refine m_g19 C h dX7_pieceLine_30 ?_
  refine lv_iload_n C.x C.b dX7_pieceLine_33 rfl (lv_at hl 0 rfl) ?_
  refine lv_iconst (v := 1) C.x C.b dX7_pieceLine_34 (by decide) ?_
  refine lv_iadd C.x C.b dX7_pieceLine_35 ?_
  refine lv_aload_n C.x C.b dX7_pieceLine_36 rfl (lv_at hl 1 rfl) ?_
  refine lv_ldc2 (v := 10792937) C.x C.b C.own (C.ts _ q1777) dX7_pieceLine_37 ?_
  refine lv_iconst (v := 1) C.x C.b dX7_pieceLine_40 (by decide) ?_
  refine lv_bipush (v := 9) C.x C.b dX7_pieceLine_41 (by decide) ?_
  obtain ⟨q_5, hc, hf⟩ := bd_k (K := fun x => x) rfl hf
  refine cM_number C h hc (Nat.le_of_ble_eq_true rfl) hl.1 (Nat.le_of_ble_eq_true rfl) dX7_pieceLine_43 (fun H locs h => ?_)
  obtain ⟨hi, hf⟩ := ix_k (K := fun x => x) rfl hf
  obtain ⟨σ_6, e9, hf⟩ := nm_k (K := fun x => x) hf
  refine m_w19 C h hi e9 dX7_pieceLine_46 (fun H locs h => ?_)
  refine lv_aload_n C.x C.b dX7_pieceLine_47 rfl (lv_at hl 1 rfl) ?_
  refine m_g19 C h dX7_pieceLine_48 ?_
  refine lv_iload_n C.x C.b dX7_pieceLine_51 rfl (lv_at hl 0 rfl) ?_
  refine lv_iconst (v := 2) C.x C.b dX7_pieceLine_52 (by decide) ?_
  refine lv_iadd C.x C.b dX7_pieceLine_53 ?_
  refine lv_aload_n C.x C.b dX7_pieceLine_54 rfl (lv_at hl 1 rfl) ?_
  refine lv_ldc2 (v := 1162531) C.x C.b C.own (C.ts _ q1778) dX7_pieceLine_55 ?_
  refine lv_iconst (v := 0) C.x C.b dX7_pieceLine_58 (by decide) ?_
  refine lv_sipush (v := 300) C.x C.b dX7_pieceLine_59 (by decide) ?_
  obtain ⟨q_7, hc, hf⟩ := bd_k (K := fun x => x) rfl hf
  refine cM_number C h hc (Nat.le_of_ble_eq_true rfl) hl.1 (Nat.le_of_ble_eq_true rfl) dX7_pieceLine_62 (fun H locs h => ?_)
  obtain ⟨hi, hf⟩ := ix_k (K := fun x => x) rfl hf
  obtain ⟨σ_8, e9, hf⟩ := nm_k (K := fun x => x) hf
  refine m_w19 C h hi e9 dX7_pieceLine_65 (fun H locs h => ?_)
  refine lv_aload_n C.x C.b dX7_pieceLine_66 rfl (lv_at hl 1 rfl) ?_
  refine m_g19 C h dX7_pieceLine_67 ?_
  refine lv_iload_n C.x C.b dX7_pieceLine_70 rfl (lv_at hl 0 rfl) ?_
  refine lv_iconst (v := 3) C.x C.b dX7_pieceLine_71 (by decide) ?_
  refine lv_iadd C.x C.b dX7_pieceLine_72 ?_
  refine lv_aload_n C.x C.b dX7_pieceLine_73 rfl (lv_at hl 1 rfl) ?_
  refine lv_ldc2 (v := 47) C.x C.b C.own (C.ts _ q1779) dX7_pieceLine_74 ?_
  refine lv_iconst (v := 0) C.x C.b dX7_pieceLine_77 (by decide) ?_
  refine lv_bipush (v := 14) C.x C.b dX7_pieceLine_78 (by decide) ?_
  obtain ⟨q_9, hc, hf⟩ := bd_k (K := fun x => x) rfl hf
  refine cM_number C h hc (Nat.le_of_ble_eq_true rfl) hl.1 (Nat.le_of_ble_eq_true rfl) dX7_pieceLine_80 (fun H locs h => ?_)
  obtain ⟨hi, hf⟩ := ix_k (K := fun x => x) rfl hf
  obtain ⟨σ_10, e9, hf⟩ := nm_k (K := fun x => x) hf
  refine m_w19 C h hi e9 dX7_pieceLine_83 (fun H locs h => ?_)
  refine lv_aload_n C.x C.b dX7_pieceLine_84 rfl (lv_at hl 1 rfl) ?_
  refine lv_bipush (v := 6) C.x C.b dX7_pieceLine_85 (by decide) ?_
  refine lv_aload_n C.x C.b dX7_pieceLine_87 rfl (lv_at hl 1 rfl) ?_
  refine lv_bipush (v := 6) C.x C.b dX7_pieceLine_88 (by decide) ?_
  obtain ⟨q_11, hc, hf⟩ := bd_k (K := fun x => x) rfl hf
  refine cM_hasRead C h hc (Nat.le_of_ble_eq_true rfl) hl.1 (Nat.le_of_ble_eq_true rfl) dX7_pieceLine_90 (fun H locs h => ?_)
  refine lv_iconst (v := 1) C.x C.b dX7_pieceLine_93 (by decide) ?_
  refine lv_iadd C.x C.b dX7_pieceLine_94 ?_
  obtain ⟨q_12, hc, hf⟩ := bd_k (K := fun x => x) rfl hf
  refine cM_tells C h hc (Nat.le_of_ble_eq_true rfl) hl.1 (Nat.le_of_ble_eq_true rfl) dX7_pieceLine_95 (fun H locs h => ?_)
  exact hR _ (some_k hf) _ _ _ _ h dX7_pieceLine_98
theorem tM_pieceLine : GoodIn lw_all (wsV RX7 186 RX7 yX7_pieceLine (ws_ yX7_pieceLine cX7_pieceLine 2 none)) := lw_V q1772 q1774 qs86 q147 q1775
theorem cM_pieceLine {p : Program} {l : Launch} {e : Env} {R : Room} {s : State} {m : MethodId} {args : Array Value} {below : List Frame} {meth : Method} {c : Code} {H : Heap} {locs : List Loc} {Q : State → Prop} {cc : ByteArray} {pc : Nat} {ls : Array Slot} {st : List Value} {nL d : Nat} {D : va_G} {ty : Nat → ClassId} {A : Nat → Prop} {o : Nat} {ad : Nat → Nat} {rs : va_W} {σ : PS} {q : PS} (C : Cx p R s m args c cc nL RX7 D ty A d) (h : Hw D A s H locs (wM ty o ad σ ++ rs)) (hc : M_pieceLine σ = some q) (hd : 5 + 1 ≤ d) (hls : ls.size = nL) (hcat : (st.map fun v => v.category).sum ≤ 8) (dec : decode cc pc = .ok (.invokevirtual 186, 3)) (kk : ∀ (H : Heap) (locs : List Loc), Hw D A s H locs (wM ty o ad q ++ rs) → W p l e R s m args below meth c H locs 0 0 Q (F0 m (pc + 3) ls (st))) : W p l e R s m args below meth c H locs 0 0 Q (F0 m pc ls (.ref o :: st)) := KV.callV (As := []) C (kM_pieceLine l hc) tM_pieceLine ⟨rfl, by decide, by decide, by show _ = some 0; decide +kernel⟩ 0 7 rfl rfl rfl hd (by decide) (Nat.zero_le _) (Nat.zero_le _) h hls rfl hcat dec kk
def M_piece_j41 (σ : PS) (x0 : Int32) : Option (Int32 × PS) := some (x0, σ)
def M_piece_j39 (σ : PS) : Option (Int32 × PS) := M_piece_j41 σ ((-2))
def M_piece (σ : PS) (v1 : Int32) (v2 : Int32) : Option (Int32 × PS) := nm (sI σ 0 0) (fun σ_1 => bd (M_isPiece σ_1 v1.toInt64) (fun q_2 => if q_2 = 0 then M_piece_j39 σ_1 else bd (M_in v2.toInt64 0 3) (fun q_3 => if q_3 = 0 then M_piece_j39 σ_1 else ix ((4 * v1) + v2) 120 (M_piece_j41 σ_1 (rA σ_1 19 ((4 * v1) + v2))))))
set_option maxHeartbeats 4000000 in
theorem kM_piece (l : Launch) {D : va_G} {ty : Nat → ClassId} {A : Nat → Prop} {o : Nat} {ad : Nat → Nat} {rs : va_W} {σ : PS} {σ' : PS} {v1 : Int32} {v2 : Int32} {r : Int32} (hf : M_piece σ v1 v2 = some (r, σ')) : KI l yX7_piece cX7_piece 3 .int 2 D ty A (wM ty o ad σ ++ rs) (wM ty o ad σ' ++ rs) [.ref o, .int v1, .int v2] r := by
  refine KI.of (by decide) (Nat.le_of_ble_eq_true rfl) ?_
  intro p e R s m args below meth c Q C hR
  have C : Cx p R s m args c cX7_piece 3 RX7 D ty A 2 := C
  have hR : ∀ (v : Int32) (σ2 : PS), (v, σ2) = (r, σ') → ∀ (H : Heap) (locs : List Loc) (pc : Nat) (ls : Array Slot), Hw D A s H locs (wM ty o ad σ2 ++ rs) → narrow .int (.int v) = .int v → decode cX7_piece pc = .ok (.ireturn, 1) → W p l e R s m args below meth c H locs 0 0 Q (F0 m pc ls [.int v]) := by intro v σ2 e9; cases e9; exact hR
  have j41 : ∀ (σ : PS) (x0 : Int32) (H : Heap) (locs : List Loc) (ls : Array Slot), Hw D A s H locs (wM ty o ad σ ++ rs) → lv_has ls 3 [] → M_piece_j41 σ x0 = some (r, σ') → W p l e R s m args below meth c H locs 0 0 Q (F0 m 41 ls [.int x0]) := by
    intro σ x0 H locs ls h hl hf
    unfold M_piece_j41 at hf
    exact hR _ _ (some_k hf) _ _ _ _ h rfl dX7_piece_41
  have j39 : ∀ (σ : PS) (H : Heap) (locs : List Loc) (ls : Array Slot), Hw D A s H locs (wM ty o ad σ ++ rs) → lv_has ls 3 [] → M_piece_j39 σ = some (r, σ') → W p l e R s m args below meth c H locs 0 0 Q (F0 m 39 ls []) := by
    intro σ H locs ls h hl hf
    unfold M_piece_j39 at hf
    refine lv_bipush (v := (-2)) C.x C.b dX7_piece_39 (by decide) ?_
    exact j41 σ ((-2)) _ _ _ h (lv_sub hl [] rfl) hf
  intro H locs ls h hl
  have hl : lv_has ls 3 [(0, .ref o), (1, .int v1), (2, .int v2)] := hl
  unfold M_piece at hf
  refine lv_aload_n C.x C.b dX7_piece_0 rfl (lv_at hl 0 rfl) ?_
  refine lv_iconst (v := 0) C.x C.b dX7_piece_1 (by decide) ?_
  obtain ⟨σ_1, e9, hf⟩ := nm_k (K := fun x => x) hf
  refine m_p0 C h e9 dX7_piece_2 (fun H locs h => ?_)
  refine lv_aload_n C.x C.b dX7_piece_5 rfl (lv_at hl 0 rfl) ?_
  refine lv_iload_n C.x C.b dX7_piece_6 rfl (lv_at hl 1 rfl) ?_
  refine lv_i2l C.x C.b dX7_piece_7 rfl ?_
  obtain ⟨q_2, hc, hf⟩ := bd_k (K := fun x => x) rfl hf
  refine cM_isPiece C h hc (Nat.le_of_ble_eq_true rfl) hl.1 (Nat.le_of_ble_eq_true rfl) dX7_piece_8 (fun H locs h => ?_)
  refine lv_if_eq (tgt := 39) C.x C.b dX7_piece_11 (by decide) (fun c9 => ?_) (fun c9 => ?_)
  · have hf := if_t (K := fun x => x) c9 hf
    exact j39 σ_1 _ _ _ h (lv_sub hl [] rfl) hf
  · have hf := if_f (K := fun x => x) c9 hf
    refine lv_iload_n C.x C.b dX7_piece_14 rfl (lv_at hl 2 rfl) ?_
    refine lv_i2l C.x C.b dX7_piece_15 rfl ?_
    refine lv_lconst (v := 0) C.x C.b dX7_piece_16 (by decide) ?_
    refine lv_ldc2 (v := 3) C.x C.b C.own (C.ts _ q1664) dX7_piece_17 ?_
    obtain ⟨q_3, hc, hf⟩ := bd_k (K := fun x => x) rfl hf
    refine cM_in C h hc (Nat.le_of_ble_eq_true rfl) hl.1 (Nat.le_of_ble_eq_true rfl) dX7_piece_20 (fun H locs h => ?_)
    refine lv_if_eq (tgt := 39) C.x C.b dX7_piece_23 (by decide) (fun c9 => ?_) (fun c9 => ?_)
    · have hf := if_t (K := fun x => x) c9 hf
      exact j39 σ_1 _ _ _ h (lv_sub hl [] rfl) hf
    · have hf := if_f (K := fun x => x) c9 hf
      refine lv_aload_n C.x C.b dX7_piece_26 rfl (lv_at hl 0 rfl) ?_
      refine m_g19 C h dX7_piece_27 ?_
      refine lv_iconst (v := 4) C.x C.b dX7_piece_30 (by decide) ?_
      refine lv_iload_n C.x C.b dX7_piece_31 rfl (lv_at hl 1 rfl) ?_
      refine lv_imul C.x C.b dX7_piece_32 ?_
      refine lv_iload_n C.x C.b dX7_piece_33 rfl (lv_at hl 2 rfl) ?_
      refine lv_iadd C.x C.b dX7_piece_34 ?_
      obtain ⟨hi, hf⟩ := ix_k (K := fun x => x) rfl hf
      refine m_a19 C h hi dX7_piece_35 ?_
      refine lv_goto (tgt := 41) C.x C.b dX7_piece_36 (by decide) ?_
      exact j41 σ_1 (rA σ_1 19 ((4 * v1) + v2)) _ _ _ h (lv_sub hl [] rfl) hf
def M_air_j22 (σ : PS) : Option (Int32 × PS) := some ((-2), σ)
def M_air (σ : PS) (v1 : Int32) (v2 : Int32) : Option (Int32 × PS) := nm (sI σ 0 0) (fun σ_1 => bd (M_isZone σ_1 v1) (fun q_2 => if q_2 = 0 then M_air_j22 σ_1 else bd (M_isStep σ_1 v2.toInt64) (fun q_3 => if q_3 = 0 then M_air_j22 σ_1 else bd (M_lays σ_1) (fun q_4 => bd (M_airOf q_4 v1 v2) (fun q_5 => some (q_5, q_4))))))
set_option maxHeartbeats 4000000 in
theorem kM_air (l : Launch) {D : va_G} {ty : Nat → ClassId} {A : Nat → Prop} {o : Nat} {ad : Nat → Nat} {rs : va_W} {σ : PS} {σ' : PS} {v1 : Int32} {v2 : Int32} {r : Int32} (hf : M_air σ v1 v2 = some (r, σ')) : KI l yX7_air cX7_air 3 .int 2 D ty A (wM ty o ad σ ++ rs) (wM ty o ad σ' ++ rs) [.ref o, .int v1, .int v2] r := by
  refine KI.of (by decide) (Nat.le_of_ble_eq_true rfl) ?_
  intro p e R s m args below meth c Q C hR
  have C : Cx p R s m args c cX7_air 3 RX7 D ty A 2 := C
  have hR : ∀ (v : Int32) (σ2 : PS), (v, σ2) = (r, σ') → ∀ (H : Heap) (locs : List Loc) (pc : Nat) (ls : Array Slot), Hw D A s H locs (wM ty o ad σ2 ++ rs) → narrow .int (.int v) = .int v → decode cX7_air pc = .ok (.ireturn, 1) → W p l e R s m args below meth c H locs 0 0 Q (F0 m pc ls [.int v]) := by intro v σ2 e9; cases e9; exact hR
  have j22 : ∀ (σ : PS) (H : Heap) (locs : List Loc) (ls : Array Slot), Hw D A s H locs (wM ty o ad σ ++ rs) → lv_has ls 3 [] → M_air_j22 σ = some (r, σ') → W p l e R s m args below meth c H locs 0 0 Q (F0 m 22 ls []) := by
    intro σ H locs ls h hl hf
    unfold M_air_j22 at hf
    refine lv_bipush (v := (-2)) C.x C.b dX7_air_22 (by decide) ?_
    exact hR _ _ (some_k hf) _ _ _ _ h rfl dX7_air_24
  intro H locs ls h hl
  have hl : lv_has ls 3 [(0, .ref o), (1, .int v1), (2, .int v2)] := hl
  unfold M_air at hf
  refine lv_aload_n C.x C.b dX7_air_0 rfl (lv_at hl 0 rfl) ?_
  refine lv_iconst (v := 0) C.x C.b dX7_air_1 (by decide) ?_
  obtain ⟨σ_1, e9, hf⟩ := nm_k (K := fun x => x) hf
  refine m_p0 C h e9 dX7_air_2 (fun H locs h => ?_)
  refine lv_aload_n C.x C.b dX7_air_5 rfl (lv_at hl 0 rfl) ?_
  refine lv_iload_n C.x C.b dX7_air_6 rfl (lv_at hl 1 rfl) ?_
  obtain ⟨q_2, hc, hf⟩ := bd_k (K := fun x => x) rfl hf
  refine cM_isZone C h hc (Nat.le_of_ble_eq_true rfl) hl.1 (Nat.le_of_ble_eq_true rfl) dX7_air_7 (fun H locs h => ?_)
  refine lv_if_eq (tgt := 22) C.x C.b dX7_air_10 (by decide) (fun c9 => ?_) (fun c9 => ?_)
  · have hf := if_t (K := fun x => x) c9 hf
    exact j22 σ_1 _ _ _ h (lv_sub hl [] rfl) hf
  · have hf := if_f (K := fun x => x) c9 hf
    refine lv_aload_n C.x C.b dX7_air_13 rfl (lv_at hl 0 rfl) ?_
    refine lv_iload_n C.x C.b dX7_air_14 rfl (lv_at hl 2 rfl) ?_
    refine lv_i2l C.x C.b dX7_air_15 rfl ?_
    obtain ⟨q_3, hc, hf⟩ := bd_k (K := fun x => x) rfl hf
    refine cM_isStep C h hc (Nat.le_of_ble_eq_true rfl) hl.1 (Nat.le_of_ble_eq_true rfl) dX7_air_16 (fun H locs h => ?_)
    refine lv_if_ne (tgt := 25) C.x C.b dX7_air_19 (by decide) (fun c9 => ?_) (fun c9 => ?_)
    · have hf := if_f (K := fun x => x) c9 hf
      refine lv_aload_n C.x C.b dX7_air_25 rfl (lv_at hl 0 rfl) ?_
      obtain ⟨q_4, hc, hf⟩ := bd_k (K := fun x => x) rfl hf
      refine cM_lays C h hc (Nat.le_of_ble_eq_true rfl) hl.1 (Nat.le_of_ble_eq_true rfl) dX7_air_26 (fun H locs h => ?_)
      refine lv_aload_n C.x C.b dX7_air_29 rfl (lv_at hl 0 rfl) ?_
      refine lv_iload_n C.x C.b dX7_air_30 rfl (lv_at hl 1 rfl) ?_
      refine lv_iload_n C.x C.b dX7_air_31 rfl (lv_at hl 2 rfl) ?_
      obtain ⟨q_5, hc, hf⟩ := bd_k (K := fun x => x) rfl hf
      refine cM_airOf C h hc (Nat.le_of_ble_eq_true rfl) hl.1 (Nat.le_of_ble_eq_true rfl) dX7_air_32 (fun H locs h => ?_)
      exact hR _ _ (some_k hf) _ _ _ _ h rfl dX7_air_35
    · have hf := if_t (K := fun x => x) c9 hf
      exact j22 σ_1 _ _ _ h (lv_sub hl [] rfl) hf
def M_where (σ : PS) (v1 : Int32) (v2 : Int32) : Option (Int32 × PS) := nm (sI σ 0 0) (fun σ_1 => bd (M_isThen σ_1 v1 v2) (fun q_2 => if q_2 = 0 then some ((-2), σ_1) else bd (M_lays σ_1) (fun q_3 => bd (M_whereOf q_3 v1 v2) (fun q_4 => some (q_4, q_3)))))
set_option maxHeartbeats 4000000 in
theorem kM_where (l : Launch) {D : va_G} {ty : Nat → ClassId} {A : Nat → Prop} {o : Nat} {ad : Nat → Nat} {rs : va_W} {σ : PS} {σ' : PS} {v1 : Int32} {v2 : Int32} {r : Int32} (hf : M_where σ v1 v2 = some (r, σ')) : KI l yX7_where cX7_where 3 .int 3 D ty A (wM ty o ad σ ++ rs) (wM ty o ad σ' ++ rs) [.ref o, .int v1, .int v2] r := by
  refine KI.of (by decide) (Nat.le_of_ble_eq_true rfl) ?_
  intro p e R s m args below meth c Q C hR
  have C : Cx p R s m args c cX7_where 3 RX7 D ty A 3 := C
  have hR : ∀ (v : Int32) (σ2 : PS), (v, σ2) = (r, σ') → ∀ (H : Heap) (locs : List Loc) (pc : Nat) (ls : Array Slot), Hw D A s H locs (wM ty o ad σ2 ++ rs) → narrow .int (.int v) = .int v → decode cX7_where pc = .ok (.ireturn, 1) → W p l e R s m args below meth c H locs 0 0 Q (F0 m pc ls [.int v]) := by intro v σ2 e9; cases e9; exact hR
  intro H locs ls h hl
  have hl : lv_has ls 3 [(0, .ref o), (1, .int v1), (2, .int v2)] := hl
  unfold M_where at hf
  refine lv_aload_n C.x C.b dX7_where_0 rfl (lv_at hl 0 rfl) ?_
  refine lv_iconst (v := 0) C.x C.b dX7_where_1 (by decide) ?_
  obtain ⟨σ_1, e9, hf⟩ := nm_k (K := fun x => x) hf
  refine m_p0 C h e9 dX7_where_2 (fun H locs h => ?_)
  refine lv_aload_n C.x C.b dX7_where_5 rfl (lv_at hl 0 rfl) ?_
  refine lv_iload_n C.x C.b dX7_where_6 rfl (lv_at hl 1 rfl) ?_
  refine lv_iload_n C.x C.b dX7_where_7 rfl (lv_at hl 2 rfl) ?_
  obtain ⟨q_2, hc, hf⟩ := bd_k (K := fun x => x) rfl hf
  refine cM_isThen C h hc (Nat.le_of_ble_eq_true rfl) hl.1 (Nat.le_of_ble_eq_true rfl) dX7_where_8 (fun H locs h => ?_)
  refine lv_if_ne (tgt := 17) C.x C.b dX7_where_11 (by decide) (fun c9 => ?_) (fun c9 => ?_)
  · have hf := if_f (K := fun x => x) c9 hf
    refine lv_aload_n C.x C.b dX7_where_17 rfl (lv_at hl 0 rfl) ?_
    obtain ⟨q_3, hc, hf⟩ := bd_k (K := fun x => x) rfl hf
    refine cM_lays C h hc (Nat.le_of_ble_eq_true rfl) hl.1 (Nat.le_of_ble_eq_true rfl) dX7_where_18 (fun H locs h => ?_)
    refine lv_aload_n C.x C.b dX7_where_21 rfl (lv_at hl 0 rfl) ?_
    refine lv_iload_n C.x C.b dX7_where_22 rfl (lv_at hl 1 rfl) ?_
    refine lv_iload_n C.x C.b dX7_where_23 rfl (lv_at hl 2 rfl) ?_
    obtain ⟨q_4, hc, hf⟩ := bd_k (K := fun x => x) rfl hf
    refine cM_whereOf C h hc (Nat.le_of_ble_eq_true rfl) hl.1 (Nat.le_of_ble_eq_true rfl) dX7_where_24 (fun H locs h => ?_)
    exact hR _ _ (some_k hf) _ _ _ _ h rfl dX7_where_27
  · have hf := if_t (K := fun x => x) c9 hf
    refine lv_bipush (v := (-2)) C.x C.b dX7_where_14 (by decide) ?_
    exact hR _ _ (some_k hf) _ _ _ _ h rfl dX7_where_16
def M_inside_j22 (σ : PS) : Option (Int32 × PS) := some ((-2), σ)
def M_inside (σ : PS) (v1 : Int32) (v2 : Int32) : Option (Int32 × PS) := nm (sI σ 0 0) (fun σ_1 => bd (M_isZone σ_1 v1) (fun q_2 => if q_2 = 0 then M_inside_j22 σ_1 else bd (M_isStep σ_1 v2.toInt64) (fun q_3 => if q_3 = 0 then M_inside_j22 σ_1 else bd (M_lays σ_1) (fun q_4 => bd (M_insideOf q_4 v1 v2) (fun q_5 => some (q_5, q_4))))))
set_option maxHeartbeats 4000000 in
theorem kM_inside (l : Launch) {D : va_G} {ty : Nat → ClassId} {A : Nat → Prop} {o : Nat} {ad : Nat → Nat} {rs : va_W} {σ : PS} {σ' : PS} {v1 : Int32} {v2 : Int32} {r : Int32} (hf : M_inside σ v1 v2 = some (r, σ')) : KI l yX7_inside cX7_inside 3 .int 3 D ty A (wM ty o ad σ ++ rs) (wM ty o ad σ' ++ rs) [.ref o, .int v1, .int v2] r := by
  refine KI.of (by decide) (Nat.le_of_ble_eq_true rfl) ?_
  intro p e R s m args below meth c Q C hR
  have C : Cx p R s m args c cX7_inside 3 RX7 D ty A 3 := C
  have hR : ∀ (v : Int32) (σ2 : PS), (v, σ2) = (r, σ') → ∀ (H : Heap) (locs : List Loc) (pc : Nat) (ls : Array Slot), Hw D A s H locs (wM ty o ad σ2 ++ rs) → narrow .int (.int v) = .int v → decode cX7_inside pc = .ok (.ireturn, 1) → W p l e R s m args below meth c H locs 0 0 Q (F0 m pc ls [.int v]) := by intro v σ2 e9; cases e9; exact hR
  have j22 : ∀ (σ : PS) (H : Heap) (locs : List Loc) (ls : Array Slot), Hw D A s H locs (wM ty o ad σ ++ rs) → lv_has ls 3 [] → M_inside_j22 σ = some (r, σ') → W p l e R s m args below meth c H locs 0 0 Q (F0 m 22 ls []) := by
    intro σ H locs ls h hl hf
    unfold M_inside_j22 at hf
    refine lv_bipush (v := (-2)) C.x C.b dX7_inside_22 (by decide) ?_
    exact hR _ _ (some_k hf) _ _ _ _ h rfl dX7_inside_24
  intro H locs ls h hl
  have hl : lv_has ls 3 [(0, .ref o), (1, .int v1), (2, .int v2)] := hl
  unfold M_inside at hf
  refine lv_aload_n C.x C.b dX7_inside_0 rfl (lv_at hl 0 rfl) ?_
  refine lv_iconst (v := 0) C.x C.b dX7_inside_1 (by decide) ?_
  obtain ⟨σ_1, e9, hf⟩ := nm_k (K := fun x => x) hf
  refine m_p0 C h e9 dX7_inside_2 (fun H locs h => ?_)
  refine lv_aload_n C.x C.b dX7_inside_5 rfl (lv_at hl 0 rfl) ?_
  refine lv_iload_n C.x C.b dX7_inside_6 rfl (lv_at hl 1 rfl) ?_
  obtain ⟨q_2, hc, hf⟩ := bd_k (K := fun x => x) rfl hf
  refine cM_isZone C h hc (Nat.le_of_ble_eq_true rfl) hl.1 (Nat.le_of_ble_eq_true rfl) dX7_inside_7 (fun H locs h => ?_)
  refine lv_if_eq (tgt := 22) C.x C.b dX7_inside_10 (by decide) (fun c9 => ?_) (fun c9 => ?_)
  · have hf := if_t (K := fun x => x) c9 hf
    exact j22 σ_1 _ _ _ h (lv_sub hl [] rfl) hf
  · have hf := if_f (K := fun x => x) c9 hf
    refine lv_aload_n C.x C.b dX7_inside_13 rfl (lv_at hl 0 rfl) ?_
    refine lv_iload_n C.x C.b dX7_inside_14 rfl (lv_at hl 2 rfl) ?_
    refine lv_i2l C.x C.b dX7_inside_15 rfl ?_
    obtain ⟨q_3, hc, hf⟩ := bd_k (K := fun x => x) rfl hf
    refine cM_isStep C h hc (Nat.le_of_ble_eq_true rfl) hl.1 (Nat.le_of_ble_eq_true rfl) dX7_inside_16 (fun H locs h => ?_)
    refine lv_if_ne (tgt := 25) C.x C.b dX7_inside_19 (by decide) (fun c9 => ?_) (fun c9 => ?_)
    · have hf := if_f (K := fun x => x) c9 hf
      refine lv_aload_n C.x C.b dX7_inside_25 rfl (lv_at hl 0 rfl) ?_
      obtain ⟨q_4, hc, hf⟩ := bd_k (K := fun x => x) rfl hf
      refine cM_lays C h hc (Nat.le_of_ble_eq_true rfl) hl.1 (Nat.le_of_ble_eq_true rfl) dX7_inside_26 (fun H locs h => ?_)
      refine lv_aload_n C.x C.b dX7_inside_29 rfl (lv_at hl 0 rfl) ?_
      refine lv_iload_n C.x C.b dX7_inside_30 rfl (lv_at hl 1 rfl) ?_
      refine lv_iload_n C.x C.b dX7_inside_31 rfl (lv_at hl 2 rfl) ?_
      obtain ⟨q_5, hc, hf⟩ := bd_k (K := fun x => x) rfl hf
      refine cM_insideOf C h hc (Nat.le_of_ble_eq_true rfl) hl.1 (Nat.le_of_ble_eq_true rfl) dX7_inside_32 (fun H locs h => ?_)
      exact hR _ _ (some_k hf) _ _ _ _ h rfl dX7_inside_35
    · have hf := if_t (K := fun x => x) c9 hf
      exact j22 σ_1 _ _ _ h (lv_sub hl [] rfl) hf
def M_goesOn_j271 (σ : PS) (x0 : Int32) (x1 : Int32) : Option PS := ix x1 6 (nm (wA σ 35 x1 x0) (fun σ_1 => some σ_1))
def M_goesOn_j247 (σ : PS) (v1 : Int32) (v2 : Int32) (v6 : Int32) : Option PS := ix v1 6 (nm (wA σ 34 v1 (v2 + 1)) (fun σ_2 => if v6 = 0 then M_goesOn_j271 σ_2 2 v1 else M_goesOn_j271 σ_2 1 v1))
def M_goesOn_j234 (σ : PS) (v1 : Int32) (v2 : Int32) (v5 : Int32) (x0 : Int32) : Option PS := if x0 = 0 then if v5 = 0 then some σ else M_goesOn_j247 σ v1 v2 x0 else M_goesOn_j247 σ v1 v2 x0
def M_goesOn_j210 (σ : PS) (v1 : Int32) (v2 : Int32) (x0 : Int32) : Option PS := bd (M_strainOf σ v1 (v2 + 1)) (fun q_3 => ix v1 6 (if q_3 ≤ (rA σ 29 v1) then M_goesOn_j234 σ v1 v2 x0 0 else M_goesOn_j234 σ v1 v2 x0 1))
def M_goesOn_j209 (σ : PS) (v1 : Int32) (v2 : Int32) : Option PS := M_goesOn_j210 σ v1 v2 0
def M_goesOn_j165 (σ : PS) (v1 : Int32) (v2 : Int32) : Option PS := bd (M_whereOf σ v1 (v2 + 1)) (fun q_4 => if q_4 = 10 then ix v1 6 (if (rA σ 32 v1) = ((-1)) then M_goesOn_j209 σ v1 v2 else ix v1 6 (ix v1 6 (if (rA σ 32 v1) ≤ ((rA σ 29 v1) / 2) then M_goesOn_j209 σ v1 v2 else M_goesOn_j210 σ v1 v2 1))) else M_goesOn_j209 σ v1 v2)
def M_goesOn_j65 (σ : PS) : Option PS := some σ
def M_goesOn (σ : PS) (v1 : Int32) (v2 : Int32) : Option PS := nm (((6 * v2) + 6) + v1) (fun v3_5 => bd (M_skinOf σ v1 v2) (fun q_6 => ix v3_5 90 (nm (wA σ 30 v3_5 q_6) (fun σ_7 => bd (M_coreOf σ_7 v1 v2) (fun q_8 => ix v3_5 90 (nm (wA σ_7 31 v3_5 q_8) (fun σ_9 => bd (M_whereOf σ_9 v1 v2) (fun q_10 => if q_10 = ((-1)) then M_goesOn_j65 σ_9 else if q_10 = 10 then M_goesOn_j65 σ_9 else ix v1 6 (if (rA σ_9 34 v1) = ((-1)) then ix v3_5 90 (bd (M_pullOf σ_9 v1 v2 q_10) (fun q_11 => ix v3_5 90 (nm (wA σ_9 30 v3_5 ((rA σ_9 30 v3_5) + q_11)) (fun σ_12 => ix v3_5 90 (ix v3_5 90 (ix v3_5 90 (ix v1 6 (nz (rA σ_12 28 v1) (ix v3_5 90 (nm (wA σ_12 31 v3_5 ((rA σ_12 31 v3_5) + (((rA σ_12 30 v3_5) - (rA σ_12 31 v3_5)) / (rA σ_12 28 v1)))) (fun σ_13 => bd (M_coreOf σ_13 v1 v2) (fun q_14 => ix 4 40 (if q_14 < (rA σ_13 17 4) then M_goesOn_j165 σ_13 v1 v2 else ix v3_5 90 (ix 4 40 (if (rA σ_13 17 4) ≤ (rA σ_13 31 v3_5) then M_goesOn_j165 σ_13 v1 v2 else bd (M_strainOf σ_13 v1 (v2 + 1)) (fun q_15 => ix v1 6 (nm (wA σ_13 32 v1 q_15) (fun σ_16 => ix v1 6 (nm (wA σ_16 33 v1 (v2 + 1)) (fun σ_17 => M_goesOn_j165 σ_17 v1 v2)))))))))))))))))))) else M_goesOn_j65 σ_9)))))))))
set_option maxHeartbeats 4000000 in
theorem kM_goesOn (l : Launch) {D : va_G} {ty : Nat → ClassId} {A : Nat → Prop} {o : Nat} {ad : Nat → Nat} {rs : va_W} {σ : PS} {σ' : PS} {v1 : Int32} {v2 : Int32} (hf : M_goesOn σ v1 v2 = some σ') : KV l yX7_goesOn cX7_goesOn 7 3 D ty A (wM ty o ad σ ++ rs) (wM ty o ad σ' ++ rs) [.ref o, .int v1, .int v2] := by
  refine KV.of (by decide) (Nat.le_of_ble_eq_true rfl) ?_
  intro p e R s m args below meth c Q C hR
  have C : Cx p R s m args c cX7_goesOn 7 RX7 D ty A 3 := C
  have hR : ∀ (σ2 : PS), σ2 = σ' → ∀ (H : Heap) (locs : List Loc) (pc : Nat) (ls : Array Slot), Hw D A s H locs (wM ty o ad σ2 ++ rs) → decode cX7_goesOn pc = .ok (.return_, 1) → W p l e R s m args below meth c H locs 0 0 Q (F0 m pc ls []) := by intro σ2 e9; cases e9; exact hR
  have j271 : ∀ (σ : PS) (x0 : Int32) (x1 : Int32) (H : Heap) (locs : List Loc) (ls : Array Slot), Hw D A s H locs (wM ty o ad σ ++ rs) → lv_has ls 7 [] → M_goesOn_j271 σ x0 x1 = some σ' → W p l e R s m args below meth c H locs 0 0 Q (F0 m 271 ls [.int x0, .int x1, .ref (ad 35)]) := by
    intro σ x0 x1 H locs ls h hl hf
    unfold M_goesOn_j271 at hf
    obtain ⟨hi, hf⟩ := ix_k (K := fun x => x) rfl hf
    obtain ⟨σ_1, e9, hf⟩ := nm_k (K := fun x => x) hf
    refine m_w35 C h hi e9 dX7_goesOn_271 (fun H locs h => ?_)
    exact hR _ (some_k hf) _ _ _ _ h dX7_goesOn_272
  have j247 : ∀ (σ : PS) (v6 : Int32) (H : Heap) (locs : List Loc) (ls : Array Slot), Hw D A s H locs (wM ty o ad σ ++ rs) → lv_has ls 7 [(0, .ref o), (1, .int v1), (2, .int v2), (6, .int v6)] → M_goesOn_j247 σ v1 v2 v6 = some σ' → W p l e R s m args below meth c H locs 0 0 Q (F0 m 247 ls []) := by
    intro σ v6 H locs ls h hl hf
    unfold M_goesOn_j247 at hf
    refine lv_aload_n C.x C.b dX7_goesOn_247 rfl (lv_at hl 0 rfl) ?_
    refine m_g34 C h dX7_goesOn_248 ?_
    refine lv_iload_n C.x C.b dX7_goesOn_251 rfl (lv_at hl 1 rfl) ?_
    refine lv_iload_n C.x C.b dX7_goesOn_252 rfl (lv_at hl 2 rfl) ?_
    refine lv_iconst (v := 1) C.x C.b dX7_goesOn_253 (by decide) ?_
    refine lv_iadd C.x C.b dX7_goesOn_254 ?_
    obtain ⟨hi, hf⟩ := ix_k (K := fun x => x) rfl hf
    obtain ⟨σ_2, e9, hf⟩ := nm_k (K := fun x => x) hf
    refine m_w34 C h hi e9 dX7_goesOn_255 (fun H locs h => ?_)
    refine lv_aload_n C.x C.b dX7_goesOn_256 rfl (lv_at hl 0 rfl) ?_
    refine m_g35 C h dX7_goesOn_257 ?_
    refine lv_iload_n C.x C.b dX7_goesOn_260 rfl (lv_at hl 1 rfl) ?_
    refine lv_iload C.x C.b dX7_goesOn_261 (lv_at hl 3 rfl) ?_
    refine lv_if_eq (tgt := 270) C.x C.b dX7_goesOn_263 (by decide) (fun c9 => ?_) (fun c9 => ?_)
    · have hf := if_t (K := fun x => x) c9 hf
      refine lv_iconst (v := 2) C.x C.b dX7_goesOn_270 (by decide) ?_
      exact j271 σ_2 2 v1 _ _ _ h (lv_sub hl [] rfl) hf
    · have hf := if_f (K := fun x => x) c9 hf
      refine lv_iconst (v := 1) C.x C.b dX7_goesOn_266 (by decide) ?_
      refine lv_goto (tgt := 271) C.x C.b dX7_goesOn_267 (by decide) ?_
      exact j271 σ_2 1 v1 _ _ _ h (lv_sub hl [] rfl) hf
  have j234 : ∀ (σ : PS) (v5 : Int32) (x0 : Int32) (H : Heap) (locs : List Loc) (ls : Array Slot), Hw D A s H locs (wM ty o ad σ ++ rs) → lv_has ls 7 [(0, .ref o), (1, .int v1), (2, .int v2), (5, .int v5)] → M_goesOn_j234 σ v1 v2 v5 x0 = some σ' → W p l e R s m args below meth c H locs 0 0 Q (F0 m 234 ls [.int x0]) := by
    intro σ v5 x0 H locs ls h hl hf
    unfold M_goesOn_j234 at hf
    refine lv_istore (lv' := [(6, .int x0), (0, .ref o), (1, .int v1), (2, .int v2), (5, .int v5)]) C.x C.b dX7_goesOn_234 hl (by decide) rfl (fun ls hl => ?_)
    refine lv_iload C.x C.b dX7_goesOn_236 (lv_at hl 0 rfl) ?_
    refine lv_if_ne (tgt := 247) C.x C.b dX7_goesOn_238 (by decide) (fun c9 => ?_) (fun c9 => ?_)
    · have hf := if_f (K := fun x => x) c9 hf
      exact j247 σ x0 _ _ _ h (lv_sub hl [1, 2, 3, 0] rfl) hf
    · have hf := if_t (K := fun x => x) c9 hf
      refine lv_iload C.x C.b dX7_goesOn_241 (lv_at hl 4 rfl) ?_
      refine lv_if_ne (tgt := 247) C.x C.b dX7_goesOn_243 (by decide) (fun c9 => ?_) (fun c9 => ?_)
      · have hf := if_f (K := fun x => x) c9 hf
        exact j247 σ x0 _ _ _ h (lv_sub hl [1, 2, 3, 0] rfl) hf
      · have hf := if_t (K := fun x => x) c9 hf
        exact hR _ (some_k hf) _ _ _ _ h dX7_goesOn_246
  have j210 : ∀ (σ : PS) (x0 : Int32) (H : Heap) (locs : List Loc) (ls : Array Slot), Hw D A s H locs (wM ty o ad σ ++ rs) → lv_has ls 7 [(0, .ref o), (1, .int v1), (2, .int v2)] → M_goesOn_j210 σ v1 v2 x0 = some σ' → W p l e R s m args below meth c H locs 0 0 Q (F0 m 210 ls [.int x0]) := by
    intro σ x0 H locs ls h hl hf
    unfold M_goesOn_j210 at hf
    refine lv_istore (lv' := [(5, .int x0), (0, .ref o), (1, .int v1), (2, .int v2)]) C.x C.b dX7_goesOn_210 hl (by decide) rfl (fun ls hl => ?_)
    refine lv_aload_n C.x C.b dX7_goesOn_212 rfl (lv_at hl 1 rfl) ?_
    refine lv_iload_n C.x C.b dX7_goesOn_213 rfl (lv_at hl 2 rfl) ?_
    refine lv_iload_n C.x C.b dX7_goesOn_214 rfl (lv_at hl 3 rfl) ?_
    refine lv_iconst (v := 1) C.x C.b dX7_goesOn_215 (by decide) ?_
    refine lv_iadd C.x C.b dX7_goesOn_216 ?_
    obtain ⟨q_3, hc, hf⟩ := bd_k (K := fun x => x) rfl hf
    refine cM_strainOf C h hc (Nat.le_of_ble_eq_true rfl) hl.1 (Nat.le_of_ble_eq_true rfl) dX7_goesOn_217 (fun H locs h => ?_)
    refine lv_aload_n C.x C.b dX7_goesOn_220 rfl (lv_at hl 1 rfl) ?_
    refine m_g29 C h dX7_goesOn_221 ?_
    refine lv_iload_n C.x C.b dX7_goesOn_224 rfl (lv_at hl 2 rfl) ?_
    obtain ⟨hi, hf⟩ := ix_k (K := fun x => x) rfl hf
    refine m_a29 C h hi dX7_goesOn_225 ?_
    refine lv_icmp_le (tgt := 233) C.x C.b dX7_goesOn_226 (by decide) (fun c9 => ?_) (fun c9 => ?_)
    · have hf := if_t (K := fun x => x) c9 hf
      refine lv_iconst (v := 0) C.x C.b dX7_goesOn_233 (by decide) ?_
      exact j234 σ x0 0 _ _ _ h (lv_sub hl [1, 2, 3, 0] rfl) hf
    · have hf := if_f (K := fun x => x) c9 hf
      refine lv_iconst (v := 1) C.x C.b dX7_goesOn_229 (by decide) ?_
      refine lv_goto (tgt := 234) C.x C.b dX7_goesOn_230 (by decide) ?_
      exact j234 σ x0 1 _ _ _ h (lv_sub hl [1, 2, 3, 0] rfl) hf
  have j209 : ∀ (σ : PS) (H : Heap) (locs : List Loc) (ls : Array Slot), Hw D A s H locs (wM ty o ad σ ++ rs) → lv_has ls 7 [(0, .ref o), (1, .int v1), (2, .int v2)] → M_goesOn_j209 σ v1 v2 = some σ' → W p l e R s m args below meth c H locs 0 0 Q (F0 m 209 ls []) := by
    intro σ H locs ls h hl hf
    unfold M_goesOn_j209 at hf
    refine lv_iconst (v := 0) C.x C.b dX7_goesOn_209 (by decide) ?_
    exact j210 σ 0 _ _ _ h (lv_sub hl [0, 1, 2] rfl) hf
  have j165 : ∀ (σ : PS) (H : Heap) (locs : List Loc) (ls : Array Slot), Hw D A s H locs (wM ty o ad σ ++ rs) → lv_has ls 7 [(0, .ref o), (1, .int v1), (2, .int v2)] → M_goesOn_j165 σ v1 v2 = some σ' → W p l e R s m args below meth c H locs 0 0 Q (F0 m 165 ls []) := by
    intro σ H locs ls h hl hf
    unfold M_goesOn_j165 at hf
    refine lv_aload_n C.x C.b dX7_goesOn_165 rfl (lv_at hl 0 rfl) ?_
    refine lv_iload_n C.x C.b dX7_goesOn_166 rfl (lv_at hl 1 rfl) ?_
    refine lv_iload_n C.x C.b dX7_goesOn_167 rfl (lv_at hl 2 rfl) ?_
    refine lv_iconst (v := 1) C.x C.b dX7_goesOn_168 (by decide) ?_
    refine lv_iadd C.x C.b dX7_goesOn_169 ?_
    obtain ⟨q_4, hc, hf⟩ := bd_k (K := fun x => x) rfl hf
    refine cM_whereOf C h hc (Nat.le_of_ble_eq_true rfl) hl.1 (Nat.le_of_ble_eq_true rfl) dX7_goesOn_170 (fun H locs h => ?_)
    refine lv_bipush (v := 10) C.x C.b dX7_goesOn_173 (by decide) ?_
    refine lv_icmp_ne (tgt := 209) C.x C.b dX7_goesOn_175 (by decide) (fun c9 => ?_) (fun c9 => ?_)
    · have hf := if_f (K := fun x => x) c9 hf
      exact j209 σ _ _ _ h (lv_sub hl [0, 1, 2] rfl) hf
    · have hf := if_t (K := fun x => x) c9 hf
      refine lv_aload_n C.x C.b dX7_goesOn_178 rfl (lv_at hl 0 rfl) ?_
      refine m_g32 C h dX7_goesOn_179 ?_
      refine lv_iload_n C.x C.b dX7_goesOn_182 rfl (lv_at hl 1 rfl) ?_
      obtain ⟨hi, hf⟩ := ix_k (K := fun x => x) rfl hf
      refine m_a32 C h hi dX7_goesOn_183 ?_
      refine lv_iconst (v := (-1)) C.x C.b dX7_goesOn_184 (by decide) ?_
      refine lv_icmp_eq (tgt := 209) C.x C.b dX7_goesOn_185 (by decide) (fun c9 => ?_) (fun c9 => ?_)
      · have hf := if_t (K := fun x => x) c9 hf
        exact j209 σ _ _ _ h (lv_sub hl [0, 1, 2] rfl) hf
      · have hf := if_f (K := fun x => x) c9 hf
        refine lv_aload_n C.x C.b dX7_goesOn_188 rfl (lv_at hl 0 rfl) ?_
        refine m_g32 C h dX7_goesOn_189 ?_
        refine lv_iload_n C.x C.b dX7_goesOn_192 rfl (lv_at hl 1 rfl) ?_
        obtain ⟨hi, hf⟩ := ix_k (K := fun x => x) rfl hf
        refine m_a32 C h hi dX7_goesOn_193 ?_
        refine lv_aload_n C.x C.b dX7_goesOn_194 rfl (lv_at hl 0 rfl) ?_
        refine m_g29 C h dX7_goesOn_195 ?_
        refine lv_iload_n C.x C.b dX7_goesOn_198 rfl (lv_at hl 1 rfl) ?_
        obtain ⟨hi, hf⟩ := ix_k (K := fun x => x) rfl hf
        refine m_a29 C h hi dX7_goesOn_199 ?_
        refine lv_iconst (v := 2) C.x C.b dX7_goesOn_200 (by decide) ?_
        refine lv_idiv C.x C.b dX7_goesOn_201 (by decide) ?_
        refine lv_icmp_le (tgt := 209) C.x C.b dX7_goesOn_202 (by decide) (fun c9 => ?_) (fun c9 => ?_)
        · have hf := if_t (K := fun x => x) c9 hf
          exact j209 σ _ _ _ h (lv_sub hl [0, 1, 2] rfl) hf
        · have hf := if_f (K := fun x => x) c9 hf
          refine lv_iconst (v := 1) C.x C.b dX7_goesOn_205 (by decide) ?_
          refine lv_goto (tgt := 210) C.x C.b dX7_goesOn_206 (by decide) ?_
          exact j210 σ 1 _ _ _ h (lv_sub hl [0, 1, 2] rfl) hf
  have j65 : ∀ (σ : PS) (H : Heap) (locs : List Loc) (ls : Array Slot), Hw D A s H locs (wM ty o ad σ ++ rs) → lv_has ls 7 [] → M_goesOn_j65 σ = some σ' → W p l e R s m args below meth c H locs 0 0 Q (F0 m 65 ls []) := by
    intro σ H locs ls h hl hf
    unfold M_goesOn_j65 at hf
    exact hR _ (some_k hf) _ _ _ _ h dX7_goesOn_65
  intro H locs ls h hl
  have hl : lv_has ls 7 [(0, .ref o), (1, .int v1), (2, .int v2)] := hl
  unfold M_goesOn at hf
  refine lv_bipush (v := 6) C.x C.b dX7_goesOn_0 (by decide) ?_
  refine lv_iload_n C.x C.b dX7_goesOn_2 rfl (lv_at hl 2 rfl) ?_
  refine lv_imul C.x C.b dX7_goesOn_3 ?_
  refine lv_bipush (v := 6) C.x C.b dX7_goesOn_4 (by decide) ?_
  refine lv_iadd C.x C.b dX7_goesOn_6 ?_
  refine lv_iload_n C.x C.b dX7_goesOn_7 rfl (lv_at hl 1 rfl) ?_
  refine lv_iadd C.x C.b dX7_goesOn_8 ?_
  obtain ⟨v3_5, e9, hf⟩ := nm_k (K := fun x => x) hf
  refine lv_topI e9 ?_
  refine lv_istore_n (lv' := [(3, .int v3_5), (0, .ref o), (1, .int v1), (2, .int v2)]) C.x C.b dX7_goesOn_9 rfl hl (by decide) rfl (fun ls hl => ?_)
  refine lv_aload_n C.x C.b dX7_goesOn_10 rfl (lv_at hl 1 rfl) ?_
  refine m_g30 C h dX7_goesOn_11 ?_
  refine lv_iload_n C.x C.b dX7_goesOn_14 rfl (lv_at hl 0 rfl) ?_
  refine lv_aload_n C.x C.b dX7_goesOn_15 rfl (lv_at hl 1 rfl) ?_
  refine lv_iload_n C.x C.b dX7_goesOn_16 rfl (lv_at hl 2 rfl) ?_
  refine lv_iload_n C.x C.b dX7_goesOn_17 rfl (lv_at hl 3 rfl) ?_
  obtain ⟨q_6, hc, hf⟩ := bd_k (K := fun x => x) rfl hf
  refine cM_skinOf C h hc (Nat.le_of_ble_eq_true rfl) hl.1 (Nat.le_of_ble_eq_true rfl) dX7_goesOn_18 (fun H locs h => ?_)
  obtain ⟨hi, hf⟩ := ix_k (K := fun x => x) rfl hf
  obtain ⟨σ_7, e9, hf⟩ := nm_k (K := fun x => x) hf
  refine m_w30 C h hi e9 dX7_goesOn_21 (fun H locs h => ?_)
  refine lv_aload_n C.x C.b dX7_goesOn_22 rfl (lv_at hl 1 rfl) ?_
  refine m_g31 C h dX7_goesOn_23 ?_
  refine lv_iload_n C.x C.b dX7_goesOn_26 rfl (lv_at hl 0 rfl) ?_
  refine lv_aload_n C.x C.b dX7_goesOn_27 rfl (lv_at hl 1 rfl) ?_
  refine lv_iload_n C.x C.b dX7_goesOn_28 rfl (lv_at hl 2 rfl) ?_
  refine lv_iload_n C.x C.b dX7_goesOn_29 rfl (lv_at hl 3 rfl) ?_
  obtain ⟨q_8, hc, hf⟩ := bd_k (K := fun x => x) rfl hf
  refine cM_coreOf C h hc (Nat.le_of_ble_eq_true rfl) hl.1 (Nat.le_of_ble_eq_true rfl) dX7_goesOn_30 (fun H locs h => ?_)
  obtain ⟨hi, hf⟩ := ix_k (K := fun x => x) rfl hf
  obtain ⟨σ_9, e9, hf⟩ := nm_k (K := fun x => x) hf
  refine m_w31 C h hi e9 dX7_goesOn_33 (fun H locs h => ?_)
  refine lv_aload_n C.x C.b dX7_goesOn_34 rfl (lv_at hl 1 rfl) ?_
  refine lv_iload_n C.x C.b dX7_goesOn_35 rfl (lv_at hl 2 rfl) ?_
  refine lv_iload_n C.x C.b dX7_goesOn_36 rfl (lv_at hl 3 rfl) ?_
  obtain ⟨q_10, hc, hf⟩ := bd_k (K := fun x => x) rfl hf
  refine cM_whereOf C h hc (Nat.le_of_ble_eq_true rfl) hl.1 (Nat.le_of_ble_eq_true rfl) dX7_goesOn_37 (fun H locs h => ?_)
  refine lv_istore (lv' := [(4, .int q_10), (3, .int v3_5), (0, .ref o), (1, .int v1), (2, .int v2)]) C.x C.b dX7_goesOn_40 hl (by decide) rfl (fun ls hl => ?_)
  refine lv_iload C.x C.b dX7_goesOn_42 (lv_at hl 0 rfl) ?_
  refine lv_iconst (v := (-1)) C.x C.b dX7_goesOn_44 (by decide) ?_
  refine lv_icmp_eq (tgt := 65) C.x C.b dX7_goesOn_45 (by decide) (fun c9 => ?_) (fun c9 => ?_)
  · have hf := if_t (K := fun x => x) c9 hf
    exact j65 σ_9 _ _ _ h (lv_sub hl [] rfl) hf
  · have hf := if_f (K := fun x => x) c9 hf
    refine lv_iload C.x C.b dX7_goesOn_48 (lv_at hl 0 rfl) ?_
    refine lv_bipush (v := 10) C.x C.b dX7_goesOn_50 (by decide) ?_
    refine lv_icmp_eq (tgt := 65) C.x C.b dX7_goesOn_52 (by decide) (fun c9 => ?_) (fun c9 => ?_)
    · have hf := if_t (K := fun x => x) c9 hf
      exact j65 σ_9 _ _ _ h (lv_sub hl [] rfl) hf
    · have hf := if_f (K := fun x => x) c9 hf
      refine lv_aload_n C.x C.b dX7_goesOn_55 rfl (lv_at hl 2 rfl) ?_
      refine m_g34 C h dX7_goesOn_56 ?_
      refine lv_iload_n C.x C.b dX7_goesOn_59 rfl (lv_at hl 3 rfl) ?_
      obtain ⟨hi, hf⟩ := ix_k (K := fun x => x) rfl hf
      refine m_a34 C h hi dX7_goesOn_60 ?_
      refine lv_iconst (v := (-1)) C.x C.b dX7_goesOn_61 (by decide) ?_
      refine lv_icmp_eq (tgt := 66) C.x C.b dX7_goesOn_62 (by decide) (fun c9 => ?_) (fun c9 => ?_)
      · have hf := if_t (K := fun x => x) c9 hf
        refine lv_aload_n C.x C.b dX7_goesOn_66 rfl (lv_at hl 2 rfl) ?_
        refine m_g30 C h dX7_goesOn_67 ?_
        refine lv_iload_n C.x C.b dX7_goesOn_70 rfl (lv_at hl 1 rfl) ?_
        refine lv_dup2_11 C.x C.b dX7_goesOn_71 rfl rfl ?_
        obtain ⟨hi, hf⟩ := ix_k (K := fun x => x) rfl hf
        refine m_a30 C h hi dX7_goesOn_72 ?_
        refine lv_aload_n C.x C.b dX7_goesOn_73 rfl (lv_at hl 2 rfl) ?_
        refine lv_iload_n C.x C.b dX7_goesOn_74 rfl (lv_at hl 3 rfl) ?_
        refine lv_iload_n C.x C.b dX7_goesOn_75 rfl (lv_at hl 4 rfl) ?_
        refine lv_iload C.x C.b dX7_goesOn_76 (lv_at hl 0 rfl) ?_
        obtain ⟨q_11, hc, hf⟩ := bd_k (K := fun x => x) rfl hf
        refine cM_pullOf C h hc (Nat.le_of_ble_eq_true rfl) hl.1 (Nat.le_of_ble_eq_true rfl) dX7_goesOn_78 (fun H locs h => ?_)
        refine lv_iadd C.x C.b dX7_goesOn_81 ?_
        obtain ⟨hi, hf⟩ := ix_k (K := fun x => x) rfl hf
        obtain ⟨σ_12, e9, hf⟩ := nm_k (K := fun x => x) hf
        refine m_w30 C h hi e9 dX7_goesOn_82 (fun H locs h => ?_)
        refine lv_aload_n C.x C.b dX7_goesOn_83 rfl (lv_at hl 2 rfl) ?_
        refine m_g31 C h dX7_goesOn_84 ?_
        refine lv_iload_n C.x C.b dX7_goesOn_87 rfl (lv_at hl 1 rfl) ?_
        refine lv_dup2_11 C.x C.b dX7_goesOn_88 rfl rfl ?_
        obtain ⟨hi, hf⟩ := ix_k (K := fun x => x) rfl hf
        refine m_a31 C h hi dX7_goesOn_89 ?_
        refine lv_aload_n C.x C.b dX7_goesOn_90 rfl (lv_at hl 2 rfl) ?_
        refine m_g30 C h dX7_goesOn_91 ?_
        refine lv_iload_n C.x C.b dX7_goesOn_94 rfl (lv_at hl 1 rfl) ?_
        obtain ⟨hi, hf⟩ := ix_k (K := fun x => x) rfl hf
        refine m_a30 C h hi dX7_goesOn_95 ?_
        refine lv_aload_n C.x C.b dX7_goesOn_96 rfl (lv_at hl 2 rfl) ?_
        refine m_g31 C h dX7_goesOn_97 ?_
        refine lv_iload_n C.x C.b dX7_goesOn_100 rfl (lv_at hl 1 rfl) ?_
        obtain ⟨hi, hf⟩ := ix_k (K := fun x => x) rfl hf
        refine m_a31 C h hi dX7_goesOn_101 ?_
        refine lv_isub C.x C.b dX7_goesOn_102 ?_
        refine lv_aload_n C.x C.b dX7_goesOn_103 rfl (lv_at hl 2 rfl) ?_
        refine m_g28 C h dX7_goesOn_104 ?_
        refine lv_iload_n C.x C.b dX7_goesOn_107 rfl (lv_at hl 3 rfl) ?_
        obtain ⟨hi, hf⟩ := ix_k (K := fun x => x) rfl hf
        refine m_a28 C h hi dX7_goesOn_108 ?_
        obtain ⟨hz, hf⟩ := nz_k (K := fun x => x) rfl hf
        refine lv_idiv C.x C.b dX7_goesOn_109 hz ?_
        refine lv_iadd C.x C.b dX7_goesOn_110 ?_
        obtain ⟨hi, hf⟩ := ix_k (K := fun x => x) rfl hf
        obtain ⟨σ_13, e9, hf⟩ := nm_k (K := fun x => x) hf
        refine m_w31 C h hi e9 dX7_goesOn_111 (fun H locs h => ?_)
        refine lv_aload_n C.x C.b dX7_goesOn_112 rfl (lv_at hl 2 rfl) ?_
        refine lv_iload_n C.x C.b dX7_goesOn_113 rfl (lv_at hl 3 rfl) ?_
        refine lv_iload_n C.x C.b dX7_goesOn_114 rfl (lv_at hl 4 rfl) ?_
        obtain ⟨q_14, hc, hf⟩ := bd_k (K := fun x => x) rfl hf
        refine cM_coreOf C h hc (Nat.le_of_ble_eq_true rfl) hl.1 (Nat.le_of_ble_eq_true rfl) dX7_goesOn_115 (fun H locs h => ?_)
        refine lv_aload_n C.x C.b dX7_goesOn_118 rfl (lv_at hl 2 rfl) ?_
        refine m_g17 C h dX7_goesOn_119 ?_
        refine lv_iconst (v := 4) C.x C.b dX7_goesOn_122 (by decide) ?_
        obtain ⟨hi, hf⟩ := ix_k (K := fun x => x) rfl hf
        refine m_a17 C h hi dX7_goesOn_123 ?_
        refine lv_icmp_lt (tgt := 165) C.x C.b dX7_goesOn_124 (by decide) (fun c9 => ?_) (fun c9 => ?_)
        · have hf := if_t (K := fun x => x) c9 hf
          exact j165 σ_13 _ _ _ h (lv_sub hl [2, 3, 4] rfl) hf
        · have hf := if_f (K := fun x => x) c9 hf
          refine lv_aload_n C.x C.b dX7_goesOn_127 rfl (lv_at hl 2 rfl) ?_
          refine m_g31 C h dX7_goesOn_128 ?_
          refine lv_iload_n C.x C.b dX7_goesOn_131 rfl (lv_at hl 1 rfl) ?_
          obtain ⟨hi, hf⟩ := ix_k (K := fun x => x) rfl hf
          refine m_a31 C h hi dX7_goesOn_132 ?_
          refine lv_aload_n C.x C.b dX7_goesOn_133 rfl (lv_at hl 2 rfl) ?_
          refine m_g17 C h dX7_goesOn_134 ?_
          refine lv_iconst (v := 4) C.x C.b dX7_goesOn_137 (by decide) ?_
          obtain ⟨hi, hf⟩ := ix_k (K := fun x => x) rfl hf
          refine m_a17 C h hi dX7_goesOn_138 ?_
          refine lv_icmp_ge (tgt := 165) C.x C.b dX7_goesOn_139 (by decide) (fun c9 => ?_) (fun c9 => ?_)
          · have hf := if_t (K := fun x => x) c9 hf
            exact j165 σ_13 _ _ _ h (lv_sub hl [2, 3, 4] rfl) hf
          · have hf := if_f (K := fun x => x) c9 hf
            refine lv_aload_n C.x C.b dX7_goesOn_142 rfl (lv_at hl 2 rfl) ?_
            refine m_g32 C h dX7_goesOn_143 ?_
            refine lv_iload_n C.x C.b dX7_goesOn_146 rfl (lv_at hl 3 rfl) ?_
            refine lv_aload_n C.x C.b dX7_goesOn_147 rfl (lv_at hl 2 rfl) ?_
            refine lv_iload_n C.x C.b dX7_goesOn_148 rfl (lv_at hl 3 rfl) ?_
            refine lv_iload_n C.x C.b dX7_goesOn_149 rfl (lv_at hl 4 rfl) ?_
            refine lv_iconst (v := 1) C.x C.b dX7_goesOn_150 (by decide) ?_
            refine lv_iadd C.x C.b dX7_goesOn_151 ?_
            obtain ⟨q_15, hc, hf⟩ := bd_k (K := fun x => x) rfl hf
            refine cM_strainOf C h hc (Nat.le_of_ble_eq_true rfl) hl.1 (Nat.le_of_ble_eq_true rfl) dX7_goesOn_152 (fun H locs h => ?_)
            obtain ⟨hi, hf⟩ := ix_k (K := fun x => x) rfl hf
            obtain ⟨σ_16, e9, hf⟩ := nm_k (K := fun x => x) hf
            refine m_w32 C h hi e9 dX7_goesOn_155 (fun H locs h => ?_)
            refine lv_aload_n C.x C.b dX7_goesOn_156 rfl (lv_at hl 2 rfl) ?_
            refine m_g33 C h dX7_goesOn_157 ?_
            refine lv_iload_n C.x C.b dX7_goesOn_160 rfl (lv_at hl 3 rfl) ?_
            refine lv_iload_n C.x C.b dX7_goesOn_161 rfl (lv_at hl 4 rfl) ?_
            refine lv_iconst (v := 1) C.x C.b dX7_goesOn_162 (by decide) ?_
            refine lv_iadd C.x C.b dX7_goesOn_163 ?_
            obtain ⟨hi, hf⟩ := ix_k (K := fun x => x) rfl hf
            obtain ⟨σ_17, e9, hf⟩ := nm_k (K := fun x => x) hf
            refine m_w33 C h hi e9 dX7_goesOn_164 (fun H locs h => ?_)
            exact j165 σ_17 _ _ _ h (lv_sub hl [2, 3, 4] rfl) hf
      · have hf := if_f (K := fun x => x) c9 hf
        exact j65 σ_9 _ _ _ h (lv_sub hl [] rfl) hf
theorem tM_goesOn : GoodIn lw_all (wsV RX7 293 RX7 yX7_goesOn (ws_ yX7_goesOn cX7_goesOn 7 none)) := lw_V q1889 q1891 qs104 q147 q1892
theorem cM_goesOn {p : Program} {l : Launch} {e : Env} {R : Room} {s : State} {m : MethodId} {args : Array Value} {below : List Frame} {meth : Method} {c : Code} {H : Heap} {locs : List Loc} {Q : State → Prop} {cc : ByteArray} {pc : Nat} {ls : Array Slot} {st : List Value} {nL d : Nat} {D : va_G} {ty : Nat → ClassId} {A : Nat → Prop} {o : Nat} {ad : Nat → Nat} {rs : va_W} {σ : PS} {v1 : Int32} {v2 : Int32} {q : PS} (C : Cx p R s m args c cc nL RX7 D ty A d) (h : Hw D A s H locs (wM ty o ad σ ++ rs)) (hc : M_goesOn σ v1 v2 = some q) (hd : 3 + 1 ≤ d) (hls : ls.size = nL) (hcat : (st.map fun v => v.category).sum ≤ 8) (dec : decode cc pc = .ok (.invokevirtual 293, 3)) (kk : ∀ (H : Heap) (locs : List Loc), Hw D A s H locs (wM ty o ad q ++ rs) → W p l e R s m args below meth c H locs 0 0 Q (F0 m (pc + 3) ls (st))) : W p l e R s m args below meth c H locs 0 0 Q (F0 m pc ls (.int v2 :: .int v1 :: .ref o :: st)) := KV.callV (As := [.int v1, .int v2]) C (kM_goesOn l hc) tM_goesOn ⟨rfl, by decide, by decide, by show _ = some 2; decide +kernel⟩ 0 7 rfl rfl rfl hd (by decide) (Nat.zero_le _) (Nat.zero_le _) h hls rfl hcat dec kk
def M_mostAt_j56 (σ : PS) (v3 : Int32) : Option Int32 := some v3
def M_mostAt_j50 (σ : PS) (v1 : Int32) (v2 : Int32) (v3 : Int32) (v4 : Int32) : Option ((Int32 × Int32) ⊕ Int32) := nm (v4 + 1) (fun v4_1 => some (.inl (v3, v4_1)))
def M_mostAt_j47 (σ : PS) (v1 : Int32) (v2 : Int32) (v4 : Int32) : Option ((Int32 × Int32) ⊕ Int32) := M_mostAt_j50 σ v1 v2 v4 v4
def M_mostAt_l5 (σ : PS) (v1 : Int32) (v2 : Int32) (v3 : Int32) (v4 : Int32) : Option ((Int32 × Int32) ⊕ Int32) := bd (M_pieces σ) (fun q_2 => if q_2 ≤ v4 then up (M_mostAt_j56 σ v3) else bd (M_hasCome σ v4 v1) (fun q_3 => if q_3 = 0 then M_mostAt_j50 σ v1 v2 v3 v4 else if v3 = ((-1)) then M_mostAt_j47 σ v1 v2 v4 else bd (M_markOf σ v4 v1 v2) (fun q_4 => bd (M_markOf σ v3 v1 v2) (fun q_5 => if q_4 ≤ q_5 then M_mostAt_j50 σ v1 v2 v3 v4 else M_mostAt_j47 σ v1 v2 v4))))
def M_mostAt_B5 (σ : PS) (v1 : Int32) (v2 : Int32) : (Int32 × Int32) → Option ((Int32 × Int32) ⊕ Int32) := fun t => M_mostAt_l5 σ v1 v2 t.1 t.2
def M_mostAt (σ : PS) (v1 : Int32) (v2 : Int32) : Option Int32 := loop (M_mostAt_B5 σ v1 v2) fu ((-1), 0)
set_option maxHeartbeats 4000000 in
theorem kM_mostAt (l : Launch) {D : va_G} {ty : Nat → ClassId} {A : Nat → Prop} {o : Nat} {ad : Nat → Nat} {rs : va_W} {σ : PS} {v1 : Int32} {v2 : Int32} {r : Int32} (hf : M_mostAt σ v1 v2 = some r) : KI l yX7_mostAt cX7_mostAt 5 .int 3 D ty A (wM ty o ad σ ++ rs) (wM ty o ad σ ++ rs) [.ref o, .int v1, .int v2] r := by
  refine KI.of (by decide) (Nat.le_of_ble_eq_true rfl) ?_
  intro p e R s m args below meth c Q C hR
  have C : Cx p R s m args c cX7_mostAt 5 RX7 D ty A 3 := C
  have hR : ∀ (v : Int32), v = r → ∀ (H : Heap) (locs : List Loc) (pc : Nat) (ls : Array Slot), Hw D A s H locs (wM ty o ad σ ++ rs) → narrow .int (.int v) = .int v → decode cX7_mostAt pc = .ok (.ireturn, 1) → W p l e R s m args below meth c H locs 0 0 Q (F0 m pc ls [.int v]) := by intro v e9; cases e9; exact hR
  have j56 : ∀ (v3 : Int32) (H : Heap) (locs : List Loc) (ls : Array Slot), Hw D A s H locs (wM ty o ad σ ++ rs) → lv_has ls 5 [(3, .int v3)] → M_mostAt_j56 σ v3 = some r → W p l e R s m args below meth c H locs 0 0 Q (F0 m 56 ls []) := by
    intro v3 H locs ls h hl hf
    unfold M_mostAt_j56 at hf
    refine lv_iload_n C.x C.b dX7_mostAt_56 rfl (lv_at hl 0 rfl) ?_
    exact hR _ (some_k hf) _ _ _ _ h rfl dX7_mostAt_57
  have l5 : ∀ (n5 : Nat) (v3 : Int32) (v4 : Int32) (H : Heap) (locs : List Loc) (ls : Array Slot), Hw D A s H locs (wM ty o ad σ ++ rs) → lv_has ls 5 [(0, .ref o), (1, .int v1), (2, .int v2), (3, .int v3), (4, .int v4)] → loop (M_mostAt_B5 σ v1 v2) n5 (v3, v4) = some r → W p l e R s m args below meth c H locs 0 0 Q (F0 m 5 ls []) := by
    intro n5
    induction n5 with
    | zero => intro v3 v4 H locs ls h hl hf; exact (none_k hf).elim
    | succ n5 ih5 =>
      have j50 : ∀ (v3 : Int32) (v4 : Int32) (H : Heap) (locs : List Loc) (ls : Array Slot), Hw D A s H locs (wM ty o ad σ ++ rs) → lv_has ls 5 [(0, .ref o), (1, .int v1), (2, .int v2), (3, .int v3), (4, .int v4)] → bl (M_mostAt_B5 σ v1 v2) n5 (M_mostAt_j50 σ v1 v2 v3 v4) = some r → W p l e R s m args below meth c H locs 0 0 Q (F0 m 50 ls []) := by
        intro v3 v4 H locs ls h hl hf
        unfold M_mostAt_j50 at hf
        obtain ⟨v4_1, e9, hf⟩ := nm_k (K := bl (M_mostAt_B5 σ v1 v2) n5) hf
        refine lv_iinc (v := v4_1) (lv' := [(4, .int v4_1), (0, .ref o), (1, .int v1), (2, .int v2), (3, .int v3)]) C.x C.b dX7_mostAt_50 hl (k := 4) rfl (iinc_e (k := 1) (by decide) e9) (by decide) rfl (fun ls hl => ?_)
        refine lv_goto (tgt := 5) C.x C.b dX7_mostAt_53 (by decide) ?_
        exact ih5 v3 v4_1 _ _ _ h (lv_sub hl [1, 2, 3, 4, 0] rfl) hf
      have j47 : ∀ (v4 : Int32) (H : Heap) (locs : List Loc) (ls : Array Slot), Hw D A s H locs (wM ty o ad σ ++ rs) → lv_has ls 5 [(0, .ref o), (1, .int v1), (2, .int v2), (4, .int v4)] → bl (M_mostAt_B5 σ v1 v2) n5 (M_mostAt_j47 σ v1 v2 v4) = some r → W p l e R s m args below meth c H locs 0 0 Q (F0 m 47 ls []) := by
        intro v4 H locs ls h hl hf
        unfold M_mostAt_j47 at hf
        refine lv_iload C.x C.b dX7_mostAt_47 (lv_at hl 3 rfl) ?_
        refine lv_istore_n (lv' := [(3, .int v4), (0, .ref o), (1, .int v1), (2, .int v2), (4, .int v4)]) C.x C.b dX7_mostAt_49 rfl hl (by decide) rfl (fun ls hl => ?_)
        exact j50 v4 v4 _ _ _ h (lv_sub hl [1, 2, 3, 0, 4] rfl) hf
      intro v3 v4 H locs ls h hl hf
      have hf : bl (M_mostAt_B5 σ v1 v2) n5 (M_mostAt_l5 σ v1 v2 v3 v4) = some r := hf
      unfold M_mostAt_l5 at hf
      refine lv_iload C.x C.b dX7_mostAt_5 (lv_at hl 4 rfl) ?_
      refine lv_aload_n C.x C.b dX7_mostAt_7 rfl (lv_at hl 0 rfl) ?_
      obtain ⟨q_2, hc, hf⟩ := bd_k (K := bl (M_mostAt_B5 σ v1 v2) n5) rfl hf
      refine cM_pieces C h hc (Nat.le_of_ble_eq_true rfl) hl.1 (Nat.le_of_ble_eq_true rfl) dX7_mostAt_8 (fun H locs h => ?_)
      refine lv_icmp_ge (tgt := 56) C.x C.b dX7_mostAt_11 (by decide) (fun c9 => ?_) (fun c9 => ?_)
      · have hf := if_t (K := bl (M_mostAt_B5 σ v1 v2) n5) c9 hf
        have hf := bl_upK (K := fun x => x) hf
        exact j56 v3 _ _ _ h (lv_sub hl [3] rfl) hf
      · have hf := if_f (K := bl (M_mostAt_B5 σ v1 v2) n5) c9 hf
        refine lv_aload_n C.x C.b dX7_mostAt_14 rfl (lv_at hl 0 rfl) ?_
        refine lv_iload C.x C.b dX7_mostAt_15 (lv_at hl 4 rfl) ?_
        refine lv_iload_n C.x C.b dX7_mostAt_17 rfl (lv_at hl 1 rfl) ?_
        obtain ⟨q_3, hc, hf⟩ := bd_k (K := bl (M_mostAt_B5 σ v1 v2) n5) rfl hf
        refine cM_hasCome C h hc (Nat.le_of_ble_eq_true rfl) hl.1 (Nat.le_of_ble_eq_true rfl) dX7_mostAt_18 (fun H locs h => ?_)
        refine lv_if_eq (tgt := 50) C.x C.b dX7_mostAt_21 (by decide) (fun c9 => ?_) (fun c9 => ?_)
        · have hf := if_t (K := bl (M_mostAt_B5 σ v1 v2) n5) c9 hf
          exact j50 v3 v4 _ _ _ h (lv_sub hl [0, 1, 2, 3, 4] rfl) hf
        · have hf := if_f (K := bl (M_mostAt_B5 σ v1 v2) n5) c9 hf
          refine lv_iload_n C.x C.b dX7_mostAt_24 rfl (lv_at hl 3 rfl) ?_
          refine lv_iconst (v := (-1)) C.x C.b dX7_mostAt_25 (by decide) ?_
          refine lv_icmp_eq (tgt := 47) C.x C.b dX7_mostAt_26 (by decide) (fun c9 => ?_) (fun c9 => ?_)
          · have hf := if_t (K := bl (M_mostAt_B5 σ v1 v2) n5) c9 hf
            exact j47 v4 _ _ _ h (lv_sub hl [0, 1, 2, 4] rfl) hf
          · have hf := if_f (K := bl (M_mostAt_B5 σ v1 v2) n5) c9 hf
            refine lv_aload_n C.x C.b dX7_mostAt_29 rfl (lv_at hl 0 rfl) ?_
            refine lv_iload C.x C.b dX7_mostAt_30 (lv_at hl 4 rfl) ?_
            refine lv_iload_n C.x C.b dX7_mostAt_32 rfl (lv_at hl 1 rfl) ?_
            refine lv_iload_n C.x C.b dX7_mostAt_33 rfl (lv_at hl 2 rfl) ?_
            obtain ⟨q_4, hc, hf⟩ := bd_k (K := bl (M_mostAt_B5 σ v1 v2) n5) rfl hf
            refine cM_markOf C h hc (Nat.le_of_ble_eq_true rfl) hl.1 (Nat.le_of_ble_eq_true rfl) dX7_mostAt_34 (fun H locs h => ?_)
            refine lv_aload_n C.x C.b dX7_mostAt_37 rfl (lv_at hl 0 rfl) ?_
            refine lv_iload_n C.x C.b dX7_mostAt_38 rfl (lv_at hl 3 rfl) ?_
            refine lv_iload_n C.x C.b dX7_mostAt_39 rfl (lv_at hl 1 rfl) ?_
            refine lv_iload_n C.x C.b dX7_mostAt_40 rfl (lv_at hl 2 rfl) ?_
            obtain ⟨q_5, hc, hf⟩ := bd_k (K := bl (M_mostAt_B5 σ v1 v2) n5) rfl hf
            refine cM_markOf C h hc (Nat.le_of_ble_eq_true rfl) hl.1 (Nat.le_of_ble_eq_true rfl) dX7_mostAt_41 (fun H locs h => ?_)
            refine lv_icmp_le (tgt := 50) C.x C.b dX7_mostAt_44 (by decide) (fun c9 => ?_) (fun c9 => ?_)
            · have hf := if_t (K := bl (M_mostAt_B5 σ v1 v2) n5) c9 hf
              exact j50 v3 v4 _ _ _ h (lv_sub hl [0, 1, 2, 3, 4] rfl) hf
            · have hf := if_f (K := bl (M_mostAt_B5 σ v1 v2) n5) c9 hf
              exact j47 v4 _ _ _ h (lv_sub hl [0, 1, 2, 4] rfl) hf
  intro H locs ls h hl
  have hl : lv_has ls 5 [(0, .ref o), (1, .int v1), (2, .int v2)] := hl
  unfold M_mostAt at hf
  refine lv_iconst (v := (-1)) C.x C.b dX7_mostAt_0 (by decide) ?_
  refine lv_istore_n (lv' := [(3, .int ((-1))), (0, .ref o), (1, .int v1), (2, .int v2)]) C.x C.b dX7_mostAt_1 rfl hl (by decide) rfl (fun ls hl => ?_)
  refine lv_iconst (v := 0) C.x C.b dX7_mostAt_2 (by decide) ?_
  refine lv_istore (lv' := [(4, .int 0), (3, .int ((-1))), (0, .ref o), (1, .int v1), (2, .int v2)]) C.x C.b dX7_mostAt_3 hl (by decide) rfl (fun ls hl => ?_)
  exact l5  fu ((-1)) 0 _ _ _ h (lv_sub hl [2, 3, 4, 1, 0] rfl) hf
theorem tM_mostAt : GoodIn lw_all (wsV RX7 329 RX7 yX7_mostAt (ws_ yX7_mostAt cX7_mostAt 5 (some .int))) := lw_V q1979 q1981 qs113 q147 q1982
theorem cM_mostAt {p : Program} {l : Launch} {e : Env} {R : Room} {s : State} {m : MethodId} {args : Array Value} {below : List Frame} {meth : Method} {c : Code} {H : Heap} {locs : List Loc} {Q : State → Prop} {cc : ByteArray} {pc : Nat} {ls : Array Slot} {st : List Value} {nL d : Nat} {D : va_G} {ty : Nat → ClassId} {A : Nat → Prop} {o : Nat} {ad : Nat → Nat} {rs : va_W} {σ : PS} {v1 : Int32} {v2 : Int32} {q : Int32} (C : Cx p R s m args c cc nL RX7 D ty A d) (h : Hw D A s H locs (wM ty o ad σ ++ rs)) (hc : M_mostAt σ v1 v2 = some q) (hd : 3 + 1 ≤ d) (hls : ls.size = nL) (hcat : (st.map fun v => v.category).sum ≤ 8) (dec : decode cc pc = .ok (.invokevirtual 329, 3)) (kk : ∀ (H : Heap) (locs : List Loc), Hw D A s H locs (wM ty o ad σ ++ rs) → W p l e R s m args below meth c H locs 0 0 Q (F0 m (pc + 3) ls (.int q :: st))) : W p l e R s m args below meth c H locs 0 0 Q (F0 m pc ls (.int v2 :: .int v1 :: .ref o :: st)) := KI.callV (As := [.int v1, .int v2]) C (kM_mostAt l hc) tM_mostAt ⟨rfl, by decide, by decide, by show _ = some 2; decide +kernel⟩ 0 7 rfl rfl rfl hd (by decide) (Nat.zero_le _) (Nat.zero_le _) h hls rfl hcat dec kk
def M_fall_j34 (σ : PS) : Option (Int32 × PS) := some ((-10000), σ)
def M_fall (σ : PS) (v1 : Int32) (v2 : Int32) : Option (Int32 × PS) := nm (sI σ 0 0) (fun σ_1 => bd (M_isZone σ_1 v1) (fun q_2 => if q_2 = 0 then M_fall_j34 σ_1 else ix 5 40 (if v1 = ((rA σ_1 17 5) - 1) then M_fall_j34 σ_1 else bd (M_isStep σ_1 v2.toInt64) (fun q_3 => if q_3 = 0 then M_fall_j34 σ_1 else bd (M_lays σ_1) (fun q_4 => bd (M_fallOf q_4 v1 v2) (fun q_5 => some (q_5, q_4)))))))
set_option maxHeartbeats 4000000 in
theorem kM_fall (l : Launch) {D : va_G} {ty : Nat → ClassId} {A : Nat → Prop} {o : Nat} {ad : Nat → Nat} {rs : va_W} {σ : PS} {σ' : PS} {v1 : Int32} {v2 : Int32} {r : Int32} (hf : M_fall σ v1 v2 = some (r, σ')) : KI l yX7_fall cX7_fall 3 .int 3 D ty A (wM ty o ad σ ++ rs) (wM ty o ad σ' ++ rs) [.ref o, .int v1, .int v2] r := by
  refine KI.of (by decide) (Nat.le_of_ble_eq_true rfl) ?_
  intro p e R s m args below meth c Q C hR
  have C : Cx p R s m args c cX7_fall 3 RX7 D ty A 3 := C
  have hR : ∀ (v : Int32) (σ2 : PS), (v, σ2) = (r, σ') → ∀ (H : Heap) (locs : List Loc) (pc : Nat) (ls : Array Slot), Hw D A s H locs (wM ty o ad σ2 ++ rs) → narrow .int (.int v) = .int v → decode cX7_fall pc = .ok (.ireturn, 1) → W p l e R s m args below meth c H locs 0 0 Q (F0 m pc ls [.int v]) := by intro v σ2 e9; cases e9; exact hR
  have j34 : ∀ (σ : PS) (H : Heap) (locs : List Loc) (ls : Array Slot), Hw D A s H locs (wM ty o ad σ ++ rs) → lv_has ls 3 [] → M_fall_j34 σ = some (r, σ') → W p l e R s m args below meth c H locs 0 0 Q (F0 m 34 ls []) := by
    intro σ H locs ls h hl hf
    unfold M_fall_j34 at hf
    refine lv_sipush (v := (-10000)) C.x C.b dX7_fall_34 (by decide) ?_
    exact hR _ _ (some_k hf) _ _ _ _ h rfl dX7_fall_37
  intro H locs ls h hl
  have hl : lv_has ls 3 [(0, .ref o), (1, .int v1), (2, .int v2)] := hl
  unfold M_fall at hf
  refine lv_aload_n C.x C.b dX7_fall_0 rfl (lv_at hl 0 rfl) ?_
  refine lv_iconst (v := 0) C.x C.b dX7_fall_1 (by decide) ?_
  obtain ⟨σ_1, e9, hf⟩ := nm_k (K := fun x => x) hf
  refine m_p0 C h e9 dX7_fall_2 (fun H locs h => ?_)
  refine lv_aload_n C.x C.b dX7_fall_5 rfl (lv_at hl 0 rfl) ?_
  refine lv_iload_n C.x C.b dX7_fall_6 rfl (lv_at hl 1 rfl) ?_
  obtain ⟨q_2, hc, hf⟩ := bd_k (K := fun x => x) rfl hf
  refine cM_isZone C h hc (Nat.le_of_ble_eq_true rfl) hl.1 (Nat.le_of_ble_eq_true rfl) dX7_fall_7 (fun H locs h => ?_)
  refine lv_if_eq (tgt := 34) C.x C.b dX7_fall_10 (by decide) (fun c9 => ?_) (fun c9 => ?_)
  · have hf := if_t (K := fun x => x) c9 hf
    exact j34 σ_1 _ _ _ h (lv_sub hl [] rfl) hf
  · have hf := if_f (K := fun x => x) c9 hf
    refine lv_iload_n C.x C.b dX7_fall_13 rfl (lv_at hl 1 rfl) ?_
    refine lv_aload_n C.x C.b dX7_fall_14 rfl (lv_at hl 0 rfl) ?_
    refine m_g17 C h dX7_fall_15 ?_
    refine lv_iconst (v := 5) C.x C.b dX7_fall_18 (by decide) ?_
    obtain ⟨hi, hf⟩ := ix_k (K := fun x => x) rfl hf
    refine m_a17 C h hi dX7_fall_19 ?_
    refine lv_iconst (v := 1) C.x C.b dX7_fall_20 (by decide) ?_
    refine lv_isub C.x C.b dX7_fall_21 ?_
    refine lv_icmp_eq (tgt := 34) C.x C.b dX7_fall_22 (by decide) (fun c9 => ?_) (fun c9 => ?_)
    · have hf := if_t (K := fun x => x) c9 hf
      exact j34 σ_1 _ _ _ h (lv_sub hl [] rfl) hf
    · have hf := if_f (K := fun x => x) c9 hf
      refine lv_aload_n C.x C.b dX7_fall_25 rfl (lv_at hl 0 rfl) ?_
      refine lv_iload_n C.x C.b dX7_fall_26 rfl (lv_at hl 2 rfl) ?_
      refine lv_i2l C.x C.b dX7_fall_27 rfl ?_
      obtain ⟨q_3, hc, hf⟩ := bd_k (K := fun x => x) rfl hf
      refine cM_isStep C h hc (Nat.le_of_ble_eq_true rfl) hl.1 (Nat.le_of_ble_eq_true rfl) dX7_fall_28 (fun H locs h => ?_)
      refine lv_if_ne (tgt := 38) C.x C.b dX7_fall_31 (by decide) (fun c9 => ?_) (fun c9 => ?_)
      · have hf := if_f (K := fun x => x) c9 hf
        refine lv_aload_n C.x C.b dX7_fall_38 rfl (lv_at hl 0 rfl) ?_
        obtain ⟨q_4, hc, hf⟩ := bd_k (K := fun x => x) rfl hf
        refine cM_lays C h hc (Nat.le_of_ble_eq_true rfl) hl.1 (Nat.le_of_ble_eq_true rfl) dX7_fall_39 (fun H locs h => ?_)
        refine lv_aload_n C.x C.b dX7_fall_42 rfl (lv_at hl 0 rfl) ?_
        refine lv_iload_n C.x C.b dX7_fall_43 rfl (lv_at hl 1 rfl) ?_
        refine lv_iload_n C.x C.b dX7_fall_44 rfl (lv_at hl 2 rfl) ?_
        obtain ⟨q_5, hc, hf⟩ := bd_k (K := fun x => x) rfl hf
        refine cM_fallOf C h hc (Nat.le_of_ble_eq_true rfl) hl.1 (Nat.le_of_ble_eq_true rfl) dX7_fall_45 (fun H locs h => ?_)
        exact hR _ _ (some_k hf) _ _ _ _ h rfl dX7_fall_48
      · have hf := if_t (K := fun x => x) c9 hf
        exact j34 σ_1 _ _ _ h (lv_sub hl [] rfl) hf
def M_busy (σ : PS) (v1 : Int32) : Option (Int32 × PS) := nm (sI σ 0 0) (fun σ_1 => bd (M_isZone σ_1 v1) (fun q_2 => if q_2 = 0 then some ((-2), σ_1) else bd (M_lays σ_1) (fun q_3 => bd (M_busyOf q_3 v1) (fun q_4 => some (q_4, q_3)))))
set_option maxHeartbeats 4000000 in
theorem kM_busy (l : Launch) {D : va_G} {ty : Nat → ClassId} {A : Nat → Prop} {o : Nat} {ad : Nat → Nat} {rs : va_W} {σ : PS} {σ' : PS} {v1 : Int32} {r : Int32} (hf : M_busy σ v1 = some (r, σ')) : KI l yX7_busy cX7_busy 2 .int 4 D ty A (wM ty o ad σ ++ rs) (wM ty o ad σ' ++ rs) [.ref o, .int v1] r := by
  refine KI.of (by decide) (Nat.le_of_ble_eq_true rfl) ?_
  intro p e R s m args below meth c Q C hR
  have C : Cx p R s m args c cX7_busy 2 RX7 D ty A 4 := C
  have hR : ∀ (v : Int32) (σ2 : PS), (v, σ2) = (r, σ') → ∀ (H : Heap) (locs : List Loc) (pc : Nat) (ls : Array Slot), Hw D A s H locs (wM ty o ad σ2 ++ rs) → narrow .int (.int v) = .int v → decode cX7_busy pc = .ok (.ireturn, 1) → W p l e R s m args below meth c H locs 0 0 Q (F0 m pc ls [.int v]) := by intro v σ2 e9; cases e9; exact hR
  intro H locs ls h hl
  have hl : lv_has ls 2 [(0, .ref o), (1, .int v1)] := hl
  unfold M_busy at hf
  refine lv_aload_n C.x C.b dX7_busy_0 rfl (lv_at hl 0 rfl) ?_
  refine lv_iconst (v := 0) C.x C.b dX7_busy_1 (by decide) ?_
  obtain ⟨σ_1, e9, hf⟩ := nm_k (K := fun x => x) hf
  refine m_p0 C h e9 dX7_busy_2 (fun H locs h => ?_)
  refine lv_aload_n C.x C.b dX7_busy_5 rfl (lv_at hl 0 rfl) ?_
  refine lv_iload_n C.x C.b dX7_busy_6 rfl (lv_at hl 1 rfl) ?_
  obtain ⟨q_2, hc, hf⟩ := bd_k (K := fun x => x) rfl hf
  refine cM_isZone C h hc (Nat.le_of_ble_eq_true rfl) hl.1 (Nat.le_of_ble_eq_true rfl) dX7_busy_7 (fun H locs h => ?_)
  refine lv_if_ne (tgt := 16) C.x C.b dX7_busy_10 (by decide) (fun c9 => ?_) (fun c9 => ?_)
  · have hf := if_f (K := fun x => x) c9 hf
    refine lv_aload_n C.x C.b dX7_busy_16 rfl (lv_at hl 0 rfl) ?_
    obtain ⟨q_3, hc, hf⟩ := bd_k (K := fun x => x) rfl hf
    refine cM_lays C h hc (Nat.le_of_ble_eq_true rfl) hl.1 (Nat.le_of_ble_eq_true rfl) dX7_busy_17 (fun H locs h => ?_)
    refine lv_aload_n C.x C.b dX7_busy_20 rfl (lv_at hl 0 rfl) ?_
    refine lv_iload_n C.x C.b dX7_busy_21 rfl (lv_at hl 1 rfl) ?_
    obtain ⟨q_4, hc, hf⟩ := bd_k (K := fun x => x) rfl hf
    refine cM_busyOf C h hc (Nat.le_of_ble_eq_true rfl) hl.1 (Nat.le_of_ble_eq_true rfl) dX7_busy_22 (fun H locs h => ?_)
    exact hR _ _ (some_k hf) _ _ _ _ h rfl dX7_busy_25
  · have hf := if_t (K := fun x => x) c9 hf
    refine lv_bipush (v := (-2)) C.x C.b dX7_busy_13 (by decide) ?_
    exact hR _ _ (some_k hf) _ _ _ _ h rfl dX7_busy_15
def M_lineHere_j97 (σ : PS) : Option PS := some σ
def M_lineHere_j85 (σ : PS) : Option PS := if (gI σ 12) = 0 then bd (M_fails σ 1) (fun q_1 => M_lineHere_j97 q_1) else M_lineHere_j97 σ
def M_lineHere (σ : PS) : Option PS := bd (M_is σ 523076) (fun q_2 => bd (M_isRoom σ q_2 5 7) (fun q_3 => if q_3.1 = 0 then if (gI q_3.2 12) = 0 then bd (M_is q_3.2 8683934) (fun q_4 => bd (M_isRoom q_3.2 q_4 6 6) (fun q_5 => if q_5.1 = 0 then M_lineHere_j85 q_5.2 else bd (M_pieceLine q_5.2) (fun q_6 => M_lineHere_j97 q_6))) else M_lineHere_j85 q_3.2 else bd (M_hasRead q_3.2 5) (fun q_7 => bd (M_number_2 q_3.2 0 600) (fun q_8 => ix (28 + q_7) 35 (nm (wA q_8.2 18 (28 + q_7) q_8.1) (fun σ_9 => bd (M_hasRead σ_9 5) (fun q_10 => bd (M_tells σ_9 5 (q_10 + 1)) (fun q_11 => M_lineHere_j97 q_11))))))))
set_option maxHeartbeats 4000000 in
theorem kM_lineHere (l : Launch) {D : va_G} {ty : Nat → ClassId} {A : Nat → Prop} {o : Nat} {ad : Nat → Nat} {rs : va_W} {σ : PS} {σ' : PS} (hf : M_lineHere σ = some σ') : KV l yX7_lineHere cX7_lineHere 1 6 D ty A (wM ty o ad σ ++ rs) (wM ty o ad σ' ++ rs) [.ref o] := by
  refine KV.of (by decide) (Nat.le_of_ble_eq_true rfl) ?_
  intro p e R s m args below meth c Q C hR
  have C : Cx p R s m args c cX7_lineHere 1 RX7 D ty A 6 := C
  have hR : ∀ (σ2 : PS), σ2 = σ' → ∀ (H : Heap) (locs : List Loc) (pc : Nat) (ls : Array Slot), Hw D A s H locs (wM ty o ad σ2 ++ rs) → decode cX7_lineHere pc = .ok (.return_, 1) → W p l e R s m args below meth c H locs 0 0 Q (F0 m pc ls []) := by intro σ2 e9; cases e9; exact hR
  have j97 : ∀ (σ : PS) (H : Heap) (locs : List Loc) (ls : Array Slot), Hw D A s H locs (wM ty o ad σ ++ rs) → lv_has ls 1 [] → M_lineHere_j97 σ = some σ' → W p l e R s m args below meth c H locs 0 0 Q (F0 m 97 ls []) := by
    intro σ H locs ls h hl hf
    unfold M_lineHere_j97 at hf
    exact hR _ (some_k hf) _ _ _ _ h dX7_lineHere_97
  have j85 : ∀ (σ : PS) (H : Heap) (locs : List Loc) (ls : Array Slot), Hw D A s H locs (wM ty o ad σ ++ rs) → lv_has ls 1 [(0, .ref o)] → M_lineHere_j85 σ = some σ' → W p l e R s m args below meth c H locs 0 0 Q (F0 m 85 ls []) := by
    intro σ H locs ls h hl hf
    unfold M_lineHere_j85 at hf
    refine lv_aload_n C.x C.b dX7_lineHere_85 rfl (lv_at hl 0 rfl) ?_
    refine m_g12 C h dX7_lineHere_86 ?_
    refine lv_if_ne (tgt := 97) C.x C.b dX7_lineHere_89 (by decide) (fun c9 => ?_) (fun c9 => ?_)
    · have hf := if_f (K := fun x => x) c9 hf
      exact j97 σ _ _ _ h (lv_sub hl [] rfl) hf
    · have hf := if_t (K := fun x => x) c9 hf
      refine lv_aload_n C.x C.b dX7_lineHere_92 rfl (lv_at hl 0 rfl) ?_
      refine lv_iconst (v := 1) C.x C.b dX7_lineHere_93 (by decide) ?_
      obtain ⟨q_1, hc, hf⟩ := bd_k (K := fun x => x) rfl hf
      refine cM_fails C h hc (Nat.le_of_ble_eq_true rfl) hl.1 (Nat.le_of_ble_eq_true rfl) dX7_lineHere_94 (fun H locs h => ?_)
      exact j97 q_1 _ _ _ h (lv_sub hl [] rfl) hf
  intro H locs ls h hl
  have hl : lv_has ls 1 [(0, .ref o)] := hl
  unfold M_lineHere at hf
  refine lv_aload_n C.x C.b dX7_lineHere_0 rfl (lv_at hl 0 rfl) ?_
  refine lv_aload_n C.x C.b dX7_lineHere_1 rfl (lv_at hl 0 rfl) ?_
  refine lv_ldc2 (v := 523076) C.x C.b C.own (C.ts _ q1762) dX7_lineHere_2 ?_
  obtain ⟨q_2, hc, hf⟩ := bd_k (K := fun x => x) rfl hf
  refine cM_is C h hc (Nat.le_of_ble_eq_true rfl) hl.1 (Nat.le_of_ble_eq_true rfl) dX7_lineHere_5 (fun H locs h => ?_)
  refine lv_iconst (v := 5) C.x C.b dX7_lineHere_8 (by decide) ?_
  refine lv_bipush (v := 7) C.x C.b dX7_lineHere_9 (by decide) ?_
  obtain ⟨q_3, hc, hf⟩ := bd_k (K := fun x => x) rfl hf
  refine cM_isRoom C h hc (Nat.le_of_ble_eq_true rfl) hl.1 (Nat.le_of_ble_eq_true rfl) dX7_lineHere_11 (fun H locs h => ?_)
  refine lv_if_eq (tgt := 53) C.x C.b dX7_lineHere_14 (by decide) (fun c9 => ?_) (fun c9 => ?_)
  · have hf := if_t (K := fun x => x) c9 hf
    refine lv_aload_n C.x C.b dX7_lineHere_53 rfl (lv_at hl 0 rfl) ?_
    refine m_g12 C h dX7_lineHere_54 ?_
    refine lv_if_ne (tgt := 85) C.x C.b dX7_lineHere_57 (by decide) (fun c9 => ?_) (fun c9 => ?_)
    · have hf := if_f (K := fun x => x) c9 hf
      exact j85 q_3.2 _ _ _ h (lv_sub hl [0] rfl) hf
    · have hf := if_t (K := fun x => x) c9 hf
      refine lv_aload_n C.x C.b dX7_lineHere_60 rfl (lv_at hl 0 rfl) ?_
      refine lv_aload_n C.x C.b dX7_lineHere_61 rfl (lv_at hl 0 rfl) ?_
      refine lv_ldc2 (v := 8683934) C.x C.b C.own (C.ts _ q1771) dX7_lineHere_62 ?_
      obtain ⟨q_4, hc, hf⟩ := bd_k (K := fun x => x) rfl hf
      refine cM_is C h hc (Nat.le_of_ble_eq_true rfl) hl.1 (Nat.le_of_ble_eq_true rfl) dX7_lineHere_65 (fun H locs h => ?_)
      refine lv_bipush (v := 6) C.x C.b dX7_lineHere_68 (by decide) ?_
      refine lv_bipush (v := 6) C.x C.b dX7_lineHere_70 (by decide) ?_
      obtain ⟨q_5, hc, hf⟩ := bd_k (K := fun x => x) rfl hf
      refine cM_isRoom C h hc (Nat.le_of_ble_eq_true rfl) hl.1 (Nat.le_of_ble_eq_true rfl) dX7_lineHere_72 (fun H locs h => ?_)
      refine lv_if_eq (tgt := 85) C.x C.b dX7_lineHere_75 (by decide) (fun c9 => ?_) (fun c9 => ?_)
      · have hf := if_t (K := fun x => x) c9 hf
        exact j85 q_5.2 _ _ _ h (lv_sub hl [0] rfl) hf
      · have hf := if_f (K := fun x => x) c9 hf
        refine lv_aload_n C.x C.b dX7_lineHere_78 rfl (lv_at hl 0 rfl) ?_
        obtain ⟨q_6, hc, hf⟩ := bd_k (K := fun x => x) rfl hf
        refine cM_pieceLine C h hc (Nat.le_of_ble_eq_true rfl) hl.1 (Nat.le_of_ble_eq_true rfl) dX7_lineHere_79 (fun H locs h => ?_)
        refine lv_goto (tgt := 97) C.x C.b dX7_lineHere_82 (by decide) ?_
        exact j97 q_6 _ _ _ h (lv_sub hl [] rfl) hf
  · have hf := if_f (K := fun x => x) c9 hf
    refine lv_aload_n C.x C.b dX7_lineHere_17 rfl (lv_at hl 0 rfl) ?_
    refine m_g18 C h dX7_lineHere_18 ?_
    refine lv_bipush (v := 28) C.x C.b dX7_lineHere_21 (by decide) ?_
    refine lv_aload_n C.x C.b dX7_lineHere_23 rfl (lv_at hl 0 rfl) ?_
    refine lv_iconst (v := 5) C.x C.b dX7_lineHere_24 (by decide) ?_
    obtain ⟨q_7, hc, hf⟩ := bd_k (K := fun x => x) rfl hf
    refine cM_hasRead C h hc (Nat.le_of_ble_eq_true rfl) hl.1 (Nat.le_of_ble_eq_true rfl) dX7_lineHere_25 (fun H locs h => ?_)
    refine lv_iadd C.x C.b dX7_lineHere_28 ?_
    refine lv_aload_n C.x C.b dX7_lineHere_29 rfl (lv_at hl 0 rfl) ?_
    refine lv_iconst (v := 0) C.x C.b dX7_lineHere_30 (by decide) ?_
    refine lv_sipush (v := 600) C.x C.b dX7_lineHere_31 (by decide) ?_
    obtain ⟨q_8, hc, hf⟩ := bd_k (K := fun x => x) rfl hf
    refine cM_number_2 C h hc (Nat.le_of_ble_eq_true rfl) hl.1 (Nat.le_of_ble_eq_true rfl) dX7_lineHere_34 (fun H locs h => ?_)
    obtain ⟨hi, hf⟩ := ix_k (K := fun x => x) rfl hf
    obtain ⟨σ_9, e9, hf⟩ := nm_k (K := fun x => x) hf
    refine m_w18 C h hi e9 dX7_lineHere_37 (fun H locs h => ?_)
    refine lv_aload_n C.x C.b dX7_lineHere_38 rfl (lv_at hl 0 rfl) ?_
    refine lv_iconst (v := 5) C.x C.b dX7_lineHere_39 (by decide) ?_
    refine lv_aload_n C.x C.b dX7_lineHere_40 rfl (lv_at hl 0 rfl) ?_
    refine lv_iconst (v := 5) C.x C.b dX7_lineHere_41 (by decide) ?_
    obtain ⟨q_10, hc, hf⟩ := bd_k (K := fun x => x) rfl hf
    refine cM_hasRead C h hc (Nat.le_of_ble_eq_true rfl) hl.1 (Nat.le_of_ble_eq_true rfl) dX7_lineHere_42 (fun H locs h => ?_)
    refine lv_iconst (v := 1) C.x C.b dX7_lineHere_45 (by decide) ?_
    refine lv_iadd C.x C.b dX7_lineHere_46 ?_
    obtain ⟨q_11, hc, hf⟩ := bd_k (K := fun x => x) rfl hf
    refine cM_tells C h hc (Nat.le_of_ble_eq_true rfl) hl.1 (Nat.le_of_ble_eq_true rfl) dX7_lineHere_47 (fun H locs h => ?_)
    refine lv_goto (tgt := 97) C.x C.b dX7_lineHere_50 (by decide) ?_
    exact j97 q_11 _ _ _ h (lv_sub hl [] rfl) hf
theorem tM_lineHere : GoodIn lw_all (wsV RX7 211 RX7 yX7_lineHere (ws_ yX7_lineHere cX7_lineHere 1 none)) := lw_V q1758 q1760 qs83 q147 q1761
theorem cM_lineHere {p : Program} {l : Launch} {e : Env} {R : Room} {s : State} {m : MethodId} {args : Array Value} {below : List Frame} {meth : Method} {c : Code} {H : Heap} {locs : List Loc} {Q : State → Prop} {cc : ByteArray} {pc : Nat} {ls : Array Slot} {st : List Value} {nL d : Nat} {D : va_G} {ty : Nat → ClassId} {A : Nat → Prop} {o : Nat} {ad : Nat → Nat} {rs : va_W} {σ : PS} {q : PS} (C : Cx p R s m args c cc nL RX7 D ty A d) (h : Hw D A s H locs (wM ty o ad σ ++ rs)) (hc : M_lineHere σ = some q) (hd : 6 + 1 ≤ d) (hls : ls.size = nL) (hcat : (st.map fun v => v.category).sum ≤ 8) (dec : decode cc pc = .ok (.invokevirtual 211, 3)) (kk : ∀ (H : Heap) (locs : List Loc), Hw D A s H locs (wM ty o ad q ++ rs) → W p l e R s m args below meth c H locs 0 0 Q (F0 m (pc + 3) ls (st))) : W p l e R s m args below meth c H locs 0 0 Q (F0 m pc ls (.ref o :: st)) := KV.callV (As := []) C (kM_lineHere l hc) tM_lineHere ⟨rfl, by decide, by decide, by show _ = some 0; decide +kernel⟩ 0 7 rfl rfl rfl hd (by decide) (Nat.zero_le _) (Nat.zero_le _) h hls rfl hcat dec kk
def M_runs_j110 (σ : PS) : Option PS := some σ
def M_runs_j104 (σ : PS) (v1 : Int32) : Option ((Int32 × PS) ⊕ PS) := nm (v1 + 1) (fun v1_1 => some (.inl (v1_1, σ)))
def M_runs_l84 (v1 : Int32) (v2 : Int32) (σ : PS) : Option ((Int32 × PS) ⊕ ((Int32 × PS) ⊕ PS)) := bd (M_pieces σ) (fun q_2 => if q_2 ≤ v2 then up (M_runs_j104 σ v1) else bd (M_goesOn σ v2 v1) (fun q_3 => nm (v2 + 1) (fun v2_4 => some (.inl (v2_4, q_3)))))
def M_runs_B84 (v1 : Int32) : (Int32 × PS) → Option ((Int32 × PS) ⊕ ((Int32 × PS) ⊕ PS)) := fun t => M_runs_l84 v1 t.1 t.2
def M_runs_l74 (v1 : Int32) (σ : PS) : Option ((Int32 × PS) ⊕ PS) := bd (M_steps σ) (fun q_5 => if q_5 ≤ v1 then up (M_runs_j110 σ) else loop (M_runs_B84 v1) fu (0, σ))
def M_runs_B74 : (Int32 × PS) → Option ((Int32 × PS) ⊕ PS) := fun t => M_runs_l74 t.1 t.2
def M_runs_j72 (σ : PS) : Option PS := loop (M_runs_B74) fu (0, σ)
def M_runs_l2 (v1 : Int32) (σ : PS) : Option ((Int32 × PS) ⊕ PS) := bd (M_pieces σ) (fun q_6 => if q_6 ≤ v1 then up (M_runs_j72 σ) else ix (4 * v1) 120 (ix v1 90 (nm (wA σ 30 v1 (rA σ 19 (4 * v1))) (fun σ_7 => ix (4 * v1) 120 (ix v1 90 (nm (wA σ_7 31 v1 (rA σ_7 19 (4 * v1))) (fun σ_8 => ix v1 6 (nm (wA σ_8 32 v1 ((-1))) (fun σ_9 => ix v1 6 (nm (wA σ_9 33 v1 ((-1))) (fun σ_10 => ix v1 6 (nm (wA σ_10 34 v1 ((-1))) (fun σ_11 => ix v1 6 (nm (wA σ_11 35 v1 0) (fun σ_12 => nm (v1 + 1) (fun v1_13 => some (.inl (v1_13, σ_12))))))))))))))))))
def M_runs_B2 : (Int32 × PS) → Option ((Int32 × PS) ⊕ PS) := fun t => M_runs_l2 t.1 t.2
def M_runs (σ : PS) : Option PS := loop (M_runs_B2) fu (0, σ)
set_option maxHeartbeats 4000000 in
theorem kM_runs (l : Launch) {D : va_G} {ty : Nat → ClassId} {A : Nat → Prop} {o : Nat} {ad : Nat → Nat} {rs : va_W} {σ : PS} {σ' : PS} (hf : M_runs σ = some σ') : KV l yX7_runs cX7_runs 3 4 D ty A (wM ty o ad σ ++ rs) (wM ty o ad σ' ++ rs) [.ref o] := by
  refine KV.of (by decide) (Nat.le_of_ble_eq_true rfl) ?_
  intro p e R s m args below meth c Q C hR
  have C : Cx p R s m args c cX7_runs 3 RX7 D ty A 4 := C
  have hR : ∀ (σ2 : PS), σ2 = σ' → ∀ (H : Heap) (locs : List Loc) (pc : Nat) (ls : Array Slot), Hw D A s H locs (wM ty o ad σ2 ++ rs) → decode cX7_runs pc = .ok (.return_, 1) → W p l e R s m args below meth c H locs 0 0 Q (F0 m pc ls []) := by intro σ2 e9; cases e9; exact hR
  have j110 : ∀ (σ : PS) (H : Heap) (locs : List Loc) (ls : Array Slot), Hw D A s H locs (wM ty o ad σ ++ rs) → lv_has ls 3 [] → M_runs_j110 σ = some σ' → W p l e R s m args below meth c H locs 0 0 Q (F0 m 110 ls []) := by
    intro σ H locs ls h hl hf
    unfold M_runs_j110 at hf
    exact hR _ (some_k hf) _ _ _ _ h dX7_runs_110
  have l74 : ∀ (n74 : Nat) (v1 : Int32) (σ : PS) (H : Heap) (locs : List Loc) (ls : Array Slot), Hw D A s H locs (wM ty o ad σ ++ rs) → lv_has ls 3 [(0, .ref o), (1, .int v1)] → loop (M_runs_B74) n74 (v1, σ) = some σ' → W p l e R s m args below meth c H locs 0 0 Q (F0 m 74 ls []) := by
    intro n74
    induction n74 with
    | zero => intro v1 σ H locs ls h hl hf; exact (none_k hf).elim
    | succ n74 ih74 =>
      have j104 : ∀ (σ : PS) (v1 : Int32) (H : Heap) (locs : List Loc) (ls : Array Slot), Hw D A s H locs (wM ty o ad σ ++ rs) → lv_has ls 3 [(0, .ref o), (1, .int v1)] → bl (M_runs_B74) n74 (M_runs_j104 σ v1) = some σ' → W p l e R s m args below meth c H locs 0 0 Q (F0 m 104 ls []) := by
        intro σ v1 H locs ls h hl hf
        unfold M_runs_j104 at hf
        obtain ⟨v1_1, e9, hf⟩ := nm_k (K := bl (M_runs_B74) n74) hf
        refine lv_iinc (v := v1_1) (lv' := [(1, .int v1_1), (0, .ref o)]) C.x C.b dX7_runs_104 hl (k := 1) rfl (iinc_e (k := 1) (by decide) e9) (by decide) rfl (fun ls hl => ?_)
        refine lv_goto (tgt := 74) C.x C.b dX7_runs_107 (by decide) ?_
        exact ih74 v1_1 σ _ _ _ h (lv_sub hl [1, 0] rfl) hf
      have l84 : ∀ (v1 : Int32) (n84 : Nat) (v2 : Int32) (σ : PS) (H : Heap) (locs : List Loc) (ls : Array Slot), Hw D A s H locs (wM ty o ad σ ++ rs) → lv_has ls 3 [(0, .ref o), (1, .int v1), (2, .int v2)] → bl (M_runs_B74) n74 (loop (M_runs_B84 v1) n84 (v2, σ)) = some σ' → W p l e R s m args below meth c H locs 0 0 Q (F0 m 84 ls []) := by
        intro v1 n84
        induction n84 with
        | zero => intro v2 σ H locs ls h hl hf; exact (none_k hf).elim
        | succ n84 ih84 =>
          intro v2 σ H locs ls h hl hf
          have hf : bl (M_runs_B74) n74 (bl (M_runs_B84 v1) n84 (M_runs_l84 v1 v2 σ)) = some σ' := hf
          unfold M_runs_l84 at hf
          refine lv_iload_n C.x C.b dX7_runs_84 rfl (lv_at hl 2 rfl) ?_
          refine lv_aload_n C.x C.b dX7_runs_85 rfl (lv_at hl 0 rfl) ?_
          obtain ⟨q_2, hc, hf⟩ := bd_k (K := fun x => bl (M_runs_B74) n74 (bl (M_runs_B84 v1) n84 x)) rfl hf
          refine cM_pieces C h hc (Nat.le_of_ble_eq_true rfl) hl.1 (Nat.le_of_ble_eq_true rfl) dX7_runs_86 (fun H locs h => ?_)
          refine lv_icmp_ge (tgt := 104) C.x C.b dX7_runs_89 (by decide) (fun c9 => ?_) (fun c9 => ?_)
          · have hf := if_t (K := fun x => bl (M_runs_B74) n74 (bl (M_runs_B84 v1) n84 x)) c9 hf
            have hf := bl_upK (K := bl (M_runs_B74) n74) hf
            exact j104 σ v1 _ _ _ h (lv_sub hl [0, 1] rfl) hf
          · have hf := if_f (K := fun x => bl (M_runs_B74) n74 (bl (M_runs_B84 v1) n84 x)) c9 hf
            refine lv_aload_n C.x C.b dX7_runs_92 rfl (lv_at hl 0 rfl) ?_
            refine lv_iload_n C.x C.b dX7_runs_93 rfl (lv_at hl 2 rfl) ?_
            refine lv_iload_n C.x C.b dX7_runs_94 rfl (lv_at hl 1 rfl) ?_
            obtain ⟨q_3, hc, hf⟩ := bd_k (K := fun x => bl (M_runs_B74) n74 (bl (M_runs_B84 v1) n84 x)) rfl hf
            refine cM_goesOn C h hc (Nat.le_of_ble_eq_true rfl) hl.1 (Nat.le_of_ble_eq_true rfl) dX7_runs_95 (fun H locs h => ?_)
            obtain ⟨v2_4, e9, hf⟩ := nm_k (K := fun x => bl (M_runs_B74) n74 (bl (M_runs_B84 v1) n84 x)) hf
            refine lv_iinc (v := v2_4) (lv' := [(2, .int v2_4), (0, .ref o), (1, .int v1)]) C.x C.b dX7_runs_98 hl (k := 2) rfl (iinc_e (k := 1) (by decide) e9) (by decide) rfl (fun ls hl => ?_)
            refine lv_goto (tgt := 84) C.x C.b dX7_runs_101 (by decide) ?_
            exact ih84 v2_4 q_3 _ _ _ h (lv_sub hl [1, 2, 0] rfl) hf
      intro v1 σ H locs ls h hl hf
      have hf : bl (M_runs_B74) n74 (M_runs_l74 v1 σ) = some σ' := hf
      unfold M_runs_l74 at hf
      refine lv_iload_n C.x C.b dX7_runs_74 rfl (lv_at hl 1 rfl) ?_
      refine lv_aload_n C.x C.b dX7_runs_75 rfl (lv_at hl 0 rfl) ?_
      obtain ⟨q_5, hc, hf⟩ := bd_k (K := bl (M_runs_B74) n74) rfl hf
      refine cM_steps C h hc (Nat.le_of_ble_eq_true rfl) hl.1 (Nat.le_of_ble_eq_true rfl) dX7_runs_76 (fun H locs h => ?_)
      refine lv_icmp_ge (tgt := 110) C.x C.b dX7_runs_79 (by decide) (fun c9 => ?_) (fun c9 => ?_)
      · have hf := if_t (K := bl (M_runs_B74) n74) c9 hf
        have hf := bl_upK (K := fun x => x) hf
        exact j110 σ _ _ _ h (lv_sub hl [] rfl) hf
      · have hf := if_f (K := bl (M_runs_B74) n74) c9 hf
        refine lv_iconst (v := 0) C.x C.b dX7_runs_82 (by decide) ?_
        refine lv_istore_n (lv' := [(2, .int 0), (0, .ref o), (1, .int v1)]) C.x C.b dX7_runs_83 rfl hl (by decide) rfl (fun ls hl => ?_)
        exact l84 v1 fu 0 σ _ _ _ h (lv_sub hl [1, 2, 0] rfl) hf
  have j72 : ∀ (σ : PS) (H : Heap) (locs : List Loc) (ls : Array Slot), Hw D A s H locs (wM ty o ad σ ++ rs) → lv_has ls 3 [(0, .ref o)] → M_runs_j72 σ = some σ' → W p l e R s m args below meth c H locs 0 0 Q (F0 m 72 ls []) := by
    intro σ H locs ls h hl hf
    unfold M_runs_j72 at hf
    refine lv_iconst (v := 0) C.x C.b dX7_runs_72 (by decide) ?_
    refine lv_istore_n (lv' := [(1, .int 0), (0, .ref o)]) C.x C.b dX7_runs_73 rfl hl (by decide) rfl (fun ls hl => ?_)
    exact l74  fu 0 σ _ _ _ h (lv_sub hl [1, 0] rfl) hf
  have l2 : ∀ (n2 : Nat) (v1 : Int32) (σ : PS) (H : Heap) (locs : List Loc) (ls : Array Slot), Hw D A s H locs (wM ty o ad σ ++ rs) → lv_has ls 3 [(0, .ref o), (1, .int v1)] → loop (M_runs_B2) n2 (v1, σ) = some σ' → W p l e R s m args below meth c H locs 0 0 Q (F0 m 2 ls []) := by
    intro n2
    induction n2 with
    | zero => intro v1 σ H locs ls h hl hf; exact (none_k hf).elim
    | succ n2 ih2 =>
      intro v1 σ H locs ls h hl hf
      have hf : bl (M_runs_B2) n2 (M_runs_l2 v1 σ) = some σ' := hf
      unfold M_runs_l2 at hf
      refine lv_iload_n C.x C.b dX7_runs_2 rfl (lv_at hl 1 rfl) ?_
      refine lv_aload_n C.x C.b dX7_runs_3 rfl (lv_at hl 0 rfl) ?_
      obtain ⟨q_6, hc, hf⟩ := bd_k (K := bl (M_runs_B2) n2) rfl hf
      refine cM_pieces C h hc (Nat.le_of_ble_eq_true rfl) hl.1 (Nat.le_of_ble_eq_true rfl) dX7_runs_4 (fun H locs h => ?_)
      refine lv_icmp_ge (tgt := 72) C.x C.b dX7_runs_7 (by decide) (fun c9 => ?_) (fun c9 => ?_)
      · have hf := if_t (K := bl (M_runs_B2) n2) c9 hf
        have hf := bl_upK (K := fun x => x) hf
        exact j72 σ _ _ _ h (lv_sub hl [0] rfl) hf
      · have hf := if_f (K := bl (M_runs_B2) n2) c9 hf
        refine lv_aload_n C.x C.b dX7_runs_10 rfl (lv_at hl 0 rfl) ?_
        refine m_g30 C h dX7_runs_11 ?_
        refine lv_iload_n C.x C.b dX7_runs_14 rfl (lv_at hl 1 rfl) ?_
        refine lv_aload_n C.x C.b dX7_runs_15 rfl (lv_at hl 0 rfl) ?_
        refine m_g19 C h dX7_runs_16 ?_
        refine lv_iconst (v := 4) C.x C.b dX7_runs_19 (by decide) ?_
        refine lv_iload_n C.x C.b dX7_runs_20 rfl (lv_at hl 1 rfl) ?_
        refine lv_imul C.x C.b dX7_runs_21 ?_
        obtain ⟨hi, hf⟩ := ix_k (K := bl (M_runs_B2) n2) rfl hf
        refine m_a19 C h hi dX7_runs_22 ?_
        obtain ⟨hi, hf⟩ := ix_k (K := bl (M_runs_B2) n2) rfl hf
        obtain ⟨σ_7, e9, hf⟩ := nm_k (K := bl (M_runs_B2) n2) hf
        refine m_w30 C h hi e9 dX7_runs_23 (fun H locs h => ?_)
        refine lv_aload_n C.x C.b dX7_runs_24 rfl (lv_at hl 0 rfl) ?_
        refine m_g31 C h dX7_runs_25 ?_
        refine lv_iload_n C.x C.b dX7_runs_28 rfl (lv_at hl 1 rfl) ?_
        refine lv_aload_n C.x C.b dX7_runs_29 rfl (lv_at hl 0 rfl) ?_
        refine m_g19 C h dX7_runs_30 ?_
        refine lv_iconst (v := 4) C.x C.b dX7_runs_33 (by decide) ?_
        refine lv_iload_n C.x C.b dX7_runs_34 rfl (lv_at hl 1 rfl) ?_
        refine lv_imul C.x C.b dX7_runs_35 ?_
        obtain ⟨hi, hf⟩ := ix_k (K := bl (M_runs_B2) n2) rfl hf
        refine m_a19 C h hi dX7_runs_36 ?_
        obtain ⟨hi, hf⟩ := ix_k (K := bl (M_runs_B2) n2) rfl hf
        obtain ⟨σ_8, e9, hf⟩ := nm_k (K := bl (M_runs_B2) n2) hf
        refine m_w31 C h hi e9 dX7_runs_37 (fun H locs h => ?_)
        refine lv_aload_n C.x C.b dX7_runs_38 rfl (lv_at hl 0 rfl) ?_
        refine m_g32 C h dX7_runs_39 ?_
        refine lv_iload_n C.x C.b dX7_runs_42 rfl (lv_at hl 1 rfl) ?_
        refine lv_iconst (v := (-1)) C.x C.b dX7_runs_43 (by decide) ?_
        obtain ⟨hi, hf⟩ := ix_k (K := bl (M_runs_B2) n2) rfl hf
        obtain ⟨σ_9, e9, hf⟩ := nm_k (K := bl (M_runs_B2) n2) hf
        refine m_w32 C h hi e9 dX7_runs_44 (fun H locs h => ?_)
        refine lv_aload_n C.x C.b dX7_runs_45 rfl (lv_at hl 0 rfl) ?_
        refine m_g33 C h dX7_runs_46 ?_
        refine lv_iload_n C.x C.b dX7_runs_49 rfl (lv_at hl 1 rfl) ?_
        refine lv_iconst (v := (-1)) C.x C.b dX7_runs_50 (by decide) ?_
        obtain ⟨hi, hf⟩ := ix_k (K := bl (M_runs_B2) n2) rfl hf
        obtain ⟨σ_10, e9, hf⟩ := nm_k (K := bl (M_runs_B2) n2) hf
        refine m_w33 C h hi e9 dX7_runs_51 (fun H locs h => ?_)
        refine lv_aload_n C.x C.b dX7_runs_52 rfl (lv_at hl 0 rfl) ?_
        refine m_g34 C h dX7_runs_53 ?_
        refine lv_iload_n C.x C.b dX7_runs_56 rfl (lv_at hl 1 rfl) ?_
        refine lv_iconst (v := (-1)) C.x C.b dX7_runs_57 (by decide) ?_
        obtain ⟨hi, hf⟩ := ix_k (K := bl (M_runs_B2) n2) rfl hf
        obtain ⟨σ_11, e9, hf⟩ := nm_k (K := bl (M_runs_B2) n2) hf
        refine m_w34 C h hi e9 dX7_runs_58 (fun H locs h => ?_)
        refine lv_aload_n C.x C.b dX7_runs_59 rfl (lv_at hl 0 rfl) ?_
        refine m_g35 C h dX7_runs_60 ?_
        refine lv_iload_n C.x C.b dX7_runs_63 rfl (lv_at hl 1 rfl) ?_
        refine lv_iconst (v := 0) C.x C.b dX7_runs_64 (by decide) ?_
        obtain ⟨hi, hf⟩ := ix_k (K := bl (M_runs_B2) n2) rfl hf
        obtain ⟨σ_12, e9, hf⟩ := nm_k (K := bl (M_runs_B2) n2) hf
        refine m_w35 C h hi e9 dX7_runs_65 (fun H locs h => ?_)
        obtain ⟨v1_13, e9, hf⟩ := nm_k (K := bl (M_runs_B2) n2) hf
        refine lv_iinc (v := v1_13) (lv' := [(1, .int v1_13), (0, .ref o)]) C.x C.b dX7_runs_66 hl (k := 1) rfl (iinc_e (k := 1) (by decide) e9) (by decide) rfl (fun ls hl => ?_)
        refine lv_goto (tgt := 2) C.x C.b dX7_runs_69 (by decide) ?_
        exact ih2 v1_13 σ_12 _ _ _ h (lv_sub hl [1, 0] rfl) hf
  intro H locs ls h hl
  have hl : lv_has ls 3 [(0, .ref o)] := hl
  unfold M_runs at hf
  refine lv_iconst (v := 0) C.x C.b dX7_runs_0 (by decide) ?_
  refine lv_istore_n (lv' := [(1, .int 0), (0, .ref o)]) C.x C.b dX7_runs_1 rfl hl (by decide) rfl (fun ls hl => ?_)
  exact l2  fu 0 σ _ _ _ h (lv_sub hl [1, 0] rfl) hf
theorem tM_runs : GoodIn lw_all (wsV RX7 299 RX7 yX7_runs (ws_ yX7_runs cX7_runs 3 none)) := lw_V q1885 q1887 qs103 q147 q1888
theorem cM_runs {p : Program} {l : Launch} {e : Env} {R : Room} {s : State} {m : MethodId} {args : Array Value} {below : List Frame} {meth : Method} {c : Code} {H : Heap} {locs : List Loc} {Q : State → Prop} {cc : ByteArray} {pc : Nat} {ls : Array Slot} {st : List Value} {nL d : Nat} {D : va_G} {ty : Nat → ClassId} {A : Nat → Prop} {o : Nat} {ad : Nat → Nat} {rs : va_W} {σ : PS} {q : PS} (C : Cx p R s m args c cc nL RX7 D ty A d) (h : Hw D A s H locs (wM ty o ad σ ++ rs)) (hc : M_runs σ = some q) (hd : 4 + 1 ≤ d) (hls : ls.size = nL) (hcat : (st.map fun v => v.category).sum ≤ 8) (dec : decode cc pc = .ok (.invokevirtual 299, 3)) (kk : ∀ (H : Heap) (locs : List Loc), Hw D A s H locs (wM ty o ad q ++ rs) → W p l e R s m args below meth c H locs 0 0 Q (F0 m (pc + 3) ls (st))) : W p l e R s m args below meth c H locs 0 0 Q (F0 m pc ls (.ref o :: st)) := KV.callV (As := []) C (kM_runs l hc) tM_runs ⟨rfl, by decide, by decide, by show _ = some 0; decide +kernel⟩ 0 7 rfl rfl rfl hd (by decide) (Nat.zero_le _) (Nat.zero_le _) h hls rfl hcat dec kk
def M_isSound_j19 (σ : PS) (x0 : Int32) : Option (Int32 × PS) := tz x0 (some (x0, σ))
def M_isSound (σ : PS) (v1 : Int32) : Option (Int32 × PS) := bd (M_runs σ) (fun q_1 => ix v1 6 (if (rA q_1 34 v1) = ((-1)) then M_isSound_j19 q_1 1 else M_isSound_j19 q_1 0))
set_option maxHeartbeats 4000000 in
theorem kM_isSound (l : Launch) {D : va_G} {ty : Nat → ClassId} {A : Nat → Prop} {o : Nat} {ad : Nat → Nat} {rs : va_W} {σ : PS} {σ' : PS} {v1 : Int32} {r : Int32} (hf : M_isSound σ v1 = some (r, σ')) : KI l yX7_isSound cX7_isSound 2 .boolean 5 D ty A (wM ty o ad σ ++ rs) (wM ty o ad σ' ++ rs) [.ref o, .int v1] r := by
  refine KI.of (by decide) (Nat.le_of_ble_eq_true rfl) ?_
  intro p e R s m args below meth c Q C hR
  have C : Cx p R s m args c cX7_isSound 2 RX7 D ty A 5 := C
  have hR : ∀ (v : Int32) (σ2 : PS), (v, σ2) = (r, σ') → ∀ (H : Heap) (locs : List Loc) (pc : Nat) (ls : Array Slot), Hw D A s H locs (wM ty o ad σ2 ++ rs) → narrow .boolean (.int v) = .int v → decode cX7_isSound pc = .ok (.ireturn, 1) → W p l e R s m args below meth c H locs 0 0 Q (F0 m pc ls [.int v]) := by intro v σ2 e9; cases e9; exact hR
  have j19 : ∀ (σ : PS) (x0 : Int32) (H : Heap) (locs : List Loc) (ls : Array Slot), Hw D A s H locs (wM ty o ad σ ++ rs) → lv_has ls 2 [] → M_isSound_j19 σ x0 = some (r, σ') → W p l e R s m args below meth c H locs 0 0 Q (F0 m 19 ls [.int x0]) := by
    intro σ x0 H locs ls h hl hf
    unfold M_isSound_j19 at hf
    obtain ⟨hz, hf⟩ := tz_k (K := fun x => x) rfl hf
    exact hR _ _ (some_k hf) _ _ _ _ h hz dX7_isSound_19
  intro H locs ls h hl
  have hl : lv_has ls 2 [(0, .ref o), (1, .int v1)] := hl
  unfold M_isSound at hf
  refine lv_aload_n C.x C.b dX7_isSound_0 rfl (lv_at hl 0 rfl) ?_
  obtain ⟨q_1, hc, hf⟩ := bd_k (K := fun x => x) rfl hf
  refine cM_runs C h hc (Nat.le_of_ble_eq_true rfl) hl.1 (Nat.le_of_ble_eq_true rfl) dX7_isSound_1 (fun H locs h => ?_)
  refine lv_aload_n C.x C.b dX7_isSound_4 rfl (lv_at hl 0 rfl) ?_
  refine m_g34 C h dX7_isSound_5 ?_
  refine lv_iload_n C.x C.b dX7_isSound_8 rfl (lv_at hl 1 rfl) ?_
  obtain ⟨hi, hf⟩ := ix_k (K := fun x => x) rfl hf
  refine m_a34 C h hi dX7_isSound_9 ?_
  refine lv_iconst (v := (-1)) C.x C.b dX7_isSound_10 (by decide) ?_
  refine lv_icmp_ne (tgt := 18) C.x C.b dX7_isSound_11 (by decide) (fun c9 => ?_) (fun c9 => ?_)
  · have hf := if_f (K := fun x => x) c9 hf
    refine lv_iconst (v := 0) C.x C.b dX7_isSound_18 (by decide) ?_
    exact j19 q_1 0 _ _ _ h (lv_sub hl [] rfl) hf
  · have hf := if_t (K := fun x => x) c9 hf
    refine lv_iconst (v := 1) C.x C.b dX7_isSound_14 (by decide) ?_
    refine lv_goto (tgt := 19) C.x C.b dX7_isSound_15 (by decide) ?_
    exact j19 q_1 1 _ _ _ h (lv_sub hl [] rfl) hf
theorem tM_isSound : GoodIn lw_all (wsV RX7 355 RX7 yX7_isSound (ws_ yX7_isSound cX7_isSound 2 (some .boolean))) := lw_V q2121 q2123 qs120 q147 q2124
theorem cM_isSound {p : Program} {l : Launch} {e : Env} {R : Room} {s : State} {m : MethodId} {args : Array Value} {below : List Frame} {meth : Method} {c : Code} {H : Heap} {locs : List Loc} {Q : State → Prop} {cc : ByteArray} {pc : Nat} {ls : Array Slot} {st : List Value} {nL d : Nat} {D : va_G} {ty : Nat → ClassId} {A : Nat → Prop} {o : Nat} {ad : Nat → Nat} {rs : va_W} {σ : PS} {v1 : Int32} {q : (Int32 × PS)} (C : Cx p R s m args c cc nL RX7 D ty A d) (h : Hw D A s H locs (wM ty o ad σ ++ rs)) (hc : M_isSound σ v1 = some q) (hd : 5 + 1 ≤ d) (hls : ls.size = nL) (hcat : (st.map fun v => v.category).sum ≤ 8) (dec : decode cc pc = .ok (.invokevirtual 355, 3)) (kk : ∀ (H : Heap) (locs : List Loc), Hw D A s H locs (wM ty o ad q.2 ++ rs) → W p l e R s m args below meth c H locs 0 0 Q (F0 m (pc + 3) ls (.int (q.1) :: st))) : W p l e R s m args below meth c H locs 0 0 Q (F0 m pc ls (.int v1 :: .ref o :: st)) := KI.callV (As := [.int v1]) C (kM_isSound l hc) tM_isSound ⟨rfl, by decide, by decide, by show _ = some 1; decide +kernel⟩ 0 7 rfl rfl rfl hd (by decide) (Nat.zero_le _) (Nat.zero_le _) h hls rfl hcat dec kk
def M_needs_j53 (σ : PS) : Option (Int32 × PS) := some ((-1), σ)
def M_needs_j45 (σ : PS) (v2 : Int32) : Option (Int32 × PS) := some (v2, σ)
def M_needs_l23 (v1 : Int32) (v2 : Int32) (σ : PS) : Option ((Int32 × PS) ⊕ (Int32 × PS)) := if 300 < v2 then up (M_needs_j53 σ) else ix v1 6 (nm (wA σ 29 v1 v2) (fun σ_1 => bd (M_isSound σ_1 v1) (fun q_2 => if q_2.1 = 0 then nm (v2 + 1) (fun v2_3 => some (.inl (v2_3, q_2.2))) else up (M_needs_j45 q_2.2 v2))))
def M_needs_B23 (v1 : Int32) : (Int32 × PS) → Option ((Int32 × PS) ⊕ (Int32 × PS)) := fun t => M_needs_l23 v1 t.1 t.2
def M_needs (σ : PS) (v1 : Int32) : Option (Int32 × PS) := nm (sI σ 0 0) (fun σ_4 => bd (M_isPiece σ_4 v1.toInt64) (fun q_5 => if q_5 = 0 then some ((-2), σ_4) else bd (M_lays σ_4) (fun q_6 => loop (M_needs_B23 v1) fu (0, q_6))))
set_option maxHeartbeats 4000000 in
theorem kM_needs (l : Launch) {D : va_G} {ty : Nat → ClassId} {A : Nat → Prop} {o : Nat} {ad : Nat → Nat} {rs : va_W} {σ : PS} {σ' : PS} {v1 : Int32} {r : Int32} (hf : M_needs σ v1 = some (r, σ')) : KI l yX7_needs cX7_needs 3 .int 6 D ty A (wM ty o ad σ ++ rs) (wM ty o ad σ' ++ rs) [.ref o, .int v1] r := by
  refine KI.of (by decide) (Nat.le_of_ble_eq_true rfl) ?_
  intro p e R s m args below meth c Q C hR
  have C : Cx p R s m args c cX7_needs 3 RX7 D ty A 6 := C
  have hR : ∀ (v : Int32) (σ2 : PS), (v, σ2) = (r, σ') → ∀ (H : Heap) (locs : List Loc) (pc : Nat) (ls : Array Slot), Hw D A s H locs (wM ty o ad σ2 ++ rs) → narrow .int (.int v) = .int v → decode cX7_needs pc = .ok (.ireturn, 1) → W p l e R s m args below meth c H locs 0 0 Q (F0 m pc ls [.int v]) := by intro v σ2 e9; cases e9; exact hR
  have j53 : ∀ (σ : PS) (H : Heap) (locs : List Loc) (ls : Array Slot), Hw D A s H locs (wM ty o ad σ ++ rs) → lv_has ls 3 [] → M_needs_j53 σ = some (r, σ') → W p l e R s m args below meth c H locs 0 0 Q (F0 m 53 ls []) := by
    intro σ H locs ls h hl hf
    unfold M_needs_j53 at hf
    refine lv_iconst (v := (-1)) C.x C.b dX7_needs_53 (by decide) ?_
    exact hR _ _ (some_k hf) _ _ _ _ h rfl dX7_needs_54
  have j45 : ∀ (σ : PS) (v2 : Int32) (H : Heap) (locs : List Loc) (ls : Array Slot), Hw D A s H locs (wM ty o ad σ ++ rs) → lv_has ls 3 [(2, .int v2)] → M_needs_j45 σ v2 = some (r, σ') → W p l e R s m args below meth c H locs 0 0 Q (F0 m 45 ls []) := by
    intro σ v2 H locs ls h hl hf
    unfold M_needs_j45 at hf
    refine lv_iload_n C.x C.b dX7_needs_45 rfl (lv_at hl 0 rfl) ?_
    exact hR _ _ (some_k hf) _ _ _ _ h rfl dX7_needs_46
  have l23 : ∀ (n23 : Nat) (v2 : Int32) (σ : PS) (H : Heap) (locs : List Loc) (ls : Array Slot), Hw D A s H locs (wM ty o ad σ ++ rs) → lv_has ls 3 [(0, .ref o), (1, .int v1), (2, .int v2)] → loop (M_needs_B23 v1) n23 (v2, σ) = some (r, σ') → W p l e R s m args below meth c H locs 0 0 Q (F0 m 23 ls []) := by
    intro n23
    induction n23 with
    | zero => intro v2 σ H locs ls h hl hf; exact (none_k hf).elim
    | succ n23 ih23 =>
      intro v2 σ H locs ls h hl hf
      have hf : bl (M_needs_B23 v1) n23 (M_needs_l23 v1 v2 σ) = some (r, σ') := hf
      unfold M_needs_l23 at hf
      refine lv_iload_n C.x C.b dX7_needs_23 rfl (lv_at hl 2 rfl) ?_
      refine lv_sipush (v := 300) C.x C.b dX7_needs_24 (by decide) ?_
      refine lv_icmp_gt (tgt := 53) C.x C.b dX7_needs_27 (by decide) (fun c9 => ?_) (fun c9 => ?_)
      · have hf := if_t (K := bl (M_needs_B23 v1) n23) c9 hf
        have hf := bl_upK (K := fun x => x) hf
        exact j53 σ _ _ _ h (lv_sub hl [] rfl) hf
      · have hf := if_f (K := bl (M_needs_B23 v1) n23) c9 hf
        refine lv_aload_n C.x C.b dX7_needs_30 rfl (lv_at hl 0 rfl) ?_
        refine m_g29 C h dX7_needs_31 ?_
        refine lv_iload_n C.x C.b dX7_needs_34 rfl (lv_at hl 1 rfl) ?_
        refine lv_iload_n C.x C.b dX7_needs_35 rfl (lv_at hl 2 rfl) ?_
        obtain ⟨hi, hf⟩ := ix_k (K := bl (M_needs_B23 v1) n23) rfl hf
        obtain ⟨σ_1, e9, hf⟩ := nm_k (K := bl (M_needs_B23 v1) n23) hf
        refine m_w29 C h hi e9 dX7_needs_36 (fun H locs h => ?_)
        refine lv_aload_n C.x C.b dX7_needs_37 rfl (lv_at hl 0 rfl) ?_
        refine lv_iload_n C.x C.b dX7_needs_38 rfl (lv_at hl 1 rfl) ?_
        obtain ⟨q_2, hc, hf⟩ := bd_k (K := bl (M_needs_B23 v1) n23) rfl hf
        refine cM_isSound C h hc (Nat.le_of_ble_eq_true rfl) hl.1 (Nat.le_of_ble_eq_true rfl) dX7_needs_39 (fun H locs h => ?_)
        refine lv_if_eq (tgt := 47) C.x C.b dX7_needs_42 (by decide) (fun c9 => ?_) (fun c9 => ?_)
        · have hf := if_t (K := bl (M_needs_B23 v1) n23) c9 hf
          obtain ⟨v2_3, e9, hf⟩ := nm_k (K := bl (M_needs_B23 v1) n23) hf
          refine lv_iinc (v := v2_3) (lv' := [(2, .int v2_3), (0, .ref o), (1, .int v1)]) C.x C.b dX7_needs_47 hl (k := 2) rfl (iinc_e (k := 1) (by decide) e9) (by decide) rfl (fun ls hl => ?_)
          refine lv_goto (tgt := 23) C.x C.b dX7_needs_50 (by decide) ?_
          exact ih23 v2_3 q_2.2 _ _ _ h (lv_sub hl [1, 2, 0] rfl) hf
        · have hf := if_f (K := bl (M_needs_B23 v1) n23) c9 hf
          have hf := bl_upK (K := fun x => x) hf
          exact j45 q_2.2 v2 _ _ _ h (lv_sub hl [2] rfl) hf
  intro H locs ls h hl
  have hl : lv_has ls 3 [(0, .ref o), (1, .int v1)] := hl
  unfold M_needs at hf
  refine lv_aload_n C.x C.b dX7_needs_0 rfl (lv_at hl 0 rfl) ?_
  refine lv_iconst (v := 0) C.x C.b dX7_needs_1 (by decide) ?_
  obtain ⟨σ_4, e9, hf⟩ := nm_k (K := fun x => x) hf
  refine m_p0 C h e9 dX7_needs_2 (fun H locs h => ?_)
  refine lv_aload_n C.x C.b dX7_needs_5 rfl (lv_at hl 0 rfl) ?_
  refine lv_iload_n C.x C.b dX7_needs_6 rfl (lv_at hl 1 rfl) ?_
  refine lv_i2l C.x C.b dX7_needs_7 rfl ?_
  obtain ⟨q_5, hc, hf⟩ := bd_k (K := fun x => x) rfl hf
  refine cM_isPiece C h hc (Nat.le_of_ble_eq_true rfl) hl.1 (Nat.le_of_ble_eq_true rfl) dX7_needs_8 (fun H locs h => ?_)
  refine lv_if_ne (tgt := 17) C.x C.b dX7_needs_11 (by decide) (fun c9 => ?_) (fun c9 => ?_)
  · have hf := if_f (K := fun x => x) c9 hf
    refine lv_aload_n C.x C.b dX7_needs_17 rfl (lv_at hl 0 rfl) ?_
    obtain ⟨q_6, hc, hf⟩ := bd_k (K := fun x => x) rfl hf
    refine cM_lays C h hc (Nat.le_of_ble_eq_true rfl) hl.1 (Nat.le_of_ble_eq_true rfl) dX7_needs_18 (fun H locs h => ?_)
    refine lv_iconst (v := 0) C.x C.b dX7_needs_21 (by decide) ?_
    refine lv_istore_n (lv' := [(2, .int 0), (0, .ref o), (1, .int v1)]) C.x C.b dX7_needs_22 rfl hl (by decide) rfl (fun ls hl => ?_)
    exact l23  fu 0 q_6 _ _ _ h (lv_sub hl [1, 2, 0] rfl) hf
  · have hf := if_t (K := fun x => x) c9 hf
    refine lv_bipush (v := (-2)) C.x C.b dX7_needs_14 (by decide) ?_
    exact hR _ _ (some_k hf) _ _ _ _ h rfl dX7_needs_16
def M_thin_j51 (σ : PS) : Option (Int32 × PS) := some ((-1), σ)
def M_thin_j43 (σ : PS) (v2 : Int32) : Option (Int32 × PS) := some (v2, σ)
def M_thin_l24 (v1 : Int32) (v2 : Int32) (σ : PS) : Option ((Int32 × PS) ⊕ (Int32 × PS)) := if v2 ≤ 0 then up (M_thin_j51 σ) else ix v1 6 (nm (wA σ 28 v1 v2) (fun σ_1 => bd (M_isSound σ_1 v1) (fun q_2 => if q_2.1 = 0 then nm (v2 + (-1)) (fun v2_3 => some (.inl (v2_3, q_2.2))) else up (M_thin_j43 q_2.2 v2))))
def M_thin_B24 (v1 : Int32) : (Int32 × PS) → Option ((Int32 × PS) ⊕ (Int32 × PS)) := fun t => M_thin_l24 v1 t.1 t.2
def M_thin (σ : PS) (v1 : Int32) : Option (Int32 × PS) := nm (sI σ 0 0) (fun σ_4 => bd (M_isPiece σ_4 v1.toInt64) (fun q_5 => if q_5 = 0 then some ((-2), σ_4) else bd (M_lays σ_4) (fun q_6 => loop (M_thin_B24 v1) fu (9, q_6))))
set_option maxHeartbeats 4000000 in
theorem kM_thin (l : Launch) {D : va_G} {ty : Nat → ClassId} {A : Nat → Prop} {o : Nat} {ad : Nat → Nat} {rs : va_W} {σ : PS} {σ' : PS} {v1 : Int32} {r : Int32} (hf : M_thin σ v1 = some (r, σ')) : KI l yX7_thin cX7_thin 3 .int 6 D ty A (wM ty o ad σ ++ rs) (wM ty o ad σ' ++ rs) [.ref o, .int v1] r := by
  refine KI.of (by decide) (Nat.le_of_ble_eq_true rfl) ?_
  intro p e R s m args below meth c Q C hR
  have C : Cx p R s m args c cX7_thin 3 RX7 D ty A 6 := C
  have hR : ∀ (v : Int32) (σ2 : PS), (v, σ2) = (r, σ') → ∀ (H : Heap) (locs : List Loc) (pc : Nat) (ls : Array Slot), Hw D A s H locs (wM ty o ad σ2 ++ rs) → narrow .int (.int v) = .int v → decode cX7_thin pc = .ok (.ireturn, 1) → W p l e R s m args below meth c H locs 0 0 Q (F0 m pc ls [.int v]) := by intro v σ2 e9; cases e9; exact hR
  have j51 : ∀ (σ : PS) (H : Heap) (locs : List Loc) (ls : Array Slot), Hw D A s H locs (wM ty o ad σ ++ rs) → lv_has ls 3 [] → M_thin_j51 σ = some (r, σ') → W p l e R s m args below meth c H locs 0 0 Q (F0 m 51 ls []) := by
    intro σ H locs ls h hl hf
    unfold M_thin_j51 at hf
    refine lv_iconst (v := (-1)) C.x C.b dX7_thin_51 (by decide) ?_
    exact hR _ _ (some_k hf) _ _ _ _ h rfl dX7_thin_52
  have j43 : ∀ (σ : PS) (v2 : Int32) (H : Heap) (locs : List Loc) (ls : Array Slot), Hw D A s H locs (wM ty o ad σ ++ rs) → lv_has ls 3 [(2, .int v2)] → M_thin_j43 σ v2 = some (r, σ') → W p l e R s m args below meth c H locs 0 0 Q (F0 m 43 ls []) := by
    intro σ v2 H locs ls h hl hf
    unfold M_thin_j43 at hf
    refine lv_iload_n C.x C.b dX7_thin_43 rfl (lv_at hl 0 rfl) ?_
    exact hR _ _ (some_k hf) _ _ _ _ h rfl dX7_thin_44
  have l24 : ∀ (n24 : Nat) (v2 : Int32) (σ : PS) (H : Heap) (locs : List Loc) (ls : Array Slot), Hw D A s H locs (wM ty o ad σ ++ rs) → lv_has ls 3 [(0, .ref o), (1, .int v1), (2, .int v2)] → loop (M_thin_B24 v1) n24 (v2, σ) = some (r, σ') → W p l e R s m args below meth c H locs 0 0 Q (F0 m 24 ls []) := by
    intro n24
    induction n24 with
    | zero => intro v2 σ H locs ls h hl hf; exact (none_k hf).elim
    | succ n24 ih24 =>
      intro v2 σ H locs ls h hl hf
      have hf : bl (M_thin_B24 v1) n24 (M_thin_l24 v1 v2 σ) = some (r, σ') := hf
      unfold M_thin_l24 at hf
      refine lv_iload_n C.x C.b dX7_thin_24 rfl (lv_at hl 2 rfl) ?_
      refine lv_if_le (tgt := 51) C.x C.b dX7_thin_25 (by decide) (fun c9 => ?_) (fun c9 => ?_)
      · have hf := if_t (K := bl (M_thin_B24 v1) n24) c9 hf
        have hf := bl_upK (K := fun x => x) hf
        exact j51 σ _ _ _ h (lv_sub hl [] rfl) hf
      · have hf := if_f (K := bl (M_thin_B24 v1) n24) c9 hf
        refine lv_aload_n C.x C.b dX7_thin_28 rfl (lv_at hl 0 rfl) ?_
        refine m_g28 C h dX7_thin_29 ?_
        refine lv_iload_n C.x C.b dX7_thin_32 rfl (lv_at hl 1 rfl) ?_
        refine lv_iload_n C.x C.b dX7_thin_33 rfl (lv_at hl 2 rfl) ?_
        obtain ⟨hi, hf⟩ := ix_k (K := bl (M_thin_B24 v1) n24) rfl hf
        obtain ⟨σ_1, e9, hf⟩ := nm_k (K := bl (M_thin_B24 v1) n24) hf
        refine m_w28 C h hi e9 dX7_thin_34 (fun H locs h => ?_)
        refine lv_aload_n C.x C.b dX7_thin_35 rfl (lv_at hl 0 rfl) ?_
        refine lv_iload_n C.x C.b dX7_thin_36 rfl (lv_at hl 1 rfl) ?_
        obtain ⟨q_2, hc, hf⟩ := bd_k (K := bl (M_thin_B24 v1) n24) rfl hf
        refine cM_isSound C h hc (Nat.le_of_ble_eq_true rfl) hl.1 (Nat.le_of_ble_eq_true rfl) dX7_thin_37 (fun H locs h => ?_)
        refine lv_if_eq (tgt := 45) C.x C.b dX7_thin_40 (by decide) (fun c9 => ?_) (fun c9 => ?_)
        · have hf := if_t (K := bl (M_thin_B24 v1) n24) c9 hf
          obtain ⟨v2_3, e9, hf⟩ := nm_k (K := bl (M_thin_B24 v1) n24) hf
          refine lv_iinc (v := v2_3) (lv' := [(2, .int v2_3), (0, .ref o), (1, .int v1)]) C.x C.b dX7_thin_45 hl (k := 2) rfl (iinc_e (k := (-1)) (by decide) e9) (by decide) rfl (fun ls hl => ?_)
          refine lv_goto (tgt := 24) C.x C.b dX7_thin_48 (by decide) ?_
          exact ih24 v2_3 q_2.2 _ _ _ h (lv_sub hl [1, 2, 0] rfl) hf
        · have hf := if_f (K := bl (M_thin_B24 v1) n24) c9 hf
          have hf := bl_upK (K := fun x => x) hf
          exact j43 q_2.2 v2 _ _ _ h (lv_sub hl [2] rfl) hf
  intro H locs ls h hl
  have hl : lv_has ls 3 [(0, .ref o), (1, .int v1)] := hl
  unfold M_thin at hf
  refine lv_aload_n C.x C.b dX7_thin_0 rfl (lv_at hl 0 rfl) ?_
  refine lv_iconst (v := 0) C.x C.b dX7_thin_1 (by decide) ?_
  obtain ⟨σ_4, e9, hf⟩ := nm_k (K := fun x => x) hf
  refine m_p0 C h e9 dX7_thin_2 (fun H locs h => ?_)
  refine lv_aload_n C.x C.b dX7_thin_5 rfl (lv_at hl 0 rfl) ?_
  refine lv_iload_n C.x C.b dX7_thin_6 rfl (lv_at hl 1 rfl) ?_
  refine lv_i2l C.x C.b dX7_thin_7 rfl ?_
  obtain ⟨q_5, hc, hf⟩ := bd_k (K := fun x => x) rfl hf
  refine cM_isPiece C h hc (Nat.le_of_ble_eq_true rfl) hl.1 (Nat.le_of_ble_eq_true rfl) dX7_thin_8 (fun H locs h => ?_)
  refine lv_if_ne (tgt := 17) C.x C.b dX7_thin_11 (by decide) (fun c9 => ?_) (fun c9 => ?_)
  · have hf := if_f (K := fun x => x) c9 hf
    refine lv_aload_n C.x C.b dX7_thin_17 rfl (lv_at hl 0 rfl) ?_
    obtain ⟨q_6, hc, hf⟩ := bd_k (K := fun x => x) rfl hf
    refine cM_lays C h hc (Nat.le_of_ble_eq_true rfl) hl.1 (Nat.le_of_ble_eq_true rfl) dX7_thin_18 (fun H locs h => ?_)
    refine lv_bipush (v := 9) C.x C.b dX7_thin_21 (by decide) ?_
    refine lv_istore_n (lv' := [(2, .int 9), (0, .ref o), (1, .int v1)]) C.x C.b dX7_thin_23 rfl hl (by decide) rfl (fun ls hl => ?_)
    exact l24  fu 9 q_6 _ _ _ h (lv_sub hl [1, 2, 0] rfl) hf
  · have hf := if_t (K := fun x => x) c9 hf
    refine lv_bipush (v := (-2)) C.x C.b dX7_thin_14 (by decide) ?_
    exact hR _ _ (some_k hf) _ _ _ _ h rfl dX7_thin_16
def M_soundBy (σ : PS) (v1 : Int32) : Option (Int32 × PS) := bd (M_lays σ) (fun q_1 => nm (sI q_1 23 v1) (fun σ_2 => bd (M_runs σ_2) (fun q_3 => bd (M_soundNow q_3) (fun q_4 => bd (M_sizeOf q_4) (fun q_5 => some (q_5, q_3))))))
set_option maxHeartbeats 4000000 in
theorem kM_soundBy (l : Launch) {D : va_G} {ty : Nat → ClassId} {A : Nat → Prop} {o : Nat} {ad : Nat → Nat} {rs : va_W} {σ : PS} {σ' : PS} {v1 : Int32} {r : Int32} (hf : M_soundBy σ v1 = some (r, σ')) : KI l yX7_soundBy cX7_soundBy 2 .int 5 D ty A (wM ty o ad σ ++ rs) (wM ty o ad σ' ++ rs) [.ref o, .int v1] r := by
  refine KI.of (by decide) (Nat.le_of_ble_eq_true rfl) ?_
  intro p e R s m args below meth c Q C hR
  have C : Cx p R s m args c cX7_soundBy 2 RX7 D ty A 5 := C
  have hR : ∀ (v : Int32) (σ2 : PS), (v, σ2) = (r, σ') → ∀ (H : Heap) (locs : List Loc) (pc : Nat) (ls : Array Slot), Hw D A s H locs (wM ty o ad σ2 ++ rs) → narrow .int (.int v) = .int v → decode cX7_soundBy pc = .ok (.ireturn, 1) → W p l e R s m args below meth c H locs 0 0 Q (F0 m pc ls [.int v]) := by intro v σ2 e9; cases e9; exact hR
  intro H locs ls h hl
  have hl : lv_has ls 2 [(0, .ref o), (1, .int v1)] := hl
  unfold M_soundBy at hf
  refine lv_aload_n C.x C.b dX7_soundBy_0 rfl (lv_at hl 0 rfl) ?_
  obtain ⟨q_1, hc, hf⟩ := bd_k (K := fun x => x) rfl hf
  refine cM_lays C h hc (Nat.le_of_ble_eq_true rfl) hl.1 (Nat.le_of_ble_eq_true rfl) dX7_soundBy_1 (fun H locs h => ?_)
  refine lv_aload_n C.x C.b dX7_soundBy_4 rfl (lv_at hl 0 rfl) ?_
  refine lv_iload_n C.x C.b dX7_soundBy_5 rfl (lv_at hl 1 rfl) ?_
  obtain ⟨σ_2, e9, hf⟩ := nm_k (K := fun x => x) hf
  refine m_p23 C h e9 dX7_soundBy_6 (fun H locs h => ?_)
  refine lv_aload_n C.x C.b dX7_soundBy_9 rfl (lv_at hl 0 rfl) ?_
  obtain ⟨q_3, hc, hf⟩ := bd_k (K := fun x => x) rfl hf
  refine cM_runs C h hc (Nat.le_of_ble_eq_true rfl) hl.1 (Nat.le_of_ble_eq_true rfl) dX7_soundBy_10 (fun H locs h => ?_)
  refine lv_aload_n C.x C.b dX7_soundBy_13 rfl (lv_at hl 0 rfl) ?_
  obtain ⟨q_4, hc, hf⟩ := bd_k (K := fun x => x) rfl hf
  refine cM_soundNow C h hc (Nat.le_of_ble_eq_true rfl) hl.1 (Nat.le_of_ble_eq_true rfl) dX7_soundBy_14 (fun H locs h => ?_)
  obtain ⟨q_5, hc, hf⟩ := bd_k (K := fun x => x) rfl hf
  refine cM_sizeOf C h hc (Nat.le_of_ble_eq_true rfl) hl.1 (Nat.le_of_ble_eq_true rfl) dX7_soundBy_17 (fun H locs h => ?_)
  exact hR _ _ (some_k hf) _ _ _ _ h rfl dX7_soundBy_20
theorem tM_soundBy : GoodIn lw_all (wsV RX7 358 RX7 yX7_soundBy (ws_ yX7_soundBy cX7_soundBy 2 (some .int))) := lw_V q2141 q2143 qs122 q147 q2144
theorem cM_soundBy {p : Program} {l : Launch} {e : Env} {R : Room} {s : State} {m : MethodId} {args : Array Value} {below : List Frame} {meth : Method} {c : Code} {H : Heap} {locs : List Loc} {Q : State → Prop} {cc : ByteArray} {pc : Nat} {ls : Array Slot} {st : List Value} {nL d : Nat} {D : va_G} {ty : Nat → ClassId} {A : Nat → Prop} {o : Nat} {ad : Nat → Nat} {rs : va_W} {σ : PS} {v1 : Int32} {q : (Int32 × PS)} (C : Cx p R s m args c cc nL RX7 D ty A d) (h : Hw D A s H locs (wM ty o ad σ ++ rs)) (hc : M_soundBy σ v1 = some q) (hd : 5 + 1 ≤ d) (hls : ls.size = nL) (hcat : (st.map fun v => v.category).sum ≤ 8) (dec : decode cc pc = .ok (.invokevirtual 358, 3)) (kk : ∀ (H : Heap) (locs : List Loc), Hw D A s H locs (wM ty o ad q.2 ++ rs) → W p l e R s m args below meth c H locs 0 0 Q (F0 m (pc + 3) ls (.int (q.1) :: st))) : W p l e R s m args below meth c H locs 0 0 Q (F0 m pc ls (.int v1 :: .ref o :: st)) := KI.callV (As := [.int v1]) C (kM_soundBy l hc) tM_soundBy ⟨rfl, by decide, by decide, by show _ = some 1; decide +kernel⟩ 0 7 rfl rfl rfl hd (by decide) (Nat.zero_le _) (Nat.zero_le _) h hls rfl hcat dec kk
def M_raiseOf_j39 (σ : PS) : Option (Int32 × PS) := some ((-1), σ)
def M_raiseOf_j31 (σ : PS) (v3 : Int32) : Option (Int32 × PS) := some (v3, σ)
def M_raiseOf_l2 (v1 : Int32) (v2 : Int32) (v3 : Int32) (σ : PS) : Option ((Int32 × PS) ⊕ (Int32 × PS)) := if 200 < v3 then up (M_raiseOf_j39 σ) else bd (M_lays σ) (fun q_1 => ix v1 7 (ix v1 7 (nm (wA q_1 27 v1 ((rA q_1 27 v1) + v3)) (fun σ_2 => bd (M_isSound σ_2 v2) (fun q_3 => if q_3.1 = 0 then nm (v3 + 1) (fun v3_4 => some (.inl (v3_4, q_3.2))) else up (M_raiseOf_j31 q_3.2 v3))))))
def M_raiseOf_B2 (v1 : Int32) (v2 : Int32) : (Int32 × PS) → Option ((Int32 × PS) ⊕ (Int32 × PS)) := fun t => M_raiseOf_l2 v1 v2 t.1 t.2
def M_raiseOf (σ : PS) (v1 : Int32) (v2 : Int32) : Option (Int32 × PS) := loop (M_raiseOf_B2 v1 v2) fu (0, σ)
set_option maxHeartbeats 4000000 in
theorem kM_raiseOf (l : Launch) {D : va_G} {ty : Nat → ClassId} {A : Nat → Prop} {o : Nat} {ad : Nat → Nat} {rs : va_W} {σ : PS} {σ' : PS} {v1 : Int32} {v2 : Int32} {r : Int32} (hf : M_raiseOf σ v1 v2 = some (r, σ')) : KI l yX7_raiseOf cX7_raiseOf 4 .int 6 D ty A (wM ty o ad σ ++ rs) (wM ty o ad σ' ++ rs) [.ref o, .int v1, .int v2] r := by
  refine KI.of (by decide) (Nat.le_of_ble_eq_true rfl) ?_
  intro p e R s m args below meth c Q C hR
  have C : Cx p R s m args c cX7_raiseOf 4 RX7 D ty A 6 := C
  have hR : ∀ (v : Int32) (σ2 : PS), (v, σ2) = (r, σ') → ∀ (H : Heap) (locs : List Loc) (pc : Nat) (ls : Array Slot), Hw D A s H locs (wM ty o ad σ2 ++ rs) → narrow .int (.int v) = .int v → decode cX7_raiseOf pc = .ok (.ireturn, 1) → W p l e R s m args below meth c H locs 0 0 Q (F0 m pc ls [.int v]) := by intro v σ2 e9; cases e9; exact hR
  have j39 : ∀ (σ : PS) (H : Heap) (locs : List Loc) (ls : Array Slot), Hw D A s H locs (wM ty o ad σ ++ rs) → lv_has ls 4 [] → M_raiseOf_j39 σ = some (r, σ') → W p l e R s m args below meth c H locs 0 0 Q (F0 m 39 ls []) := by
    intro σ H locs ls h hl hf
    unfold M_raiseOf_j39 at hf
    refine lv_iconst (v := (-1)) C.x C.b dX7_raiseOf_39 (by decide) ?_
    exact hR _ _ (some_k hf) _ _ _ _ h rfl dX7_raiseOf_40
  have j31 : ∀ (σ : PS) (v3 : Int32) (H : Heap) (locs : List Loc) (ls : Array Slot), Hw D A s H locs (wM ty o ad σ ++ rs) → lv_has ls 4 [(3, .int v3)] → M_raiseOf_j31 σ v3 = some (r, σ') → W p l e R s m args below meth c H locs 0 0 Q (F0 m 31 ls []) := by
    intro σ v3 H locs ls h hl hf
    unfold M_raiseOf_j31 at hf
    refine lv_iload_n C.x C.b dX7_raiseOf_31 rfl (lv_at hl 0 rfl) ?_
    exact hR _ _ (some_k hf) _ _ _ _ h rfl dX7_raiseOf_32
  have l2 : ∀ (n2 : Nat) (v3 : Int32) (σ : PS) (H : Heap) (locs : List Loc) (ls : Array Slot), Hw D A s H locs (wM ty o ad σ ++ rs) → lv_has ls 4 [(0, .ref o), (1, .int v1), (2, .int v2), (3, .int v3)] → loop (M_raiseOf_B2 v1 v2) n2 (v3, σ) = some (r, σ') → W p l e R s m args below meth c H locs 0 0 Q (F0 m 2 ls []) := by
    intro n2
    induction n2 with
    | zero => intro v3 σ H locs ls h hl hf; exact (none_k hf).elim
    | succ n2 ih2 =>
      intro v3 σ H locs ls h hl hf
      have hf : bl (M_raiseOf_B2 v1 v2) n2 (M_raiseOf_l2 v1 v2 v3 σ) = some (r, σ') := hf
      unfold M_raiseOf_l2 at hf
      refine lv_iload_n C.x C.b dX7_raiseOf_2 rfl (lv_at hl 3 rfl) ?_
      refine lv_sipush (v := 200) C.x C.b dX7_raiseOf_3 (by decide) ?_
      refine lv_icmp_gt (tgt := 39) C.x C.b dX7_raiseOf_6 (by decide) (fun c9 => ?_) (fun c9 => ?_)
      · have hf := if_t (K := bl (M_raiseOf_B2 v1 v2) n2) c9 hf
        have hf := bl_upK (K := fun x => x) hf
        exact j39 σ _ _ _ h (lv_sub hl [] rfl) hf
      · have hf := if_f (K := bl (M_raiseOf_B2 v1 v2) n2) c9 hf
        refine lv_aload_n C.x C.b dX7_raiseOf_9 rfl (lv_at hl 0 rfl) ?_
        obtain ⟨q_1, hc, hf⟩ := bd_k (K := bl (M_raiseOf_B2 v1 v2) n2) rfl hf
        refine cM_lays C h hc (Nat.le_of_ble_eq_true rfl) hl.1 (Nat.le_of_ble_eq_true rfl) dX7_raiseOf_10 (fun H locs h => ?_)
        refine lv_aload_n C.x C.b dX7_raiseOf_13 rfl (lv_at hl 0 rfl) ?_
        refine m_g27 C h dX7_raiseOf_14 ?_
        refine lv_iload_n C.x C.b dX7_raiseOf_17 rfl (lv_at hl 1 rfl) ?_
        refine lv_dup2_11 C.x C.b dX7_raiseOf_18 rfl rfl ?_
        obtain ⟨hi, hf⟩ := ix_k (K := bl (M_raiseOf_B2 v1 v2) n2) rfl hf
        refine m_a27 C h hi dX7_raiseOf_19 ?_
        refine lv_iload_n C.x C.b dX7_raiseOf_20 rfl (lv_at hl 3 rfl) ?_
        refine lv_iadd C.x C.b dX7_raiseOf_21 ?_
        obtain ⟨hi, hf⟩ := ix_k (K := bl (M_raiseOf_B2 v1 v2) n2) rfl hf
        obtain ⟨σ_2, e9, hf⟩ := nm_k (K := bl (M_raiseOf_B2 v1 v2) n2) hf
        refine m_w27 C h hi e9 dX7_raiseOf_22 (fun H locs h => ?_)
        refine lv_aload_n C.x C.b dX7_raiseOf_23 rfl (lv_at hl 0 rfl) ?_
        refine lv_iload_n C.x C.b dX7_raiseOf_24 rfl (lv_at hl 2 rfl) ?_
        obtain ⟨q_3, hc, hf⟩ := bd_k (K := bl (M_raiseOf_B2 v1 v2) n2) rfl hf
        refine cM_isSound C h hc (Nat.le_of_ble_eq_true rfl) hl.1 (Nat.le_of_ble_eq_true rfl) dX7_raiseOf_25 (fun H locs h => ?_)
        refine lv_if_eq (tgt := 33) C.x C.b dX7_raiseOf_28 (by decide) (fun c9 => ?_) (fun c9 => ?_)
        · have hf := if_t (K := bl (M_raiseOf_B2 v1 v2) n2) c9 hf
          obtain ⟨v3_4, e9, hf⟩ := nm_k (K := bl (M_raiseOf_B2 v1 v2) n2) hf
          refine lv_iinc (v := v3_4) (lv' := [(3, .int v3_4), (0, .ref o), (1, .int v1), (2, .int v2)]) C.x C.b dX7_raiseOf_33 hl (k := 3) rfl (iinc_e (k := 1) (by decide) e9) (by decide) rfl (fun ls hl => ?_)
          refine lv_goto (tgt := 2) C.x C.b dX7_raiseOf_36 (by decide) ?_
          exact ih2 v3_4 q_3.2 _ _ _ h (lv_sub hl [1, 2, 3, 0] rfl) hf
        · have hf := if_f (K := bl (M_raiseOf_B2 v1 v2) n2) c9 hf
          have hf := bl_upK (K := fun x => x) hf
          exact j31 q_3.2 v3 _ _ _ h (lv_sub hl [3] rfl) hf
  intro H locs ls h hl
  have hl : lv_has ls 4 [(0, .ref o), (1, .int v1), (2, .int v2)] := hl
  unfold M_raiseOf at hf
  refine lv_iconst (v := 0) C.x C.b dX7_raiseOf_0 (by decide) ?_
  refine lv_istore_n (lv' := [(3, .int 0), (0, .ref o), (1, .int v1), (2, .int v2)]) C.x C.b dX7_raiseOf_1 rfl hl (by decide) rfl (fun ls hl => ?_)
  exact l2  fu 0 σ _ _ _ h (lv_sub hl [1, 2, 3, 0] rfl) hf
theorem tM_raiseOf : GoodIn lw_all (wsV RX7 364 RX7 yX7_raiseOf (ws_ yX7_raiseOf cX7_raiseOf 4 (some .int))) := lw_V q2153 q2155 qs123 q147 q2156
theorem cM_raiseOf {p : Program} {l : Launch} {e : Env} {R : Room} {s : State} {m : MethodId} {args : Array Value} {below : List Frame} {meth : Method} {c : Code} {H : Heap} {locs : List Loc} {Q : State → Prop} {cc : ByteArray} {pc : Nat} {ls : Array Slot} {st : List Value} {nL d : Nat} {D : va_G} {ty : Nat → ClassId} {A : Nat → Prop} {o : Nat} {ad : Nat → Nat} {rs : va_W} {σ : PS} {v1 : Int32} {v2 : Int32} {q : (Int32 × PS)} (C : Cx p R s m args c cc nL RX7 D ty A d) (h : Hw D A s H locs (wM ty o ad σ ++ rs)) (hc : M_raiseOf σ v1 v2 = some q) (hd : 6 + 1 ≤ d) (hls : ls.size = nL) (hcat : (st.map fun v => v.category).sum ≤ 8) (dec : decode cc pc = .ok (.invokevirtual 364, 3)) (kk : ∀ (H : Heap) (locs : List Loc), Hw D A s H locs (wM ty o ad q.2 ++ rs) → W p l e R s m args below meth c H locs 0 0 Q (F0 m (pc + 3) ls (.int (q.1) :: st))) : W p l e R s m args below meth c H locs 0 0 Q (F0 m pc ls (.int v2 :: .int v1 :: .ref o :: st)) := KI.callV (As := [.int v1, .int v2]) C (kM_raiseOf l hc) tM_raiseOf ⟨rfl, by decide, by decide, by show _ = some 2; decide +kernel⟩ 0 7 rfl rfl rfl hd (by decide) (Nat.zero_le _) (Nat.zero_le _) h hls rfl hcat dec kk
def M_rescue_j72 (σ : PS) (v2 : Int32) : Option (Int32 × PS) := some (v2, σ)
def M_rescue_j66 (σ : PS) (v1 : Int32) (v2 : Int32) (v3 : Int32) (v4 : Int32) : Option ((Int32 × Int32 × Int32 × PS) ⊕ (Int32 × PS)) := nm (v4 + 1) (fun v4_1 => some (.inl (v2, v3, v4_1, σ)))
def M_rescue_l25 (v1 : Int32) (v2 : Int32) (v3 : Int32) (v4 : Int32) (σ : PS) : Option ((Int32 × Int32 × Int32 × PS) ⊕ (Int32 × PS)) := ix 5 40 (if (rA σ 17 5) ≤ v4 then up (M_rescue_j72 σ v2) else bd (M_raiseOf σ v4 v1) (fun q_2 => nm (q_2.1) (fun v5_3 => if v5_3 = ((-1)) then M_rescue_j66 q_2.2 v1 v2 v3 v4 else if v5_3 < v3 then M_rescue_j66 q_2.2 v1 v4 v5_3 v4 else M_rescue_j66 q_2.2 v1 v2 v3 v4)))
def M_rescue_B25 (v1 : Int32) : (Int32 × Int32 × Int32 × PS) → Option ((Int32 × Int32 × Int32 × PS) ⊕ (Int32 × PS)) := fun t => M_rescue_l25 v1 t.1 t.2.1 t.2.2.1 t.2.2.2
def M_rescue (σ : PS) (v1 : Int32) : Option (Int32 × PS) := nm (sI σ 0 0) (fun σ_4 => bd (M_isPiece σ_4 v1.toInt64) (fun q_5 => if q_5 = 0 then some ((-2), σ_4) else loop (M_rescue_B25 v1) fu ((-1), 1000000, 0, σ_4)))
set_option maxHeartbeats 4000000 in
theorem kM_rescue (l : Launch) {D : va_G} {ty : Nat → ClassId} {A : Nat → Prop} {o : Nat} {ad : Nat → Nat} {rs : va_W} {σ : PS} {σ' : PS} {v1 : Int32} {r : Int32} (hf : M_rescue σ v1 = some (r, σ')) : KI l yX7_rescue cX7_rescue 6 .int 7 D ty A (wM ty o ad σ ++ rs) (wM ty o ad σ' ++ rs) [.ref o, .int v1] r := by
  refine KI.of (by decide) (Nat.le_of_ble_eq_true rfl) ?_
  intro p e R s m args below meth c Q C hR
  have C : Cx p R s m args c cX7_rescue 6 RX7 D ty A 7 := C
  have hR : ∀ (v : Int32) (σ2 : PS), (v, σ2) = (r, σ') → ∀ (H : Heap) (locs : List Loc) (pc : Nat) (ls : Array Slot), Hw D A s H locs (wM ty o ad σ2 ++ rs) → narrow .int (.int v) = .int v → decode cX7_rescue pc = .ok (.ireturn, 1) → W p l e R s m args below meth c H locs 0 0 Q (F0 m pc ls [.int v]) := by intro v σ2 e9; cases e9; exact hR
  have j72 : ∀ (σ : PS) (v2 : Int32) (H : Heap) (locs : List Loc) (ls : Array Slot), Hw D A s H locs (wM ty o ad σ ++ rs) → lv_has ls 6 [(2, .int v2)] → M_rescue_j72 σ v2 = some (r, σ') → W p l e R s m args below meth c H locs 0 0 Q (F0 m 72 ls []) := by
    intro σ v2 H locs ls h hl hf
    unfold M_rescue_j72 at hf
    refine lv_iload_n C.x C.b dX7_rescue_72 rfl (lv_at hl 0 rfl) ?_
    exact hR _ _ (some_k hf) _ _ _ _ h rfl dX7_rescue_73
  have l25 : ∀ (n25 : Nat) (v2 : Int32) (v3 : Int32) (v4 : Int32) (σ : PS) (H : Heap) (locs : List Loc) (ls : Array Slot), Hw D A s H locs (wM ty o ad σ ++ rs) → lv_has ls 6 [(0, .ref o), (1, .int v1), (2, .int v2), (3, .int v3), (4, .int v4)] → loop (M_rescue_B25 v1) n25 (v2, v3, v4, σ) = some (r, σ') → W p l e R s m args below meth c H locs 0 0 Q (F0 m 25 ls []) := by
    intro n25
    induction n25 with
    | zero => intro v2 v3 v4 σ H locs ls h hl hf; exact (none_k hf).elim
    | succ n25 ih25 =>
      have j66 : ∀ (σ : PS) (v2 : Int32) (v3 : Int32) (v4 : Int32) (H : Heap) (locs : List Loc) (ls : Array Slot), Hw D A s H locs (wM ty o ad σ ++ rs) → lv_has ls 6 [(0, .ref o), (1, .int v1), (2, .int v2), (3, .int v3), (4, .int v4)] → bl (M_rescue_B25 v1) n25 (M_rescue_j66 σ v1 v2 v3 v4) = some (r, σ') → W p l e R s m args below meth c H locs 0 0 Q (F0 m 66 ls []) := by
        intro σ v2 v3 v4 H locs ls h hl hf
        unfold M_rescue_j66 at hf
        obtain ⟨v4_1, e9, hf⟩ := nm_k (K := bl (M_rescue_B25 v1) n25) hf
        refine lv_iinc (v := v4_1) (lv' := [(4, .int v4_1), (0, .ref o), (1, .int v1), (2, .int v2), (3, .int v3)]) C.x C.b dX7_rescue_66 hl (k := 4) rfl (iinc_e (k := 1) (by decide) e9) (by decide) rfl (fun ls hl => ?_)
        refine lv_goto (tgt := 25) C.x C.b dX7_rescue_69 (by decide) ?_
        exact ih25 v2 v3 v4_1 σ _ _ _ h (lv_sub hl [1, 2, 3, 4, 0] rfl) hf
      intro v2 v3 v4 σ H locs ls h hl hf
      have hf : bl (M_rescue_B25 v1) n25 (M_rescue_l25 v1 v2 v3 v4 σ) = some (r, σ') := hf
      unfold M_rescue_l25 at hf
      refine lv_iload C.x C.b dX7_rescue_25 (lv_at hl 4 rfl) ?_
      refine lv_aload_n C.x C.b dX7_rescue_27 rfl (lv_at hl 0 rfl) ?_
      refine m_g17 C h dX7_rescue_28 ?_
      refine lv_iconst (v := 5) C.x C.b dX7_rescue_31 (by decide) ?_
      obtain ⟨hi, hf⟩ := ix_k (K := bl (M_rescue_B25 v1) n25) rfl hf
      refine m_a17 C h hi dX7_rescue_32 ?_
      refine lv_icmp_ge (tgt := 72) C.x C.b dX7_rescue_33 (by decide) (fun c9 => ?_) (fun c9 => ?_)
      · have hf := if_t (K := bl (M_rescue_B25 v1) n25) c9 hf
        have hf := bl_upK (K := fun x => x) hf
        exact j72 σ v2 _ _ _ h (lv_sub hl [2] rfl) hf
      · have hf := if_f (K := bl (M_rescue_B25 v1) n25) c9 hf
        refine lv_aload_n C.x C.b dX7_rescue_36 rfl (lv_at hl 0 rfl) ?_
        refine lv_iload C.x C.b dX7_rescue_37 (lv_at hl 4 rfl) ?_
        refine lv_iload_n C.x C.b dX7_rescue_39 rfl (lv_at hl 1 rfl) ?_
        obtain ⟨q_2, hc, hf⟩ := bd_k (K := bl (M_rescue_B25 v1) n25) rfl hf
        refine cM_raiseOf C h hc (Nat.le_of_ble_eq_true rfl) hl.1 (Nat.le_of_ble_eq_true rfl) dX7_rescue_40 (fun H locs h => ?_)
        obtain ⟨v5_3, e9, hf⟩ := nm_k (K := bl (M_rescue_B25 v1) n25) hf
        refine lv_topI e9 ?_
        refine lv_istore (lv' := [(5, .int v5_3), (0, .ref o), (1, .int v1), (2, .int v2), (3, .int v3), (4, .int v4)]) C.x C.b dX7_rescue_43 hl (by decide) rfl (fun ls hl => ?_)
        refine lv_iload C.x C.b dX7_rescue_45 (lv_at hl 0 rfl) ?_
        refine lv_iconst (v := (-1)) C.x C.b dX7_rescue_47 (by decide) ?_
        refine lv_icmp_eq (tgt := 66) C.x C.b dX7_rescue_48 (by decide) (fun c9 => ?_) (fun c9 => ?_)
        · have hf := if_t (K := bl (M_rescue_B25 v1) n25) c9 hf
          exact j66 q_2.2 v2 v3 v4 _ _ _ h (lv_sub hl [1, 2, 3, 4, 5] rfl) hf
        · have hf := if_f (K := bl (M_rescue_B25 v1) n25) c9 hf
          refine lv_iload C.x C.b dX7_rescue_51 (lv_at hl 0 rfl) ?_
          refine lv_iload_n C.x C.b dX7_rescue_53 rfl (lv_at hl 4 rfl) ?_
          refine lv_icmp_lt (tgt := 60) C.x C.b dX7_rescue_54 (by decide) (fun c9 => ?_) (fun c9 => ?_)
          · have hf := if_t (K := bl (M_rescue_B25 v1) n25) c9 hf
            refine lv_iload C.x C.b dX7_rescue_60 (lv_at hl 5 rfl) ?_
            refine lv_istore_n (lv' := [(2, .int v4), (5, .int v5_3), (0, .ref o), (1, .int v1), (3, .int v3), (4, .int v4)]) C.x C.b dX7_rescue_62 rfl hl (by decide) rfl (fun ls hl => ?_)
            refine lv_iload C.x C.b dX7_rescue_63 (lv_at hl 1 rfl) ?_
            refine lv_istore_n (lv' := [(3, .int v5_3), (2, .int v4), (5, .int v5_3), (0, .ref o), (1, .int v1), (4, .int v4)]) C.x C.b dX7_rescue_65 rfl hl (by decide) rfl (fun ls hl => ?_)
            exact j66 q_2.2 v4 v5_3 v4 _ _ _ h (lv_sub hl [3, 4, 1, 0, 5] rfl) hf
          · have hf := if_f (K := bl (M_rescue_B25 v1) n25) c9 hf
            refine lv_goto (tgt := 66) C.x C.b dX7_rescue_57 (by decide) ?_
            exact j66 q_2.2 v2 v3 v4 _ _ _ h (lv_sub hl [1, 2, 3, 4, 5] rfl) hf
  intro H locs ls h hl
  have hl : lv_has ls 6 [(0, .ref o), (1, .int v1)] := hl
  unfold M_rescue at hf
  refine lv_aload_n C.x C.b dX7_rescue_0 rfl (lv_at hl 0 rfl) ?_
  refine lv_iconst (v := 0) C.x C.b dX7_rescue_1 (by decide) ?_
  obtain ⟨σ_4, e9, hf⟩ := nm_k (K := fun x => x) hf
  refine m_p0 C h e9 dX7_rescue_2 (fun H locs h => ?_)
  refine lv_aload_n C.x C.b dX7_rescue_5 rfl (lv_at hl 0 rfl) ?_
  refine lv_iload_n C.x C.b dX7_rescue_6 rfl (lv_at hl 1 rfl) ?_
  refine lv_i2l C.x C.b dX7_rescue_7 rfl ?_
  obtain ⟨q_5, hc, hf⟩ := bd_k (K := fun x => x) rfl hf
  refine cM_isPiece C h hc (Nat.le_of_ble_eq_true rfl) hl.1 (Nat.le_of_ble_eq_true rfl) dX7_rescue_8 (fun H locs h => ?_)
  refine lv_if_ne (tgt := 17) C.x C.b dX7_rescue_11 (by decide) (fun c9 => ?_) (fun c9 => ?_)
  · have hf := if_f (K := fun x => x) c9 hf
    refine lv_iconst (v := (-1)) C.x C.b dX7_rescue_17 (by decide) ?_
    refine lv_istore_n (lv' := [(2, .int ((-1))), (0, .ref o), (1, .int v1)]) C.x C.b dX7_rescue_18 rfl hl (by decide) rfl (fun ls hl => ?_)
    refine lv_ldc (v := 1000000) C.x C.b C.own (C.ts _ q1723) dX7_rescue_19 ?_
    refine lv_istore_n (lv' := [(3, .int 1000000), (2, .int ((-1))), (0, .ref o), (1, .int v1)]) C.x C.b dX7_rescue_21 rfl hl (by decide) rfl (fun ls hl => ?_)
    refine lv_iconst (v := 0) C.x C.b dX7_rescue_22 (by decide) ?_
    refine lv_istore (lv' := [(4, .int 0), (3, .int 1000000), (2, .int ((-1))), (0, .ref o), (1, .int v1)]) C.x C.b dX7_rescue_23 hl (by decide) rfl (fun ls hl => ?_)
    exact l25  fu ((-1)) 1000000 0 σ_4 _ _ _ h (lv_sub hl [3, 4, 2, 1, 0] rfl) hf
  · have hf := if_t (K := fun x => x) c9 hf
    refine lv_bipush (v := (-2)) C.x C.b dX7_rescue_14 (by decide) ?_
    exact hR _ _ (some_k hf) _ _ _ _ h rfl dX7_rescue_16
def M_laysSeen_j91 (σ : PS) : Option PS := some σ
def M_laysSeen_j85 (σ : PS) (v1 : Int32) (v2 : Int32) (v3 : Int32) : Option ((Int32 × PS) ⊕ PS) := nm (v3 + 1) (fun v3_1 => some (.inl (v3_1, σ)))
def M_laysSeen_j77 (σ : PS) (v1 : Int32) (v2 : Int32) (v3 : Int32) (x0 : Int32) : Option ((Int32 × PS) ⊕ PS) := nm (sI σ 37 x0) (fun σ_2 => nm (sI σ_2 38 v3) (fun σ_3 => M_laysSeen_j85 σ_3 v1 v2 v3))
def M_laysSeen_l17 (v1 : Int32) (v2 : Int32) (v3 : Int32) (σ : PS) : Option ((Int32 × PS) ⊕ PS) := if 600 < v3 then up (M_laysSeen_j91 σ) else bd (M_lays σ) (fun q_4 => ix v2 7 (nm (wA q_4 27 v2 v3) (fun σ_5 => bd (M_runs σ_5) (fun q_6 => bd (M_isSo q_6 v1) (fun q_7 => if q_7 = 0 then M_laysSeen_j85 q_6 v1 v2 v3 else nm (sI q_6 36 ((gI q_6 36) + 1)) (fun σ_8 => if (gI σ_8 37) = ((-1)) then M_laysSeen_j77 σ_8 v1 v2 v3 v3 else M_laysSeen_j77 σ_8 v1 v2 v3 (gI σ_8 37)))))))
def M_laysSeen_B17 (v1 : Int32) (v2 : Int32) : (Int32 × PS) → Option ((Int32 × PS) ⊕ PS) := fun t => M_laysSeen_l17 v1 v2 t.1 t.2
def M_laysSeen (σ : PS) (v1 : Int32) (v2 : Int32) : Option PS := nm (sI σ 36 0) (fun σ_9 => nm (sI σ_9 37 ((-1))) (fun σ_10 => nm (sI σ_10 38 ((-1))) (fun σ_11 => loop (M_laysSeen_B17 v1 v2) fu (0, σ_11))))
set_option maxHeartbeats 4000000 in
theorem kM_laysSeen (l : Launch) {D : va_G} {ty : Nat → ClassId} {A : Nat → Prop} {o : Nat} {ad : Nat → Nat} {rs : va_W} {σ : PS} {σ' : PS} {v1 : Int32} {v2 : Int32} (hf : M_laysSeen σ v1 v2 = some σ') : KV l yX7_laysSeen cX7_laysSeen 4 5 D ty A (wM ty o ad σ ++ rs) (wM ty o ad σ' ++ rs) [.ref o, .int v1, .int v2] := by
  refine KV.of (by decide) (Nat.le_of_ble_eq_true rfl) ?_
  intro p e R s m args below meth c Q C hR
  have C : Cx p R s m args c cX7_laysSeen 4 RX7 D ty A 5 := C
  have hR : ∀ (σ2 : PS), σ2 = σ' → ∀ (H : Heap) (locs : List Loc) (pc : Nat) (ls : Array Slot), Hw D A s H locs (wM ty o ad σ2 ++ rs) → decode cX7_laysSeen pc = .ok (.return_, 1) → W p l e R s m args below meth c H locs 0 0 Q (F0 m pc ls []) := by intro σ2 e9; cases e9; exact hR
  have j91 : ∀ (σ : PS) (H : Heap) (locs : List Loc) (ls : Array Slot), Hw D A s H locs (wM ty o ad σ ++ rs) → lv_has ls 4 [] → M_laysSeen_j91 σ = some σ' → W p l e R s m args below meth c H locs 0 0 Q (F0 m 91 ls []) := by
    intro σ H locs ls h hl hf
    unfold M_laysSeen_j91 at hf
    exact hR _ (some_k hf) _ _ _ _ h dX7_laysSeen_91
  have l17 : ∀ (n17 : Nat) (v3 : Int32) (σ : PS) (H : Heap) (locs : List Loc) (ls : Array Slot), Hw D A s H locs (wM ty o ad σ ++ rs) → lv_has ls 4 [(0, .ref o), (1, .int v1), (2, .int v2), (3, .int v3)] → loop (M_laysSeen_B17 v1 v2) n17 (v3, σ) = some σ' → W p l e R s m args below meth c H locs 0 0 Q (F0 m 17 ls []) := by
    intro n17
    induction n17 with
    | zero => intro v3 σ H locs ls h hl hf; exact (none_k hf).elim
    | succ n17 ih17 =>
      have j85 : ∀ (σ : PS) (v3 : Int32) (H : Heap) (locs : List Loc) (ls : Array Slot), Hw D A s H locs (wM ty o ad σ ++ rs) → lv_has ls 4 [(0, .ref o), (1, .int v1), (2, .int v2), (3, .int v3)] → bl (M_laysSeen_B17 v1 v2) n17 (M_laysSeen_j85 σ v1 v2 v3) = some σ' → W p l e R s m args below meth c H locs 0 0 Q (F0 m 85 ls []) := by
        intro σ v3 H locs ls h hl hf
        unfold M_laysSeen_j85 at hf
        obtain ⟨v3_1, e9, hf⟩ := nm_k (K := bl (M_laysSeen_B17 v1 v2) n17) hf
        refine lv_iinc (v := v3_1) (lv' := [(3, .int v3_1), (0, .ref o), (1, .int v1), (2, .int v2)]) C.x C.b dX7_laysSeen_85 hl (k := 3) rfl (iinc_e (k := 1) (by decide) e9) (by decide) rfl (fun ls hl => ?_)
        refine lv_goto (tgt := 17) C.x C.b dX7_laysSeen_88 (by decide) ?_
        exact ih17 v3_1 σ _ _ _ h (lv_sub hl [1, 2, 3, 0] rfl) hf
      have j77 : ∀ (σ : PS) (v3 : Int32) (x0 : Int32) (H : Heap) (locs : List Loc) (ls : Array Slot), Hw D A s H locs (wM ty o ad σ ++ rs) → lv_has ls 4 [(0, .ref o), (1, .int v1), (2, .int v2), (3, .int v3)] → bl (M_laysSeen_B17 v1 v2) n17 (M_laysSeen_j77 σ v1 v2 v3 x0) = some σ' → W p l e R s m args below meth c H locs 0 0 Q (F0 m 77 ls [.int x0, .ref o]) := by
        intro σ v3 x0 H locs ls h hl hf
        unfold M_laysSeen_j77 at hf
        obtain ⟨σ_2, e9, hf⟩ := nm_k (K := bl (M_laysSeen_B17 v1 v2) n17) hf
        refine m_p37 C h e9 dX7_laysSeen_77 (fun H locs h => ?_)
        refine lv_aload_n C.x C.b dX7_laysSeen_80 rfl (lv_at hl 0 rfl) ?_
        refine lv_iload_n C.x C.b dX7_laysSeen_81 rfl (lv_at hl 3 rfl) ?_
        obtain ⟨σ_3, e9, hf⟩ := nm_k (K := bl (M_laysSeen_B17 v1 v2) n17) hf
        refine m_p38 C h e9 dX7_laysSeen_82 (fun H locs h => ?_)
        exact j85 σ_3 v3 _ _ _ h (lv_sub hl [0, 1, 2, 3] rfl) hf
      intro v3 σ H locs ls h hl hf
      have hf : bl (M_laysSeen_B17 v1 v2) n17 (M_laysSeen_l17 v1 v2 v3 σ) = some σ' := hf
      unfold M_laysSeen_l17 at hf
      refine lv_iload_n C.x C.b dX7_laysSeen_17 rfl (lv_at hl 3 rfl) ?_
      refine lv_sipush (v := 600) C.x C.b dX7_laysSeen_18 (by decide) ?_
      refine lv_icmp_gt (tgt := 91) C.x C.b dX7_laysSeen_21 (by decide) (fun c9 => ?_) (fun c9 => ?_)
      · have hf := if_t (K := bl (M_laysSeen_B17 v1 v2) n17) c9 hf
        have hf := bl_upK (K := fun x => x) hf
        exact j91 σ _ _ _ h (lv_sub hl [] rfl) hf
      · have hf := if_f (K := bl (M_laysSeen_B17 v1 v2) n17) c9 hf
        refine lv_aload_n C.x C.b dX7_laysSeen_24 rfl (lv_at hl 0 rfl) ?_
        obtain ⟨q_4, hc, hf⟩ := bd_k (K := bl (M_laysSeen_B17 v1 v2) n17) rfl hf
        refine cM_lays C h hc (Nat.le_of_ble_eq_true rfl) hl.1 (Nat.le_of_ble_eq_true rfl) dX7_laysSeen_25 (fun H locs h => ?_)
        refine lv_aload_n C.x C.b dX7_laysSeen_28 rfl (lv_at hl 0 rfl) ?_
        refine m_g27 C h dX7_laysSeen_29 ?_
        refine lv_iload_n C.x C.b dX7_laysSeen_32 rfl (lv_at hl 2 rfl) ?_
        refine lv_iload_n C.x C.b dX7_laysSeen_33 rfl (lv_at hl 3 rfl) ?_
        obtain ⟨hi, hf⟩ := ix_k (K := bl (M_laysSeen_B17 v1 v2) n17) rfl hf
        obtain ⟨σ_5, e9, hf⟩ := nm_k (K := bl (M_laysSeen_B17 v1 v2) n17) hf
        refine m_w27 C h hi e9 dX7_laysSeen_34 (fun H locs h => ?_)
        refine lv_aload_n C.x C.b dX7_laysSeen_35 rfl (lv_at hl 0 rfl) ?_
        obtain ⟨q_6, hc, hf⟩ := bd_k (K := bl (M_laysSeen_B17 v1 v2) n17) rfl hf
        refine cM_runs C h hc (Nat.le_of_ble_eq_true rfl) hl.1 (Nat.le_of_ble_eq_true rfl) dX7_laysSeen_36 (fun H locs h => ?_)
        refine lv_aload_n C.x C.b dX7_laysSeen_39 rfl (lv_at hl 0 rfl) ?_
        refine lv_iload_n C.x C.b dX7_laysSeen_40 rfl (lv_at hl 1 rfl) ?_
        obtain ⟨q_7, hc, hf⟩ := bd_k (K := bl (M_laysSeen_B17 v1 v2) n17) rfl hf
        refine cM_isSo C h hc (Nat.le_of_ble_eq_true rfl) hl.1 (Nat.le_of_ble_eq_true rfl) dX7_laysSeen_41 (fun H locs h => ?_)
        refine lv_if_ne (tgt := 50) C.x C.b dX7_laysSeen_44 (by decide) (fun c9 => ?_) (fun c9 => ?_)
        · have hf := if_f (K := bl (M_laysSeen_B17 v1 v2) n17) c9 hf
          refine lv_aload_n C.x C.b dX7_laysSeen_50 rfl (lv_at hl 0 rfl) ?_
          refine lv_dup C.x C.b dX7_laysSeen_51 rfl ?_
          refine m_g36 C h dX7_laysSeen_52 ?_
          refine lv_iconst (v := 1) C.x C.b dX7_laysSeen_55 (by decide) ?_
          refine lv_iadd C.x C.b dX7_laysSeen_56 ?_
          obtain ⟨σ_8, e9, hf⟩ := nm_k (K := bl (M_laysSeen_B17 v1 v2) n17) hf
          refine m_p36 C h e9 dX7_laysSeen_57 (fun H locs h => ?_)
          refine lv_aload_n C.x C.b dX7_laysSeen_60 rfl (lv_at hl 0 rfl) ?_
          refine lv_aload_n C.x C.b dX7_laysSeen_61 rfl (lv_at hl 0 rfl) ?_
          refine m_g37 C h dX7_laysSeen_62 ?_
          refine lv_iconst (v := (-1)) C.x C.b dX7_laysSeen_65 (by decide) ?_
          refine lv_icmp_ne (tgt := 73) C.x C.b dX7_laysSeen_66 (by decide) (fun c9 => ?_) (fun c9 => ?_)
          · have hf := if_f (K := bl (M_laysSeen_B17 v1 v2) n17) c9 hf
            refine lv_aload_n C.x C.b dX7_laysSeen_73 rfl (lv_at hl 0 rfl) ?_
            refine m_g37 C h dX7_laysSeen_74 ?_
            exact j77 σ_8 v3 (gI σ_8 37) _ _ _ h (lv_sub hl [0, 1, 2, 3] rfl) hf
          · have hf := if_t (K := bl (M_laysSeen_B17 v1 v2) n17) c9 hf
            refine lv_iload_n C.x C.b dX7_laysSeen_69 rfl (lv_at hl 3 rfl) ?_
            refine lv_goto (tgt := 77) C.x C.b dX7_laysSeen_70 (by decide) ?_
            exact j77 σ_8 v3 v3 _ _ _ h (lv_sub hl [0, 1, 2, 3] rfl) hf
        · have hf := if_t (K := bl (M_laysSeen_B17 v1 v2) n17) c9 hf
          refine lv_goto (tgt := 85) C.x C.b dX7_laysSeen_47 (by decide) ?_
          exact j85 q_6 v3 _ _ _ h (lv_sub hl [0, 1, 2, 3] rfl) hf
  intro H locs ls h hl
  have hl : lv_has ls 4 [(0, .ref o), (1, .int v1), (2, .int v2)] := hl
  unfold M_laysSeen at hf
  refine lv_aload_n C.x C.b dX7_laysSeen_0 rfl (lv_at hl 0 rfl) ?_
  refine lv_iconst (v := 0) C.x C.b dX7_laysSeen_1 (by decide) ?_
  obtain ⟨σ_9, e9, hf⟩ := nm_k (K := fun x => x) hf
  refine m_p36 C h e9 dX7_laysSeen_2 (fun H locs h => ?_)
  refine lv_aload_n C.x C.b dX7_laysSeen_5 rfl (lv_at hl 0 rfl) ?_
  refine lv_iconst (v := (-1)) C.x C.b dX7_laysSeen_6 (by decide) ?_
  obtain ⟨σ_10, e9, hf⟩ := nm_k (K := fun x => x) hf
  refine m_p37 C h e9 dX7_laysSeen_7 (fun H locs h => ?_)
  refine lv_aload_n C.x C.b dX7_laysSeen_10 rfl (lv_at hl 0 rfl) ?_
  refine lv_iconst (v := (-1)) C.x C.b dX7_laysSeen_11 (by decide) ?_
  obtain ⟨σ_11, e9, hf⟩ := nm_k (K := fun x => x) hf
  refine m_p38 C h e9 dX7_laysSeen_12 (fun H locs h => ?_)
  refine lv_iconst (v := 0) C.x C.b dX7_laysSeen_15 (by decide) ?_
  refine lv_istore_n (lv' := [(3, .int 0), (0, .ref o), (1, .int v1), (2, .int v2)]) C.x C.b dX7_laysSeen_16 rfl hl (by decide) rfl (fun ls hl => ?_)
  exact l17  fu 0 σ_11 _ _ _ h (lv_sub hl [1, 2, 3, 0] rfl) hf
theorem tM_laysSeen : GoodIn lw_all (wsV RX7 388 RX7 yX7_laysSeen (ws_ yX7_laysSeen cX7_laysSeen 4 none)) := lw_V q2182 q2184 qs126 q147 q2185
theorem cM_laysSeen {p : Program} {l : Launch} {e : Env} {R : Room} {s : State} {m : MethodId} {args : Array Value} {below : List Frame} {meth : Method} {c : Code} {H : Heap} {locs : List Loc} {Q : State → Prop} {cc : ByteArray} {pc : Nat} {ls : Array Slot} {st : List Value} {nL d : Nat} {D : va_G} {ty : Nat → ClassId} {A : Nat → Prop} {o : Nat} {ad : Nat → Nat} {rs : va_W} {σ : PS} {v1 : Int32} {v2 : Int32} {q : PS} (C : Cx p R s m args c cc nL RX7 D ty A d) (h : Hw D A s H locs (wM ty o ad σ ++ rs)) (hc : M_laysSeen σ v1 v2 = some q) (hd : 5 + 1 ≤ d) (hls : ls.size = nL) (hcat : (st.map fun v => v.category).sum ≤ 8) (dec : decode cc pc = .ok (.invokevirtual 388, 3)) (kk : ∀ (H : Heap) (locs : List Loc), Hw D A s H locs (wM ty o ad q ++ rs) → W p l e R s m args below meth c H locs 0 0 Q (F0 m (pc + 3) ls (st))) : W p l e R s m args below meth c H locs 0 0 Q (F0 m pc ls (.int v2 :: .int v1 :: .ref o :: st)) := KV.callV (As := [.int v1, .int v2]) C (kM_laysSeen l hc) tM_laysSeen ⟨rfl, by decide, by decide, by show _ = some 2; decide +kernel⟩ 0 7 rfl rfl rfl hd (by decide) (Nat.zero_le _) (Nat.zero_le _) h hls rfl hcat dec kk
def M_low (σ : PS) (v1 : Int32) (v2 : Int32) : Option (Int32 × PS) := nm (sI σ 0 0) (fun σ_1 => bd (M_isZone σ_1 v2) (fun q_2 => bd (M_whyNot σ_1 v1 q_2) (fun q_3 => if q_3 = 0 then bd (M_laysSeen σ_1 v1 v2) (fun q_4 => some (gI q_4 37, q_4)) else some (q_3, σ_1))))
set_option maxHeartbeats 4000000 in
theorem kM_low (l : Launch) {D : va_G} {ty : Nat → ClassId} {A : Nat → Prop} {o : Nat} {ad : Nat → Nat} {rs : va_W} {σ : PS} {σ' : PS} {v1 : Int32} {v2 : Int32} {r : Int32} (hf : M_low σ v1 v2 = some (r, σ')) : KI l yX7_low cX7_low 4 .int 6 D ty A (wM ty o ad σ ++ rs) (wM ty o ad σ' ++ rs) [.ref o, .int v1, .int v2] r := by
  refine KI.of (by decide) (Nat.le_of_ble_eq_true rfl) ?_
  intro p e R s m args below meth c Q C hR
  have C : Cx p R s m args c cX7_low 4 RX7 D ty A 6 := C
  have hR : ∀ (v : Int32) (σ2 : PS), (v, σ2) = (r, σ') → ∀ (H : Heap) (locs : List Loc) (pc : Nat) (ls : Array Slot), Hw D A s H locs (wM ty o ad σ2 ++ rs) → narrow .int (.int v) = .int v → decode cX7_low pc = .ok (.ireturn, 1) → W p l e R s m args below meth c H locs 0 0 Q (F0 m pc ls [.int v]) := by intro v σ2 e9; cases e9; exact hR
  intro H locs ls h hl
  have hl : lv_has ls 4 [(0, .ref o), (1, .int v1), (2, .int v2)] := hl
  unfold M_low at hf
  refine lv_aload_n C.x C.b dX7_low_0 rfl (lv_at hl 0 rfl) ?_
  refine lv_iconst (v := 0) C.x C.b dX7_low_1 (by decide) ?_
  obtain ⟨σ_1, e9, hf⟩ := nm_k (K := fun x => x) hf
  refine m_p0 C h e9 dX7_low_2 (fun H locs h => ?_)
  refine lv_aload_n C.x C.b dX7_low_5 rfl (lv_at hl 0 rfl) ?_
  refine lv_iload_n C.x C.b dX7_low_6 rfl (lv_at hl 1 rfl) ?_
  refine lv_aload_n C.x C.b dX7_low_7 rfl (lv_at hl 0 rfl) ?_
  refine lv_iload_n C.x C.b dX7_low_8 rfl (lv_at hl 2 rfl) ?_
  obtain ⟨q_2, hc, hf⟩ := bd_k (K := fun x => x) rfl hf
  refine cM_isZone C h hc (Nat.le_of_ble_eq_true rfl) hl.1 (Nat.le_of_ble_eq_true rfl) dX7_low_9 (fun H locs h => ?_)
  obtain ⟨q_3, hc, hf⟩ := bd_k (K := fun x => x) rfl hf
  refine cM_whyNot C h hc (Nat.le_of_ble_eq_true rfl) hl.1 (Nat.le_of_ble_eq_true rfl) dX7_low_12 (fun H locs h => ?_)
  refine lv_istore_n (lv' := [(3, .int q_3), (0, .ref o), (1, .int v1), (2, .int v2)]) C.x C.b dX7_low_15 rfl hl (by decide) rfl (fun ls hl => ?_)
  refine lv_iload_n C.x C.b dX7_low_16 rfl (lv_at hl 0 rfl) ?_
  refine lv_if_eq (tgt := 22) C.x C.b dX7_low_17 (by decide) (fun c9 => ?_) (fun c9 => ?_)
  · have hf := if_t (K := fun x => x) c9 hf
    refine lv_aload_n C.x C.b dX7_low_22 rfl (lv_at hl 1 rfl) ?_
    refine lv_iload_n C.x C.b dX7_low_23 rfl (lv_at hl 2 rfl) ?_
    refine lv_iload_n C.x C.b dX7_low_24 rfl (lv_at hl 3 rfl) ?_
    obtain ⟨q_4, hc, hf⟩ := bd_k (K := fun x => x) rfl hf
    refine cM_laysSeen C h hc (Nat.le_of_ble_eq_true rfl) hl.1 (Nat.le_of_ble_eq_true rfl) dX7_low_25 (fun H locs h => ?_)
    refine lv_aload_n C.x C.b dX7_low_28 rfl (lv_at hl 1 rfl) ?_
    refine m_g37 C h dX7_low_29 ?_
    exact hR _ _ (some_k hf) _ _ _ _ h rfl dX7_low_32
  · have hf := if_f (K := fun x => x) c9 hf
    refine lv_iload_n C.x C.b dX7_low_20 rfl (lv_at hl 0 rfl) ?_
    exact hR _ _ (some_k hf) _ _ _ _ h rfl dX7_low_21
def M_high (σ : PS) (v1 : Int32) (v2 : Int32) : Option (Int32 × PS) := nm (sI σ 0 0) (fun σ_1 => bd (M_isZone σ_1 v2) (fun q_2 => bd (M_whyNot σ_1 v1 q_2) (fun q_3 => if q_3 = 0 then bd (M_laysSeen σ_1 v1 v2) (fun q_4 => some (gI q_4 38, q_4)) else some (q_3, σ_1))))
set_option maxHeartbeats 4000000 in
theorem kM_high (l : Launch) {D : va_G} {ty : Nat → ClassId} {A : Nat → Prop} {o : Nat} {ad : Nat → Nat} {rs : va_W} {σ : PS} {σ' : PS} {v1 : Int32} {v2 : Int32} {r : Int32} (hf : M_high σ v1 v2 = some (r, σ')) : KI l yX7_high cX7_high 4 .int 6 D ty A (wM ty o ad σ ++ rs) (wM ty o ad σ' ++ rs) [.ref o, .int v1, .int v2] r := by
  refine KI.of (by decide) (Nat.le_of_ble_eq_true rfl) ?_
  intro p e R s m args below meth c Q C hR
  have C : Cx p R s m args c cX7_high 4 RX7 D ty A 6 := C
  have hR : ∀ (v : Int32) (σ2 : PS), (v, σ2) = (r, σ') → ∀ (H : Heap) (locs : List Loc) (pc : Nat) (ls : Array Slot), Hw D A s H locs (wM ty o ad σ2 ++ rs) → narrow .int (.int v) = .int v → decode cX7_high pc = .ok (.ireturn, 1) → W p l e R s m args below meth c H locs 0 0 Q (F0 m pc ls [.int v]) := by intro v σ2 e9; cases e9; exact hR
  intro H locs ls h hl
  have hl : lv_has ls 4 [(0, .ref o), (1, .int v1), (2, .int v2)] := hl
  unfold M_high at hf
  refine lv_aload_n C.x C.b dX7_high_0 rfl (lv_at hl 0 rfl) ?_
  refine lv_iconst (v := 0) C.x C.b dX7_high_1 (by decide) ?_
  obtain ⟨σ_1, e9, hf⟩ := nm_k (K := fun x => x) hf
  refine m_p0 C h e9 dX7_high_2 (fun H locs h => ?_)
  refine lv_aload_n C.x C.b dX7_high_5 rfl (lv_at hl 0 rfl) ?_
  refine lv_iload_n C.x C.b dX7_high_6 rfl (lv_at hl 1 rfl) ?_
  refine lv_aload_n C.x C.b dX7_high_7 rfl (lv_at hl 0 rfl) ?_
  refine lv_iload_n C.x C.b dX7_high_8 rfl (lv_at hl 2 rfl) ?_
  obtain ⟨q_2, hc, hf⟩ := bd_k (K := fun x => x) rfl hf
  refine cM_isZone C h hc (Nat.le_of_ble_eq_true rfl) hl.1 (Nat.le_of_ble_eq_true rfl) dX7_high_9 (fun H locs h => ?_)
  obtain ⟨q_3, hc, hf⟩ := bd_k (K := fun x => x) rfl hf
  refine cM_whyNot C h hc (Nat.le_of_ble_eq_true rfl) hl.1 (Nat.le_of_ble_eq_true rfl) dX7_high_12 (fun H locs h => ?_)
  refine lv_istore_n (lv' := [(3, .int q_3), (0, .ref o), (1, .int v1), (2, .int v2)]) C.x C.b dX7_high_15 rfl hl (by decide) rfl (fun ls hl => ?_)
  refine lv_iload_n C.x C.b dX7_high_16 rfl (lv_at hl 0 rfl) ?_
  refine lv_if_eq (tgt := 22) C.x C.b dX7_high_17 (by decide) (fun c9 => ?_) (fun c9 => ?_)
  · have hf := if_t (K := fun x => x) c9 hf
    refine lv_aload_n C.x C.b dX7_high_22 rfl (lv_at hl 1 rfl) ?_
    refine lv_iload_n C.x C.b dX7_high_23 rfl (lv_at hl 2 rfl) ?_
    refine lv_iload_n C.x C.b dX7_high_24 rfl (lv_at hl 3 rfl) ?_
    obtain ⟨q_4, hc, hf⟩ := bd_k (K := fun x => x) rfl hf
    refine cM_laysSeen C h hc (Nat.le_of_ble_eq_true rfl) hl.1 (Nat.le_of_ble_eq_true rfl) dX7_high_25 (fun H locs h => ?_)
    refine lv_aload_n C.x C.b dX7_high_28 rfl (lv_at hl 1 rfl) ?_
    refine m_g38 C h dX7_high_29 ?_
    exact hR _ _ (some_k hf) _ _ _ _ h rfl dX7_high_32
  · have hf := if_f (K := fun x => x) c9 hf
    refine lv_iload_n C.x C.b dX7_high_20 rfl (lv_at hl 0 rfl) ?_
    exact hR _ _ (some_k hf) _ _ _ _ h rfl dX7_high_21
def M_thicks_j79 (σ : PS) (v4 : Int32) : Option (Int32 × PS) := some (v4, σ)
def M_thicks_j70 (σ : PS) (v1 : Int32) (v2 : Int32) (v5 : Int32) (x0 : Int32) (x1 : Int32) : Option ((Int32 × Int32 × PS) ⊕ (Int32 × PS)) := nm (x1 ||| x0) (fun v4_1 => nm (v5 + 1) (fun v5_2 => some (.inl (v4_1, v5_2, σ))))
def M_thicks_l29 (v1 : Int32) (v2 : Int32) (v4 : Int32) (v5 : Int32) (σ : PS) : Option ((Int32 × Int32 × PS) ⊕ (Int32 × PS)) := if 9 < v5 then up (M_thicks_j79 σ v4) else bd (M_lays σ) (fun q_3 => ix v2 6 (nm (wA q_3 28 v2 v5) (fun σ_4 => bd (M_runs σ_4) (fun q_5 => bd (M_isSo q_5 v1) (fun q_6 => if q_6 = 0 then M_thicks_j70 q_5 v1 v2 v5 0 v4 else M_thicks_j70 q_5 v1 v2 v5 (1 <<< (v5 &&& 31)) v4)))))
def M_thicks_B29 (v1 : Int32) (v2 : Int32) : (Int32 × Int32 × PS) → Option ((Int32 × Int32 × PS) ⊕ (Int32 × PS)) := fun t => M_thicks_l29 v1 v2 t.1 t.2.1 t.2.2
def M_thicks (σ : PS) (v1 : Int32) (v2 : Int32) : Option (Int32 × PS) := nm (sI σ 0 0) (fun σ_7 => bd (M_isPiece σ_7 v2.toInt64) (fun q_8 => bd (M_whyNot σ_7 v1 q_8) (fun q_9 => if q_9 = 0 then loop (M_thicks_B29 v1 v2) fu (0, 1, σ_7) else some (q_9, σ_7))))
set_option maxHeartbeats 4000000 in
theorem kM_thicks (l : Launch) {D : va_G} {ty : Nat → ClassId} {A : Nat → Prop} {o : Nat} {ad : Nat → Nat} {rs : va_W} {σ : PS} {σ' : PS} {v1 : Int32} {v2 : Int32} {r : Int32} (hf : M_thicks σ v1 v2 = some (r, σ')) : KI l yX7_thicks cX7_thicks 6 .int 5 D ty A (wM ty o ad σ ++ rs) (wM ty o ad σ' ++ rs) [.ref o, .int v1, .int v2] r := by
  refine KI.of (by decide) (Nat.le_of_ble_eq_true rfl) ?_
  intro p e R s m args below meth c Q C hR
  have C : Cx p R s m args c cX7_thicks 6 RX7 D ty A 5 := C
  have hR : ∀ (v : Int32) (σ2 : PS), (v, σ2) = (r, σ') → ∀ (H : Heap) (locs : List Loc) (pc : Nat) (ls : Array Slot), Hw D A s H locs (wM ty o ad σ2 ++ rs) → narrow .int (.int v) = .int v → decode cX7_thicks pc = .ok (.ireturn, 1) → W p l e R s m args below meth c H locs 0 0 Q (F0 m pc ls [.int v]) := by intro v σ2 e9; cases e9; exact hR
  have j79 : ∀ (σ : PS) (v4 : Int32) (H : Heap) (locs : List Loc) (ls : Array Slot), Hw D A s H locs (wM ty o ad σ ++ rs) → lv_has ls 6 [(4, .int v4)] → M_thicks_j79 σ v4 = some (r, σ') → W p l e R s m args below meth c H locs 0 0 Q (F0 m 79 ls []) := by
    intro σ v4 H locs ls h hl hf
    unfold M_thicks_j79 at hf
    refine lv_iload C.x C.b dX7_thicks_79 (lv_at hl 0 rfl) ?_
    exact hR _ _ (some_k hf) _ _ _ _ h rfl dX7_thicks_81
  have l29 : ∀ (n29 : Nat) (v4 : Int32) (v5 : Int32) (σ : PS) (H : Heap) (locs : List Loc) (ls : Array Slot), Hw D A s H locs (wM ty o ad σ ++ rs) → lv_has ls 6 [(0, .ref o), (1, .int v1), (2, .int v2), (4, .int v4), (5, .int v5)] → loop (M_thicks_B29 v1 v2) n29 (v4, v5, σ) = some (r, σ') → W p l e R s m args below meth c H locs 0 0 Q (F0 m 29 ls []) := by
    intro n29
    induction n29 with
    | zero => intro v4 v5 σ H locs ls h hl hf; exact (none_k hf).elim
    | succ n29 ih29 =>
      have j70 : ∀ (σ : PS) (v5 : Int32) (x0 : Int32) (x1 : Int32) (H : Heap) (locs : List Loc) (ls : Array Slot), Hw D A s H locs (wM ty o ad σ ++ rs) → lv_has ls 6 [(0, .ref o), (1, .int v1), (2, .int v2), (5, .int v5)] → bl (M_thicks_B29 v1 v2) n29 (M_thicks_j70 σ v1 v2 v5 x0 x1) = some (r, σ') → W p l e R s m args below meth c H locs 0 0 Q (F0 m 70 ls [.int x0, .int x1]) := by
        intro σ v5 x0 x1 H locs ls h hl hf
        unfold M_thicks_j70 at hf
        refine lv_ior C.x C.b dX7_thicks_70 ?_
        obtain ⟨v4_1, e9, hf⟩ := nm_k (K := bl (M_thicks_B29 v1 v2) n29) hf
        refine lv_topI e9 ?_
        refine lv_istore (lv' := [(4, .int v4_1), (0, .ref o), (1, .int v1), (2, .int v2), (5, .int v5)]) C.x C.b dX7_thicks_71 hl (by decide) rfl (fun ls hl => ?_)
        obtain ⟨v5_2, e9, hf⟩ := nm_k (K := bl (M_thicks_B29 v1 v2) n29) hf
        refine lv_iinc (v := v5_2) (lv' := [(5, .int v5_2), (4, .int v4_1), (0, .ref o), (1, .int v1), (2, .int v2)]) C.x C.b dX7_thicks_73 hl (k := 4) rfl (iinc_e (k := 1) (by decide) e9) (by decide) rfl (fun ls hl => ?_)
        refine lv_goto (tgt := 29) C.x C.b dX7_thicks_76 (by decide) ?_
        exact ih29 v4_1 v5_2 σ _ _ _ h (lv_sub hl [2, 3, 4, 1, 0] rfl) hf
      intro v4 v5 σ H locs ls h hl hf
      have hf : bl (M_thicks_B29 v1 v2) n29 (M_thicks_l29 v1 v2 v4 v5 σ) = some (r, σ') := hf
      unfold M_thicks_l29 at hf
      refine lv_iload C.x C.b dX7_thicks_29 (lv_at hl 4 rfl) ?_
      refine lv_bipush (v := 9) C.x C.b dX7_thicks_31 (by decide) ?_
      refine lv_icmp_gt (tgt := 79) C.x C.b dX7_thicks_33 (by decide) (fun c9 => ?_) (fun c9 => ?_)
      · have hf := if_t (K := bl (M_thicks_B29 v1 v2) n29) c9 hf
        have hf := bl_upK (K := fun x => x) hf
        exact j79 σ v4 _ _ _ h (lv_sub hl [3] rfl) hf
      · have hf := if_f (K := bl (M_thicks_B29 v1 v2) n29) c9 hf
        refine lv_aload_n C.x C.b dX7_thicks_36 rfl (lv_at hl 0 rfl) ?_
        obtain ⟨q_3, hc, hf⟩ := bd_k (K := bl (M_thicks_B29 v1 v2) n29) rfl hf
        refine cM_lays C h hc (Nat.le_of_ble_eq_true rfl) hl.1 (Nat.le_of_ble_eq_true rfl) dX7_thicks_37 (fun H locs h => ?_)
        refine lv_aload_n C.x C.b dX7_thicks_40 rfl (lv_at hl 0 rfl) ?_
        refine m_g28 C h dX7_thicks_41 ?_
        refine lv_iload_n C.x C.b dX7_thicks_44 rfl (lv_at hl 2 rfl) ?_
        refine lv_iload C.x C.b dX7_thicks_45 (lv_at hl 4 rfl) ?_
        obtain ⟨hi, hf⟩ := ix_k (K := bl (M_thicks_B29 v1 v2) n29) rfl hf
        obtain ⟨σ_4, e9, hf⟩ := nm_k (K := bl (M_thicks_B29 v1 v2) n29) hf
        refine m_w28 C h hi e9 dX7_thicks_47 (fun H locs h => ?_)
        refine lv_aload_n C.x C.b dX7_thicks_48 rfl (lv_at hl 0 rfl) ?_
        obtain ⟨q_5, hc, hf⟩ := bd_k (K := bl (M_thicks_B29 v1 v2) n29) rfl hf
        refine cM_runs C h hc (Nat.le_of_ble_eq_true rfl) hl.1 (Nat.le_of_ble_eq_true rfl) dX7_thicks_49 (fun H locs h => ?_)
        refine lv_iload C.x C.b dX7_thicks_52 (lv_at hl 3 rfl) ?_
        refine lv_aload_n C.x C.b dX7_thicks_54 rfl (lv_at hl 0 rfl) ?_
        refine lv_iload_n C.x C.b dX7_thicks_55 rfl (lv_at hl 1 rfl) ?_
        obtain ⟨q_6, hc, hf⟩ := bd_k (K := bl (M_thicks_B29 v1 v2) n29) rfl hf
        refine cM_isSo C h hc (Nat.le_of_ble_eq_true rfl) hl.1 (Nat.le_of_ble_eq_true rfl) dX7_thicks_56 (fun H locs h => ?_)
        refine lv_if_eq (tgt := 69) C.x C.b dX7_thicks_59 (by decide) (fun c9 => ?_) (fun c9 => ?_)
        · have hf := if_t (K := bl (M_thicks_B29 v1 v2) n29) c9 hf
          refine lv_iconst (v := 0) C.x C.b dX7_thicks_69 (by decide) ?_
          exact j70 q_5 v5 0 v4 _ _ _ h (lv_sub hl [0, 1, 2, 4] rfl) hf
        · have hf := if_f (K := bl (M_thicks_B29 v1 v2) n29) c9 hf
          refine lv_iconst (v := 1) C.x C.b dX7_thicks_62 (by decide) ?_
          refine lv_iload C.x C.b dX7_thicks_63 (lv_at hl 4 rfl) ?_
          refine lv_ishl C.x C.b dX7_thicks_65 ?_
          refine lv_goto (tgt := 70) C.x C.b dX7_thicks_66 (by decide) ?_
          exact j70 q_5 v5 (1 <<< (v5 &&& 31)) v4 _ _ _ h (lv_sub hl [0, 1, 2, 4] rfl) hf
  intro H locs ls h hl
  have hl : lv_has ls 6 [(0, .ref o), (1, .int v1), (2, .int v2)] := hl
  unfold M_thicks at hf
  refine lv_aload_n C.x C.b dX7_thicks_0 rfl (lv_at hl 0 rfl) ?_
  refine lv_iconst (v := 0) C.x C.b dX7_thicks_1 (by decide) ?_
  obtain ⟨σ_7, e9, hf⟩ := nm_k (K := fun x => x) hf
  refine m_p0 C h e9 dX7_thicks_2 (fun H locs h => ?_)
  refine lv_aload_n C.x C.b dX7_thicks_5 rfl (lv_at hl 0 rfl) ?_
  refine lv_iload_n C.x C.b dX7_thicks_6 rfl (lv_at hl 1 rfl) ?_
  refine lv_aload_n C.x C.b dX7_thicks_7 rfl (lv_at hl 0 rfl) ?_
  refine lv_iload_n C.x C.b dX7_thicks_8 rfl (lv_at hl 2 rfl) ?_
  refine lv_i2l C.x C.b dX7_thicks_9 rfl ?_
  obtain ⟨q_8, hc, hf⟩ := bd_k (K := fun x => x) rfl hf
  refine cM_isPiece C h hc (Nat.le_of_ble_eq_true rfl) hl.1 (Nat.le_of_ble_eq_true rfl) dX7_thicks_10 (fun H locs h => ?_)
  obtain ⟨q_9, hc, hf⟩ := bd_k (K := fun x => x) rfl hf
  refine cM_whyNot C h hc (Nat.le_of_ble_eq_true rfl) hl.1 (Nat.le_of_ble_eq_true rfl) dX7_thicks_13 (fun H locs h => ?_)
  refine lv_istore_n (lv' := [(3, .int q_9), (0, .ref o), (1, .int v1), (2, .int v2)]) C.x C.b dX7_thicks_16 rfl hl (by decide) rfl (fun ls hl => ?_)
  refine lv_iload_n C.x C.b dX7_thicks_17 rfl (lv_at hl 0 rfl) ?_
  refine lv_if_eq (tgt := 23) C.x C.b dX7_thicks_18 (by decide) (fun c9 => ?_) (fun c9 => ?_)
  · have hf := if_t (K := fun x => x) c9 hf
    refine lv_iconst (v := 0) C.x C.b dX7_thicks_23 (by decide) ?_
    refine lv_istore (lv' := [(4, .int 0), (3, .int q_9), (0, .ref o), (1, .int v1), (2, .int v2)]) C.x C.b dX7_thicks_24 hl (by decide) rfl (fun ls hl => ?_)
    refine lv_iconst (v := 1) C.x C.b dX7_thicks_26 (by decide) ?_
    refine lv_istore (lv' := [(5, .int 1), (4, .int 0), (3, .int q_9), (0, .ref o), (1, .int v1), (2, .int v2)]) C.x C.b dX7_thicks_27 hl (by decide) rfl (fun ls hl => ?_)
    exact l29  fu 0 1 σ_7 _ _ _ h (lv_sub hl [3, 4, 5, 1, 0] rfl) hf
  · have hf := if_f (K := fun x => x) c9 hf
    refine lv_iload_n C.x C.b dX7_thicks_21 rfl (lv_at hl 0 rfl) ?_
    exact hR _ _ (some_k hf) _ _ _ _ h rfl dX7_thicks_22
def M_byLaw (σ : PS) (v1 : Int32) : Option (Int32 × PS) := bd (M_lays σ) (fun q_1 => nm (sI q_1 22 v1) (fun σ_2 => bd (M_runs σ_2) (fun q_3 => bd (M_soundNow q_3) (fun q_4 => some (q_4, q_3)))))
set_option maxHeartbeats 4000000 in
theorem kM_byLaw (l : Launch) {D : va_G} {ty : Nat → ClassId} {A : Nat → Prop} {o : Nat} {ad : Nat → Nat} {rs : va_W} {σ : PS} {σ' : PS} {v1 : Int32} {r : Int32} (hf : M_byLaw σ v1 = some (r, σ')) : KI l yX7_byLaw cX7_byLaw 2 .int 5 D ty A (wM ty o ad σ ++ rs) (wM ty o ad σ' ++ rs) [.ref o, .int v1] r := by
  refine KI.of (by decide) (Nat.le_of_ble_eq_true rfl) ?_
  intro p e R s m args below meth c Q C hR
  have C : Cx p R s m args c cX7_byLaw 2 RX7 D ty A 5 := C
  have hR : ∀ (v : Int32) (σ2 : PS), (v, σ2) = (r, σ') → ∀ (H : Heap) (locs : List Loc) (pc : Nat) (ls : Array Slot), Hw D A s H locs (wM ty o ad σ2 ++ rs) → narrow .int (.int v) = .int v → decode cX7_byLaw pc = .ok (.ireturn, 1) → W p l e R s m args below meth c H locs 0 0 Q (F0 m pc ls [.int v]) := by intro v σ2 e9; cases e9; exact hR
  intro H locs ls h hl
  have hl : lv_has ls 2 [(0, .ref o), (1, .int v1)] := hl
  unfold M_byLaw at hf
  refine lv_aload_n C.x C.b dX7_byLaw_0 rfl (lv_at hl 0 rfl) ?_
  obtain ⟨q_1, hc, hf⟩ := bd_k (K := fun x => x) rfl hf
  refine cM_lays C h hc (Nat.le_of_ble_eq_true rfl) hl.1 (Nat.le_of_ble_eq_true rfl) dX7_byLaw_1 (fun H locs h => ?_)
  refine lv_aload_n C.x C.b dX7_byLaw_4 rfl (lv_at hl 0 rfl) ?_
  refine lv_iload_n C.x C.b dX7_byLaw_5 rfl (lv_at hl 1 rfl) ?_
  obtain ⟨σ_2, e9, hf⟩ := nm_k (K := fun x => x) hf
  refine m_p22 C h e9 dX7_byLaw_6 (fun H locs h => ?_)
  refine lv_aload_n C.x C.b dX7_byLaw_9 rfl (lv_at hl 0 rfl) ?_
  obtain ⟨q_3, hc, hf⟩ := bd_k (K := fun x => x) rfl hf
  refine cM_runs C h hc (Nat.le_of_ble_eq_true rfl) hl.1 (Nat.le_of_ble_eq_true rfl) dX7_byLaw_10 (fun H locs h => ?_)
  refine lv_aload_n C.x C.b dX7_byLaw_13 rfl (lv_at hl 0 rfl) ?_
  obtain ⟨q_4, hc, hf⟩ := bd_k (K := fun x => x) rfl hf
  refine cM_soundNow C h hc (Nat.le_of_ble_eq_true rfl) hl.1 (Nat.le_of_ble_eq_true rfl) dX7_byLaw_14 (fun H locs h => ?_)
  exact hR _ _ (some_k hf) _ _ _ _ h rfl dX7_byLaw_17
theorem tM_byLaw : GoodIn lw_all (wsV RX7 391 RX7 yX7_byLaw (ws_ yX7_byLaw cX7_byLaw 2 (some .int))) := lw_V q2206 q2208 qs128 q147 q2209
theorem cM_byLaw {p : Program} {l : Launch} {e : Env} {R : Room} {s : State} {m : MethodId} {args : Array Value} {below : List Frame} {meth : Method} {c : Code} {H : Heap} {locs : List Loc} {Q : State → Prop} {cc : ByteArray} {pc : Nat} {ls : Array Slot} {st : List Value} {nL d : Nat} {D : va_G} {ty : Nat → ClassId} {A : Nat → Prop} {o : Nat} {ad : Nat → Nat} {rs : va_W} {σ : PS} {v1 : Int32} {q : (Int32 × PS)} (C : Cx p R s m args c cc nL RX7 D ty A d) (h : Hw D A s H locs (wM ty o ad σ ++ rs)) (hc : M_byLaw σ v1 = some q) (hd : 5 + 1 ≤ d) (hls : ls.size = nL) (hcat : (st.map fun v => v.category).sum ≤ 8) (dec : decode cc pc = .ok (.invokevirtual 391, 3)) (kk : ∀ (H : Heap) (locs : List Loc), Hw D A s H locs (wM ty o ad q.2 ++ rs) → W p l e R s m args below meth c H locs 0 0 Q (F0 m (pc + 3) ls (.int (q.1) :: st))) : W p l e R s m args below meth c H locs 0 0 Q (F0 m pc ls (.int v1 :: .ref o :: st)) := KI.callV (As := [.int v1]) C (kM_byLaw l hc) tM_byLaw ⟨rfl, by decide, by decide, by show _ = some 1; decide +kernel⟩ 0 7 rfl rfl rfl hd (by decide) (Nat.zero_le _) (Nat.zero_le _) h hls rfl hcat dec kk
def M_by_j34 (σ : PS) (x0 : Int32) : Option (Int32 × PS) := some (x0, σ)
def M_by_j32 (σ : PS) : Option (Int32 × PS) := M_by_j34 σ ((-2))
def M_by (σ : PS) (v1 : Int32) : Option (Int32 × PS) := nm (sI σ 0 0) (fun σ_1 => bd (M_isLehr σ_1) (fun q_2 => if q_2 = 0 then M_by_j32 σ_1 else bd (M_in v1.toInt64 0 3) (fun q_3 => if q_3 = 0 then M_by_j32 σ_1 else bd (M_byLaw σ_1 v1) (fun q_4 => M_by_j34 q_4.2 q_4.1))))
set_option maxHeartbeats 4000000 in
theorem kM_by (l : Launch) {D : va_G} {ty : Nat → ClassId} {A : Nat → Prop} {o : Nat} {ad : Nat → Nat} {rs : va_W} {σ : PS} {σ' : PS} {v1 : Int32} {r : Int32} (hf : M_by σ v1 = some (r, σ')) : KI l yX7_by cX7_by 2 .int 6 D ty A (wM ty o ad σ ++ rs) (wM ty o ad σ' ++ rs) [.ref o, .int v1] r := by
  refine KI.of (by decide) (Nat.le_of_ble_eq_true rfl) ?_
  intro p e R s m args below meth c Q C hR
  have C : Cx p R s m args c cX7_by 2 RX7 D ty A 6 := C
  have hR : ∀ (v : Int32) (σ2 : PS), (v, σ2) = (r, σ') → ∀ (H : Heap) (locs : List Loc) (pc : Nat) (ls : Array Slot), Hw D A s H locs (wM ty o ad σ2 ++ rs) → narrow .int (.int v) = .int v → decode cX7_by pc = .ok (.ireturn, 1) → W p l e R s m args below meth c H locs 0 0 Q (F0 m pc ls [.int v]) := by intro v σ2 e9; cases e9; exact hR
  have j34 : ∀ (σ : PS) (x0 : Int32) (H : Heap) (locs : List Loc) (ls : Array Slot), Hw D A s H locs (wM ty o ad σ ++ rs) → lv_has ls 2 [] → M_by_j34 σ x0 = some (r, σ') → W p l e R s m args below meth c H locs 0 0 Q (F0 m 34 ls [.int x0]) := by
    intro σ x0 H locs ls h hl hf
    unfold M_by_j34 at hf
    exact hR _ _ (some_k hf) _ _ _ _ h rfl dX7_by_34
  have j32 : ∀ (σ : PS) (H : Heap) (locs : List Loc) (ls : Array Slot), Hw D A s H locs (wM ty o ad σ ++ rs) → lv_has ls 2 [] → M_by_j32 σ = some (r, σ') → W p l e R s m args below meth c H locs 0 0 Q (F0 m 32 ls []) := by
    intro σ H locs ls h hl hf
    unfold M_by_j32 at hf
    refine lv_bipush (v := (-2)) C.x C.b dX7_by_32 (by decide) ?_
    exact j34 σ ((-2)) _ _ _ h (lv_sub hl [] rfl) hf
  intro H locs ls h hl
  have hl : lv_has ls 2 [(0, .ref o), (1, .int v1)] := hl
  unfold M_by at hf
  refine lv_aload_n C.x C.b dX7_by_0 rfl (lv_at hl 0 rfl) ?_
  refine lv_iconst (v := 0) C.x C.b dX7_by_1 (by decide) ?_
  obtain ⟨σ_1, e9, hf⟩ := nm_k (K := fun x => x) hf
  refine m_p0 C h e9 dX7_by_2 (fun H locs h => ?_)
  refine lv_aload_n C.x C.b dX7_by_5 rfl (lv_at hl 0 rfl) ?_
  obtain ⟨q_2, hc, hf⟩ := bd_k (K := fun x => x) rfl hf
  refine cM_isLehr C h hc (Nat.le_of_ble_eq_true rfl) hl.1 (Nat.le_of_ble_eq_true rfl) dX7_by_6 (fun H locs h => ?_)
  refine lv_if_eq (tgt := 32) C.x C.b dX7_by_9 (by decide) (fun c9 => ?_) (fun c9 => ?_)
  · have hf := if_t (K := fun x => x) c9 hf
    exact j32 σ_1 _ _ _ h (lv_sub hl [] rfl) hf
  · have hf := if_f (K := fun x => x) c9 hf
    refine lv_iload_n C.x C.b dX7_by_12 rfl (lv_at hl 1 rfl) ?_
    refine lv_i2l C.x C.b dX7_by_13 rfl ?_
    refine lv_lconst (v := 0) C.x C.b dX7_by_14 (by decide) ?_
    refine lv_ldc2 (v := 3) C.x C.b C.own (C.ts _ q1664) dX7_by_15 ?_
    obtain ⟨q_3, hc, hf⟩ := bd_k (K := fun x => x) rfl hf
    refine cM_in C h hc (Nat.le_of_ble_eq_true rfl) hl.1 (Nat.le_of_ble_eq_true rfl) dX7_by_18 (fun H locs h => ?_)
    refine lv_if_eq (tgt := 32) C.x C.b dX7_by_21 (by decide) (fun c9 => ?_) (fun c9 => ?_)
    · have hf := if_t (K := fun x => x) c9 hf
      exact j32 σ_1 _ _ _ h (lv_sub hl [] rfl) hf
    · have hf := if_f (K := fun x => x) c9 hf
      refine lv_aload_n C.x C.b dX7_by_24 rfl (lv_at hl 0 rfl) ?_
      refine lv_iload_n C.x C.b dX7_by_25 rfl (lv_at hl 1 rfl) ?_
      obtain ⟨q_4, hc, hf⟩ := bd_k (K := fun x => x) rfl hf
      refine cM_byLaw C h hc (Nat.le_of_ble_eq_true rfl) hl.1 (Nat.le_of_ble_eq_true rfl) dX7_by_26 (fun H locs h => ?_)
      refine lv_goto (tgt := 34) C.x C.b dX7_by_29 (by decide) ?_
      exact j34 q_4.2 q_4.1 _ _ _ h (lv_sub hl [] rfl) hf
def M_law_j51 (σ : PS) (v1 : Int32) : Option (Int32 × PS) := some (v1, σ)
def M_law_j45 (σ : PS) (v1 : Int32) (v2 : Int32) : Option ((Int32 × Int32 × PS) ⊕ (Int32 × PS)) := nm (v2 + 1) (fun v2_1 => some (.inl (v1, v2_1, σ)))
def M_law_l19 (v1 : Int32) (v2 : Int32) (σ : PS) : Option ((Int32 × Int32 × PS) ⊕ (Int32 × PS)) := if 4 ≤ v2 then up (M_law_j51 σ v1) else bd (M_byLaw σ v2) (fun q_2 => bd (M_sizeOf q_2.1) (fun q_3 => bd (M_byLaw q_2.2 v1) (fun q_4 => bd (M_sizeOf q_4.1) (fun q_5 => if q_3 ≤ q_5 then M_law_j45 q_4.2 v1 v2 else M_law_j45 q_4.2 v2 v2))))
def M_law_B19 : (Int32 × Int32 × PS) → Option ((Int32 × Int32 × PS) ⊕ (Int32 × PS)) := fun t => M_law_l19 t.1 t.2.1 t.2.2
def M_law (σ : PS) : Option (Int32 × PS) := nm (sI σ 0 0) (fun σ_6 => bd (M_isLehr σ_6) (fun q_7 => if q_7 = 0 then some ((-2), σ_6) else loop (M_law_B19) fu (0, 1, σ_6)))
set_option maxHeartbeats 4000000 in
theorem kM_law (l : Launch) {D : va_G} {ty : Nat → ClassId} {A : Nat → Prop} {o : Nat} {ad : Nat → Nat} {rs : va_W} {σ : PS} {σ' : PS} {r : Int32} (hf : M_law σ = some (r, σ')) : KI l yX7_law cX7_law 3 .int 6 D ty A (wM ty o ad σ ++ rs) (wM ty o ad σ' ++ rs) [.ref o] r := by
  refine KI.of (by decide) (Nat.le_of_ble_eq_true rfl) ?_
  intro p e R s m args below meth c Q C hR
  have C : Cx p R s m args c cX7_law 3 RX7 D ty A 6 := C
  have hR : ∀ (v : Int32) (σ2 : PS), (v, σ2) = (r, σ') → ∀ (H : Heap) (locs : List Loc) (pc : Nat) (ls : Array Slot), Hw D A s H locs (wM ty o ad σ2 ++ rs) → narrow .int (.int v) = .int v → decode cX7_law pc = .ok (.ireturn, 1) → W p l e R s m args below meth c H locs 0 0 Q (F0 m pc ls [.int v]) := by intro v σ2 e9; cases e9; exact hR
  have j51 : ∀ (σ : PS) (v1 : Int32) (H : Heap) (locs : List Loc) (ls : Array Slot), Hw D A s H locs (wM ty o ad σ ++ rs) → lv_has ls 3 [(1, .int v1)] → M_law_j51 σ v1 = some (r, σ') → W p l e R s m args below meth c H locs 0 0 Q (F0 m 51 ls []) := by
    intro σ v1 H locs ls h hl hf
    unfold M_law_j51 at hf
    refine lv_iload_n C.x C.b dX7_law_51 rfl (lv_at hl 0 rfl) ?_
    exact hR _ _ (some_k hf) _ _ _ _ h rfl dX7_law_52
  have l19 : ∀ (n19 : Nat) (v1 : Int32) (v2 : Int32) (σ : PS) (H : Heap) (locs : List Loc) (ls : Array Slot), Hw D A s H locs (wM ty o ad σ ++ rs) → lv_has ls 3 [(0, .ref o), (1, .int v1), (2, .int v2)] → loop (M_law_B19) n19 (v1, v2, σ) = some (r, σ') → W p l e R s m args below meth c H locs 0 0 Q (F0 m 19 ls []) := by
    intro n19
    induction n19 with
    | zero => intro v1 v2 σ H locs ls h hl hf; exact (none_k hf).elim
    | succ n19 ih19 =>
      have j45 : ∀ (σ : PS) (v1 : Int32) (v2 : Int32) (H : Heap) (locs : List Loc) (ls : Array Slot), Hw D A s H locs (wM ty o ad σ ++ rs) → lv_has ls 3 [(0, .ref o), (1, .int v1), (2, .int v2)] → bl (M_law_B19) n19 (M_law_j45 σ v1 v2) = some (r, σ') → W p l e R s m args below meth c H locs 0 0 Q (F0 m 45 ls []) := by
        intro σ v1 v2 H locs ls h hl hf
        unfold M_law_j45 at hf
        obtain ⟨v2_1, e9, hf⟩ := nm_k (K := bl (M_law_B19) n19) hf
        refine lv_iinc (v := v2_1) (lv' := [(2, .int v2_1), (0, .ref o), (1, .int v1)]) C.x C.b dX7_law_45 hl (k := 2) rfl (iinc_e (k := 1) (by decide) e9) (by decide) rfl (fun ls hl => ?_)
        refine lv_goto (tgt := 19) C.x C.b dX7_law_48 (by decide) ?_
        exact ih19 v1 v2_1 σ _ _ _ h (lv_sub hl [1, 2, 0] rfl) hf
      intro v1 v2 σ H locs ls h hl hf
      have hf : bl (M_law_B19) n19 (M_law_l19 v1 v2 σ) = some (r, σ') := hf
      unfold M_law_l19 at hf
      refine lv_iload_n C.x C.b dX7_law_19 rfl (lv_at hl 2 rfl) ?_
      refine lv_iconst (v := 4) C.x C.b dX7_law_20 (by decide) ?_
      refine lv_icmp_ge (tgt := 51) C.x C.b dX7_law_21 (by decide) (fun c9 => ?_) (fun c9 => ?_)
      · have hf := if_t (K := bl (M_law_B19) n19) c9 hf
        have hf := bl_upK (K := fun x => x) hf
        exact j51 σ v1 _ _ _ h (lv_sub hl [1] rfl) hf
      · have hf := if_f (K := bl (M_law_B19) n19) c9 hf
        refine lv_aload_n C.x C.b dX7_law_24 rfl (lv_at hl 0 rfl) ?_
        refine lv_iload_n C.x C.b dX7_law_25 rfl (lv_at hl 2 rfl) ?_
        obtain ⟨q_2, hc, hf⟩ := bd_k (K := bl (M_law_B19) n19) rfl hf
        refine cM_byLaw C h hc (Nat.le_of_ble_eq_true rfl) hl.1 (Nat.le_of_ble_eq_true rfl) dX7_law_26 (fun H locs h => ?_)
        obtain ⟨q_3, hc, hf⟩ := bd_k (K := bl (M_law_B19) n19) rfl hf
        refine cM_sizeOf C h hc (Nat.le_of_ble_eq_true rfl) hl.1 (Nat.le_of_ble_eq_true rfl) dX7_law_29 (fun H locs h => ?_)
        refine lv_aload_n C.x C.b dX7_law_32 rfl (lv_at hl 0 rfl) ?_
        refine lv_iload_n C.x C.b dX7_law_33 rfl (lv_at hl 1 rfl) ?_
        obtain ⟨q_4, hc, hf⟩ := bd_k (K := bl (M_law_B19) n19) rfl hf
        refine cM_byLaw C h hc (Nat.le_of_ble_eq_true rfl) hl.1 (Nat.le_of_ble_eq_true rfl) dX7_law_34 (fun H locs h => ?_)
        obtain ⟨q_5, hc, hf⟩ := bd_k (K := bl (M_law_B19) n19) rfl hf
        refine cM_sizeOf C h hc (Nat.le_of_ble_eq_true rfl) hl.1 (Nat.le_of_ble_eq_true rfl) dX7_law_37 (fun H locs h => ?_)
        refine lv_icmp_le (tgt := 45) C.x C.b dX7_law_40 (by decide) (fun c9 => ?_) (fun c9 => ?_)
        · have hf := if_t (K := bl (M_law_B19) n19) c9 hf
          exact j45 q_4.2 v1 v2 _ _ _ h (lv_sub hl [0, 1, 2] rfl) hf
        · have hf := if_f (K := bl (M_law_B19) n19) c9 hf
          refine lv_iload_n C.x C.b dX7_law_43 rfl (lv_at hl 2 rfl) ?_
          refine lv_istore_n (lv' := [(1, .int v2), (0, .ref o), (2, .int v2)]) C.x C.b dX7_law_44 rfl hl (by decide) rfl (fun ls hl => ?_)
          exact j45 q_4.2 v2 v2 _ _ _ h (lv_sub hl [1, 0, 2] rfl) hf
  intro H locs ls h hl
  have hl : lv_has ls 3 [(0, .ref o)] := hl
  unfold M_law at hf
  refine lv_aload_n C.x C.b dX7_law_0 rfl (lv_at hl 0 rfl) ?_
  refine lv_iconst (v := 0) C.x C.b dX7_law_1 (by decide) ?_
  obtain ⟨σ_6, e9, hf⟩ := nm_k (K := fun x => x) hf
  refine m_p0 C h e9 dX7_law_2 (fun H locs h => ?_)
  refine lv_aload_n C.x C.b dX7_law_5 rfl (lv_at hl 0 rfl) ?_
  obtain ⟨q_7, hc, hf⟩ := bd_k (K := fun x => x) rfl hf
  refine cM_isLehr C h hc (Nat.le_of_ble_eq_true rfl) hl.1 (Nat.le_of_ble_eq_true rfl) dX7_law_6 (fun H locs h => ?_)
  refine lv_if_ne (tgt := 15) C.x C.b dX7_law_9 (by decide) (fun c9 => ?_) (fun c9 => ?_)
  · have hf := if_f (K := fun x => x) c9 hf
    refine lv_iconst (v := 0) C.x C.b dX7_law_15 (by decide) ?_
    refine lv_istore_n (lv' := [(1, .int 0), (0, .ref o)]) C.x C.b dX7_law_16 rfl hl (by decide) rfl (fun ls hl => ?_)
    refine lv_iconst (v := 1) C.x C.b dX7_law_17 (by decide) ?_
    refine lv_istore_n (lv' := [(2, .int 1), (1, .int 0), (0, .ref o)]) C.x C.b dX7_law_18 rfl hl (by decide) rfl (fun ls hl => ?_)
    exact l19  fu 0 1 σ_6 _ _ _ h (lv_sub hl [2, 1, 0] rfl) hf
  · have hf := if_t (K := fun x => x) c9 hf
    refine lv_bipush (v := (-2)) C.x C.b dX7_law_12 (by decide) ?_
    exact hR _ _ (some_k hf) _ _ _ _ h rfl dX7_law_14
def M_worthOf_j44 (σ : PS) : Option (Int32 × PS) := bd (M_runs σ) (fun q_1 => bd (M_soundNow q_1) (fun q_2 => bd (M_sizeOf q_2) (fun q_3 => some (q_3, q_1))))
def M_worthOf_j37 (σ : PS) (v1 : Int32) (v2 : Int32) (x0 : Int32) (x1 : Int32) : Option ((Int32 × PS) ⊕ (Int32 × PS)) := ix x1 7 (nm (wA σ 27 x1 x0) (fun σ_4 => nm (v2 + 1) (fun v2_5 => some (.inl (v2_5, σ_4)))))
def M_worthOf_l6 (v1 : Int32) (v2 : Int32) (σ : PS) : Option ((Int32 × PS) ⊕ (Int32 × PS)) := if (gI σ 25) ≤ v2 then up (M_worthOf_j44 σ) else bd (M_isBit v1 v2) (fun q_6 => if q_6 = 0 then M_worthOf_j37 σ v1 v2 0 v2 else ix v2 7 (M_worthOf_j37 σ v1 v2 (rA σ 27 v2) v2))
def M_worthOf_B6 (v1 : Int32) : (Int32 × PS) → Option ((Int32 × PS) ⊕ (Int32 × PS)) := fun t => M_worthOf_l6 v1 t.1 t.2
def M_worthOf (σ : PS) (v1 : Int32) : Option (Int32 × PS) := bd (M_lays σ) (fun q_7 => loop (M_worthOf_B6 v1) fu (0, q_7))
set_option maxHeartbeats 4000000 in
theorem kM_worthOf (l : Launch) {D : va_G} {ty : Nat → ClassId} {A : Nat → Prop} {o : Nat} {ad : Nat → Nat} {rs : va_W} {σ : PS} {σ' : PS} {v1 : Int32} {r : Int32} (hf : M_worthOf σ v1 = some (r, σ')) : KI l yX7_worthOf cX7_worthOf 3 .int 5 D ty A (wM ty o ad σ ++ rs) (wM ty o ad σ' ++ rs) [.ref o, .int v1] r := by
  refine KI.of (by decide) (Nat.le_of_ble_eq_true rfl) ?_
  intro p e R s m args below meth c Q C hR
  have C : Cx p R s m args c cX7_worthOf 3 RX7 D ty A 5 := C
  have hR : ∀ (v : Int32) (σ2 : PS), (v, σ2) = (r, σ') → ∀ (H : Heap) (locs : List Loc) (pc : Nat) (ls : Array Slot), Hw D A s H locs (wM ty o ad σ2 ++ rs) → narrow .int (.int v) = .int v → decode cX7_worthOf pc = .ok (.ireturn, 1) → W p l e R s m args below meth c H locs 0 0 Q (F0 m pc ls [.int v]) := by intro v σ2 e9; cases e9; exact hR
  have j44 : ∀ (σ : PS) (H : Heap) (locs : List Loc) (ls : Array Slot), Hw D A s H locs (wM ty o ad σ ++ rs) → lv_has ls 3 [(0, .ref o)] → M_worthOf_j44 σ = some (r, σ') → W p l e R s m args below meth c H locs 0 0 Q (F0 m 44 ls []) := by
    intro σ H locs ls h hl hf
    unfold M_worthOf_j44 at hf
    refine lv_aload_n C.x C.b dX7_worthOf_44 rfl (lv_at hl 0 rfl) ?_
    obtain ⟨q_1, hc, hf⟩ := bd_k (K := fun x => x) rfl hf
    refine cM_runs C h hc (Nat.le_of_ble_eq_true rfl) hl.1 (Nat.le_of_ble_eq_true rfl) dX7_worthOf_45 (fun H locs h => ?_)
    refine lv_aload_n C.x C.b dX7_worthOf_48 rfl (lv_at hl 0 rfl) ?_
    obtain ⟨q_2, hc, hf⟩ := bd_k (K := fun x => x) rfl hf
    refine cM_soundNow C h hc (Nat.le_of_ble_eq_true rfl) hl.1 (Nat.le_of_ble_eq_true rfl) dX7_worthOf_49 (fun H locs h => ?_)
    obtain ⟨q_3, hc, hf⟩ := bd_k (K := fun x => x) rfl hf
    refine cM_sizeOf C h hc (Nat.le_of_ble_eq_true rfl) hl.1 (Nat.le_of_ble_eq_true rfl) dX7_worthOf_52 (fun H locs h => ?_)
    exact hR _ _ (some_k hf) _ _ _ _ h rfl dX7_worthOf_55
  have l6 : ∀ (n6 : Nat) (v2 : Int32) (σ : PS) (H : Heap) (locs : List Loc) (ls : Array Slot), Hw D A s H locs (wM ty o ad σ ++ rs) → lv_has ls 3 [(0, .ref o), (1, .int v1), (2, .int v2)] → loop (M_worthOf_B6 v1) n6 (v2, σ) = some (r, σ') → W p l e R s m args below meth c H locs 0 0 Q (F0 m 6 ls []) := by
    intro n6
    induction n6 with
    | zero => intro v2 σ H locs ls h hl hf; exact (none_k hf).elim
    | succ n6 ih6 =>
      have j37 : ∀ (σ : PS) (v2 : Int32) (x0 : Int32) (x1 : Int32) (H : Heap) (locs : List Loc) (ls : Array Slot), Hw D A s H locs (wM ty o ad σ ++ rs) → lv_has ls 3 [(0, .ref o), (1, .int v1), (2, .int v2)] → bl (M_worthOf_B6 v1) n6 (M_worthOf_j37 σ v1 v2 x0 x1) = some (r, σ') → W p l e R s m args below meth c H locs 0 0 Q (F0 m 37 ls [.int x0, .int x1, .ref (ad 27)]) := by
        intro σ v2 x0 x1 H locs ls h hl hf
        unfold M_worthOf_j37 at hf
        obtain ⟨hi, hf⟩ := ix_k (K := bl (M_worthOf_B6 v1) n6) rfl hf
        obtain ⟨σ_4, e9, hf⟩ := nm_k (K := bl (M_worthOf_B6 v1) n6) hf
        refine m_w27 C h hi e9 dX7_worthOf_37 (fun H locs h => ?_)
        obtain ⟨v2_5, e9, hf⟩ := nm_k (K := bl (M_worthOf_B6 v1) n6) hf
        refine lv_iinc (v := v2_5) (lv' := [(2, .int v2_5), (0, .ref o), (1, .int v1)]) C.x C.b dX7_worthOf_38 hl (k := 2) rfl (iinc_e (k := 1) (by decide) e9) (by decide) rfl (fun ls hl => ?_)
        refine lv_goto (tgt := 6) C.x C.b dX7_worthOf_41 (by decide) ?_
        exact ih6 v2_5 σ_4 _ _ _ h (lv_sub hl [1, 2, 0] rfl) hf
      intro v2 σ H locs ls h hl hf
      have hf : bl (M_worthOf_B6 v1) n6 (M_worthOf_l6 v1 v2 σ) = some (r, σ') := hf
      unfold M_worthOf_l6 at hf
      refine lv_iload_n C.x C.b dX7_worthOf_6 rfl (lv_at hl 2 rfl) ?_
      refine lv_aload_n C.x C.b dX7_worthOf_7 rfl (lv_at hl 0 rfl) ?_
      refine m_g25 C h dX7_worthOf_8 ?_
      refine lv_icmp_ge (tgt := 44) C.x C.b dX7_worthOf_11 (by decide) (fun c9 => ?_) (fun c9 => ?_)
      · have hf := if_t (K := bl (M_worthOf_B6 v1) n6) c9 hf
        have hf := bl_upK (K := fun x => x) hf
        exact j44 σ _ _ _ h (lv_sub hl [0] rfl) hf
      · have hf := if_f (K := bl (M_worthOf_B6 v1) n6) c9 hf
        refine lv_aload_n C.x C.b dX7_worthOf_14 rfl (lv_at hl 0 rfl) ?_
        refine m_g27 C h dX7_worthOf_15 ?_
        refine lv_iload_n C.x C.b dX7_worthOf_18 rfl (lv_at hl 2 rfl) ?_
        refine lv_iload_n C.x C.b dX7_worthOf_19 rfl (lv_at hl 1 rfl) ?_
        refine lv_iload_n C.x C.b dX7_worthOf_20 rfl (lv_at hl 2 rfl) ?_
        obtain ⟨q_6, hc, hf⟩ := bd_k (K := bl (M_worthOf_B6 v1) n6) rfl hf
        refine cM_isBit C h hc (Nat.le_of_ble_eq_true rfl) hl.1 (Nat.le_of_ble_eq_true rfl) dX7_worthOf_21 (fun H locs h => ?_)
        refine lv_if_eq (tgt := 36) C.x C.b dX7_worthOf_24 (by decide) (fun c9 => ?_) (fun c9 => ?_)
        · have hf := if_t (K := bl (M_worthOf_B6 v1) n6) c9 hf
          refine lv_iconst (v := 0) C.x C.b dX7_worthOf_36 (by decide) ?_
          exact j37 σ v2 0 v2 _ _ _ h (lv_sub hl [0, 1, 2] rfl) hf
        · have hf := if_f (K := bl (M_worthOf_B6 v1) n6) c9 hf
          refine lv_aload_n C.x C.b dX7_worthOf_27 rfl (lv_at hl 0 rfl) ?_
          refine m_g27 C h dX7_worthOf_28 ?_
          refine lv_iload_n C.x C.b dX7_worthOf_31 rfl (lv_at hl 2 rfl) ?_
          obtain ⟨hi, hf⟩ := ix_k (K := bl (M_worthOf_B6 v1) n6) rfl hf
          refine m_a27 C h hi dX7_worthOf_32 ?_
          refine lv_goto (tgt := 37) C.x C.b dX7_worthOf_33 (by decide) ?_
          exact j37 σ v2 (rA σ 27 v2) v2 _ _ _ h (lv_sub hl [0, 1, 2] rfl) hf
  intro H locs ls h hl
  have hl : lv_has ls 3 [(0, .ref o), (1, .int v1)] := hl
  unfold M_worthOf at hf
  refine lv_aload_n C.x C.b dX7_worthOf_0 rfl (lv_at hl 0 rfl) ?_
  obtain ⟨q_7, hc, hf⟩ := bd_k (K := fun x => x) rfl hf
  refine cM_lays C h hc (Nat.le_of_ble_eq_true rfl) hl.1 (Nat.le_of_ble_eq_true rfl) dX7_worthOf_1 (fun H locs h => ?_)
  refine lv_iconst (v := 0) C.x C.b dX7_worthOf_4 (by decide) ?_
  refine lv_istore_n (lv' := [(2, .int 0), (0, .ref o), (1, .int v1)]) C.x C.b dX7_worthOf_5 rfl hl (by decide) rfl (fun ls hl => ?_)
  exact l6  fu 0 q_7 _ _ _ h (lv_sub hl [1, 2, 0] rfl) hf
theorem tM_worthOf : GoodIn lw_all (wsV RX7 394 RX7 yX7_worthOf (ws_ yX7_worthOf cX7_worthOf 3 (some .int))) := lw_V q2222 q2224 qs129 q147 q2225
theorem cM_worthOf {p : Program} {l : Launch} {e : Env} {R : Room} {s : State} {m : MethodId} {args : Array Value} {below : List Frame} {meth : Method} {c : Code} {H : Heap} {locs : List Loc} {Q : State → Prop} {cc : ByteArray} {pc : Nat} {ls : Array Slot} {st : List Value} {nL d : Nat} {D : va_G} {ty : Nat → ClassId} {A : Nat → Prop} {o : Nat} {ad : Nat → Nat} {rs : va_W} {σ : PS} {v1 : Int32} {q : (Int32 × PS)} (C : Cx p R s m args c cc nL RX7 D ty A d) (h : Hw D A s H locs (wM ty o ad σ ++ rs)) (hc : M_worthOf σ v1 = some q) (hd : 5 + 1 ≤ d) (hls : ls.size = nL) (hcat : (st.map fun v => v.category).sum ≤ 8) (dec : decode cc pc = .ok (.invokevirtual 394, 3)) (kk : ∀ (H : Heap) (locs : List Loc), Hw D A s H locs (wM ty o ad q.2 ++ rs) → W p l e R s m args below meth c H locs 0 0 Q (F0 m (pc + 3) ls (.int (q.1) :: st))) : W p l e R s m args below meth c H locs 0 0 Q (F0 m pc ls (.int v1 :: .ref o :: st)) := KI.callV (As := [.int v1]) C (kM_worthOf l hc) tM_worthOf ⟨rfl, by decide, by decide, by show _ = some 1; decide +kernel⟩ 0 7 rfl rfl rfl hd (by decide) (Nat.zero_le _) (Nat.zero_le _) h hls rfl hcat dec kk
def M_getsBy_j92 (σ : PS) (x0 : Int32) (x1 : Int32) (x2 : Int32) : Option (Int32 × PS) := some (x2 - (x1 * x0), σ)
def M_getsBy_j78 (σ : PS) (v3 : Int32) (v4 : Int32) (v5 : Int32) (v6 : Int32) : Option (Int32 × PS) := if v5 = 0 then M_getsBy_j92 σ v3 2 v6 else M_getsBy_j92 σ v4 2 v6
def M_getsBy_j69 (σ : PS) (v3 : Int32) (v4 : Int32) (v5 : Int32) (v7 : Int32) (x0 : Int32) (x1 : Int32) : Option ((Int32 × Int32) ⊕ (Int32 × PS)) := nm (x1 + x0) (fun v6_1 => nm (v7 + 2) (fun v7_2 => some (.inl (v6_1, v7_2))))
def M_getsBy_l42 (σ : PS) (v3 : Int32) (v4 : Int32) (v5 : Int32) (v6 : Int32) (v7 : Int32) : Option ((Int32 × Int32) ⊕ (Int32 × PS)) := bd (M_pieces σ) (fun q_3 => if q_3 ≤ v7 then up (M_getsBy_j78 σ v3 v4 v5 v6) else ix v7 6 (if (rA σ 34 v7) = ((-1)) then M_getsBy_j69 σ v3 v4 v5 v7 3 v6 else M_getsBy_j69 σ v3 v4 v5 v7 0 v6))
def M_getsBy_B42 (σ : PS) (v3 : Int32) (v4 : Int32) (v5 : Int32) : (Int32 × Int32) → Option ((Int32 × Int32) ⊕ (Int32 × PS)) := fun t => M_getsBy_l42 σ v3 v4 v5 t.1 t.2
def M_getsBy (σ : PS) (v1 : Int32) (v2 : Int32) (v3 : Int32) (v4 : Int32) (v5 : Int32) : Option (Int32 × PS) := bd (M_lays σ) (fun q_4 => ix v1 7 (ix v1 7 (nm (wA q_4 27 v1 ((rA q_4 27 v1) + (50 * v3))) (fun σ_5 => ix v2 7 (ix v2 7 (nm (wA σ_5 27 v2 ((rA σ_5 27 v2) + (50 * v4))) (fun σ_6 => bd (M_runs σ_6) (fun q_7 => loop (M_getsBy_B42 q_7 v3 v4 v5) fu (0, v5)))))))))
set_option maxHeartbeats 4000000 in
theorem kM_getsBy (l : Launch) {D : va_G} {ty : Nat → ClassId} {A : Nat → Prop} {o : Nat} {ad : Nat → Nat} {rs : va_W} {σ : PS} {σ' : PS} {v1 : Int32} {v2 : Int32} {v3 : Int32} {v4 : Int32} {v5 : Int32} {r : Int32} (hf : M_getsBy σ v1 v2 v3 v4 v5 = some (r, σ')) : KI l yX7_getsBy cX7_getsBy 8 .int 5 D ty A (wM ty o ad σ ++ rs) (wM ty o ad σ' ++ rs) [.ref o, .int v1, .int v2, .int v3, .int v4, .int v5] r := by
  refine KI.of (by decide) (Nat.le_of_ble_eq_true rfl) ?_
  intro p e R s m args below meth c Q C hR
  have C : Cx p R s m args c cX7_getsBy 8 RX7 D ty A 5 := C
  have hR : ∀ (v : Int32) (σ2 : PS), (v, σ2) = (r, σ') → ∀ (H : Heap) (locs : List Loc) (pc : Nat) (ls : Array Slot), Hw D A s H locs (wM ty o ad σ2 ++ rs) → narrow .int (.int v) = .int v → decode cX7_getsBy pc = .ok (.ireturn, 1) → W p l e R s m args below meth c H locs 0 0 Q (F0 m pc ls [.int v]) := by intro v σ2 e9; cases e9; exact hR
  have j92 : ∀ (σ : PS) (x0 : Int32) (x1 : Int32) (x2 : Int32) (H : Heap) (locs : List Loc) (ls : Array Slot), Hw D A s H locs (wM ty o ad σ ++ rs) → lv_has ls 8 [] → M_getsBy_j92 σ x0 x1 x2 = some (r, σ') → W p l e R s m args below meth c H locs 0 0 Q (F0 m 92 ls [.int x0, .int x1, .int x2]) := by
    intro σ x0 x1 x2 H locs ls h hl hf
    unfold M_getsBy_j92 at hf
    refine lv_imul C.x C.b dX7_getsBy_92 ?_
    refine lv_isub C.x C.b dX7_getsBy_93 ?_
    exact hR _ _ (some_k hf) _ _ _ _ h rfl dX7_getsBy_94
  have j78 : ∀ (σ : PS) (v6 : Int32) (H : Heap) (locs : List Loc) (ls : Array Slot), Hw D A s H locs (wM ty o ad σ ++ rs) → lv_has ls 8 [(3, .int v3), (4, .int v4), (5, .int v5), (6, .int v6)] → M_getsBy_j78 σ v3 v4 v5 v6 = some (r, σ') → W p l e R s m args below meth c H locs 0 0 Q (F0 m 78 ls []) := by
    intro σ v6 H locs ls h hl hf
    unfold M_getsBy_j78 at hf
    refine lv_iload C.x C.b dX7_getsBy_78 (lv_at hl 3 rfl) ?_
    refine lv_iconst (v := 2) C.x C.b dX7_getsBy_80 (by decide) ?_
    refine lv_iload C.x C.b dX7_getsBy_81 (lv_at hl 2 rfl) ?_
    refine lv_if_ne (tgt := 90) C.x C.b dX7_getsBy_83 (by decide) (fun c9 => ?_) (fun c9 => ?_)
    · have hf := if_f (K := fun x => x) c9 hf
      refine lv_iload C.x C.b dX7_getsBy_90 (lv_at hl 1 rfl) ?_
      exact j92 σ v4 2 v6 _ _ _ h (lv_sub hl [] rfl) hf
    · have hf := if_t (K := fun x => x) c9 hf
      refine lv_iload_n C.x C.b dX7_getsBy_86 rfl (lv_at hl 0 rfl) ?_
      refine lv_goto (tgt := 92) C.x C.b dX7_getsBy_87 (by decide) ?_
      exact j92 σ v3 2 v6 _ _ _ h (lv_sub hl [] rfl) hf
  have l42 : ∀ (σ : PS) (n42 : Nat) (v6 : Int32) (v7 : Int32) (H : Heap) (locs : List Loc) (ls : Array Slot), Hw D A s H locs (wM ty o ad σ ++ rs) → lv_has ls 8 [(0, .ref o), (3, .int v3), (4, .int v4), (5, .int v5), (6, .int v6), (7, .int v7)] → loop (M_getsBy_B42 σ v3 v4 v5) n42 (v6, v7) = some (r, σ') → W p l e R s m args below meth c H locs 0 0 Q (F0 m 42 ls []) := by
    intro σ n42
    induction n42 with
    | zero => intro v6 v7 H locs ls h hl hf; exact (none_k hf).elim
    | succ n42 ih42 =>
      have j69 : ∀ (v7 : Int32) (x0 : Int32) (x1 : Int32) (H : Heap) (locs : List Loc) (ls : Array Slot), Hw D A s H locs (wM ty o ad σ ++ rs) → lv_has ls 8 [(0, .ref o), (3, .int v3), (4, .int v4), (5, .int v5), (7, .int v7)] → bl (M_getsBy_B42 σ v3 v4 v5) n42 (M_getsBy_j69 σ v3 v4 v5 v7 x0 x1) = some (r, σ') → W p l e R s m args below meth c H locs 0 0 Q (F0 m 69 ls [.int x0, .int x1]) := by
        intro v7 x0 x1 H locs ls h hl hf
        unfold M_getsBy_j69 at hf
        refine lv_iadd C.x C.b dX7_getsBy_69 ?_
        obtain ⟨v6_1, e9, hf⟩ := nm_k (K := bl (M_getsBy_B42 σ v3 v4 v5) n42) hf
        refine lv_topI e9 ?_
        refine lv_istore (lv' := [(6, .int v6_1), (0, .ref o), (3, .int v3), (4, .int v4), (5, .int v5), (7, .int v7)]) C.x C.b dX7_getsBy_70 hl (by decide) rfl (fun ls hl => ?_)
        obtain ⟨v7_2, e9, hf⟩ := nm_k (K := bl (M_getsBy_B42 σ v3 v4 v5) n42) hf
        refine lv_iinc (v := v7_2) (lv' := [(7, .int v7_2), (6, .int v6_1), (0, .ref o), (3, .int v3), (4, .int v4), (5, .int v5)]) C.x C.b dX7_getsBy_72 hl (k := 5) rfl (iinc_e (k := 2) (by decide) e9) (by decide) rfl (fun ls hl => ?_)
        refine lv_goto (tgt := 42) C.x C.b dX7_getsBy_75 (by decide) ?_
        exact ih42 v6_1 v7_2 _ _ _ h (lv_sub hl [2, 3, 4, 5, 1, 0] rfl) hf
      intro v6 v7 H locs ls h hl hf
      have hf : bl (M_getsBy_B42 σ v3 v4 v5) n42 (M_getsBy_l42 σ v3 v4 v5 v6 v7) = some (r, σ') := hf
      unfold M_getsBy_l42 at hf
      refine lv_iload C.x C.b dX7_getsBy_42 (lv_at hl 5 rfl) ?_
      refine lv_aload_n C.x C.b dX7_getsBy_44 rfl (lv_at hl 0 rfl) ?_
      obtain ⟨q_3, hc, hf⟩ := bd_k (K := bl (M_getsBy_B42 σ v3 v4 v5) n42) rfl hf
      refine cM_pieces C h hc (Nat.le_of_ble_eq_true rfl) hl.1 (Nat.le_of_ble_eq_true rfl) dX7_getsBy_45 (fun H locs h => ?_)
      refine lv_icmp_ge (tgt := 78) C.x C.b dX7_getsBy_48 (by decide) (fun c9 => ?_) (fun c9 => ?_)
      · have hf := if_t (K := bl (M_getsBy_B42 σ v3 v4 v5) n42) c9 hf
        have hf := bl_upK (K := fun x => x) hf
        exact j78 σ v6 _ _ _ h (lv_sub hl [1, 2, 3, 4] rfl) hf
      · have hf := if_f (K := bl (M_getsBy_B42 σ v3 v4 v5) n42) c9 hf
        refine lv_iload C.x C.b dX7_getsBy_51 (lv_at hl 4 rfl) ?_
        refine lv_aload_n C.x C.b dX7_getsBy_53 rfl (lv_at hl 0 rfl) ?_
        refine m_g34 C h dX7_getsBy_54 ?_
        refine lv_iload C.x C.b dX7_getsBy_57 (lv_at hl 5 rfl) ?_
        obtain ⟨hi, hf⟩ := ix_k (K := bl (M_getsBy_B42 σ v3 v4 v5) n42) rfl hf
        refine m_a34 C h hi dX7_getsBy_59 ?_
        refine lv_iconst (v := (-1)) C.x C.b dX7_getsBy_60 (by decide) ?_
        refine lv_icmp_ne (tgt := 68) C.x C.b dX7_getsBy_61 (by decide) (fun c9 => ?_) (fun c9 => ?_)
        · have hf := if_f (K := bl (M_getsBy_B42 σ v3 v4 v5) n42) c9 hf
          refine lv_iconst (v := 0) C.x C.b dX7_getsBy_68 (by decide) ?_
          exact j69 v7 0 v6 _ _ _ h (lv_sub hl [0, 1, 2, 3, 5] rfl) hf
        · have hf := if_t (K := bl (M_getsBy_B42 σ v3 v4 v5) n42) c9 hf
          refine lv_iconst (v := 3) C.x C.b dX7_getsBy_64 (by decide) ?_
          refine lv_goto (tgt := 69) C.x C.b dX7_getsBy_65 (by decide) ?_
          exact j69 v7 3 v6 _ _ _ h (lv_sub hl [0, 1, 2, 3, 5] rfl) hf
  intro H locs ls h hl
  have hl : lv_has ls 8 [(0, .ref o), (1, .int v1), (2, .int v2), (3, .int v3), (4, .int v4), (5, .int v5)] := hl
  unfold M_getsBy at hf
  refine lv_aload_n C.x C.b dX7_getsBy_0 rfl (lv_at hl 0 rfl) ?_
  obtain ⟨q_4, hc, hf⟩ := bd_k (K := fun x => x) rfl hf
  refine cM_lays C h hc (Nat.le_of_ble_eq_true rfl) hl.1 (Nat.le_of_ble_eq_true rfl) dX7_getsBy_1 (fun H locs h => ?_)
  refine lv_aload_n C.x C.b dX7_getsBy_4 rfl (lv_at hl 0 rfl) ?_
  refine m_g27 C h dX7_getsBy_5 ?_
  refine lv_iload_n C.x C.b dX7_getsBy_8 rfl (lv_at hl 1 rfl) ?_
  refine lv_dup2_11 C.x C.b dX7_getsBy_9 rfl rfl ?_
  obtain ⟨hi, hf⟩ := ix_k (K := fun x => x) rfl hf
  refine m_a27 C h hi dX7_getsBy_10 ?_
  refine lv_bipush (v := 50) C.x C.b dX7_getsBy_11 (by decide) ?_
  refine lv_iload_n C.x C.b dX7_getsBy_13 rfl (lv_at hl 3 rfl) ?_
  refine lv_imul C.x C.b dX7_getsBy_14 ?_
  refine lv_iadd C.x C.b dX7_getsBy_15 ?_
  obtain ⟨hi, hf⟩ := ix_k (K := fun x => x) rfl hf
  obtain ⟨σ_5, e9, hf⟩ := nm_k (K := fun x => x) hf
  refine m_w27 C h hi e9 dX7_getsBy_16 (fun H locs h => ?_)
  refine lv_aload_n C.x C.b dX7_getsBy_17 rfl (lv_at hl 0 rfl) ?_
  refine m_g27 C h dX7_getsBy_18 ?_
  refine lv_iload_n C.x C.b dX7_getsBy_21 rfl (lv_at hl 2 rfl) ?_
  refine lv_dup2_11 C.x C.b dX7_getsBy_22 rfl rfl ?_
  obtain ⟨hi, hf⟩ := ix_k (K := fun x => x) rfl hf
  refine m_a27 C h hi dX7_getsBy_23 ?_
  refine lv_bipush (v := 50) C.x C.b dX7_getsBy_24 (by decide) ?_
  refine lv_iload C.x C.b dX7_getsBy_26 (lv_at hl 4 rfl) ?_
  refine lv_imul C.x C.b dX7_getsBy_28 ?_
  refine lv_iadd C.x C.b dX7_getsBy_29 ?_
  obtain ⟨hi, hf⟩ := ix_k (K := fun x => x) rfl hf
  obtain ⟨σ_6, e9, hf⟩ := nm_k (K := fun x => x) hf
  refine m_w27 C h hi e9 dX7_getsBy_30 (fun H locs h => ?_)
  refine lv_aload_n C.x C.b dX7_getsBy_31 rfl (lv_at hl 0 rfl) ?_
  obtain ⟨q_7, hc, hf⟩ := bd_k (K := fun x => x) rfl hf
  refine cM_runs C h hc (Nat.le_of_ble_eq_true rfl) hl.1 (Nat.le_of_ble_eq_true rfl) dX7_getsBy_32 (fun H locs h => ?_)
  refine lv_iconst (v := 0) C.x C.b dX7_getsBy_35 (by decide) ?_
  refine lv_istore (lv' := [(6, .int 0), (0, .ref o), (1, .int v1), (2, .int v2), (3, .int v3), (4, .int v4), (5, .int v5)]) C.x C.b dX7_getsBy_36 hl (by decide) rfl (fun ls hl => ?_)
  refine lv_iload C.x C.b dX7_getsBy_38 (lv_at hl 6 rfl) ?_
  refine lv_istore (lv' := [(7, .int v5), (6, .int 0), (0, .ref o), (1, .int v1), (2, .int v2), (3, .int v3), (4, .int v4), (5, .int v5)]) C.x C.b dX7_getsBy_40 hl (by decide) rfl (fun ls hl => ?_)
  exact l42 q_7 fu 0 v5 _ _ _ h (lv_sub hl [2, 5, 6, 7, 1, 0] rfl) hf
theorem tM_getsBy : GoodIn lw_all (wsV RX7 415 RX7 yX7_getsBy (ws_ yX7_getsBy cX7_getsBy 8 (some .int))) := lw_V q2251 q2253 qs131 q147 q2254
theorem cM_getsBy {p : Program} {l : Launch} {e : Env} {R : Room} {s : State} {m : MethodId} {args : Array Value} {below : List Frame} {meth : Method} {c : Code} {H : Heap} {locs : List Loc} {Q : State → Prop} {cc : ByteArray} {pc : Nat} {ls : Array Slot} {st : List Value} {nL d : Nat} {D : va_G} {ty : Nat → ClassId} {A : Nat → Prop} {o : Nat} {ad : Nat → Nat} {rs : va_W} {σ : PS} {v1 : Int32} {v2 : Int32} {v3 : Int32} {v4 : Int32} {v5 : Int32} {q : (Int32 × PS)} (C : Cx p R s m args c cc nL RX7 D ty A d) (h : Hw D A s H locs (wM ty o ad σ ++ rs)) (hc : M_getsBy σ v1 v2 v3 v4 v5 = some q) (hd : 5 + 1 ≤ d) (hls : ls.size = nL) (hcat : (st.map fun v => v.category).sum ≤ 8) (dec : decode cc pc = .ok (.invokevirtual 415, 3)) (kk : ∀ (H : Heap) (locs : List Loc), Hw D A s H locs (wM ty o ad q.2 ++ rs) → W p l e R s m args below meth c H locs 0 0 Q (F0 m (pc + 3) ls (.int (q.1) :: st))) : W p l e R s m args below meth c H locs 0 0 Q (F0 m pc ls (.int v5 :: .int v4 :: .int v3 :: .int v2 :: .int v1 :: .ref o :: st)) := KI.callV (As := [.int v1, .int v2, .int v3, .int v4, .int v5]) C (kM_getsBy l hc) tM_getsBy ⟨rfl, by decide, by decide, by show _ = some 5; decide +kernel⟩ 0 7 rfl rfl rfl hd (by decide) (Nat.zero_le _) (Nat.zero_le _) h hls rfl hcat dec kk
def M_gets_j54 (σ : PS) (x0 : Int32) : Option (Int32 × PS) := some (x0, σ)
def M_gets_j51 (σ : PS) : Option (Int32 × PS) := M_gets_j54 σ ((-1000))
def M_gets (σ : PS) (v1 : Int32) (v2 : Int32) (v3 : Int32) (v4 : Int32) (v5 : Int32) : Option (Int32 × PS) := nm (sI σ 0 0) (fun σ_1 => bd (M_areTwo σ_1 v1 v2) (fun q_2 => if q_2 = 0 then M_gets_j51 σ_1 else bd (M_isHalf v3) (fun q_3 => if q_3 = 0 then M_gets_j51 σ_1 else bd (M_isHalf v4) (fun q_4 => if q_4 = 0 then M_gets_j51 σ_1 else bd (M_isHalf v5) (fun q_5 => if q_5 = 0 then M_gets_j51 σ_1 else bd (M_getsBy σ_1 v1 v2 v3 v4 v5) (fun q_6 => M_gets_j54 q_6.2 q_6.1))))))
set_option maxHeartbeats 4000000 in
theorem kM_gets (l : Launch) {D : va_G} {ty : Nat → ClassId} {A : Nat → Prop} {o : Nat} {ad : Nat → Nat} {rs : va_W} {σ : PS} {σ' : PS} {v1 : Int32} {v2 : Int32} {v3 : Int32} {v4 : Int32} {v5 : Int32} {r : Int32} (hf : M_gets σ v1 v2 v3 v4 v5 = some (r, σ')) : KI l yX7_gets cX7_gets 6 .int 6 D ty A (wM ty o ad σ ++ rs) (wM ty o ad σ' ++ rs) [.ref o, .int v1, .int v2, .int v3, .int v4, .int v5] r := by
  refine KI.of (by decide) (Nat.le_of_ble_eq_true rfl) ?_
  intro p e R s m args below meth c Q C hR
  have C : Cx p R s m args c cX7_gets 6 RX7 D ty A 6 := C
  have hR : ∀ (v : Int32) (σ2 : PS), (v, σ2) = (r, σ') → ∀ (H : Heap) (locs : List Loc) (pc : Nat) (ls : Array Slot), Hw D A s H locs (wM ty o ad σ2 ++ rs) → narrow .int (.int v) = .int v → decode cX7_gets pc = .ok (.ireturn, 1) → W p l e R s m args below meth c H locs 0 0 Q (F0 m pc ls [.int v]) := by intro v σ2 e9; cases e9; exact hR
  have j54 : ∀ (σ : PS) (x0 : Int32) (H : Heap) (locs : List Loc) (ls : Array Slot), Hw D A s H locs (wM ty o ad σ ++ rs) → lv_has ls 6 [] → M_gets_j54 σ x0 = some (r, σ') → W p l e R s m args below meth c H locs 0 0 Q (F0 m 54 ls [.int x0]) := by
    intro σ x0 H locs ls h hl hf
    unfold M_gets_j54 at hf
    exact hR _ _ (some_k hf) _ _ _ _ h rfl dX7_gets_54
  have j51 : ∀ (σ : PS) (H : Heap) (locs : List Loc) (ls : Array Slot), Hw D A s H locs (wM ty o ad σ ++ rs) → lv_has ls 6 [] → M_gets_j51 σ = some (r, σ') → W p l e R s m args below meth c H locs 0 0 Q (F0 m 51 ls []) := by
    intro σ H locs ls h hl hf
    unfold M_gets_j51 at hf
    refine lv_sipush (v := (-1000)) C.x C.b dX7_gets_51 (by decide) ?_
    exact j54 σ ((-1000)) _ _ _ h (lv_sub hl [] rfl) hf
  intro H locs ls h hl
  have hl : lv_has ls 6 [(0, .ref o), (1, .int v1), (2, .int v2), (3, .int v3), (4, .int v4), (5, .int v5)] := hl
  unfold M_gets at hf
  refine lv_aload_n C.x C.b dX7_gets_0 rfl (lv_at hl 0 rfl) ?_
  refine lv_iconst (v := 0) C.x C.b dX7_gets_1 (by decide) ?_
  obtain ⟨σ_1, e9, hf⟩ := nm_k (K := fun x => x) hf
  refine m_p0 C h e9 dX7_gets_2 (fun H locs h => ?_)
  refine lv_aload_n C.x C.b dX7_gets_5 rfl (lv_at hl 0 rfl) ?_
  refine lv_iload_n C.x C.b dX7_gets_6 rfl (lv_at hl 1 rfl) ?_
  refine lv_iload_n C.x C.b dX7_gets_7 rfl (lv_at hl 2 rfl) ?_
  obtain ⟨q_2, hc, hf⟩ := bd_k (K := fun x => x) rfl hf
  refine cM_areTwo C h hc (Nat.le_of_ble_eq_true rfl) hl.1 (Nat.le_of_ble_eq_true rfl) dX7_gets_8 (fun H locs h => ?_)
  refine lv_if_eq (tgt := 51) C.x C.b dX7_gets_11 (by decide) (fun c9 => ?_) (fun c9 => ?_)
  · have hf := if_t (K := fun x => x) c9 hf
    exact j51 σ_1 _ _ _ h (lv_sub hl [] rfl) hf
  · have hf := if_f (K := fun x => x) c9 hf
    refine lv_iload_n C.x C.b dX7_gets_14 rfl (lv_at hl 3 rfl) ?_
    obtain ⟨q_3, hc, hf⟩ := bd_k (K := fun x => x) rfl hf
    refine cM_isHalf C h hc (Nat.le_of_ble_eq_true rfl) hl.1 (Nat.le_of_ble_eq_true rfl) dX7_gets_15 (fun H locs h => ?_)
    refine lv_if_eq (tgt := 51) C.x C.b dX7_gets_18 (by decide) (fun c9 => ?_) (fun c9 => ?_)
    · have hf := if_t (K := fun x => x) c9 hf
      exact j51 σ_1 _ _ _ h (lv_sub hl [] rfl) hf
    · have hf := if_f (K := fun x => x) c9 hf
      refine lv_iload C.x C.b dX7_gets_21 (lv_at hl 4 rfl) ?_
      obtain ⟨q_4, hc, hf⟩ := bd_k (K := fun x => x) rfl hf
      refine cM_isHalf C h hc (Nat.le_of_ble_eq_true rfl) hl.1 (Nat.le_of_ble_eq_true rfl) dX7_gets_23 (fun H locs h => ?_)
      refine lv_if_eq (tgt := 51) C.x C.b dX7_gets_26 (by decide) (fun c9 => ?_) (fun c9 => ?_)
      · have hf := if_t (K := fun x => x) c9 hf
        exact j51 σ_1 _ _ _ h (lv_sub hl [] rfl) hf
      · have hf := if_f (K := fun x => x) c9 hf
        refine lv_iload C.x C.b dX7_gets_29 (lv_at hl 5 rfl) ?_
        obtain ⟨q_5, hc, hf⟩ := bd_k (K := fun x => x) rfl hf
        refine cM_isHalf C h hc (Nat.le_of_ble_eq_true rfl) hl.1 (Nat.le_of_ble_eq_true rfl) dX7_gets_31 (fun H locs h => ?_)
        refine lv_if_eq (tgt := 51) C.x C.b dX7_gets_34 (by decide) (fun c9 => ?_) (fun c9 => ?_)
        · have hf := if_t (K := fun x => x) c9 hf
          exact j51 σ_1 _ _ _ h (lv_sub hl [] rfl) hf
        · have hf := if_f (K := fun x => x) c9 hf
          refine lv_aload_n C.x C.b dX7_gets_37 rfl (lv_at hl 0 rfl) ?_
          refine lv_iload_n C.x C.b dX7_gets_38 rfl (lv_at hl 1 rfl) ?_
          refine lv_iload_n C.x C.b dX7_gets_39 rfl (lv_at hl 2 rfl) ?_
          refine lv_iload_n C.x C.b dX7_gets_40 rfl (lv_at hl 3 rfl) ?_
          refine lv_iload C.x C.b dX7_gets_41 (lv_at hl 4 rfl) ?_
          refine lv_iload C.x C.b dX7_gets_43 (lv_at hl 5 rfl) ?_
          obtain ⟨q_6, hc, hf⟩ := bd_k (K := fun x => x) rfl hf
          refine cM_getsBy C h hc (Nat.le_of_ble_eq_true rfl) hl.1 (Nat.le_of_ble_eq_true rfl) dX7_gets_45 (fun H locs h => ?_)
          refine lv_goto (tgt := 54) C.x C.b dX7_gets_48 (by decide) ?_
          exact j54 q_6.2 q_6.1 _ _ _ h (lv_sub hl [] rfl) hf
def M_draws_j75 (σ : PS) : Option PS := bd (M_runs σ) (fun q_1 => some q_1)
def M_draws_j65 (σ : PS) (v3 : Int64) (v5 : Int32) (x0 : Int32) (x1 : Int32) : Option ((Int64 × Int32 × PS) ⊕ PS) := nm (sI σ 24 (x1 ||| x0)) (fun σ_2 => nm (v5 + 1) (fun v5_3 => some (.inl (v3, v5_3, σ_2))))
def M_draws_l9 (v3 : Int64) (v5 : Int32) (σ : PS) : Option ((Int64 × Int32 × PS) ⊕ PS) := bd (M_steps σ) (fun q_4 => if q_4 ≤ v5 then up (M_draws_j75 σ) else nm (((1103515245 * v3) + 12345) - ((1103515245 * v3) + 12345) / 2147483648 * 2147483648) (fun v3_5 => ix 2 40 (if 0 ≤ (lg_cmp ((v3_5 / 65536) - (v3_5 / 65536) / 10 * 10) ((rA σ 17 2).toInt64)) then M_draws_j65 σ v3_5 v5 0 (gI σ 24) else M_draws_j65 σ v3_5 v5 (1 <<< (v5 &&& 31)) (gI σ 24))))
def M_draws_B9 : (Int64 × Int32 × PS) → Option ((Int64 × Int32 × PS) ⊕ PS) := fun t => M_draws_l9 t.1 t.2.1 t.2.2
def M_draws (σ : PS) (v1 : Int64) : Option PS := bd (M_lays σ) (fun q_6 => loop (M_draws_B9) fu (v1, 0, q_6))
set_option maxHeartbeats 4000000 in
theorem kM_draws (l : Launch) {D : va_G} {ty : Nat → ClassId} {A : Nat → Prop} {o : Nat} {ad : Nat → Nat} {rs : va_W} {σ : PS} {σ' : PS} {v1 : Int64} (hf : M_draws σ v1 = some σ') : KV l yX7_draws cX7_draws 6 5 D ty A (wM ty o ad σ ++ rs) (wM ty o ad σ' ++ rs) [.ref o, .long v1] := by
  refine KV.of (by decide) (Nat.le_of_ble_eq_true rfl) ?_
  intro p e R s m args below meth c Q C hR
  have C : Cx p R s m args c cX7_draws 6 RX7 D ty A 5 := C
  have hR : ∀ (σ2 : PS), σ2 = σ' → ∀ (H : Heap) (locs : List Loc) (pc : Nat) (ls : Array Slot), Hw D A s H locs (wM ty o ad σ2 ++ rs) → decode cX7_draws pc = .ok (.return_, 1) → W p l e R s m args below meth c H locs 0 0 Q (F0 m pc ls []) := by intro σ2 e9; cases e9; exact hR
  have j75 : ∀ (σ : PS) (H : Heap) (locs : List Loc) (ls : Array Slot), Hw D A s H locs (wM ty o ad σ ++ rs) → lv_has ls 6 [(0, .ref o)] → M_draws_j75 σ = some σ' → W p l e R s m args below meth c H locs 0 0 Q (F0 m 75 ls []) := by
    intro σ H locs ls h hl hf
    unfold M_draws_j75 at hf
    refine lv_aload_n C.x C.b dX7_draws_75 rfl (lv_at hl 0 rfl) ?_
    obtain ⟨q_1, hc, hf⟩ := bd_k (K := fun x => x) rfl hf
    refine cM_runs C h hc (Nat.le_of_ble_eq_true rfl) hl.1 (Nat.le_of_ble_eq_true rfl) dX7_draws_76 (fun H locs h => ?_)
    exact hR _ (some_k hf) _ _ _ _ h dX7_draws_79
  have l9 : ∀ (n9 : Nat) (v3 : Int64) (v5 : Int32) (σ : PS) (H : Heap) (locs : List Loc) (ls : Array Slot), Hw D A s H locs (wM ty o ad σ ++ rs) → lv_has ls 6 [(0, .ref o), (3, .long v3), (5, .int v5)] → loop (M_draws_B9) n9 (v3, v5, σ) = some σ' → W p l e R s m args below meth c H locs 0 0 Q (F0 m 9 ls []) := by
    intro n9
    induction n9 with
    | zero => intro v3 v5 σ H locs ls h hl hf; exact (none_k hf).elim
    | succ n9 ih9 =>
      have j65 : ∀ (σ : PS) (v3 : Int64) (v5 : Int32) (x0 : Int32) (x1 : Int32) (H : Heap) (locs : List Loc) (ls : Array Slot), Hw D A s H locs (wM ty o ad σ ++ rs) → lv_has ls 6 [(0, .ref o), (3, .long v3), (5, .int v5)] → bl (M_draws_B9) n9 (M_draws_j65 σ v3 v5 x0 x1) = some σ' → W p l e R s m args below meth c H locs 0 0 Q (F0 m 65 ls [.int x0, .int x1, .ref o]) := by
        intro σ v3 v5 x0 x1 H locs ls h hl hf
        unfold M_draws_j65 at hf
        refine lv_ior C.x C.b dX7_draws_65 ?_
        obtain ⟨σ_2, e9, hf⟩ := nm_k (K := bl (M_draws_B9) n9) hf
        refine m_p24 C h e9 dX7_draws_66 (fun H locs h => ?_)
        obtain ⟨v5_3, e9, hf⟩ := nm_k (K := bl (M_draws_B9) n9) hf
        refine lv_iinc (v := v5_3) (lv' := [(5, .int v5_3), (0, .ref o), (3, .long v3)]) C.x C.b dX7_draws_69 hl (k := 2) rfl (iinc_e (k := 1) (by decide) e9) (by decide) rfl (fun ls hl => ?_)
        refine lv_goto (tgt := 9) C.x C.b dX7_draws_72 (by decide) ?_
        exact ih9 v3 v5_3 σ_2 _ _ _ h (lv_sub hl [1, 2, 0] rfl) hf
      intro v3 v5 σ H locs ls h hl hf
      have hf : bl (M_draws_B9) n9 (M_draws_l9 v3 v5 σ) = some σ' := hf
      unfold M_draws_l9 at hf
      refine lv_iload C.x C.b dX7_draws_9 (lv_at hl 2 rfl) ?_
      refine lv_aload_n C.x C.b dX7_draws_11 rfl (lv_at hl 0 rfl) ?_
      obtain ⟨q_4, hc, hf⟩ := bd_k (K := bl (M_draws_B9) n9) rfl hf
      refine cM_steps C h hc (Nat.le_of_ble_eq_true rfl) hl.1 (Nat.le_of_ble_eq_true rfl) dX7_draws_12 (fun H locs h => ?_)
      refine lv_icmp_ge (tgt := 75) C.x C.b dX7_draws_15 (by decide) (fun c9 => ?_) (fun c9 => ?_)
      · have hf := if_t (K := bl (M_draws_B9) n9) c9 hf
        have hf := bl_upK (K := fun x => x) hf
        exact j75 σ _ _ _ h (lv_sub hl [0] rfl) hf
      · have hf := if_f (K := bl (M_draws_B9) n9) c9 hf
        refine lv_ldc2 (v := 1103515245) C.x C.b C.own (C.ts _ q2292) dX7_draws_18 ?_
        refine lv_lload_n C.x C.b dX7_draws_21 rfl (lv_at hl 1 rfl) ?_
        refine lv_lmul C.x C.b dX7_draws_22 ?_
        refine lv_ldc2 (v := 12345) C.x C.b C.own (C.ts _ q2293) dX7_draws_23 ?_
        refine lv_ladd C.x C.b dX7_draws_26 ?_
        refine lv_ldc2 (v := 2147483648) C.x C.b C.own (C.ts _ q2294) dX7_draws_27 ?_
        refine lv_lrem C.x C.b dX7_draws_30 (by decide) ?_
        obtain ⟨v3_5, e9, hf⟩ := nm_k (K := bl (M_draws_B9) n9) hf
        refine lv_topL e9 ?_
        refine lv_lstore_n (lv' := [(3, .long v3_5), (0, .ref o), (5, .int v5)]) C.x C.b dX7_draws_31 rfl hl (by decide) rfl (fun ls hl => ?_)
        refine lv_aload_n C.x C.b dX7_draws_32 rfl (lv_at hl 1 rfl) ?_
        refine lv_dup C.x C.b dX7_draws_33 rfl ?_
        refine m_g24 C h dX7_draws_34 ?_
        refine lv_lload_n C.x C.b dX7_draws_37 rfl (lv_at hl 0 rfl) ?_
        refine lv_ldc2 (v := 65536) C.x C.b C.own (C.ts _ q2295) dX7_draws_38 ?_
        refine lv_ldiv C.x C.b dX7_draws_41 (by decide) ?_
        refine lv_ldc2 (v := 10) C.x C.b C.own (C.ts _ q2274) dX7_draws_42 ?_
        refine lv_lrem C.x C.b dX7_draws_45 (by decide) ?_
        refine lv_aload_n C.x C.b dX7_draws_46 rfl (lv_at hl 1 rfl) ?_
        refine m_g17 C h dX7_draws_47 ?_
        refine lv_iconst (v := 2) C.x C.b dX7_draws_50 (by decide) ?_
        obtain ⟨hi, hf⟩ := ix_k (K := bl (M_draws_B9) n9) rfl hf
        refine m_a17 C h hi dX7_draws_51 ?_
        refine lv_i2l C.x C.b dX7_draws_52 rfl ?_
        refine W.lcmp C.x C.b dX7_draws_53 ?_
        refine lv_if_ge (tgt := 64) C.x C.b dX7_draws_54 (by decide) (fun c9 => ?_) (fun c9 => ?_)
        · have hf := if_t (K := bl (M_draws_B9) n9) c9 hf
          refine lv_iconst (v := 0) C.x C.b dX7_draws_64 (by decide) ?_
          exact j65 σ v3_5 v5 0 (gI σ 24) _ _ _ h (lv_sub hl [1, 0, 2] rfl) hf
        · have hf := if_f (K := bl (M_draws_B9) n9) c9 hf
          refine lv_iconst (v := 1) C.x C.b dX7_draws_57 (by decide) ?_
          refine lv_iload C.x C.b dX7_draws_58 (lv_at hl 2 rfl) ?_
          refine lv_ishl C.x C.b dX7_draws_60 ?_
          refine lv_goto (tgt := 65) C.x C.b dX7_draws_61 (by decide) ?_
          exact j65 σ v3_5 v5 (1 <<< (v5 &&& 31)) (gI σ 24) _ _ _ h (lv_sub hl [1, 0, 2] rfl) hf
  intro H locs ls h hl
  have hl : lv_has ls 6 [(0, .ref o), (1, .long v1)] := hl
  unfold M_draws at hf
  refine lv_aload_n C.x C.b dX7_draws_0 rfl (lv_at hl 0 rfl) ?_
  obtain ⟨q_6, hc, hf⟩ := bd_k (K := fun x => x) rfl hf
  refine cM_lays C h hc (Nat.le_of_ble_eq_true rfl) hl.1 (Nat.le_of_ble_eq_true rfl) dX7_draws_1 (fun H locs h => ?_)
  refine lv_lload_n C.x C.b dX7_draws_4 rfl (lv_at hl 1 rfl) ?_
  refine lv_lstore_n (lv' := [(3, .long v1), (0, .ref o), (1, .long v1)]) C.x C.b dX7_draws_5 rfl hl (by decide) rfl (fun ls hl => ?_)
  refine lv_iconst (v := 0) C.x C.b dX7_draws_6 (by decide) ?_
  refine lv_istore (lv' := [(5, .int 0), (3, .long v1), (0, .ref o), (1, .long v1)]) C.x C.b dX7_draws_7 hl (by decide) rfl (fun ls hl => ?_)
  exact l9  fu v1 0 q_6 _ _ _ h (lv_sub hl [2, 1, 0] rfl) hf
theorem tM_draws : GoodIn lw_all (wsV RX7 446 RX7 yX7_draws (ws_ yX7_draws cX7_draws 6 none)) := lw_V q2288 q2290 qs134 q147 q2291
theorem cM_draws {p : Program} {l : Launch} {e : Env} {R : Room} {s : State} {m : MethodId} {args : Array Value} {below : List Frame} {meth : Method} {c : Code} {H : Heap} {locs : List Loc} {Q : State → Prop} {cc : ByteArray} {pc : Nat} {ls : Array Slot} {st : List Value} {nL d : Nat} {D : va_G} {ty : Nat → ClassId} {A : Nat → Prop} {o : Nat} {ad : Nat → Nat} {rs : va_W} {σ : PS} {v1 : Int64} {q : PS} (C : Cx p R s m args c cc nL RX7 D ty A d) (h : Hw D A s H locs (wM ty o ad σ ++ rs)) (hc : M_draws σ v1 = some q) (hd : 5 + 1 ≤ d) (hls : ls.size = nL) (hcat : (st.map fun v => v.category).sum ≤ 8) (dec : decode cc pc = .ok (.invokevirtual 446, 3)) (kk : ∀ (H : Heap) (locs : List Loc), Hw D A s H locs (wM ty o ad q ++ rs) → W p l e R s m args below meth c H locs 0 0 Q (F0 m (pc + 3) ls (st))) : W p l e R s m args below meth c H locs 0 0 Q (F0 m pc ls (.long v1 :: .ref o :: st)) := KV.callV (As := [.long v1]) C (kM_draws l hc) tM_draws ⟨rfl, by decide, by decide, by show _ = some 1; decide +kernel⟩ 0 7 rfl rfl rfl hd (by decide) (Nat.zero_le _) (Nat.zero_le _) h hls rfl hcat dec kk
def M_luck_j84 (σ : PS) (v4 : Int32) : Option (Int32 × PS) := some (v4, σ)
def M_luck_j75 (σ : PS) (v1 : Int32) (v2 : Int32) (v3 : Int32) (v5 : Int32) (x0 : Int32) (x1 : Int32) : Option ((Int32 × Int32 × PS) ⊕ (Int32 × PS)) := nm (x1 + x0) (fun v4_1 => nm (v5 + 1) (fun v5_2 => some (.inl (v4_1, v5_2, σ))))
def M_luck_l42 (v1 : Int32) (v2 : Int32) (v3 : Int32) (v4 : Int32) (v5 : Int32) (σ : PS) : Option ((Int32 × Int32 × PS) ⊕ (Int32 × PS)) := if v2 ≤ v5 then up (M_luck_j84 σ v4) else bd (M_draws σ (v1.toInt64 + v5.toInt64)) (fun q_3 => ix v3 6 (if (rA q_3 34 v3) = ((-1)) then M_luck_j75 q_3 v1 v2 v3 v5 1 v4 else M_luck_j75 q_3 v1 v2 v3 v5 0 v4))
def M_luck_B42 (v1 : Int32) (v2 : Int32) (v3 : Int32) : (Int32 × Int32 × PS) → Option ((Int32 × Int32 × PS) ⊕ (Int32 × PS)) := fun t => M_luck_l42 v1 v2 v3 t.1 t.2.1 t.2.2
def M_luck_j33 (σ : PS) : Option (Int32 × PS) := some ((-2), σ)
def M_luck (σ : PS) (v1 : Int32) (v2 : Int32) (v3 : Int32) : Option (Int32 × PS) := nm (sI σ 0 0) (fun σ_4 => bd (M_isSeed v1) (fun q_5 => if q_5 = 0 then M_luck_j33 σ_4 else bd (M_in v2.toInt64 1 20) (fun q_6 => if q_6 = 0 then M_luck_j33 σ_4 else bd (M_isPiece σ_4 v3.toInt64) (fun q_7 => if q_7 = 0 then M_luck_j33 σ_4 else loop (M_luck_B42 v1 v2 v3) fu (0, 0, σ_4)))))
set_option maxHeartbeats 4000000 in
theorem kM_luck (l : Launch) {D : va_G} {ty : Nat → ClassId} {A : Nat → Prop} {o : Nat} {ad : Nat → Nat} {rs : va_W} {σ : PS} {σ' : PS} {v1 : Int32} {v2 : Int32} {v3 : Int32} {r : Int32} (hf : M_luck σ v1 v2 v3 = some (r, σ')) : KI l yX7_luck cX7_luck 6 .int 6 D ty A (wM ty o ad σ ++ rs) (wM ty o ad σ' ++ rs) [.ref o, .int v1, .int v2, .int v3] r := by
  refine KI.of (by decide) (Nat.le_of_ble_eq_true rfl) ?_
  intro p e R s m args below meth c Q C hR
  have C : Cx p R s m args c cX7_luck 6 RX7 D ty A 6 := C
  have hR : ∀ (v : Int32) (σ2 : PS), (v, σ2) = (r, σ') → ∀ (H : Heap) (locs : List Loc) (pc : Nat) (ls : Array Slot), Hw D A s H locs (wM ty o ad σ2 ++ rs) → narrow .int (.int v) = .int v → decode cX7_luck pc = .ok (.ireturn, 1) → W p l e R s m args below meth c H locs 0 0 Q (F0 m pc ls [.int v]) := by intro v σ2 e9; cases e9; exact hR
  have j84 : ∀ (σ : PS) (v4 : Int32) (H : Heap) (locs : List Loc) (ls : Array Slot), Hw D A s H locs (wM ty o ad σ ++ rs) → lv_has ls 6 [(4, .int v4)] → M_luck_j84 σ v4 = some (r, σ') → W p l e R s m args below meth c H locs 0 0 Q (F0 m 84 ls []) := by
    intro σ v4 H locs ls h hl hf
    unfold M_luck_j84 at hf
    refine lv_iload C.x C.b dX7_luck_84 (lv_at hl 0 rfl) ?_
    exact hR _ _ (some_k hf) _ _ _ _ h rfl dX7_luck_86
  have l42 : ∀ (n42 : Nat) (v4 : Int32) (v5 : Int32) (σ : PS) (H : Heap) (locs : List Loc) (ls : Array Slot), Hw D A s H locs (wM ty o ad σ ++ rs) → lv_has ls 6 [(0, .ref o), (1, .int v1), (2, .int v2), (3, .int v3), (4, .int v4), (5, .int v5)] → loop (M_luck_B42 v1 v2 v3) n42 (v4, v5, σ) = some (r, σ') → W p l e R s m args below meth c H locs 0 0 Q (F0 m 42 ls []) := by
    intro n42
    induction n42 with
    | zero => intro v4 v5 σ H locs ls h hl hf; exact (none_k hf).elim
    | succ n42 ih42 =>
      have j75 : ∀ (σ : PS) (v5 : Int32) (x0 : Int32) (x1 : Int32) (H : Heap) (locs : List Loc) (ls : Array Slot), Hw D A s H locs (wM ty o ad σ ++ rs) → lv_has ls 6 [(0, .ref o), (1, .int v1), (2, .int v2), (3, .int v3), (5, .int v5)] → bl (M_luck_B42 v1 v2 v3) n42 (M_luck_j75 σ v1 v2 v3 v5 x0 x1) = some (r, σ') → W p l e R s m args below meth c H locs 0 0 Q (F0 m 75 ls [.int x0, .int x1]) := by
        intro σ v5 x0 x1 H locs ls h hl hf
        unfold M_luck_j75 at hf
        refine lv_iadd C.x C.b dX7_luck_75 ?_
        obtain ⟨v4_1, e9, hf⟩ := nm_k (K := bl (M_luck_B42 v1 v2 v3) n42) hf
        refine lv_topI e9 ?_
        refine lv_istore (lv' := [(4, .int v4_1), (0, .ref o), (1, .int v1), (2, .int v2), (3, .int v3), (5, .int v5)]) C.x C.b dX7_luck_76 hl (by decide) rfl (fun ls hl => ?_)
        obtain ⟨v5_2, e9, hf⟩ := nm_k (K := bl (M_luck_B42 v1 v2 v3) n42) hf
        refine lv_iinc (v := v5_2) (lv' := [(5, .int v5_2), (4, .int v4_1), (0, .ref o), (1, .int v1), (2, .int v2), (3, .int v3)]) C.x C.b dX7_luck_78 hl (k := 5) rfl (iinc_e (k := 1) (by decide) e9) (by decide) rfl (fun ls hl => ?_)
        refine lv_goto (tgt := 42) C.x C.b dX7_luck_81 (by decide) ?_
        exact ih42 v4_1 v5_2 σ _ _ _ h (lv_sub hl [2, 3, 4, 5, 1, 0] rfl) hf
      intro v4 v5 σ H locs ls h hl hf
      have hf : bl (M_luck_B42 v1 v2 v3) n42 (M_luck_l42 v1 v2 v3 v4 v5 σ) = some (r, σ') := hf
      unfold M_luck_l42 at hf
      refine lv_iload C.x C.b dX7_luck_42 (lv_at hl 5 rfl) ?_
      refine lv_iload_n C.x C.b dX7_luck_44 rfl (lv_at hl 2 rfl) ?_
      refine lv_icmp_ge (tgt := 84) C.x C.b dX7_luck_45 (by decide) (fun c9 => ?_) (fun c9 => ?_)
      · have hf := if_t (K := bl (M_luck_B42 v1 v2 v3) n42) c9 hf
        have hf := bl_upK (K := fun x => x) hf
        exact j84 σ v4 _ _ _ h (lv_sub hl [4] rfl) hf
      · have hf := if_f (K := bl (M_luck_B42 v1 v2 v3) n42) c9 hf
        refine lv_aload_n C.x C.b dX7_luck_48 rfl (lv_at hl 0 rfl) ?_
        refine lv_iload_n C.x C.b dX7_luck_49 rfl (lv_at hl 1 rfl) ?_
        refine lv_i2l C.x C.b dX7_luck_50 rfl ?_
        refine lv_iload C.x C.b dX7_luck_51 (lv_at hl 5 rfl) ?_
        refine lv_i2l C.x C.b dX7_luck_53 rfl ?_
        refine lv_ladd C.x C.b dX7_luck_54 ?_
        obtain ⟨q_3, hc, hf⟩ := bd_k (K := bl (M_luck_B42 v1 v2 v3) n42) rfl hf
        refine cM_draws C h hc (Nat.le_of_ble_eq_true rfl) hl.1 (Nat.le_of_ble_eq_true rfl) dX7_luck_55 (fun H locs h => ?_)
        refine lv_iload C.x C.b dX7_luck_58 (lv_at hl 4 rfl) ?_
        refine lv_aload_n C.x C.b dX7_luck_60 rfl (lv_at hl 0 rfl) ?_
        refine m_g34 C h dX7_luck_61 ?_
        refine lv_iload_n C.x C.b dX7_luck_64 rfl (lv_at hl 3 rfl) ?_
        obtain ⟨hi, hf⟩ := ix_k (K := bl (M_luck_B42 v1 v2 v3) n42) rfl hf
        refine m_a34 C h hi dX7_luck_65 ?_
        refine lv_iconst (v := (-1)) C.x C.b dX7_luck_66 (by decide) ?_
        refine lv_icmp_ne (tgt := 74) C.x C.b dX7_luck_67 (by decide) (fun c9 => ?_) (fun c9 => ?_)
        · have hf := if_f (K := bl (M_luck_B42 v1 v2 v3) n42) c9 hf
          refine lv_iconst (v := 0) C.x C.b dX7_luck_74 (by decide) ?_
          exact j75 q_3 v5 0 v4 _ _ _ h (lv_sub hl [0, 1, 2, 3, 5] rfl) hf
        · have hf := if_t (K := bl (M_luck_B42 v1 v2 v3) n42) c9 hf
          refine lv_iconst (v := 1) C.x C.b dX7_luck_70 (by decide) ?_
          refine lv_goto (tgt := 75) C.x C.b dX7_luck_71 (by decide) ?_
          exact j75 q_3 v5 1 v4 _ _ _ h (lv_sub hl [0, 1, 2, 3, 5] rfl) hf
  have j33 : ∀ (σ : PS) (H : Heap) (locs : List Loc) (ls : Array Slot), Hw D A s H locs (wM ty o ad σ ++ rs) → lv_has ls 6 [] → M_luck_j33 σ = some (r, σ') → W p l e R s m args below meth c H locs 0 0 Q (F0 m 33 ls []) := by
    intro σ H locs ls h hl hf
    unfold M_luck_j33 at hf
    refine lv_bipush (v := (-2)) C.x C.b dX7_luck_33 (by decide) ?_
    exact hR _ _ (some_k hf) _ _ _ _ h rfl dX7_luck_35
  intro H locs ls h hl
  have hl : lv_has ls 6 [(0, .ref o), (1, .int v1), (2, .int v2), (3, .int v3)] := hl
  unfold M_luck at hf
  refine lv_aload_n C.x C.b dX7_luck_0 rfl (lv_at hl 0 rfl) ?_
  refine lv_iconst (v := 0) C.x C.b dX7_luck_1 (by decide) ?_
  obtain ⟨σ_4, e9, hf⟩ := nm_k (K := fun x => x) hf
  refine m_p0 C h e9 dX7_luck_2 (fun H locs h => ?_)
  refine lv_iload_n C.x C.b dX7_luck_5 rfl (lv_at hl 1 rfl) ?_
  obtain ⟨q_5, hc, hf⟩ := bd_k (K := fun x => x) rfl hf
  refine cM_isSeed C h hc (Nat.le_of_ble_eq_true rfl) hl.1 (Nat.le_of_ble_eq_true rfl) dX7_luck_6 (fun H locs h => ?_)
  refine lv_if_eq (tgt := 33) C.x C.b dX7_luck_9 (by decide) (fun c9 => ?_) (fun c9 => ?_)
  · have hf := if_t (K := fun x => x) c9 hf
    exact j33 σ_4 _ _ _ h (lv_sub hl [] rfl) hf
  · have hf := if_f (K := fun x => x) c9 hf
    refine lv_iload_n C.x C.b dX7_luck_12 rfl (lv_at hl 2 rfl) ?_
    refine lv_i2l C.x C.b dX7_luck_13 rfl ?_
    refine lv_lconst (v := 1) C.x C.b dX7_luck_14 (by decide) ?_
    refine lv_ldc2 (v := 20) C.x C.b C.own (C.ts _ q2300) dX7_luck_15 ?_
    obtain ⟨q_6, hc, hf⟩ := bd_k (K := fun x => x) rfl hf
    refine cM_in C h hc (Nat.le_of_ble_eq_true rfl) hl.1 (Nat.le_of_ble_eq_true rfl) dX7_luck_18 (fun H locs h => ?_)
    refine lv_if_eq (tgt := 33) C.x C.b dX7_luck_21 (by decide) (fun c9 => ?_) (fun c9 => ?_)
    · have hf := if_t (K := fun x => x) c9 hf
      exact j33 σ_4 _ _ _ h (lv_sub hl [] rfl) hf
    · have hf := if_f (K := fun x => x) c9 hf
      refine lv_aload_n C.x C.b dX7_luck_24 rfl (lv_at hl 0 rfl) ?_
      refine lv_iload_n C.x C.b dX7_luck_25 rfl (lv_at hl 3 rfl) ?_
      refine lv_i2l C.x C.b dX7_luck_26 rfl ?_
      obtain ⟨q_7, hc, hf⟩ := bd_k (K := fun x => x) rfl hf
      refine cM_isPiece C h hc (Nat.le_of_ble_eq_true rfl) hl.1 (Nat.le_of_ble_eq_true rfl) dX7_luck_27 (fun H locs h => ?_)
      refine lv_if_ne (tgt := 36) C.x C.b dX7_luck_30 (by decide) (fun c9 => ?_) (fun c9 => ?_)
      · have hf := if_f (K := fun x => x) c9 hf
        refine lv_iconst (v := 0) C.x C.b dX7_luck_36 (by decide) ?_
        refine lv_istore (lv' := [(4, .int 0), (0, .ref o), (1, .int v1), (2, .int v2), (3, .int v3)]) C.x C.b dX7_luck_37 hl (by decide) rfl (fun ls hl => ?_)
        refine lv_iconst (v := 0) C.x C.b dX7_luck_39 (by decide) ?_
        refine lv_istore (lv' := [(5, .int 0), (4, .int 0), (0, .ref o), (1, .int v1), (2, .int v2), (3, .int v3)]) C.x C.b dX7_luck_40 hl (by decide) rfl (fun ls hl => ?_)
        exact l42  fu 0 0 σ_4 _ _ _ h (lv_sub hl [2, 3, 4, 5, 1, 0] rfl) hf
      · have hf := if_t (K := fun x => x) c9 hf
        exact j33 σ_4 _ _ _ h (lv_sub hl [] rfl) hf
def M_laysNow (σ : PS) : Option PS := bd (M_lays σ) (fun q_1 => bd (M_runs q_1) (fun q_2 => some q_2))
set_option maxHeartbeats 4000000 in
theorem kM_laysNow (l : Launch) {D : va_G} {ty : Nat → ClassId} {A : Nat → Prop} {o : Nat} {ad : Nat → Nat} {rs : va_W} {σ : PS} {σ' : PS} (hf : M_laysNow σ = some σ') : KV l yX7_laysNow cX7_laysNow 1 5 D ty A (wM ty o ad σ ++ rs) (wM ty o ad σ' ++ rs) [.ref o] := by
  refine KV.of (by decide) (Nat.le_of_ble_eq_true rfl) ?_
  intro p e R s m args below meth c Q C hR
  have C : Cx p R s m args c cX7_laysNow 1 RX7 D ty A 5 := C
  have hR : ∀ (σ2 : PS), σ2 = σ' → ∀ (H : Heap) (locs : List Loc) (pc : Nat) (ls : Array Slot), Hw D A s H locs (wM ty o ad σ2 ++ rs) → decode cX7_laysNow pc = .ok (.return_, 1) → W p l e R s m args below meth c H locs 0 0 Q (F0 m pc ls []) := by intro σ2 e9; cases e9; exact hR
  intro H locs ls h hl
  have hl : lv_has ls 1 [(0, .ref o)] := hl
  unfold M_laysNow at hf
  refine lv_aload_n C.x C.b dX7_laysNow_0 rfl (lv_at hl 0 rfl) ?_
  obtain ⟨q_1, hc, hf⟩ := bd_k (K := fun x => x) rfl hf
  refine cM_lays C h hc (Nat.le_of_ble_eq_true rfl) hl.1 (Nat.le_of_ble_eq_true rfl) dX7_laysNow_1 (fun H locs h => ?_)
  refine lv_aload_n C.x C.b dX7_laysNow_4 rfl (lv_at hl 0 rfl) ?_
  obtain ⟨q_2, hc, hf⟩ := bd_k (K := fun x => x) rfl hf
  refine cM_runs C h hc (Nat.le_of_ble_eq_true rfl) hl.1 (Nat.le_of_ble_eq_true rfl) dX7_laysNow_5 (fun H locs h => ?_)
  exact hR _ (some_k hf) _ _ _ _ h dX7_laysNow_8
theorem tM_laysNow : GoodIn lw_all (wsV RX7 311 RX7 yX7_laysNow (ws_ yX7_laysNow cX7_laysNow 1 none)) := lw_V q1881 q1883 qs102 q147 q1884
theorem cM_laysNow {p : Program} {l : Launch} {e : Env} {R : Room} {s : State} {m : MethodId} {args : Array Value} {below : List Frame} {meth : Method} {c : Code} {H : Heap} {locs : List Loc} {Q : State → Prop} {cc : ByteArray} {pc : Nat} {ls : Array Slot} {st : List Value} {nL d : Nat} {D : va_G} {ty : Nat → ClassId} {A : Nat → Prop} {o : Nat} {ad : Nat → Nat} {rs : va_W} {σ : PS} {q : PS} (C : Cx p R s m args c cc nL RX7 D ty A d) (h : Hw D A s H locs (wM ty o ad σ ++ rs)) (hc : M_laysNow σ = some q) (hd : 5 + 1 ≤ d) (hls : ls.size = nL) (hcat : (st.map fun v => v.category).sum ≤ 8) (dec : decode cc pc = .ok (.invokevirtual 311, 3)) (kk : ∀ (H : Heap) (locs : List Loc), Hw D A s H locs (wM ty o ad q ++ rs) → W p l e R s m args below meth c H locs 0 0 Q (F0 m (pc + 3) ls (st))) : W p l e R s m args below meth c H locs 0 0 Q (F0 m pc ls (.ref o :: st)) := KV.callV (As := []) C (kM_laysNow l hc) tM_laysNow ⟨rfl, by decide, by decide, by show _ = some 0; decide +kernel⟩ 0 7 rfl rfl rfl hd (by decide) (Nat.zero_le _) (Nat.zero_le _) h hls rfl hcat dec kk
def M_core (σ : PS) (v1 : Int32) (v2 : Int32) : Option (Int32 × PS) := nm (sI σ 0 0) (fun σ_1 => bd (M_isThen σ_1 v1 v2) (fun q_2 => if q_2 = 0 then some ((-2), σ_1) else bd (M_laysNow σ_1) (fun q_3 => bd (M_coreOf q_3 v1 v2) (fun q_4 => some (q_4, q_3)))))
set_option maxHeartbeats 4000000 in
theorem kM_core (l : Launch) {D : va_G} {ty : Nat → ClassId} {A : Nat → Prop} {o : Nat} {ad : Nat → Nat} {rs : va_W} {σ : PS} {σ' : PS} {v1 : Int32} {v2 : Int32} {r : Int32} (hf : M_core σ v1 v2 = some (r, σ')) : KI l yX7_core cX7_core 3 .int 6 D ty A (wM ty o ad σ ++ rs) (wM ty o ad σ' ++ rs) [.ref o, .int v1, .int v2] r := by
  refine KI.of (by decide) (Nat.le_of_ble_eq_true rfl) ?_
  intro p e R s m args below meth c Q C hR
  have C : Cx p R s m args c cX7_core 3 RX7 D ty A 6 := C
  have hR : ∀ (v : Int32) (σ2 : PS), (v, σ2) = (r, σ') → ∀ (H : Heap) (locs : List Loc) (pc : Nat) (ls : Array Slot), Hw D A s H locs (wM ty o ad σ2 ++ rs) → narrow .int (.int v) = .int v → decode cX7_core pc = .ok (.ireturn, 1) → W p l e R s m args below meth c H locs 0 0 Q (F0 m pc ls [.int v]) := by intro v σ2 e9; cases e9; exact hR
  intro H locs ls h hl
  have hl : lv_has ls 3 [(0, .ref o), (1, .int v1), (2, .int v2)] := hl
  unfold M_core at hf
  refine lv_aload_n C.x C.b dX7_core_0 rfl (lv_at hl 0 rfl) ?_
  refine lv_iconst (v := 0) C.x C.b dX7_core_1 (by decide) ?_
  obtain ⟨σ_1, e9, hf⟩ := nm_k (K := fun x => x) hf
  refine m_p0 C h e9 dX7_core_2 (fun H locs h => ?_)
  refine lv_aload_n C.x C.b dX7_core_5 rfl (lv_at hl 0 rfl) ?_
  refine lv_iload_n C.x C.b dX7_core_6 rfl (lv_at hl 1 rfl) ?_
  refine lv_iload_n C.x C.b dX7_core_7 rfl (lv_at hl 2 rfl) ?_
  obtain ⟨q_2, hc, hf⟩ := bd_k (K := fun x => x) rfl hf
  refine cM_isThen C h hc (Nat.le_of_ble_eq_true rfl) hl.1 (Nat.le_of_ble_eq_true rfl) dX7_core_8 (fun H locs h => ?_)
  refine lv_if_ne (tgt := 17) C.x C.b dX7_core_11 (by decide) (fun c9 => ?_) (fun c9 => ?_)
  · have hf := if_f (K := fun x => x) c9 hf
    refine lv_aload_n C.x C.b dX7_core_17 rfl (lv_at hl 0 rfl) ?_
    obtain ⟨q_3, hc, hf⟩ := bd_k (K := fun x => x) rfl hf
    refine cM_laysNow C h hc (Nat.le_of_ble_eq_true rfl) hl.1 (Nat.le_of_ble_eq_true rfl) dX7_core_18 (fun H locs h => ?_)
    refine lv_aload_n C.x C.b dX7_core_21 rfl (lv_at hl 0 rfl) ?_
    refine lv_iload_n C.x C.b dX7_core_22 rfl (lv_at hl 1 rfl) ?_
    refine lv_iload_n C.x C.b dX7_core_23 rfl (lv_at hl 2 rfl) ?_
    obtain ⟨q_4, hc, hf⟩ := bd_k (K := fun x => x) rfl hf
    refine cM_coreOf C h hc (Nat.le_of_ble_eq_true rfl) hl.1 (Nat.le_of_ble_eq_true rfl) dX7_core_24 (fun H locs h => ?_)
    exact hR _ _ (some_k hf) _ _ _ _ h rfl dX7_core_27
  · have hf := if_t (K := fun x => x) c9 hf
    refine lv_bipush (v := (-2)) C.x C.b dX7_core_14 (by decide) ?_
    exact hR _ _ (some_k hf) _ _ _ _ h rfl dX7_core_16
def M_strain (σ : PS) (v1 : Int32) (v2 : Int32) : Option (Int32 × PS) := nm (sI σ 0 0) (fun σ_1 => bd (M_isThen σ_1 v1 v2) (fun q_2 => if q_2 = 0 then some ((-2), σ_1) else bd (M_laysNow σ_1) (fun q_3 => bd (M_strainOf q_3 v1 v2) (fun q_4 => some (q_4, q_3)))))
set_option maxHeartbeats 4000000 in
theorem kM_strain (l : Launch) {D : va_G} {ty : Nat → ClassId} {A : Nat → Prop} {o : Nat} {ad : Nat → Nat} {rs : va_W} {σ : PS} {σ' : PS} {v1 : Int32} {v2 : Int32} {r : Int32} (hf : M_strain σ v1 v2 = some (r, σ')) : KI l yX7_strain cX7_strain 3 .int 6 D ty A (wM ty o ad σ ++ rs) (wM ty o ad σ' ++ rs) [.ref o, .int v1, .int v2] r := by
  refine KI.of (by decide) (Nat.le_of_ble_eq_true rfl) ?_
  intro p e R s m args below meth c Q C hR
  have C : Cx p R s m args c cX7_strain 3 RX7 D ty A 6 := C
  have hR : ∀ (v : Int32) (σ2 : PS), (v, σ2) = (r, σ') → ∀ (H : Heap) (locs : List Loc) (pc : Nat) (ls : Array Slot), Hw D A s H locs (wM ty o ad σ2 ++ rs) → narrow .int (.int v) = .int v → decode cX7_strain pc = .ok (.ireturn, 1) → W p l e R s m args below meth c H locs 0 0 Q (F0 m pc ls [.int v]) := by intro v σ2 e9; cases e9; exact hR
  intro H locs ls h hl
  have hl : lv_has ls 3 [(0, .ref o), (1, .int v1), (2, .int v2)] := hl
  unfold M_strain at hf
  refine lv_aload_n C.x C.b dX7_strain_0 rfl (lv_at hl 0 rfl) ?_
  refine lv_iconst (v := 0) C.x C.b dX7_strain_1 (by decide) ?_
  obtain ⟨σ_1, e9, hf⟩ := nm_k (K := fun x => x) hf
  refine m_p0 C h e9 dX7_strain_2 (fun H locs h => ?_)
  refine lv_aload_n C.x C.b dX7_strain_5 rfl (lv_at hl 0 rfl) ?_
  refine lv_iload_n C.x C.b dX7_strain_6 rfl (lv_at hl 1 rfl) ?_
  refine lv_iload_n C.x C.b dX7_strain_7 rfl (lv_at hl 2 rfl) ?_
  obtain ⟨q_2, hc, hf⟩ := bd_k (K := fun x => x) rfl hf
  refine cM_isThen C h hc (Nat.le_of_ble_eq_true rfl) hl.1 (Nat.le_of_ble_eq_true rfl) dX7_strain_8 (fun H locs h => ?_)
  refine lv_if_ne (tgt := 17) C.x C.b dX7_strain_11 (by decide) (fun c9 => ?_) (fun c9 => ?_)
  · have hf := if_f (K := fun x => x) c9 hf
    refine lv_aload_n C.x C.b dX7_strain_17 rfl (lv_at hl 0 rfl) ?_
    obtain ⟨q_3, hc, hf⟩ := bd_k (K := fun x => x) rfl hf
    refine cM_laysNow C h hc (Nat.le_of_ble_eq_true rfl) hl.1 (Nat.le_of_ble_eq_true rfl) dX7_strain_18 (fun H locs h => ?_)
    refine lv_aload_n C.x C.b dX7_strain_21 rfl (lv_at hl 0 rfl) ?_
    refine lv_iload_n C.x C.b dX7_strain_22 rfl (lv_at hl 1 rfl) ?_
    refine lv_iload_n C.x C.b dX7_strain_23 rfl (lv_at hl 2 rfl) ?_
    obtain ⟨q_4, hc, hf⟩ := bd_k (K := fun x => x) rfl hf
    refine cM_strainOf C h hc (Nat.le_of_ble_eq_true rfl) hl.1 (Nat.le_of_ble_eq_true rfl) dX7_strain_24 (fun H locs h => ?_)
    exact hR _ _ (some_k hf) _ _ _ _ h rfl dX7_strain_27
  · have hf := if_t (K := fun x => x) c9 hf
    refine lv_bipush (v := (-2)) C.x C.b dX7_strain_14 (by decide) ?_
    exact hR _ _ (some_k hf) _ _ _ _ h rfl dX7_strain_16
def M_peak (σ : PS) (v1 : Int32) : Option (Int32 × PS) := nm (sI σ 0 0) (fun σ_1 => bd (M_isPiece σ_1 v1.toInt64) (fun q_2 => if q_2 = 0 then some ((-2), σ_1) else bd (M_laysNow σ_1) (fun q_3 => bd (M_peakOf q_3 v1) (fun q_4 => bd (M_strainOf q_3 v1 q_4) (fun q_5 => some (q_5, q_3))))))
set_option maxHeartbeats 4000000 in
theorem kM_peak (l : Launch) {D : va_G} {ty : Nat → ClassId} {A : Nat → Prop} {o : Nat} {ad : Nat → Nat} {rs : va_W} {σ : PS} {σ' : PS} {v1 : Int32} {r : Int32} (hf : M_peak σ v1 = some (r, σ')) : KI l yX7_peak cX7_peak 2 .int 6 D ty A (wM ty o ad σ ++ rs) (wM ty o ad σ' ++ rs) [.ref o, .int v1] r := by
  refine KI.of (by decide) (Nat.le_of_ble_eq_true rfl) ?_
  intro p e R s m args below meth c Q C hR
  have C : Cx p R s m args c cX7_peak 2 RX7 D ty A 6 := C
  have hR : ∀ (v : Int32) (σ2 : PS), (v, σ2) = (r, σ') → ∀ (H : Heap) (locs : List Loc) (pc : Nat) (ls : Array Slot), Hw D A s H locs (wM ty o ad σ2 ++ rs) → narrow .int (.int v) = .int v → decode cX7_peak pc = .ok (.ireturn, 1) → W p l e R s m args below meth c H locs 0 0 Q (F0 m pc ls [.int v]) := by intro v σ2 e9; cases e9; exact hR
  intro H locs ls h hl
  have hl : lv_has ls 2 [(0, .ref o), (1, .int v1)] := hl
  unfold M_peak at hf
  refine lv_aload_n C.x C.b dX7_peak_0 rfl (lv_at hl 0 rfl) ?_
  refine lv_iconst (v := 0) C.x C.b dX7_peak_1 (by decide) ?_
  obtain ⟨σ_1, e9, hf⟩ := nm_k (K := fun x => x) hf
  refine m_p0 C h e9 dX7_peak_2 (fun H locs h => ?_)
  refine lv_aload_n C.x C.b dX7_peak_5 rfl (lv_at hl 0 rfl) ?_
  refine lv_iload_n C.x C.b dX7_peak_6 rfl (lv_at hl 1 rfl) ?_
  refine lv_i2l C.x C.b dX7_peak_7 rfl ?_
  obtain ⟨q_2, hc, hf⟩ := bd_k (K := fun x => x) rfl hf
  refine cM_isPiece C h hc (Nat.le_of_ble_eq_true rfl) hl.1 (Nat.le_of_ble_eq_true rfl) dX7_peak_8 (fun H locs h => ?_)
  refine lv_if_ne (tgt := 17) C.x C.b dX7_peak_11 (by decide) (fun c9 => ?_) (fun c9 => ?_)
  · have hf := if_f (K := fun x => x) c9 hf
    refine lv_aload_n C.x C.b dX7_peak_17 rfl (lv_at hl 0 rfl) ?_
    obtain ⟨q_3, hc, hf⟩ := bd_k (K := fun x => x) rfl hf
    refine cM_laysNow C h hc (Nat.le_of_ble_eq_true rfl) hl.1 (Nat.le_of_ble_eq_true rfl) dX7_peak_18 (fun H locs h => ?_)
    refine lv_aload_n C.x C.b dX7_peak_21 rfl (lv_at hl 0 rfl) ?_
    refine lv_iload_n C.x C.b dX7_peak_22 rfl (lv_at hl 1 rfl) ?_
    refine lv_aload_n C.x C.b dX7_peak_23 rfl (lv_at hl 0 rfl) ?_
    refine lv_iload_n C.x C.b dX7_peak_24 rfl (lv_at hl 1 rfl) ?_
    obtain ⟨q_4, hc, hf⟩ := bd_k (K := fun x => x) rfl hf
    refine cM_peakOf C h hc (Nat.le_of_ble_eq_true rfl) hl.1 (Nat.le_of_ble_eq_true rfl) dX7_peak_25 (fun H locs h => ?_)
    obtain ⟨q_5, hc, hf⟩ := bd_k (K := fun x => x) rfl hf
    refine cM_strainOf C h hc (Nat.le_of_ble_eq_true rfl) hl.1 (Nat.le_of_ble_eq_true rfl) dX7_peak_28 (fun H locs h => ?_)
    exact hR _ _ (some_k hf) _ _ _ _ h rfl dX7_peak_31
  · have hf := if_t (K := fun x => x) c9 hf
    refine lv_bipush (v := (-2)) C.x C.b dX7_peak_14 (by decide) ?_
    exact hR _ _ (some_k hf) _ _ _ _ h rfl dX7_peak_16
def M_when (σ : PS) (v1 : Int32) : Option (Int32 × PS) := nm (sI σ 0 0) (fun σ_1 => bd (M_isPiece σ_1 v1.toInt64) (fun q_2 => if q_2 = 0 then some ((-2), σ_1) else bd (M_laysNow σ_1) (fun q_3 => bd (M_peakOf q_3 v1) (fun q_4 => some (q_4, q_3)))))
set_option maxHeartbeats 4000000 in
theorem kM_when (l : Launch) {D : va_G} {ty : Nat → ClassId} {A : Nat → Prop} {o : Nat} {ad : Nat → Nat} {rs : va_W} {σ : PS} {σ' : PS} {v1 : Int32} {r : Int32} (hf : M_when σ v1 = some (r, σ')) : KI l yX7_when cX7_when 2 .int 6 D ty A (wM ty o ad σ ++ rs) (wM ty o ad σ' ++ rs) [.ref o, .int v1] r := by
  refine KI.of (by decide) (Nat.le_of_ble_eq_true rfl) ?_
  intro p e R s m args below meth c Q C hR
  have C : Cx p R s m args c cX7_when 2 RX7 D ty A 6 := C
  have hR : ∀ (v : Int32) (σ2 : PS), (v, σ2) = (r, σ') → ∀ (H : Heap) (locs : List Loc) (pc : Nat) (ls : Array Slot), Hw D A s H locs (wM ty o ad σ2 ++ rs) → narrow .int (.int v) = .int v → decode cX7_when pc = .ok (.ireturn, 1) → W p l e R s m args below meth c H locs 0 0 Q (F0 m pc ls [.int v]) := by intro v σ2 e9; cases e9; exact hR
  intro H locs ls h hl
  have hl : lv_has ls 2 [(0, .ref o), (1, .int v1)] := hl
  unfold M_when at hf
  refine lv_aload_n C.x C.b dX7_when_0 rfl (lv_at hl 0 rfl) ?_
  refine lv_iconst (v := 0) C.x C.b dX7_when_1 (by decide) ?_
  obtain ⟨σ_1, e9, hf⟩ := nm_k (K := fun x => x) hf
  refine m_p0 C h e9 dX7_when_2 (fun H locs h => ?_)
  refine lv_aload_n C.x C.b dX7_when_5 rfl (lv_at hl 0 rfl) ?_
  refine lv_iload_n C.x C.b dX7_when_6 rfl (lv_at hl 1 rfl) ?_
  refine lv_i2l C.x C.b dX7_when_7 rfl ?_
  obtain ⟨q_2, hc, hf⟩ := bd_k (K := fun x => x) rfl hf
  refine cM_isPiece C h hc (Nat.le_of_ble_eq_true rfl) hl.1 (Nat.le_of_ble_eq_true rfl) dX7_when_8 (fun H locs h => ?_)
  refine lv_if_ne (tgt := 17) C.x C.b dX7_when_11 (by decide) (fun c9 => ?_) (fun c9 => ?_)
  · have hf := if_f (K := fun x => x) c9 hf
    refine lv_aload_n C.x C.b dX7_when_17 rfl (lv_at hl 0 rfl) ?_
    obtain ⟨q_3, hc, hf⟩ := bd_k (K := fun x => x) rfl hf
    refine cM_laysNow C h hc (Nat.le_of_ble_eq_true rfl) hl.1 (Nat.le_of_ble_eq_true rfl) dX7_when_18 (fun H locs h => ?_)
    refine lv_aload_n C.x C.b dX7_when_21 rfl (lv_at hl 0 rfl) ?_
    refine lv_iload_n C.x C.b dX7_when_22 rfl (lv_at hl 1 rfl) ?_
    obtain ⟨q_4, hc, hf⟩ := bd_k (K := fun x => x) rfl hf
    refine cM_peakOf C h hc (Nat.le_of_ble_eq_true rfl) hl.1 (Nat.le_of_ble_eq_true rfl) dX7_when_23 (fun H locs h => ?_)
    exact hR _ _ (some_k hf) _ _ _ _ h rfl dX7_when_26
  · have hf := if_t (K := fun x => x) c9 hf
    refine lv_bipush (v := (-2)) C.x C.b dX7_when_14 (by decide) ?_
    exact hR _ _ (some_k hf) _ _ _ _ h rfl dX7_when_16
def M_frozen (σ : PS) (v1 : Int32) : Option (Int32 × PS) := nm (sI σ 0 0) (fun σ_1 => bd (M_isPiece σ_1 v1.toInt64) (fun q_2 => if q_2 = 0 then some ((-2), σ_1) else bd (M_laysNow σ_1) (fun q_3 => ix v1 6 (some (rA q_3 32 v1, q_3)))))
set_option maxHeartbeats 4000000 in
theorem kM_frozen (l : Launch) {D : va_G} {ty : Nat → ClassId} {A : Nat → Prop} {o : Nat} {ad : Nat → Nat} {rs : va_W} {σ : PS} {σ' : PS} {v1 : Int32} {r : Int32} (hf : M_frozen σ v1 = some (r, σ')) : KI l yX7_frozen cX7_frozen 2 .int 6 D ty A (wM ty o ad σ ++ rs) (wM ty o ad σ' ++ rs) [.ref o, .int v1] r := by
  refine KI.of (by decide) (Nat.le_of_ble_eq_true rfl) ?_
  intro p e R s m args below meth c Q C hR
  have C : Cx p R s m args c cX7_frozen 2 RX7 D ty A 6 := C
  have hR : ∀ (v : Int32) (σ2 : PS), (v, σ2) = (r, σ') → ∀ (H : Heap) (locs : List Loc) (pc : Nat) (ls : Array Slot), Hw D A s H locs (wM ty o ad σ2 ++ rs) → narrow .int (.int v) = .int v → decode cX7_frozen pc = .ok (.ireturn, 1) → W p l e R s m args below meth c H locs 0 0 Q (F0 m pc ls [.int v]) := by intro v σ2 e9; cases e9; exact hR
  intro H locs ls h hl
  have hl : lv_has ls 2 [(0, .ref o), (1, .int v1)] := hl
  unfold M_frozen at hf
  refine lv_aload_n C.x C.b dX7_frozen_0 rfl (lv_at hl 0 rfl) ?_
  refine lv_iconst (v := 0) C.x C.b dX7_frozen_1 (by decide) ?_
  obtain ⟨σ_1, e9, hf⟩ := nm_k (K := fun x => x) hf
  refine m_p0 C h e9 dX7_frozen_2 (fun H locs h => ?_)
  refine lv_aload_n C.x C.b dX7_frozen_5 rfl (lv_at hl 0 rfl) ?_
  refine lv_iload_n C.x C.b dX7_frozen_6 rfl (lv_at hl 1 rfl) ?_
  refine lv_i2l C.x C.b dX7_frozen_7 rfl ?_
  obtain ⟨q_2, hc, hf⟩ := bd_k (K := fun x => x) rfl hf
  refine cM_isPiece C h hc (Nat.le_of_ble_eq_true rfl) hl.1 (Nat.le_of_ble_eq_true rfl) dX7_frozen_8 (fun H locs h => ?_)
  refine lv_if_ne (tgt := 17) C.x C.b dX7_frozen_11 (by decide) (fun c9 => ?_) (fun c9 => ?_)
  · have hf := if_f (K := fun x => x) c9 hf
    refine lv_aload_n C.x C.b dX7_frozen_17 rfl (lv_at hl 0 rfl) ?_
    obtain ⟨q_3, hc, hf⟩ := bd_k (K := fun x => x) rfl hf
    refine cM_laysNow C h hc (Nat.le_of_ble_eq_true rfl) hl.1 (Nat.le_of_ble_eq_true rfl) dX7_frozen_18 (fun H locs h => ?_)
    refine lv_aload_n C.x C.b dX7_frozen_21 rfl (lv_at hl 0 rfl) ?_
    refine m_g32 C h dX7_frozen_22 ?_
    refine lv_iload_n C.x C.b dX7_frozen_25 rfl (lv_at hl 1 rfl) ?_
    obtain ⟨hi, hf⟩ := ix_k (K := fun x => x) rfl hf
    refine m_a32 C h hi dX7_frozen_26 ?_
    exact hR _ _ (some_k hf) _ _ _ _ h rfl dX7_frozen_27
  · have hf := if_t (K := fun x => x) c9 hf
    refine lv_bipush (v := (-2)) C.x C.b dX7_frozen_14 (by decide) ?_
    exact hR _ _ (some_k hf) _ _ _ _ h rfl dX7_frozen_16
def M_sets (σ : PS) (v1 : Int32) : Option (Int32 × PS) := nm (sI σ 0 0) (fun σ_1 => bd (M_isPiece σ_1 v1.toInt64) (fun q_2 => if q_2 = 0 then some ((-2), σ_1) else bd (M_laysNow σ_1) (fun q_3 => ix v1 6 (some (rA q_3 33 v1, q_3)))))
set_option maxHeartbeats 4000000 in
theorem kM_sets (l : Launch) {D : va_G} {ty : Nat → ClassId} {A : Nat → Prop} {o : Nat} {ad : Nat → Nat} {rs : va_W} {σ : PS} {σ' : PS} {v1 : Int32} {r : Int32} (hf : M_sets σ v1 = some (r, σ')) : KI l yX7_sets cX7_sets 2 .int 6 D ty A (wM ty o ad σ ++ rs) (wM ty o ad σ' ++ rs) [.ref o, .int v1] r := by
  refine KI.of (by decide) (Nat.le_of_ble_eq_true rfl) ?_
  intro p e R s m args below meth c Q C hR
  have C : Cx p R s m args c cX7_sets 2 RX7 D ty A 6 := C
  have hR : ∀ (v : Int32) (σ2 : PS), (v, σ2) = (r, σ') → ∀ (H : Heap) (locs : List Loc) (pc : Nat) (ls : Array Slot), Hw D A s H locs (wM ty o ad σ2 ++ rs) → narrow .int (.int v) = .int v → decode cX7_sets pc = .ok (.ireturn, 1) → W p l e R s m args below meth c H locs 0 0 Q (F0 m pc ls [.int v]) := by intro v σ2 e9; cases e9; exact hR
  intro H locs ls h hl
  have hl : lv_has ls 2 [(0, .ref o), (1, .int v1)] := hl
  unfold M_sets at hf
  refine lv_aload_n C.x C.b dX7_sets_0 rfl (lv_at hl 0 rfl) ?_
  refine lv_iconst (v := 0) C.x C.b dX7_sets_1 (by decide) ?_
  obtain ⟨σ_1, e9, hf⟩ := nm_k (K := fun x => x) hf
  refine m_p0 C h e9 dX7_sets_2 (fun H locs h => ?_)
  refine lv_aload_n C.x C.b dX7_sets_5 rfl (lv_at hl 0 rfl) ?_
  refine lv_iload_n C.x C.b dX7_sets_6 rfl (lv_at hl 1 rfl) ?_
  refine lv_i2l C.x C.b dX7_sets_7 rfl ?_
  obtain ⟨q_2, hc, hf⟩ := bd_k (K := fun x => x) rfl hf
  refine cM_isPiece C h hc (Nat.le_of_ble_eq_true rfl) hl.1 (Nat.le_of_ble_eq_true rfl) dX7_sets_8 (fun H locs h => ?_)
  refine lv_if_ne (tgt := 17) C.x C.b dX7_sets_11 (by decide) (fun c9 => ?_) (fun c9 => ?_)
  · have hf := if_f (K := fun x => x) c9 hf
    refine lv_aload_n C.x C.b dX7_sets_17 rfl (lv_at hl 0 rfl) ?_
    obtain ⟨q_3, hc, hf⟩ := bd_k (K := fun x => x) rfl hf
    refine cM_laysNow C h hc (Nat.le_of_ble_eq_true rfl) hl.1 (Nat.le_of_ble_eq_true rfl) dX7_sets_18 (fun H locs h => ?_)
    refine lv_aload_n C.x C.b dX7_sets_21 rfl (lv_at hl 0 rfl) ?_
    refine m_g33 C h dX7_sets_22 ?_
    refine lv_iload_n C.x C.b dX7_sets_25 rfl (lv_at hl 1 rfl) ?_
    obtain ⟨hi, hf⟩ := ix_k (K := fun x => x) rfl hf
    refine m_a33 C h hi dX7_sets_26 ?_
    exact hR _ _ (some_k hf) _ _ _ _ h rfl dX7_sets_27
  · have hf := if_t (K := fun x => x) c9 hf
    refine lv_bipush (v := (-2)) C.x C.b dX7_sets_14 (by decide) ?_
    exact hR _ _ (some_k hf) _ _ _ _ h rfl dX7_sets_16
def M_cracks (σ : PS) (v1 : Int32) : Option (Int32 × PS) := nm (sI σ 0 0) (fun σ_1 => bd (M_isPiece σ_1 v1.toInt64) (fun q_2 => if q_2 = 0 then some ((-2), σ_1) else bd (M_laysNow σ_1) (fun q_3 => ix v1 6 (some (rA q_3 34 v1, q_3)))))
set_option maxHeartbeats 4000000 in
theorem kM_cracks (l : Launch) {D : va_G} {ty : Nat → ClassId} {A : Nat → Prop} {o : Nat} {ad : Nat → Nat} {rs : va_W} {σ : PS} {σ' : PS} {v1 : Int32} {r : Int32} (hf : M_cracks σ v1 = some (r, σ')) : KI l yX7_cracks cX7_cracks 2 .int 6 D ty A (wM ty o ad σ ++ rs) (wM ty o ad σ' ++ rs) [.ref o, .int v1] r := by
  refine KI.of (by decide) (Nat.le_of_ble_eq_true rfl) ?_
  intro p e R s m args below meth c Q C hR
  have C : Cx p R s m args c cX7_cracks 2 RX7 D ty A 6 := C
  have hR : ∀ (v : Int32) (σ2 : PS), (v, σ2) = (r, σ') → ∀ (H : Heap) (locs : List Loc) (pc : Nat) (ls : Array Slot), Hw D A s H locs (wM ty o ad σ2 ++ rs) → narrow .int (.int v) = .int v → decode cX7_cracks pc = .ok (.ireturn, 1) → W p l e R s m args below meth c H locs 0 0 Q (F0 m pc ls [.int v]) := by intro v σ2 e9; cases e9; exact hR
  intro H locs ls h hl
  have hl : lv_has ls 2 [(0, .ref o), (1, .int v1)] := hl
  unfold M_cracks at hf
  refine lv_aload_n C.x C.b dX7_cracks_0 rfl (lv_at hl 0 rfl) ?_
  refine lv_iconst (v := 0) C.x C.b dX7_cracks_1 (by decide) ?_
  obtain ⟨σ_1, e9, hf⟩ := nm_k (K := fun x => x) hf
  refine m_p0 C h e9 dX7_cracks_2 (fun H locs h => ?_)
  refine lv_aload_n C.x C.b dX7_cracks_5 rfl (lv_at hl 0 rfl) ?_
  refine lv_iload_n C.x C.b dX7_cracks_6 rfl (lv_at hl 1 rfl) ?_
  refine lv_i2l C.x C.b dX7_cracks_7 rfl ?_
  obtain ⟨q_2, hc, hf⟩ := bd_k (K := fun x => x) rfl hf
  refine cM_isPiece C h hc (Nat.le_of_ble_eq_true rfl) hl.1 (Nat.le_of_ble_eq_true rfl) dX7_cracks_8 (fun H locs h => ?_)
  refine lv_if_ne (tgt := 17) C.x C.b dX7_cracks_11 (by decide) (fun c9 => ?_) (fun c9 => ?_)
  · have hf := if_f (K := fun x => x) c9 hf
    refine lv_aload_n C.x C.b dX7_cracks_17 rfl (lv_at hl 0 rfl) ?_
    obtain ⟨q_3, hc, hf⟩ := bd_k (K := fun x => x) rfl hf
    refine cM_laysNow C h hc (Nat.le_of_ble_eq_true rfl) hl.1 (Nat.le_of_ble_eq_true rfl) dX7_cracks_18 (fun H locs h => ?_)
    refine lv_aload_n C.x C.b dX7_cracks_21 rfl (lv_at hl 0 rfl) ?_
    refine m_g34 C h dX7_cracks_22 ?_
    refine lv_iload_n C.x C.b dX7_cracks_25 rfl (lv_at hl 1 rfl) ?_
    obtain ⟨hi, hf⟩ := ix_k (K := fun x => x) rfl hf
    refine m_a34 C h hi dX7_cracks_26 ?_
    exact hR _ _ (some_k hf) _ _ _ _ h rfl dX7_cracks_27
  · have hf := if_t (K := fun x => x) c9 hf
    refine lv_bipush (v := (-2)) C.x C.b dX7_cracks_14 (by decide) ?_
    exact hR _ _ (some_k hf) _ _ _ _ h rfl dX7_cracks_16
def M_why (σ : PS) (v1 : Int32) : Option (Int32 × PS) := nm (sI σ 0 0) (fun σ_1 => bd (M_isPiece σ_1 v1.toInt64) (fun q_2 => if q_2 = 0 then some ((-2), σ_1) else bd (M_laysNow σ_1) (fun q_3 => ix v1 6 (some (rA q_3 35 v1, q_3)))))
set_option maxHeartbeats 4000000 in
theorem kM_why (l : Launch) {D : va_G} {ty : Nat → ClassId} {A : Nat → Prop} {o : Nat} {ad : Nat → Nat} {rs : va_W} {σ : PS} {σ' : PS} {v1 : Int32} {r : Int32} (hf : M_why σ v1 = some (r, σ')) : KI l yX7_why cX7_why 2 .int 6 D ty A (wM ty o ad σ ++ rs) (wM ty o ad σ' ++ rs) [.ref o, .int v1] r := by
  refine KI.of (by decide) (Nat.le_of_ble_eq_true rfl) ?_
  intro p e R s m args below meth c Q C hR
  have C : Cx p R s m args c cX7_why 2 RX7 D ty A 6 := C
  have hR : ∀ (v : Int32) (σ2 : PS), (v, σ2) = (r, σ') → ∀ (H : Heap) (locs : List Loc) (pc : Nat) (ls : Array Slot), Hw D A s H locs (wM ty o ad σ2 ++ rs) → narrow .int (.int v) = .int v → decode cX7_why pc = .ok (.ireturn, 1) → W p l e R s m args below meth c H locs 0 0 Q (F0 m pc ls [.int v]) := by intro v σ2 e9; cases e9; exact hR
  intro H locs ls h hl
  have hl : lv_has ls 2 [(0, .ref o), (1, .int v1)] := hl
  unfold M_why at hf
  refine lv_aload_n C.x C.b dX7_why_0 rfl (lv_at hl 0 rfl) ?_
  refine lv_iconst (v := 0) C.x C.b dX7_why_1 (by decide) ?_
  obtain ⟨σ_1, e9, hf⟩ := nm_k (K := fun x => x) hf
  refine m_p0 C h e9 dX7_why_2 (fun H locs h => ?_)
  refine lv_aload_n C.x C.b dX7_why_5 rfl (lv_at hl 0 rfl) ?_
  refine lv_iload_n C.x C.b dX7_why_6 rfl (lv_at hl 1 rfl) ?_
  refine lv_i2l C.x C.b dX7_why_7 rfl ?_
  obtain ⟨q_2, hc, hf⟩ := bd_k (K := fun x => x) rfl hf
  refine cM_isPiece C h hc (Nat.le_of_ble_eq_true rfl) hl.1 (Nat.le_of_ble_eq_true rfl) dX7_why_8 (fun H locs h => ?_)
  refine lv_if_ne (tgt := 17) C.x C.b dX7_why_11 (by decide) (fun c9 => ?_) (fun c9 => ?_)
  · have hf := if_f (K := fun x => x) c9 hf
    refine lv_aload_n C.x C.b dX7_why_17 rfl (lv_at hl 0 rfl) ?_
    obtain ⟨q_3, hc, hf⟩ := bd_k (K := fun x => x) rfl hf
    refine cM_laysNow C h hc (Nat.le_of_ble_eq_true rfl) hl.1 (Nat.le_of_ble_eq_true rfl) dX7_why_18 (fun H locs h => ?_)
    refine lv_aload_n C.x C.b dX7_why_21 rfl (lv_at hl 0 rfl) ?_
    refine m_g35 C h dX7_why_22 ?_
    refine lv_iload_n C.x C.b dX7_why_25 rfl (lv_at hl 1 rfl) ?_
    obtain ⟨hi, hf⟩ := ix_k (K := fun x => x) rfl hf
    refine m_a35 C h hi dX7_why_26 ?_
    exact hR _ _ (some_k hf) _ _ _ _ h rfl dX7_why_27
  · have hf := if_t (K := fun x => x) c9 hf
    refine lv_bipush (v := (-2)) C.x C.b dX7_why_14 (by decide) ?_
    exact hR _ _ (some_k hf) _ _ _ _ h rfl dX7_why_16
def M_whole_j67 (σ : PS) (v2 : Int32) : Option (Int32 × PS) := some (v2, σ)
def M_whole_j59 (σ : PS) (v1 : Int32) (v3 : Int32) (x0 : Int32) (x1 : Int32) : Option ((Int32 × Int32) ⊕ (Int32 × PS)) := nm (x1 ||| x0) (fun v2_1 => nm (v3 + 1) (fun v3_2 => some (.inl (v2_1, v3_2))))
def M_whole_j58 (σ : PS) (v1 : Int32) (v3 : Int32) (x0 : Int32) : Option ((Int32 × Int32) ⊕ (Int32 × PS)) := M_whole_j59 σ v1 v3 0 x0
def M_whole_l25 (σ : PS) (v1 : Int32) (v2 : Int32) (v3 : Int32) : Option ((Int32 × Int32) ⊕ (Int32 × PS)) := bd (M_pieces σ) (fun q_3 => if q_3 ≤ v3 then up (M_whole_j67 σ v2) else bd (M_hasCome σ v3 v1) (fun q_4 => if q_4 = 0 then M_whole_j58 σ v1 v3 v2 else bd (M_isWhole σ v3 v1) (fun q_5 => if q_5 = 0 then M_whole_j58 σ v1 v3 v2 else M_whole_j59 σ v1 v3 (1 <<< (v3 &&& 31)) v2)))
def M_whole_B25 (σ : PS) (v1 : Int32) : (Int32 × Int32) → Option ((Int32 × Int32) ⊕ (Int32 × PS)) := fun t => M_whole_l25 σ v1 t.1 t.2
def M_whole (σ : PS) (v1 : Int32) : Option (Int32 × PS) := nm (sI σ 0 0) (fun σ_6 => bd (M_isStep σ_6 v1.toInt64) (fun q_7 => if q_7 = 0 then some ((-2), σ_6) else bd (M_laysNow σ_6) (fun q_8 => loop (M_whole_B25 q_8 v1) fu (0, 0))))
set_option maxHeartbeats 4000000 in
theorem kM_whole (l : Launch) {D : va_G} {ty : Nat → ClassId} {A : Nat → Prop} {o : Nat} {ad : Nat → Nat} {rs : va_W} {σ : PS} {σ' : PS} {v1 : Int32} {r : Int32} (hf : M_whole σ v1 = some (r, σ')) : KI l yX7_whole cX7_whole 4 .int 6 D ty A (wM ty o ad σ ++ rs) (wM ty o ad σ' ++ rs) [.ref o, .int v1] r := by
  refine KI.of (by decide) (Nat.le_of_ble_eq_true rfl) ?_
  intro p e R s m args below meth c Q C hR
  have C : Cx p R s m args c cX7_whole 4 RX7 D ty A 6 := C
  have hR : ∀ (v : Int32) (σ2 : PS), (v, σ2) = (r, σ') → ∀ (H : Heap) (locs : List Loc) (pc : Nat) (ls : Array Slot), Hw D A s H locs (wM ty o ad σ2 ++ rs) → narrow .int (.int v) = .int v → decode cX7_whole pc = .ok (.ireturn, 1) → W p l e R s m args below meth c H locs 0 0 Q (F0 m pc ls [.int v]) := by intro v σ2 e9; cases e9; exact hR
  have j67 : ∀ (σ : PS) (v2 : Int32) (H : Heap) (locs : List Loc) (ls : Array Slot), Hw D A s H locs (wM ty o ad σ ++ rs) → lv_has ls 4 [(2, .int v2)] → M_whole_j67 σ v2 = some (r, σ') → W p l e R s m args below meth c H locs 0 0 Q (F0 m 67 ls []) := by
    intro σ v2 H locs ls h hl hf
    unfold M_whole_j67 at hf
    refine lv_iload_n C.x C.b dX7_whole_67 rfl (lv_at hl 0 rfl) ?_
    exact hR _ _ (some_k hf) _ _ _ _ h rfl dX7_whole_68
  have l25 : ∀ (σ : PS) (n25 : Nat) (v2 : Int32) (v3 : Int32) (H : Heap) (locs : List Loc) (ls : Array Slot), Hw D A s H locs (wM ty o ad σ ++ rs) → lv_has ls 4 [(0, .ref o), (1, .int v1), (2, .int v2), (3, .int v3)] → loop (M_whole_B25 σ v1) n25 (v2, v3) = some (r, σ') → W p l e R s m args below meth c H locs 0 0 Q (F0 m 25 ls []) := by
    intro σ n25
    induction n25 with
    | zero => intro v2 v3 H locs ls h hl hf; exact (none_k hf).elim
    | succ n25 ih25 =>
      have j59 : ∀ (v3 : Int32) (x0 : Int32) (x1 : Int32) (H : Heap) (locs : List Loc) (ls : Array Slot), Hw D A s H locs (wM ty o ad σ ++ rs) → lv_has ls 4 [(0, .ref o), (1, .int v1), (3, .int v3)] → bl (M_whole_B25 σ v1) n25 (M_whole_j59 σ v1 v3 x0 x1) = some (r, σ') → W p l e R s m args below meth c H locs 0 0 Q (F0 m 59 ls [.int x0, .int x1]) := by
        intro v3 x0 x1 H locs ls h hl hf
        unfold M_whole_j59 at hf
        refine lv_ior C.x C.b dX7_whole_59 ?_
        obtain ⟨v2_1, e9, hf⟩ := nm_k (K := bl (M_whole_B25 σ v1) n25) hf
        refine lv_topI e9 ?_
        refine lv_istore_n (lv' := [(2, .int v2_1), (0, .ref o), (1, .int v1), (3, .int v3)]) C.x C.b dX7_whole_60 rfl hl (by decide) rfl (fun ls hl => ?_)
        obtain ⟨v3_2, e9, hf⟩ := nm_k (K := bl (M_whole_B25 σ v1) n25) hf
        refine lv_iinc (v := v3_2) (lv' := [(3, .int v3_2), (2, .int v2_1), (0, .ref o), (1, .int v1)]) C.x C.b dX7_whole_61 hl (k := 3) rfl (iinc_e (k := 1) (by decide) e9) (by decide) rfl (fun ls hl => ?_)
        refine lv_goto (tgt := 25) C.x C.b dX7_whole_64 (by decide) ?_
        exact ih25 v2_1 v3_2 _ _ _ h (lv_sub hl [2, 3, 1, 0] rfl) hf
      have j58 : ∀ (v3 : Int32) (x0 : Int32) (H : Heap) (locs : List Loc) (ls : Array Slot), Hw D A s H locs (wM ty o ad σ ++ rs) → lv_has ls 4 [(0, .ref o), (1, .int v1), (3, .int v3)] → bl (M_whole_B25 σ v1) n25 (M_whole_j58 σ v1 v3 x0) = some (r, σ') → W p l e R s m args below meth c H locs 0 0 Q (F0 m 58 ls [.int x0]) := by
        intro v3 x0 H locs ls h hl hf
        unfold M_whole_j58 at hf
        refine lv_iconst (v := 0) C.x C.b dX7_whole_58 (by decide) ?_
        exact j59 v3 0 x0 _ _ _ h (lv_sub hl [0, 1, 2] rfl) hf
      intro v2 v3 H locs ls h hl hf
      have hf : bl (M_whole_B25 σ v1) n25 (M_whole_l25 σ v1 v2 v3) = some (r, σ') := hf
      unfold M_whole_l25 at hf
      refine lv_iload_n C.x C.b dX7_whole_25 rfl (lv_at hl 3 rfl) ?_
      refine lv_aload_n C.x C.b dX7_whole_26 rfl (lv_at hl 0 rfl) ?_
      obtain ⟨q_3, hc, hf⟩ := bd_k (K := bl (M_whole_B25 σ v1) n25) rfl hf
      refine cM_pieces C h hc (Nat.le_of_ble_eq_true rfl) hl.1 (Nat.le_of_ble_eq_true rfl) dX7_whole_27 (fun H locs h => ?_)
      refine lv_icmp_ge (tgt := 67) C.x C.b dX7_whole_30 (by decide) (fun c9 => ?_) (fun c9 => ?_)
      · have hf := if_t (K := bl (M_whole_B25 σ v1) n25) c9 hf
        have hf := bl_upK (K := fun x => x) hf
        exact j67 σ v2 _ _ _ h (lv_sub hl [2] rfl) hf
      · have hf := if_f (K := bl (M_whole_B25 σ v1) n25) c9 hf
        refine lv_iload_n C.x C.b dX7_whole_33 rfl (lv_at hl 2 rfl) ?_
        refine lv_aload_n C.x C.b dX7_whole_34 rfl (lv_at hl 0 rfl) ?_
        refine lv_iload_n C.x C.b dX7_whole_35 rfl (lv_at hl 3 rfl) ?_
        refine lv_iload_n C.x C.b dX7_whole_36 rfl (lv_at hl 1 rfl) ?_
        obtain ⟨q_4, hc, hf⟩ := bd_k (K := bl (M_whole_B25 σ v1) n25) rfl hf
        refine cM_hasCome C h hc (Nat.le_of_ble_eq_true rfl) hl.1 (Nat.le_of_ble_eq_true rfl) dX7_whole_37 (fun H locs h => ?_)
        refine lv_if_eq (tgt := 58) C.x C.b dX7_whole_40 (by decide) (fun c9 => ?_) (fun c9 => ?_)
        · have hf := if_t (K := bl (M_whole_B25 σ v1) n25) c9 hf
          exact j58 v3 v2 _ _ _ h (lv_sub hl [0, 1, 3] rfl) hf
        · have hf := if_f (K := bl (M_whole_B25 σ v1) n25) c9 hf
          refine lv_aload_n C.x C.b dX7_whole_43 rfl (lv_at hl 0 rfl) ?_
          refine lv_iload_n C.x C.b dX7_whole_44 rfl (lv_at hl 3 rfl) ?_
          refine lv_iload_n C.x C.b dX7_whole_45 rfl (lv_at hl 1 rfl) ?_
          obtain ⟨q_5, hc, hf⟩ := bd_k (K := bl (M_whole_B25 σ v1) n25) rfl hf
          refine cM_isWhole C h hc (Nat.le_of_ble_eq_true rfl) hl.1 (Nat.le_of_ble_eq_true rfl) dX7_whole_46 (fun H locs h => ?_)
          refine lv_if_eq (tgt := 58) C.x C.b dX7_whole_49 (by decide) (fun c9 => ?_) (fun c9 => ?_)
          · have hf := if_t (K := bl (M_whole_B25 σ v1) n25) c9 hf
            exact j58 v3 v2 _ _ _ h (lv_sub hl [0, 1, 3] rfl) hf
          · have hf := if_f (K := bl (M_whole_B25 σ v1) n25) c9 hf
            refine lv_iconst (v := 1) C.x C.b dX7_whole_52 (by decide) ?_
            refine lv_iload_n C.x C.b dX7_whole_53 rfl (lv_at hl 3 rfl) ?_
            refine lv_ishl C.x C.b dX7_whole_54 ?_
            refine lv_goto (tgt := 59) C.x C.b dX7_whole_55 (by decide) ?_
            exact j59 v3 (1 <<< (v3 &&& 31)) v2 _ _ _ h (lv_sub hl [0, 1, 3] rfl) hf
  intro H locs ls h hl
  have hl : lv_has ls 4 [(0, .ref o), (1, .int v1)] := hl
  unfold M_whole at hf
  refine lv_aload_n C.x C.b dX7_whole_0 rfl (lv_at hl 0 rfl) ?_
  refine lv_iconst (v := 0) C.x C.b dX7_whole_1 (by decide) ?_
  obtain ⟨σ_6, e9, hf⟩ := nm_k (K := fun x => x) hf
  refine m_p0 C h e9 dX7_whole_2 (fun H locs h => ?_)
  refine lv_aload_n C.x C.b dX7_whole_5 rfl (lv_at hl 0 rfl) ?_
  refine lv_iload_n C.x C.b dX7_whole_6 rfl (lv_at hl 1 rfl) ?_
  refine lv_i2l C.x C.b dX7_whole_7 rfl ?_
  obtain ⟨q_7, hc, hf⟩ := bd_k (K := fun x => x) rfl hf
  refine cM_isStep C h hc (Nat.le_of_ble_eq_true rfl) hl.1 (Nat.le_of_ble_eq_true rfl) dX7_whole_8 (fun H locs h => ?_)
  refine lv_if_ne (tgt := 17) C.x C.b dX7_whole_11 (by decide) (fun c9 => ?_) (fun c9 => ?_)
  · have hf := if_f (K := fun x => x) c9 hf
    refine lv_aload_n C.x C.b dX7_whole_17 rfl (lv_at hl 0 rfl) ?_
    obtain ⟨q_8, hc, hf⟩ := bd_k (K := fun x => x) rfl hf
    refine cM_laysNow C h hc (Nat.le_of_ble_eq_true rfl) hl.1 (Nat.le_of_ble_eq_true rfl) dX7_whole_18 (fun H locs h => ?_)
    refine lv_iconst (v := 0) C.x C.b dX7_whole_21 (by decide) ?_
    refine lv_istore_n (lv' := [(2, .int 0), (0, .ref o), (1, .int v1)]) C.x C.b dX7_whole_22 rfl hl (by decide) rfl (fun ls hl => ?_)
    refine lv_iconst (v := 0) C.x C.b dX7_whole_23 (by decide) ?_
    refine lv_istore_n (lv' := [(3, .int 0), (2, .int 0), (0, .ref o), (1, .int v1)]) C.x C.b dX7_whole_24 rfl hl (by decide) rfl (fun ls hl => ?_)
    exact l25 q_8 fu 0 0 _ _ _ h (lv_sub hl [2, 3, 1, 0] rfl) hf
  · have hf := if_t (K := fun x => x) c9 hf
    refine lv_bipush (v := (-2)) C.x C.b dX7_whole_14 (by decide) ?_
    exact hR _ _ (some_k hf) _ _ _ _ h rfl dX7_whole_16
def M_sound (σ : PS) : Option (Int32 × PS) := nm (sI σ 0 0) (fun σ_1 => bd (M_isLehr σ_1) (fun q_2 => if q_2 = 0 then some ((-2), σ_1) else bd (M_laysNow σ_1) (fun q_3 => bd (M_soundNow q_3) (fun q_4 => some (q_4, q_3)))))
set_option maxHeartbeats 4000000 in
theorem kM_sound (l : Launch) {D : va_G} {ty : Nat → ClassId} {A : Nat → Prop} {o : Nat} {ad : Nat → Nat} {rs : va_W} {σ : PS} {σ' : PS} {r : Int32} (hf : M_sound σ = some (r, σ')) : KI l yX7_sound cX7_sound 1 .int 6 D ty A (wM ty o ad σ ++ rs) (wM ty o ad σ' ++ rs) [.ref o] r := by
  refine KI.of (by decide) (Nat.le_of_ble_eq_true rfl) ?_
  intro p e R s m args below meth c Q C hR
  have C : Cx p R s m args c cX7_sound 1 RX7 D ty A 6 := C
  have hR : ∀ (v : Int32) (σ2 : PS), (v, σ2) = (r, σ') → ∀ (H : Heap) (locs : List Loc) (pc : Nat) (ls : Array Slot), Hw D A s H locs (wM ty o ad σ2 ++ rs) → narrow .int (.int v) = .int v → decode cX7_sound pc = .ok (.ireturn, 1) → W p l e R s m args below meth c H locs 0 0 Q (F0 m pc ls [.int v]) := by intro v σ2 e9; cases e9; exact hR
  intro H locs ls h hl
  have hl : lv_has ls 1 [(0, .ref o)] := hl
  unfold M_sound at hf
  refine lv_aload_n C.x C.b dX7_sound_0 rfl (lv_at hl 0 rfl) ?_
  refine lv_iconst (v := 0) C.x C.b dX7_sound_1 (by decide) ?_
  obtain ⟨σ_1, e9, hf⟩ := nm_k (K := fun x => x) hf
  refine m_p0 C h e9 dX7_sound_2 (fun H locs h => ?_)
  refine lv_aload_n C.x C.b dX7_sound_5 rfl (lv_at hl 0 rfl) ?_
  obtain ⟨q_2, hc, hf⟩ := bd_k (K := fun x => x) rfl hf
  refine cM_isLehr C h hc (Nat.le_of_ble_eq_true rfl) hl.1 (Nat.le_of_ble_eq_true rfl) dX7_sound_6 (fun H locs h => ?_)
  refine lv_if_ne (tgt := 15) C.x C.b dX7_sound_9 (by decide) (fun c9 => ?_) (fun c9 => ?_)
  · have hf := if_f (K := fun x => x) c9 hf
    refine lv_aload_n C.x C.b dX7_sound_15 rfl (lv_at hl 0 rfl) ?_
    obtain ⟨q_3, hc, hf⟩ := bd_k (K := fun x => x) rfl hf
    refine cM_laysNow C h hc (Nat.le_of_ble_eq_true rfl) hl.1 (Nat.le_of_ble_eq_true rfl) dX7_sound_16 (fun H locs h => ?_)
    refine lv_aload_n C.x C.b dX7_sound_19 rfl (lv_at hl 0 rfl) ?_
    obtain ⟨q_4, hc, hf⟩ := bd_k (K := fun x => x) rfl hf
    refine cM_soundNow C h hc (Nat.le_of_ble_eq_true rfl) hl.1 (Nat.le_of_ble_eq_true rfl) dX7_sound_20 (fun H locs h => ?_)
    exact hR _ _ (some_k hf) _ _ _ _ h rfl dX7_sound_23
  · have hf := if_t (K := fun x => x) c9 hf
    refine lv_bipush (v := (-2)) C.x C.b dX7_sound_12 (by decide) ?_
    exact hR _ _ (some_k hf) _ _ _ _ h rfl dX7_sound_14
def M_good (σ : PS) : Option (Int32 × PS) := nm (sI σ 0 0) (fun σ_1 => bd (M_isLehr σ_1) (fun q_2 => if q_2 = 0 then some ((-2), σ_1) else bd (M_laysNow σ_1) (fun q_3 => bd (M_steps q_3) (fun q_4 => bd (M_insideOf q_3 10 q_4) (fun q_5 => bd (M_soundNow q_3) (fun q_6 => some (q_5 &&& q_6, q_3)))))))
set_option maxHeartbeats 4000000 in
theorem kM_good (l : Launch) {D : va_G} {ty : Nat → ClassId} {A : Nat → Prop} {o : Nat} {ad : Nat → Nat} {rs : va_W} {σ : PS} {σ' : PS} {r : Int32} (hf : M_good σ = some (r, σ')) : KI l yX7_good cX7_good 1 .int 6 D ty A (wM ty o ad σ ++ rs) (wM ty o ad σ' ++ rs) [.ref o] r := by
  refine KI.of (by decide) (Nat.le_of_ble_eq_true rfl) ?_
  intro p e R s m args below meth c Q C hR
  have C : Cx p R s m args c cX7_good 1 RX7 D ty A 6 := C
  have hR : ∀ (v : Int32) (σ2 : PS), (v, σ2) = (r, σ') → ∀ (H : Heap) (locs : List Loc) (pc : Nat) (ls : Array Slot), Hw D A s H locs (wM ty o ad σ2 ++ rs) → narrow .int (.int v) = .int v → decode cX7_good pc = .ok (.ireturn, 1) → W p l e R s m args below meth c H locs 0 0 Q (F0 m pc ls [.int v]) := by intro v σ2 e9; cases e9; exact hR
  intro H locs ls h hl
  have hl : lv_has ls 1 [(0, .ref o)] := hl
  unfold M_good at hf
  refine lv_aload_n C.x C.b dX7_good_0 rfl (lv_at hl 0 rfl) ?_
  refine lv_iconst (v := 0) C.x C.b dX7_good_1 (by decide) ?_
  obtain ⟨σ_1, e9, hf⟩ := nm_k (K := fun x => x) hf
  refine m_p0 C h e9 dX7_good_2 (fun H locs h => ?_)
  refine lv_aload_n C.x C.b dX7_good_5 rfl (lv_at hl 0 rfl) ?_
  obtain ⟨q_2, hc, hf⟩ := bd_k (K := fun x => x) rfl hf
  refine cM_isLehr C h hc (Nat.le_of_ble_eq_true rfl) hl.1 (Nat.le_of_ble_eq_true rfl) dX7_good_6 (fun H locs h => ?_)
  refine lv_if_ne (tgt := 15) C.x C.b dX7_good_9 (by decide) (fun c9 => ?_) (fun c9 => ?_)
  · have hf := if_f (K := fun x => x) c9 hf
    refine lv_aload_n C.x C.b dX7_good_15 rfl (lv_at hl 0 rfl) ?_
    obtain ⟨q_3, hc, hf⟩ := bd_k (K := fun x => x) rfl hf
    refine cM_laysNow C h hc (Nat.le_of_ble_eq_true rfl) hl.1 (Nat.le_of_ble_eq_true rfl) dX7_good_16 (fun H locs h => ?_)
    refine lv_aload_n C.x C.b dX7_good_19 rfl (lv_at hl 0 rfl) ?_
    refine lv_bipush (v := 10) C.x C.b dX7_good_20 (by decide) ?_
    refine lv_aload_n C.x C.b dX7_good_22 rfl (lv_at hl 0 rfl) ?_
    obtain ⟨q_4, hc, hf⟩ := bd_k (K := fun x => x) rfl hf
    refine cM_steps C h hc (Nat.le_of_ble_eq_true rfl) hl.1 (Nat.le_of_ble_eq_true rfl) dX7_good_23 (fun H locs h => ?_)
    obtain ⟨q_5, hc, hf⟩ := bd_k (K := fun x => x) rfl hf
    refine cM_insideOf C h hc (Nat.le_of_ble_eq_true rfl) hl.1 (Nat.le_of_ble_eq_true rfl) dX7_good_26 (fun H locs h => ?_)
    refine lv_aload_n C.x C.b dX7_good_29 rfl (lv_at hl 0 rfl) ?_
    obtain ⟨q_6, hc, hf⟩ := bd_k (K := fun x => x) rfl hf
    refine cM_soundNow C h hc (Nat.le_of_ble_eq_true rfl) hl.1 (Nat.le_of_ble_eq_true rfl) dX7_good_30 (fun H locs h => ?_)
    refine lv_iand C.x C.b dX7_good_33 ?_
    exact hR _ _ (some_k hf) _ _ _ _ h rfl dX7_good_34
  · have hf := if_t (K := fun x => x) c9 hf
    refine lv_bipush (v := (-2)) C.x C.b dX7_good_12 (by decide) ?_
    exact hR _ _ (some_k hf) _ _ _ _ h rfl dX7_good_14
def M_tight (σ : PS) (v1 : Int32) : Option (Int32 × PS) := nm (sI σ 0 0) (fun σ_1 => bd (M_isStep σ_1 v1.toInt64) (fun q_2 => if q_2 = 0 then some ((-2), σ_1) else bd (M_laysNow σ_1) (fun q_3 => bd (M_mostAt q_3 v1 0) (fun q_4 => some (q_4, q_3)))))
set_option maxHeartbeats 4000000 in
theorem kM_tight (l : Launch) {D : va_G} {ty : Nat → ClassId} {A : Nat → Prop} {o : Nat} {ad : Nat → Nat} {rs : va_W} {σ : PS} {σ' : PS} {v1 : Int32} {r : Int32} (hf : M_tight σ v1 = some (r, σ')) : KI l yX7_tight cX7_tight 2 .int 6 D ty A (wM ty o ad σ ++ rs) (wM ty o ad σ' ++ rs) [.ref o, .int v1] r := by
  refine KI.of (by decide) (Nat.le_of_ble_eq_true rfl) ?_
  intro p e R s m args below meth c Q C hR
  have C : Cx p R s m args c cX7_tight 2 RX7 D ty A 6 := C
  have hR : ∀ (v : Int32) (σ2 : PS), (v, σ2) = (r, σ') → ∀ (H : Heap) (locs : List Loc) (pc : Nat) (ls : Array Slot), Hw D A s H locs (wM ty o ad σ2 ++ rs) → narrow .int (.int v) = .int v → decode cX7_tight pc = .ok (.ireturn, 1) → W p l e R s m args below meth c H locs 0 0 Q (F0 m pc ls [.int v]) := by intro v σ2 e9; cases e9; exact hR
  intro H locs ls h hl
  have hl : lv_has ls 2 [(0, .ref o), (1, .int v1)] := hl
  unfold M_tight at hf
  refine lv_aload_n C.x C.b dX7_tight_0 rfl (lv_at hl 0 rfl) ?_
  refine lv_iconst (v := 0) C.x C.b dX7_tight_1 (by decide) ?_
  obtain ⟨σ_1, e9, hf⟩ := nm_k (K := fun x => x) hf
  refine m_p0 C h e9 dX7_tight_2 (fun H locs h => ?_)
  refine lv_aload_n C.x C.b dX7_tight_5 rfl (lv_at hl 0 rfl) ?_
  refine lv_iload_n C.x C.b dX7_tight_6 rfl (lv_at hl 1 rfl) ?_
  refine lv_i2l C.x C.b dX7_tight_7 rfl ?_
  obtain ⟨q_2, hc, hf⟩ := bd_k (K := fun x => x) rfl hf
  refine cM_isStep C h hc (Nat.le_of_ble_eq_true rfl) hl.1 (Nat.le_of_ble_eq_true rfl) dX7_tight_8 (fun H locs h => ?_)
  refine lv_if_ne (tgt := 17) C.x C.b dX7_tight_11 (by decide) (fun c9 => ?_) (fun c9 => ?_)
  · have hf := if_f (K := fun x => x) c9 hf
    refine lv_aload_n C.x C.b dX7_tight_17 rfl (lv_at hl 0 rfl) ?_
    obtain ⟨q_3, hc, hf⟩ := bd_k (K := fun x => x) rfl hf
    refine cM_laysNow C h hc (Nat.le_of_ble_eq_true rfl) hl.1 (Nat.le_of_ble_eq_true rfl) dX7_tight_18 (fun H locs h => ?_)
    refine lv_aload_n C.x C.b dX7_tight_21 rfl (lv_at hl 0 rfl) ?_
    refine lv_iload_n C.x C.b dX7_tight_22 rfl (lv_at hl 1 rfl) ?_
    refine lv_iconst (v := 0) C.x C.b dX7_tight_23 (by decide) ?_
    obtain ⟨q_4, hc, hf⟩ := bd_k (K := fun x => x) rfl hf
    refine cM_mostAt C h hc (Nat.le_of_ble_eq_true rfl) hl.1 (Nat.le_of_ble_eq_true rfl) dX7_tight_24 (fun H locs h => ?_)
    exact hR _ _ (some_k hf) _ _ _ _ h rfl dX7_tight_27
  · have hf := if_t (K := fun x => x) c9 hf
    refine lv_bipush (v := (-2)) C.x C.b dX7_tight_14 (by decide) ?_
    exact hR _ _ (some_k hf) _ _ _ _ h rfl dX7_tight_16
def M_hottest (σ : PS) (v1 : Int32) : Option (Int32 × PS) := nm (sI σ 0 0) (fun σ_1 => bd (M_isStep σ_1 v1.toInt64) (fun q_2 => if q_2 = 0 then some ((-2), σ_1) else bd (M_laysNow σ_1) (fun q_3 => bd (M_mostAt q_3 v1 1) (fun q_4 => some (q_4, q_3)))))
set_option maxHeartbeats 4000000 in
theorem kM_hottest (l : Launch) {D : va_G} {ty : Nat → ClassId} {A : Nat → Prop} {o : Nat} {ad : Nat → Nat} {rs : va_W} {σ : PS} {σ' : PS} {v1 : Int32} {r : Int32} (hf : M_hottest σ v1 = some (r, σ')) : KI l yX7_hottest cX7_hottest 2 .int 6 D ty A (wM ty o ad σ ++ rs) (wM ty o ad σ' ++ rs) [.ref o, .int v1] r := by
  refine KI.of (by decide) (Nat.le_of_ble_eq_true rfl) ?_
  intro p e R s m args below meth c Q C hR
  have C : Cx p R s m args c cX7_hottest 2 RX7 D ty A 6 := C
  have hR : ∀ (v : Int32) (σ2 : PS), (v, σ2) = (r, σ') → ∀ (H : Heap) (locs : List Loc) (pc : Nat) (ls : Array Slot), Hw D A s H locs (wM ty o ad σ2 ++ rs) → narrow .int (.int v) = .int v → decode cX7_hottest pc = .ok (.ireturn, 1) → W p l e R s m args below meth c H locs 0 0 Q (F0 m pc ls [.int v]) := by intro v σ2 e9; cases e9; exact hR
  intro H locs ls h hl
  have hl : lv_has ls 2 [(0, .ref o), (1, .int v1)] := hl
  unfold M_hottest at hf
  refine lv_aload_n C.x C.b dX7_hottest_0 rfl (lv_at hl 0 rfl) ?_
  refine lv_iconst (v := 0) C.x C.b dX7_hottest_1 (by decide) ?_
  obtain ⟨σ_1, e9, hf⟩ := nm_k (K := fun x => x) hf
  refine m_p0 C h e9 dX7_hottest_2 (fun H locs h => ?_)
  refine lv_aload_n C.x C.b dX7_hottest_5 rfl (lv_at hl 0 rfl) ?_
  refine lv_iload_n C.x C.b dX7_hottest_6 rfl (lv_at hl 1 rfl) ?_
  refine lv_i2l C.x C.b dX7_hottest_7 rfl ?_
  obtain ⟨q_2, hc, hf⟩ := bd_k (K := fun x => x) rfl hf
  refine cM_isStep C h hc (Nat.le_of_ble_eq_true rfl) hl.1 (Nat.le_of_ble_eq_true rfl) dX7_hottest_8 (fun H locs h => ?_)
  refine lv_if_ne (tgt := 17) C.x C.b dX7_hottest_11 (by decide) (fun c9 => ?_) (fun c9 => ?_)
  · have hf := if_f (K := fun x => x) c9 hf
    refine lv_aload_n C.x C.b dX7_hottest_17 rfl (lv_at hl 0 rfl) ?_
    obtain ⟨q_3, hc, hf⟩ := bd_k (K := fun x => x) rfl hf
    refine cM_laysNow C h hc (Nat.le_of_ble_eq_true rfl) hl.1 (Nat.le_of_ble_eq_true rfl) dX7_hottest_18 (fun H locs h => ?_)
    refine lv_aload_n C.x C.b dX7_hottest_21 rfl (lv_at hl 0 rfl) ?_
    refine lv_iload_n C.x C.b dX7_hottest_22 rfl (lv_at hl 1 rfl) ?_
    refine lv_iconst (v := 1) C.x C.b dX7_hottest_23 (by decide) ?_
    obtain ⟨q_4, hc, hf⟩ := bd_k (K := fun x => x) rfl hf
    refine cM_mostAt C h hc (Nat.le_of_ble_eq_true rfl) hl.1 (Nat.le_of_ble_eq_true rfl) dX7_hottest_24 (fun H locs h => ?_)
    exact hR _ _ (some_k hf) _ _ _ _ h rfl dX7_hottest_27
  · have hf := if_t (K := fun x => x) c9 hf
    refine lv_bipush (v := (-2)) C.x C.b dX7_hottest_14 (by decide) ?_
    exact hR _ _ (some_k hf) _ _ _ _ h rfl dX7_hottest_16
def M_kernel (σ : PS) (v1 : Int32) : Option (Int32 × PS) := nm (sI σ 0 0) (fun σ_1 => bd (M_isStep σ_1 v1.toInt64) (fun q_2 => if q_2 = 0 then some ((-2), σ_1) else bd (M_laysNow σ_1) (fun q_3 => bd (M_mostAt q_3 v1 2) (fun q_4 => some (q_4, q_3)))))
set_option maxHeartbeats 4000000 in
theorem kM_kernel (l : Launch) {D : va_G} {ty : Nat → ClassId} {A : Nat → Prop} {o : Nat} {ad : Nat → Nat} {rs : va_W} {σ : PS} {σ' : PS} {v1 : Int32} {r : Int32} (hf : M_kernel σ v1 = some (r, σ')) : KI l yX7_kernel cX7_kernel 2 .int 6 D ty A (wM ty o ad σ ++ rs) (wM ty o ad σ' ++ rs) [.ref o, .int v1] r := by
  refine KI.of (by decide) (Nat.le_of_ble_eq_true rfl) ?_
  intro p e R s m args below meth c Q C hR
  have C : Cx p R s m args c cX7_kernel 2 RX7 D ty A 6 := C
  have hR : ∀ (v : Int32) (σ2 : PS), (v, σ2) = (r, σ') → ∀ (H : Heap) (locs : List Loc) (pc : Nat) (ls : Array Slot), Hw D A s H locs (wM ty o ad σ2 ++ rs) → narrow .int (.int v) = .int v → decode cX7_kernel pc = .ok (.ireturn, 1) → W p l e R s m args below meth c H locs 0 0 Q (F0 m pc ls [.int v]) := by intro v σ2 e9; cases e9; exact hR
  intro H locs ls h hl
  have hl : lv_has ls 2 [(0, .ref o), (1, .int v1)] := hl
  unfold M_kernel at hf
  refine lv_aload_n C.x C.b dX7_kernel_0 rfl (lv_at hl 0 rfl) ?_
  refine lv_iconst (v := 0) C.x C.b dX7_kernel_1 (by decide) ?_
  obtain ⟨σ_1, e9, hf⟩ := nm_k (K := fun x => x) hf
  refine m_p0 C h e9 dX7_kernel_2 (fun H locs h => ?_)
  refine lv_aload_n C.x C.b dX7_kernel_5 rfl (lv_at hl 0 rfl) ?_
  refine lv_iload_n C.x C.b dX7_kernel_6 rfl (lv_at hl 1 rfl) ?_
  refine lv_i2l C.x C.b dX7_kernel_7 rfl ?_
  obtain ⟨q_2, hc, hf⟩ := bd_k (K := fun x => x) rfl hf
  refine cM_isStep C h hc (Nat.le_of_ble_eq_true rfl) hl.1 (Nat.le_of_ble_eq_true rfl) dX7_kernel_8 (fun H locs h => ?_)
  refine lv_if_ne (tgt := 17) C.x C.b dX7_kernel_11 (by decide) (fun c9 => ?_) (fun c9 => ?_)
  · have hf := if_f (K := fun x => x) c9 hf
    refine lv_aload_n C.x C.b dX7_kernel_17 rfl (lv_at hl 0 rfl) ?_
    obtain ⟨q_3, hc, hf⟩ := bd_k (K := fun x => x) rfl hf
    refine cM_laysNow C h hc (Nat.le_of_ble_eq_true rfl) hl.1 (Nat.le_of_ble_eq_true rfl) dX7_kernel_18 (fun H locs h => ?_)
    refine lv_aload_n C.x C.b dX7_kernel_21 rfl (lv_at hl 0 rfl) ?_
    refine lv_iload_n C.x C.b dX7_kernel_22 rfl (lv_at hl 1 rfl) ?_
    refine lv_iconst (v := 2) C.x C.b dX7_kernel_23 (by decide) ?_
    obtain ⟨q_4, hc, hf⟩ := bd_k (K := fun x => x) rfl hf
    refine cM_mostAt C h hc (Nat.le_of_ble_eq_true rfl) hl.1 (Nat.le_of_ble_eq_true rfl) dX7_kernel_24 (fun H locs h => ?_)
    exact hR _ _ (some_k hf) _ _ _ _ h rfl dX7_kernel_27
  · have hf := if_t (K := fun x => x) c9 hf
    refine lv_bipush (v := (-2)) C.x C.b dX7_kernel_14 (by decide) ?_
    exact hR _ _ (some_k hf) _ _ _ _ h rfl dX7_kernel_16
def M_glow_j61 (σ : PS) (v2 : Int32) : Option (Int32 × PS) := some (v2, σ)
def M_glow_j53 (σ : PS) (v1 : Int32) (v3 : Int32) (x0 : Int32) (x1 : Int32) : Option ((Int32 × Int32) ⊕ (Int32 × PS)) := nm (x1 + x0) (fun v2_1 => nm (v3 + 1) (fun v3_2 => some (.inl (v2_1, v3_2))))
def M_glow_l25 (σ : PS) (v1 : Int32) (v2 : Int32) (v3 : Int32) : Option ((Int32 × Int32) ⊕ (Int32 × PS)) := bd (M_pieces σ) (fun q_3 => if q_3 ≤ v3 then up (M_glow_j61 σ v2) else bd (M_hasCome σ v3 v1) (fun q_4 => if q_4 = 0 then M_glow_j53 σ v1 v3 0 v2 else bd (M_skinOf σ v3 v1) (fun q_5 => M_glow_j53 σ v1 v3 q_5 v2)))
def M_glow_B25 (σ : PS) (v1 : Int32) : (Int32 × Int32) → Option ((Int32 × Int32) ⊕ (Int32 × PS)) := fun t => M_glow_l25 σ v1 t.1 t.2
def M_glow (σ : PS) (v1 : Int32) : Option (Int32 × PS) := nm (sI σ 0 0) (fun σ_6 => bd (M_isStep σ_6 v1.toInt64) (fun q_7 => if q_7 = 0 then some ((-2), σ_6) else bd (M_laysNow σ_6) (fun q_8 => loop (M_glow_B25 q_8 v1) fu (0, 0))))
set_option maxHeartbeats 4000000 in
theorem kM_glow (l : Launch) {D : va_G} {ty : Nat → ClassId} {A : Nat → Prop} {o : Nat} {ad : Nat → Nat} {rs : va_W} {σ : PS} {σ' : PS} {v1 : Int32} {r : Int32} (hf : M_glow σ v1 = some (r, σ')) : KI l yX7_glow cX7_glow 4 .int 6 D ty A (wM ty o ad σ ++ rs) (wM ty o ad σ' ++ rs) [.ref o, .int v1] r := by
  refine KI.of (by decide) (Nat.le_of_ble_eq_true rfl) ?_
  intro p e R s m args below meth c Q C hR
  have C : Cx p R s m args c cX7_glow 4 RX7 D ty A 6 := C
  have hR : ∀ (v : Int32) (σ2 : PS), (v, σ2) = (r, σ') → ∀ (H : Heap) (locs : List Loc) (pc : Nat) (ls : Array Slot), Hw D A s H locs (wM ty o ad σ2 ++ rs) → narrow .int (.int v) = .int v → decode cX7_glow pc = .ok (.ireturn, 1) → W p l e R s m args below meth c H locs 0 0 Q (F0 m pc ls [.int v]) := by intro v σ2 e9; cases e9; exact hR
  have j61 : ∀ (σ : PS) (v2 : Int32) (H : Heap) (locs : List Loc) (ls : Array Slot), Hw D A s H locs (wM ty o ad σ ++ rs) → lv_has ls 4 [(2, .int v2)] → M_glow_j61 σ v2 = some (r, σ') → W p l e R s m args below meth c H locs 0 0 Q (F0 m 61 ls []) := by
    intro σ v2 H locs ls h hl hf
    unfold M_glow_j61 at hf
    refine lv_iload_n C.x C.b dX7_glow_61 rfl (lv_at hl 0 rfl) ?_
    exact hR _ _ (some_k hf) _ _ _ _ h rfl dX7_glow_62
  have l25 : ∀ (σ : PS) (n25 : Nat) (v2 : Int32) (v3 : Int32) (H : Heap) (locs : List Loc) (ls : Array Slot), Hw D A s H locs (wM ty o ad σ ++ rs) → lv_has ls 4 [(0, .ref o), (1, .int v1), (2, .int v2), (3, .int v3)] → loop (M_glow_B25 σ v1) n25 (v2, v3) = some (r, σ') → W p l e R s m args below meth c H locs 0 0 Q (F0 m 25 ls []) := by
    intro σ n25
    induction n25 with
    | zero => intro v2 v3 H locs ls h hl hf; exact (none_k hf).elim
    | succ n25 ih25 =>
      have j53 : ∀ (v3 : Int32) (x0 : Int32) (x1 : Int32) (H : Heap) (locs : List Loc) (ls : Array Slot), Hw D A s H locs (wM ty o ad σ ++ rs) → lv_has ls 4 [(0, .ref o), (1, .int v1), (3, .int v3)] → bl (M_glow_B25 σ v1) n25 (M_glow_j53 σ v1 v3 x0 x1) = some (r, σ') → W p l e R s m args below meth c H locs 0 0 Q (F0 m 53 ls [.int x0, .int x1]) := by
        intro v3 x0 x1 H locs ls h hl hf
        unfold M_glow_j53 at hf
        refine lv_iadd C.x C.b dX7_glow_53 ?_
        obtain ⟨v2_1, e9, hf⟩ := nm_k (K := bl (M_glow_B25 σ v1) n25) hf
        refine lv_topI e9 ?_
        refine lv_istore_n (lv' := [(2, .int v2_1), (0, .ref o), (1, .int v1), (3, .int v3)]) C.x C.b dX7_glow_54 rfl hl (by decide) rfl (fun ls hl => ?_)
        obtain ⟨v3_2, e9, hf⟩ := nm_k (K := bl (M_glow_B25 σ v1) n25) hf
        refine lv_iinc (v := v3_2) (lv' := [(3, .int v3_2), (2, .int v2_1), (0, .ref o), (1, .int v1)]) C.x C.b dX7_glow_55 hl (k := 3) rfl (iinc_e (k := 1) (by decide) e9) (by decide) rfl (fun ls hl => ?_)
        refine lv_goto (tgt := 25) C.x C.b dX7_glow_58 (by decide) ?_
        exact ih25 v2_1 v3_2 _ _ _ h (lv_sub hl [2, 3, 1, 0] rfl) hf
      intro v2 v3 H locs ls h hl hf
      have hf : bl (M_glow_B25 σ v1) n25 (M_glow_l25 σ v1 v2 v3) = some (r, σ') := hf
      unfold M_glow_l25 at hf
      refine lv_iload_n C.x C.b dX7_glow_25 rfl (lv_at hl 3 rfl) ?_
      refine lv_aload_n C.x C.b dX7_glow_26 rfl (lv_at hl 0 rfl) ?_
      obtain ⟨q_3, hc, hf⟩ := bd_k (K := bl (M_glow_B25 σ v1) n25) rfl hf
      refine cM_pieces C h hc (Nat.le_of_ble_eq_true rfl) hl.1 (Nat.le_of_ble_eq_true rfl) dX7_glow_27 (fun H locs h => ?_)
      refine lv_icmp_ge (tgt := 61) C.x C.b dX7_glow_30 (by decide) (fun c9 => ?_) (fun c9 => ?_)
      · have hf := if_t (K := bl (M_glow_B25 σ v1) n25) c9 hf
        have hf := bl_upK (K := fun x => x) hf
        exact j61 σ v2 _ _ _ h (lv_sub hl [2] rfl) hf
      · have hf := if_f (K := bl (M_glow_B25 σ v1) n25) c9 hf
        refine lv_iload_n C.x C.b dX7_glow_33 rfl (lv_at hl 2 rfl) ?_
        refine lv_aload_n C.x C.b dX7_glow_34 rfl (lv_at hl 0 rfl) ?_
        refine lv_iload_n C.x C.b dX7_glow_35 rfl (lv_at hl 3 rfl) ?_
        refine lv_iload_n C.x C.b dX7_glow_36 rfl (lv_at hl 1 rfl) ?_
        obtain ⟨q_4, hc, hf⟩ := bd_k (K := bl (M_glow_B25 σ v1) n25) rfl hf
        refine cM_hasCome C h hc (Nat.le_of_ble_eq_true rfl) hl.1 (Nat.le_of_ble_eq_true rfl) dX7_glow_37 (fun H locs h => ?_)
        refine lv_if_eq (tgt := 52) C.x C.b dX7_glow_40 (by decide) (fun c9 => ?_) (fun c9 => ?_)
        · have hf := if_t (K := bl (M_glow_B25 σ v1) n25) c9 hf
          refine lv_iconst (v := 0) C.x C.b dX7_glow_52 (by decide) ?_
          exact j53 v3 0 v2 _ _ _ h (lv_sub hl [0, 1, 3] rfl) hf
        · have hf := if_f (K := bl (M_glow_B25 σ v1) n25) c9 hf
          refine lv_aload_n C.x C.b dX7_glow_43 rfl (lv_at hl 0 rfl) ?_
          refine lv_iload_n C.x C.b dX7_glow_44 rfl (lv_at hl 3 rfl) ?_
          refine lv_iload_n C.x C.b dX7_glow_45 rfl (lv_at hl 1 rfl) ?_
          obtain ⟨q_5, hc, hf⟩ := bd_k (K := bl (M_glow_B25 σ v1) n25) rfl hf
          refine cM_skinOf C h hc (Nat.le_of_ble_eq_true rfl) hl.1 (Nat.le_of_ble_eq_true rfl) dX7_glow_46 (fun H locs h => ?_)
          refine lv_goto (tgt := 53) C.x C.b dX7_glow_49 (by decide) ?_
          exact j53 v3 q_5 v2 _ _ _ h (lv_sub hl [0, 1, 3] rfl) hf
  intro H locs ls h hl
  have hl : lv_has ls 4 [(0, .ref o), (1, .int v1)] := hl
  unfold M_glow at hf
  refine lv_aload_n C.x C.b dX7_glow_0 rfl (lv_at hl 0 rfl) ?_
  refine lv_iconst (v := 0) C.x C.b dX7_glow_1 (by decide) ?_
  obtain ⟨σ_6, e9, hf⟩ := nm_k (K := fun x => x) hf
  refine m_p0 C h e9 dX7_glow_2 (fun H locs h => ?_)
  refine lv_aload_n C.x C.b dX7_glow_5 rfl (lv_at hl 0 rfl) ?_
  refine lv_iload_n C.x C.b dX7_glow_6 rfl (lv_at hl 1 rfl) ?_
  refine lv_i2l C.x C.b dX7_glow_7 rfl ?_
  obtain ⟨q_7, hc, hf⟩ := bd_k (K := fun x => x) rfl hf
  refine cM_isStep C h hc (Nat.le_of_ble_eq_true rfl) hl.1 (Nat.le_of_ble_eq_true rfl) dX7_glow_8 (fun H locs h => ?_)
  refine lv_if_ne (tgt := 17) C.x C.b dX7_glow_11 (by decide) (fun c9 => ?_) (fun c9 => ?_)
  · have hf := if_f (K := fun x => x) c9 hf
    refine lv_aload_n C.x C.b dX7_glow_17 rfl (lv_at hl 0 rfl) ?_
    obtain ⟨q_8, hc, hf⟩ := bd_k (K := fun x => x) rfl hf
    refine cM_laysNow C h hc (Nat.le_of_ble_eq_true rfl) hl.1 (Nat.le_of_ble_eq_true rfl) dX7_glow_18 (fun H locs h => ?_)
    refine lv_iconst (v := 0) C.x C.b dX7_glow_21 (by decide) ?_
    refine lv_istore_n (lv' := [(2, .int 0), (0, .ref o), (1, .int v1)]) C.x C.b dX7_glow_22 rfl hl (by decide) rfl (fun ls hl => ?_)
    refine lv_iconst (v := 0) C.x C.b dX7_glow_23 (by decide) ?_
    refine lv_istore_n (lv' := [(3, .int 0), (2, .int 0), (0, .ref o), (1, .int v1)]) C.x C.b dX7_glow_24 rfl hl (by decide) rfl (fun ls hl => ?_)
    exact l25 q_8 fu 0 0 _ _ _ h (lv_sub hl [2, 3, 1, 0] rfl) hf
  · have hf := if_t (K := fun x => x) c9 hf
    refine lv_bipush (v := (-2)) C.x C.b dX7_glow_14 (by decide) ?_
    exact hR _ _ (some_k hf) _ _ _ _ h rfl dX7_glow_16
def M_worst_j67 (σ : PS) (v1 : Int32) : Option (Int32 × PS) := some (v1, σ)
def M_worst_j61 (σ : PS) (v1 : Int32) (v2 : Int32) : Option ((Int32 × Int32) ⊕ (Int32 × PS)) := nm (v2 + 1) (fun v2_1 => some (.inl (v1, v2_1)))
def M_worst_j56 (σ : PS) (v1 : Int32) (v2 : Int32) (x0 : Int32) (x1 : Int32) : Option ((Int32 × Int32) ⊕ (Int32 × PS)) := if x1 ≤ x0 then M_worst_j61 σ v1 v2 else M_worst_j61 σ v2 v2
def M_worst_l23 (σ : PS) (v1 : Int32) (v2 : Int32) : Option ((Int32 × Int32) ⊕ (Int32 × PS)) := bd (M_steps σ) (fun q_2 => if q_2 < v2 then up (M_worst_j67 σ v1) else bd (M_crackedIn σ v2) (fun q_3 => bd (M_sizeOf q_3) (fun q_4 => if v1 = ((-1)) then M_worst_j56 σ v1 v2 0 q_4 else bd (M_crackedIn σ v1) (fun q_5 => bd (M_sizeOf q_5) (fun q_6 => M_worst_j56 σ v1 v2 q_6 q_4)))))
def M_worst_B23 (σ : PS) : (Int32 × Int32) → Option ((Int32 × Int32) ⊕ (Int32 × PS)) := fun t => M_worst_l23 σ t.1 t.2
def M_worst (σ : PS) : Option (Int32 × PS) := nm (sI σ 0 0) (fun σ_7 => bd (M_isLehr σ_7) (fun q_8 => if q_8 = 0 then some ((-2), σ_7) else bd (M_laysNow σ_7) (fun q_9 => loop (M_worst_B23 q_9) fu ((-1), 0))))
set_option maxHeartbeats 4000000 in
theorem kM_worst (l : Launch) {D : va_G} {ty : Nat → ClassId} {A : Nat → Prop} {o : Nat} {ad : Nat → Nat} {rs : va_W} {σ : PS} {σ' : PS} {r : Int32} (hf : M_worst σ = some (r, σ')) : KI l yX7_worst cX7_worst 3 .int 6 D ty A (wM ty o ad σ ++ rs) (wM ty o ad σ' ++ rs) [.ref o] r := by
  refine KI.of (by decide) (Nat.le_of_ble_eq_true rfl) ?_
  intro p e R s m args below meth c Q C hR
  have C : Cx p R s m args c cX7_worst 3 RX7 D ty A 6 := C
  have hR : ∀ (v : Int32) (σ2 : PS), (v, σ2) = (r, σ') → ∀ (H : Heap) (locs : List Loc) (pc : Nat) (ls : Array Slot), Hw D A s H locs (wM ty o ad σ2 ++ rs) → narrow .int (.int v) = .int v → decode cX7_worst pc = .ok (.ireturn, 1) → W p l e R s m args below meth c H locs 0 0 Q (F0 m pc ls [.int v]) := by intro v σ2 e9; cases e9; exact hR
  have j67 : ∀ (σ : PS) (v1 : Int32) (H : Heap) (locs : List Loc) (ls : Array Slot), Hw D A s H locs (wM ty o ad σ ++ rs) → lv_has ls 3 [(1, .int v1)] → M_worst_j67 σ v1 = some (r, σ') → W p l e R s m args below meth c H locs 0 0 Q (F0 m 67 ls []) := by
    intro σ v1 H locs ls h hl hf
    unfold M_worst_j67 at hf
    refine lv_iload_n C.x C.b dX7_worst_67 rfl (lv_at hl 0 rfl) ?_
    exact hR _ _ (some_k hf) _ _ _ _ h rfl dX7_worst_68
  have l23 : ∀ (σ : PS) (n23 : Nat) (v1 : Int32) (v2 : Int32) (H : Heap) (locs : List Loc) (ls : Array Slot), Hw D A s H locs (wM ty o ad σ ++ rs) → lv_has ls 3 [(0, .ref o), (1, .int v1), (2, .int v2)] → loop (M_worst_B23 σ) n23 (v1, v2) = some (r, σ') → W p l e R s m args below meth c H locs 0 0 Q (F0 m 23 ls []) := by
    intro σ n23
    induction n23 with
    | zero => intro v1 v2 H locs ls h hl hf; exact (none_k hf).elim
    | succ n23 ih23 =>
      have j61 : ∀ (v1 : Int32) (v2 : Int32) (H : Heap) (locs : List Loc) (ls : Array Slot), Hw D A s H locs (wM ty o ad σ ++ rs) → lv_has ls 3 [(0, .ref o), (1, .int v1), (2, .int v2)] → bl (M_worst_B23 σ) n23 (M_worst_j61 σ v1 v2) = some (r, σ') → W p l e R s m args below meth c H locs 0 0 Q (F0 m 61 ls []) := by
        intro v1 v2 H locs ls h hl hf
        unfold M_worst_j61 at hf
        obtain ⟨v2_1, e9, hf⟩ := nm_k (K := bl (M_worst_B23 σ) n23) hf
        refine lv_iinc (v := v2_1) (lv' := [(2, .int v2_1), (0, .ref o), (1, .int v1)]) C.x C.b dX7_worst_61 hl (k := 2) rfl (iinc_e (k := 1) (by decide) e9) (by decide) rfl (fun ls hl => ?_)
        refine lv_goto (tgt := 23) C.x C.b dX7_worst_64 (by decide) ?_
        exact ih23 v1 v2_1 _ _ _ h (lv_sub hl [1, 2, 0] rfl) hf
      have j56 : ∀ (v1 : Int32) (v2 : Int32) (x0 : Int32) (x1 : Int32) (H : Heap) (locs : List Loc) (ls : Array Slot), Hw D A s H locs (wM ty o ad σ ++ rs) → lv_has ls 3 [(0, .ref o), (1, .int v1), (2, .int v2)] → bl (M_worst_B23 σ) n23 (M_worst_j56 σ v1 v2 x0 x1) = some (r, σ') → W p l e R s m args below meth c H locs 0 0 Q (F0 m 56 ls [.int x0, .int x1]) := by
        intro v1 v2 x0 x1 H locs ls h hl hf
        unfold M_worst_j56 at hf
        refine lv_icmp_le (tgt := 61) C.x C.b dX7_worst_56 (by decide) (fun c9 => ?_) (fun c9 => ?_)
        · have hf := if_t (K := bl (M_worst_B23 σ) n23) c9 hf
          exact j61 v1 v2 _ _ _ h (lv_sub hl [0, 1, 2] rfl) hf
        · have hf := if_f (K := bl (M_worst_B23 σ) n23) c9 hf
          refine lv_iload_n C.x C.b dX7_worst_59 rfl (lv_at hl 2 rfl) ?_
          refine lv_istore_n (lv' := [(1, .int v2), (0, .ref o), (2, .int v2)]) C.x C.b dX7_worst_60 rfl hl (by decide) rfl (fun ls hl => ?_)
          exact j61 v2 v2 _ _ _ h (lv_sub hl [1, 0, 2] rfl) hf
      intro v1 v2 H locs ls h hl hf
      have hf : bl (M_worst_B23 σ) n23 (M_worst_l23 σ v1 v2) = some (r, σ') := hf
      unfold M_worst_l23 at hf
      refine lv_iload_n C.x C.b dX7_worst_23 rfl (lv_at hl 2 rfl) ?_
      refine lv_aload_n C.x C.b dX7_worst_24 rfl (lv_at hl 0 rfl) ?_
      obtain ⟨q_2, hc, hf⟩ := bd_k (K := bl (M_worst_B23 σ) n23) rfl hf
      refine cM_steps C h hc (Nat.le_of_ble_eq_true rfl) hl.1 (Nat.le_of_ble_eq_true rfl) dX7_worst_25 (fun H locs h => ?_)
      refine lv_icmp_gt (tgt := 67) C.x C.b dX7_worst_28 (by decide) (fun c9 => ?_) (fun c9 => ?_)
      · have hf := if_t (K := bl (M_worst_B23 σ) n23) c9 hf
        have hf := bl_upK (K := fun x => x) hf
        exact j67 σ v1 _ _ _ h (lv_sub hl [1] rfl) hf
      · have hf := if_f (K := bl (M_worst_B23 σ) n23) c9 hf
        refine lv_aload_n C.x C.b dX7_worst_31 rfl (lv_at hl 0 rfl) ?_
        refine lv_iload_n C.x C.b dX7_worst_32 rfl (lv_at hl 2 rfl) ?_
        obtain ⟨q_3, hc, hf⟩ := bd_k (K := bl (M_worst_B23 σ) n23) rfl hf
        refine cM_crackedIn C h hc (Nat.le_of_ble_eq_true rfl) hl.1 (Nat.le_of_ble_eq_true rfl) dX7_worst_33 (fun H locs h => ?_)
        obtain ⟨q_4, hc, hf⟩ := bd_k (K := bl (M_worst_B23 σ) n23) rfl hf
        refine cM_sizeOf C h hc (Nat.le_of_ble_eq_true rfl) hl.1 (Nat.le_of_ble_eq_true rfl) dX7_worst_36 (fun H locs h => ?_)
        refine lv_iload_n C.x C.b dX7_worst_39 rfl (lv_at hl 1 rfl) ?_
        refine lv_iconst (v := (-1)) C.x C.b dX7_worst_40 (by decide) ?_
        refine lv_icmp_ne (tgt := 48) C.x C.b dX7_worst_41 (by decide) (fun c9 => ?_) (fun c9 => ?_)
        · have hf := if_f (K := bl (M_worst_B23 σ) n23) c9 hf
          refine lv_aload_n C.x C.b dX7_worst_48 rfl (lv_at hl 0 rfl) ?_
          refine lv_iload_n C.x C.b dX7_worst_49 rfl (lv_at hl 1 rfl) ?_
          obtain ⟨q_5, hc, hf⟩ := bd_k (K := bl (M_worst_B23 σ) n23) rfl hf
          refine cM_crackedIn C h hc (Nat.le_of_ble_eq_true rfl) hl.1 (Nat.le_of_ble_eq_true rfl) dX7_worst_50 (fun H locs h => ?_)
          obtain ⟨q_6, hc, hf⟩ := bd_k (K := bl (M_worst_B23 σ) n23) rfl hf
          refine cM_sizeOf C h hc (Nat.le_of_ble_eq_true rfl) hl.1 (Nat.le_of_ble_eq_true rfl) dX7_worst_53 (fun H locs h => ?_)
          exact j56 v1 v2 q_6 q_4 _ _ _ h (lv_sub hl [0, 1, 2] rfl) hf
        · have hf := if_t (K := bl (M_worst_B23 σ) n23) c9 hf
          refine lv_iconst (v := 0) C.x C.b dX7_worst_44 (by decide) ?_
          refine lv_goto (tgt := 56) C.x C.b dX7_worst_45 (by decide) ?_
          exact j56 v1 v2 0 q_4 _ _ _ h (lv_sub hl [0, 1, 2] rfl) hf
  intro H locs ls h hl
  have hl : lv_has ls 3 [(0, .ref o)] := hl
  unfold M_worst at hf
  refine lv_aload_n C.x C.b dX7_worst_0 rfl (lv_at hl 0 rfl) ?_
  refine lv_iconst (v := 0) C.x C.b dX7_worst_1 (by decide) ?_
  obtain ⟨σ_7, e9, hf⟩ := nm_k (K := fun x => x) hf
  refine m_p0 C h e9 dX7_worst_2 (fun H locs h => ?_)
  refine lv_aload_n C.x C.b dX7_worst_5 rfl (lv_at hl 0 rfl) ?_
  obtain ⟨q_8, hc, hf⟩ := bd_k (K := fun x => x) rfl hf
  refine cM_isLehr C h hc (Nat.le_of_ble_eq_true rfl) hl.1 (Nat.le_of_ble_eq_true rfl) dX7_worst_6 (fun H locs h => ?_)
  refine lv_if_ne (tgt := 15) C.x C.b dX7_worst_9 (by decide) (fun c9 => ?_) (fun c9 => ?_)
  · have hf := if_f (K := fun x => x) c9 hf
    refine lv_aload_n C.x C.b dX7_worst_15 rfl (lv_at hl 0 rfl) ?_
    obtain ⟨q_9, hc, hf⟩ := bd_k (K := fun x => x) rfl hf
    refine cM_laysNow C h hc (Nat.le_of_ble_eq_true rfl) hl.1 (Nat.le_of_ble_eq_true rfl) dX7_worst_16 (fun H locs h => ?_)
    refine lv_iconst (v := (-1)) C.x C.b dX7_worst_19 (by decide) ?_
    refine lv_istore_n (lv' := [(1, .int ((-1))), (0, .ref o)]) C.x C.b dX7_worst_20 rfl hl (by decide) rfl (fun ls hl => ?_)
    refine lv_iconst (v := 0) C.x C.b dX7_worst_21 (by decide) ?_
    refine lv_istore_n (lv' := [(2, .int 0), (1, .int ((-1))), (0, .ref o)]) C.x C.b dX7_worst_22 rfl hl (by decide) rfl (fun ls hl => ?_)
    exact l23 q_9 fu ((-1)) 0 _ _ _ h (lv_sub hl [2, 1, 0] rfl) hf
  · have hf := if_t (K := fun x => x) c9 hf
    refine lv_bipush (v := (-2)) C.x C.b dX7_worst_12 (by decide) ?_
    exact hR _ _ (some_k hf) _ _ _ _ h rfl dX7_worst_14
def M_sore_j112 (σ : PS) (v1 : Int32) : Option (Int32 × PS) := some (v1, σ)
def M_sore_j106 (σ : PS) (v1 : Int32) (v2 : Int32) (v3 : Int32) : Option ((Int32 × Int32 × Int32) ⊕ (Int32 × PS)) := nm (v3 + 1) (fun v3_1 => some (.inl (v1, v2, v3_1)))
def M_sore_j92 (σ : PS) (v1 : Int32) (v2 : Int32) (v3 : Int32) (v4 : Int32) : Option ((Int32 × Int32 × Int32) ⊕ (Int32 × PS)) := if v2 < v4 then M_sore_j106 σ v3 v4 v3 else M_sore_j106 σ v1 v2 v3
def M_sore_j83 (σ : PS) (v1 : Int32) (v2 : Int32) (v3 : Int32) (v5 : Int32) (x0 : Int32) (x1 : Int32) : Option ((Int32 × Int32) ⊕ ((Int32 × Int32 × Int32) ⊕ (Int32 × PS))) := nm (x1 + x0) (fun v4_2 => nm (v5 + 1) (fun v5_3 => some (.inl (v4_2, v5_3))))
def M_sore_j82 (σ : PS) (v1 : Int32) (v2 : Int32) (v3 : Int32) (v5 : Int32) (x0 : Int32) : Option ((Int32 × Int32) ⊕ ((Int32 × Int32 × Int32) ⊕ (Int32 × PS))) := M_sore_j83 σ v1 v2 v3 v5 0 x0
def M_sore_l39 (σ : PS) (v1 : Int32) (v2 : Int32) (v3 : Int32) (v4 : Int32) (v5 : Int32) : Option ((Int32 × Int32) ⊕ ((Int32 × Int32 × Int32) ⊕ (Int32 × PS))) := bd (M_pieces σ) (fun q_4 => if q_4 ≤ v5 then up (M_sore_j92 σ v1 v2 v3 v4) else ix v5 6 (if (rA σ 34 v5) = ((-1)) then M_sore_j82 σ v1 v2 v3 v5 v4 else ix v5 6 (bd (M_whereOf σ v5 (rA σ 34 v5)) (fun q_5 => if q_5 = v3 then M_sore_j83 σ v1 v2 v3 v5 1 v4 else M_sore_j82 σ v1 v2 v3 v5 v4))))
def M_sore_B39 (σ : PS) (v1 : Int32) (v2 : Int32) (v3 : Int32) : (Int32 × Int32) → Option ((Int32 × Int32) ⊕ ((Int32 × Int32 × Int32) ⊕ (Int32 × PS))) := fun t => M_sore_l39 σ v1 v2 v3 t.1 t.2
def M_sore_l25 (σ : PS) (v1 : Int32) (v2 : Int32) (v3 : Int32) : Option ((Int32 × Int32 × Int32) ⊕ (Int32 × PS)) := if (gI σ 25) ≤ v3 then up (M_sore_j112 σ v1) else loop (M_sore_B39 σ v1 v2 v3) fu (0, 0)
def M_sore_B25 (σ : PS) : (Int32 × Int32 × Int32) → Option ((Int32 × Int32 × Int32) ⊕ (Int32 × PS)) := fun t => M_sore_l25 σ t.1 t.2.1 t.2.2
def M_sore (σ : PS) : Option (Int32 × PS) := nm (sI σ 0 0) (fun σ_6 => bd (M_isLehr σ_6) (fun q_7 => if q_7 = 0 then some ((-2), σ_6) else bd (M_laysNow σ_6) (fun q_8 => loop (M_sore_B25 q_8) fu ((-1), 0, 0))))
set_option maxHeartbeats 4000000 in
theorem kM_sore (l : Launch) {D : va_G} {ty : Nat → ClassId} {A : Nat → Prop} {o : Nat} {ad : Nat → Nat} {rs : va_W} {σ : PS} {σ' : PS} {r : Int32} (hf : M_sore σ = some (r, σ')) : KI l yX7_sore cX7_sore 6 .int 6 D ty A (wM ty o ad σ ++ rs) (wM ty o ad σ' ++ rs) [.ref o] r := by
  refine KI.of (by decide) (Nat.le_of_ble_eq_true rfl) ?_
  intro p e R s m args below meth c Q C hR
  have C : Cx p R s m args c cX7_sore 6 RX7 D ty A 6 := C
  have hR : ∀ (v : Int32) (σ2 : PS), (v, σ2) = (r, σ') → ∀ (H : Heap) (locs : List Loc) (pc : Nat) (ls : Array Slot), Hw D A s H locs (wM ty o ad σ2 ++ rs) → narrow .int (.int v) = .int v → decode cX7_sore pc = .ok (.ireturn, 1) → W p l e R s m args below meth c H locs 0 0 Q (F0 m pc ls [.int v]) := by intro v σ2 e9; cases e9; exact hR
  have j112 : ∀ (σ : PS) (v1 : Int32) (H : Heap) (locs : List Loc) (ls : Array Slot), Hw D A s H locs (wM ty o ad σ ++ rs) → lv_has ls 6 [(1, .int v1)] → M_sore_j112 σ v1 = some (r, σ') → W p l e R s m args below meth c H locs 0 0 Q (F0 m 112 ls []) := by
    intro σ v1 H locs ls h hl hf
    unfold M_sore_j112 at hf
    refine lv_iload_n C.x C.b dX7_sore_112 rfl (lv_at hl 0 rfl) ?_
    exact hR _ _ (some_k hf) _ _ _ _ h rfl dX7_sore_113
  have l25 : ∀ (σ : PS) (n25 : Nat) (v1 : Int32) (v2 : Int32) (v3 : Int32) (H : Heap) (locs : List Loc) (ls : Array Slot), Hw D A s H locs (wM ty o ad σ ++ rs) → lv_has ls 6 [(0, .ref o), (1, .int v1), (2, .int v2), (3, .int v3)] → loop (M_sore_B25 σ) n25 (v1, v2, v3) = some (r, σ') → W p l e R s m args below meth c H locs 0 0 Q (F0 m 25 ls []) := by
    intro σ n25
    induction n25 with
    | zero => intro v1 v2 v3 H locs ls h hl hf; exact (none_k hf).elim
    | succ n25 ih25 =>
      have j106 : ∀ (v1 : Int32) (v2 : Int32) (v3 : Int32) (H : Heap) (locs : List Loc) (ls : Array Slot), Hw D A s H locs (wM ty o ad σ ++ rs) → lv_has ls 6 [(0, .ref o), (1, .int v1), (2, .int v2), (3, .int v3)] → bl (M_sore_B25 σ) n25 (M_sore_j106 σ v1 v2 v3) = some (r, σ') → W p l e R s m args below meth c H locs 0 0 Q (F0 m 106 ls []) := by
        intro v1 v2 v3 H locs ls h hl hf
        unfold M_sore_j106 at hf
        obtain ⟨v3_1, e9, hf⟩ := nm_k (K := bl (M_sore_B25 σ) n25) hf
        refine lv_iinc (v := v3_1) (lv' := [(3, .int v3_1), (0, .ref o), (1, .int v1), (2, .int v2)]) C.x C.b dX7_sore_106 hl (k := 3) rfl (iinc_e (k := 1) (by decide) e9) (by decide) rfl (fun ls hl => ?_)
        refine lv_goto (tgt := 25) C.x C.b dX7_sore_109 (by decide) ?_
        exact ih25 v1 v2 v3_1 _ _ _ h (lv_sub hl [1, 2, 3, 0] rfl) hf
      have j92 : ∀ (v1 : Int32) (v2 : Int32) (v3 : Int32) (v4 : Int32) (H : Heap) (locs : List Loc) (ls : Array Slot), Hw D A s H locs (wM ty o ad σ ++ rs) → lv_has ls 6 [(0, .ref o), (1, .int v1), (2, .int v2), (3, .int v3), (4, .int v4)] → bl (M_sore_B25 σ) n25 (M_sore_j92 σ v1 v2 v3 v4) = some (r, σ') → W p l e R s m args below meth c H locs 0 0 Q (F0 m 92 ls []) := by
        intro v1 v2 v3 v4 H locs ls h hl hf
        unfold M_sore_j92 at hf
        refine lv_iload C.x C.b dX7_sore_92 (lv_at hl 4 rfl) ?_
        refine lv_iload_n C.x C.b dX7_sore_94 rfl (lv_at hl 2 rfl) ?_
        refine lv_icmp_gt (tgt := 101) C.x C.b dX7_sore_95 (by decide) (fun c9 => ?_) (fun c9 => ?_)
        · have hf := if_t (K := bl (M_sore_B25 σ) n25) c9 hf
          refine lv_iload_n C.x C.b dX7_sore_101 rfl (lv_at hl 3 rfl) ?_
          refine lv_istore_n (lv' := [(1, .int v3), (0, .ref o), (2, .int v2), (3, .int v3), (4, .int v4)]) C.x C.b dX7_sore_102 rfl hl (by decide) rfl (fun ls hl => ?_)
          refine lv_iload C.x C.b dX7_sore_103 (lv_at hl 4 rfl) ?_
          refine lv_istore_n (lv' := [(2, .int v4), (1, .int v3), (0, .ref o), (3, .int v3), (4, .int v4)]) C.x C.b dX7_sore_105 rfl hl (by decide) rfl (fun ls hl => ?_)
          exact j106 v3 v4 v3 _ _ _ h (lv_sub hl [2, 1, 0, 3] rfl) hf
        · have hf := if_f (K := bl (M_sore_B25 σ) n25) c9 hf
          refine lv_goto (tgt := 106) C.x C.b dX7_sore_98 (by decide) ?_
          exact j106 v1 v2 v3 _ _ _ h (lv_sub hl [0, 1, 2, 3] rfl) hf
      have l39 : ∀ (v1 : Int32) (v2 : Int32) (v3 : Int32) (n39 : Nat) (v4 : Int32) (v5 : Int32) (H : Heap) (locs : List Loc) (ls : Array Slot), Hw D A s H locs (wM ty o ad σ ++ rs) → lv_has ls 6 [(0, .ref o), (1, .int v1), (2, .int v2), (3, .int v3), (4, .int v4), (5, .int v5)] → bl (M_sore_B25 σ) n25 (loop (M_sore_B39 σ v1 v2 v3) n39 (v4, v5)) = some (r, σ') → W p l e R s m args below meth c H locs 0 0 Q (F0 m 39 ls []) := by
        intro v1 v2 v3 n39
        induction n39 with
        | zero => intro v4 v5 H locs ls h hl hf; exact (none_k hf).elim
        | succ n39 ih39 =>
          have j83 : ∀ (v5 : Int32) (x0 : Int32) (x1 : Int32) (H : Heap) (locs : List Loc) (ls : Array Slot), Hw D A s H locs (wM ty o ad σ ++ rs) → lv_has ls 6 [(0, .ref o), (1, .int v1), (2, .int v2), (3, .int v3), (5, .int v5)] → bl (M_sore_B25 σ) n25 (bl (M_sore_B39 σ v1 v2 v3) n39 (M_sore_j83 σ v1 v2 v3 v5 x0 x1)) = some (r, σ') → W p l e R s m args below meth c H locs 0 0 Q (F0 m 83 ls [.int x0, .int x1]) := by
            intro v5 x0 x1 H locs ls h hl hf
            unfold M_sore_j83 at hf
            refine lv_iadd C.x C.b dX7_sore_83 ?_
            obtain ⟨v4_2, e9, hf⟩ := nm_k (K := fun x => bl (M_sore_B25 σ) n25 (bl (M_sore_B39 σ v1 v2 v3) n39 x)) hf
            refine lv_topI e9 ?_
            refine lv_istore (lv' := [(4, .int v4_2), (0, .ref o), (1, .int v1), (2, .int v2), (3, .int v3), (5, .int v5)]) C.x C.b dX7_sore_84 hl (by decide) rfl (fun ls hl => ?_)
            obtain ⟨v5_3, e9, hf⟩ := nm_k (K := fun x => bl (M_sore_B25 σ) n25 (bl (M_sore_B39 σ v1 v2 v3) n39 x)) hf
            refine lv_iinc (v := v5_3) (lv' := [(5, .int v5_3), (4, .int v4_2), (0, .ref o), (1, .int v1), (2, .int v2), (3, .int v3)]) C.x C.b dX7_sore_86 hl (k := 5) rfl (iinc_e (k := 1) (by decide) e9) (by decide) rfl (fun ls hl => ?_)
            refine lv_goto (tgt := 39) C.x C.b dX7_sore_89 (by decide) ?_
            exact ih39 v4_2 v5_3 _ _ _ h (lv_sub hl [2, 3, 4, 5, 1, 0] rfl) hf
          have j82 : ∀ (v5 : Int32) (x0 : Int32) (H : Heap) (locs : List Loc) (ls : Array Slot), Hw D A s H locs (wM ty o ad σ ++ rs) → lv_has ls 6 [(0, .ref o), (1, .int v1), (2, .int v2), (3, .int v3), (5, .int v5)] → bl (M_sore_B25 σ) n25 (bl (M_sore_B39 σ v1 v2 v3) n39 (M_sore_j82 σ v1 v2 v3 v5 x0)) = some (r, σ') → W p l e R s m args below meth c H locs 0 0 Q (F0 m 82 ls [.int x0]) := by
            intro v5 x0 H locs ls h hl hf
            unfold M_sore_j82 at hf
            refine lv_iconst (v := 0) C.x C.b dX7_sore_82 (by decide) ?_
            exact j83 v5 0 x0 _ _ _ h (lv_sub hl [0, 1, 2, 3, 4] rfl) hf
          intro v4 v5 H locs ls h hl hf
          have hf : bl (M_sore_B25 σ) n25 (bl (M_sore_B39 σ v1 v2 v3) n39 (M_sore_l39 σ v1 v2 v3 v4 v5)) = some (r, σ') := hf
          unfold M_sore_l39 at hf
          refine lv_iload C.x C.b dX7_sore_39 (lv_at hl 5 rfl) ?_
          refine lv_aload_n C.x C.b dX7_sore_41 rfl (lv_at hl 0 rfl) ?_
          obtain ⟨q_4, hc, hf⟩ := bd_k (K := fun x => bl (M_sore_B25 σ) n25 (bl (M_sore_B39 σ v1 v2 v3) n39 x)) rfl hf
          refine cM_pieces C h hc (Nat.le_of_ble_eq_true rfl) hl.1 (Nat.le_of_ble_eq_true rfl) dX7_sore_42 (fun H locs h => ?_)
          refine lv_icmp_ge (tgt := 92) C.x C.b dX7_sore_45 (by decide) (fun c9 => ?_) (fun c9 => ?_)
          · have hf := if_t (K := fun x => bl (M_sore_B25 σ) n25 (bl (M_sore_B39 σ v1 v2 v3) n39 x)) c9 hf
            have hf := bl_upK (K := bl (M_sore_B25 σ) n25) hf
            exact j92 v1 v2 v3 v4 _ _ _ h (lv_sub hl [0, 1, 2, 3, 4] rfl) hf
          · have hf := if_f (K := fun x => bl (M_sore_B25 σ) n25 (bl (M_sore_B39 σ v1 v2 v3) n39 x)) c9 hf
            refine lv_iload C.x C.b dX7_sore_48 (lv_at hl 4 rfl) ?_
            refine lv_aload_n C.x C.b dX7_sore_50 rfl (lv_at hl 0 rfl) ?_
            refine m_g34 C h dX7_sore_51 ?_
            refine lv_iload C.x C.b dX7_sore_54 (lv_at hl 5 rfl) ?_
            obtain ⟨hi, hf⟩ := ix_k (K := fun x => bl (M_sore_B25 σ) n25 (bl (M_sore_B39 σ v1 v2 v3) n39 x)) rfl hf
            refine m_a34 C h hi dX7_sore_56 ?_
            refine lv_iconst (v := (-1)) C.x C.b dX7_sore_57 (by decide) ?_
            refine lv_icmp_eq (tgt := 82) C.x C.b dX7_sore_58 (by decide) (fun c9 => ?_) (fun c9 => ?_)
            · have hf := if_t (K := fun x => bl (M_sore_B25 σ) n25 (bl (M_sore_B39 σ v1 v2 v3) n39 x)) c9 hf
              exact j82 v5 v4 _ _ _ h (lv_sub hl [0, 1, 2, 3, 5] rfl) hf
            · have hf := if_f (K := fun x => bl (M_sore_B25 σ) n25 (bl (M_sore_B39 σ v1 v2 v3) n39 x)) c9 hf
              refine lv_aload_n C.x C.b dX7_sore_61 rfl (lv_at hl 0 rfl) ?_
              refine lv_iload C.x C.b dX7_sore_62 (lv_at hl 5 rfl) ?_
              refine lv_aload_n C.x C.b dX7_sore_64 rfl (lv_at hl 0 rfl) ?_
              refine m_g34 C h dX7_sore_65 ?_
              refine lv_iload C.x C.b dX7_sore_68 (lv_at hl 5 rfl) ?_
              obtain ⟨hi, hf⟩ := ix_k (K := fun x => bl (M_sore_B25 σ) n25 (bl (M_sore_B39 σ v1 v2 v3) n39 x)) rfl hf
              refine m_a34 C h hi dX7_sore_70 ?_
              obtain ⟨q_5, hc, hf⟩ := bd_k (K := fun x => bl (M_sore_B25 σ) n25 (bl (M_sore_B39 σ v1 v2 v3) n39 x)) rfl hf
              refine cM_whereOf C h hc (Nat.le_of_ble_eq_true rfl) hl.1 (Nat.le_of_ble_eq_true rfl) dX7_sore_71 (fun H locs h => ?_)
              refine lv_iload_n C.x C.b dX7_sore_74 rfl (lv_at hl 3 rfl) ?_
              refine lv_icmp_ne (tgt := 82) C.x C.b dX7_sore_75 (by decide) (fun c9 => ?_) (fun c9 => ?_)
              · have hf := if_f (K := fun x => bl (M_sore_B25 σ) n25 (bl (M_sore_B39 σ v1 v2 v3) n39 x)) c9 hf
                exact j82 v5 v4 _ _ _ h (lv_sub hl [0, 1, 2, 3, 5] rfl) hf
              · have hf := if_t (K := fun x => bl (M_sore_B25 σ) n25 (bl (M_sore_B39 σ v1 v2 v3) n39 x)) c9 hf
                refine lv_iconst (v := 1) C.x C.b dX7_sore_78 (by decide) ?_
                refine lv_goto (tgt := 83) C.x C.b dX7_sore_79 (by decide) ?_
                exact j83 v5 1 v4 _ _ _ h (lv_sub hl [0, 1, 2, 3, 5] rfl) hf
      intro v1 v2 v3 H locs ls h hl hf
      have hf : bl (M_sore_B25 σ) n25 (M_sore_l25 σ v1 v2 v3) = some (r, σ') := hf
      unfold M_sore_l25 at hf
      refine lv_iload_n C.x C.b dX7_sore_25 rfl (lv_at hl 3 rfl) ?_
      refine lv_aload_n C.x C.b dX7_sore_26 rfl (lv_at hl 0 rfl) ?_
      refine m_g25 C h dX7_sore_27 ?_
      refine lv_icmp_ge (tgt := 112) C.x C.b dX7_sore_30 (by decide) (fun c9 => ?_) (fun c9 => ?_)
      · have hf := if_t (K := bl (M_sore_B25 σ) n25) c9 hf
        have hf := bl_upK (K := fun x => x) hf
        exact j112 σ v1 _ _ _ h (lv_sub hl [1] rfl) hf
      · have hf := if_f (K := bl (M_sore_B25 σ) n25) c9 hf
        refine lv_iconst (v := 0) C.x C.b dX7_sore_33 (by decide) ?_
        refine lv_istore (lv' := [(4, .int 0), (0, .ref o), (1, .int v1), (2, .int v2), (3, .int v3)]) C.x C.b dX7_sore_34 hl (by decide) rfl (fun ls hl => ?_)
        refine lv_iconst (v := 0) C.x C.b dX7_sore_36 (by decide) ?_
        refine lv_istore (lv' := [(5, .int 0), (4, .int 0), (0, .ref o), (1, .int v1), (2, .int v2), (3, .int v3)]) C.x C.b dX7_sore_37 hl (by decide) rfl (fun ls hl => ?_)
        exact l39 v1 v2 v3 fu 0 0 _ _ _ h (lv_sub hl [2, 3, 4, 5, 1, 0] rfl) hf
  intro H locs ls h hl
  have hl : lv_has ls 6 [(0, .ref o)] := hl
  unfold M_sore at hf
  refine lv_aload_n C.x C.b dX7_sore_0 rfl (lv_at hl 0 rfl) ?_
  refine lv_iconst (v := 0) C.x C.b dX7_sore_1 (by decide) ?_
  obtain ⟨σ_6, e9, hf⟩ := nm_k (K := fun x => x) hf
  refine m_p0 C h e9 dX7_sore_2 (fun H locs h => ?_)
  refine lv_aload_n C.x C.b dX7_sore_5 rfl (lv_at hl 0 rfl) ?_
  obtain ⟨q_7, hc, hf⟩ := bd_k (K := fun x => x) rfl hf
  refine cM_isLehr C h hc (Nat.le_of_ble_eq_true rfl) hl.1 (Nat.le_of_ble_eq_true rfl) dX7_sore_6 (fun H locs h => ?_)
  refine lv_if_ne (tgt := 15) C.x C.b dX7_sore_9 (by decide) (fun c9 => ?_) (fun c9 => ?_)
  · have hf := if_f (K := fun x => x) c9 hf
    refine lv_aload_n C.x C.b dX7_sore_15 rfl (lv_at hl 0 rfl) ?_
    obtain ⟨q_8, hc, hf⟩ := bd_k (K := fun x => x) rfl hf
    refine cM_laysNow C h hc (Nat.le_of_ble_eq_true rfl) hl.1 (Nat.le_of_ble_eq_true rfl) dX7_sore_16 (fun H locs h => ?_)
    refine lv_iconst (v := (-1)) C.x C.b dX7_sore_19 (by decide) ?_
    refine lv_istore_n (lv' := [(1, .int ((-1))), (0, .ref o)]) C.x C.b dX7_sore_20 rfl hl (by decide) rfl (fun ls hl => ?_)
    refine lv_iconst (v := 0) C.x C.b dX7_sore_21 (by decide) ?_
    refine lv_istore_n (lv' := [(2, .int 0), (1, .int ((-1))), (0, .ref o)]) C.x C.b dX7_sore_22 rfl hl (by decide) rfl (fun ls hl => ?_)
    refine lv_iconst (v := 0) C.x C.b dX7_sore_23 (by decide) ?_
    refine lv_istore_n (lv' := [(3, .int 0), (2, .int 0), (1, .int ((-1))), (0, .ref o)]) C.x C.b dX7_sore_24 rfl hl (by decide) rfl (fun ls hl => ?_)
    exact l25 q_8 fu ((-1)) 0 0 _ _ _ h (lv_sub hl [3, 2, 1, 0] rfl) hf
  · have hf := if_t (K := fun x => x) c9 hf
    refine lv_bipush (v := (-2)) C.x C.b dX7_sore_12 (by decide) ?_
    exact hR _ _ (some_k hf) _ _ _ _ h rfl dX7_sore_14
def M_tense_j66 (σ : PS) (v2 : Int32) : Option (Int32 × PS) := some (v2, σ)
def M_tense_j58 (σ : PS) (v1 : Int32) (v3 : Int32) (x0 : Int32) (x1 : Int32) : Option ((Int32 × Int32) ⊕ (Int32 × PS)) := nm (x1 + x0) (fun v2_1 => nm (v3 + 1) (fun v3_2 => some (.inl (v2_1, v3_2))))
def M_tense_l29 (σ : PS) (v1 : Int32) (v2 : Int32) (v3 : Int32) : Option ((Int32 × Int32) ⊕ (Int32 × PS)) := bd (M_steps σ) (fun q_3 => if q_3 < v3 then up (M_tense_j66 σ v2) else bd (M_skinOf σ v1 v3) (fun q_4 => bd (M_coreOf σ v1 v3) (fun q_5 => if q_5 ≤ q_4 then M_tense_j58 σ v1 v3 0 v2 else M_tense_j58 σ v1 v3 1 v2)))
def M_tense_B29 (σ : PS) (v1 : Int32) : (Int32 × Int32) → Option ((Int32 × Int32) ⊕ (Int32 × PS)) := fun t => M_tense_l29 σ v1 t.1 t.2
def M_tense (σ : PS) (v1 : Int32) : Option (Int32 × PS) := nm (sI σ 0 0) (fun σ_6 => bd (M_isPiece σ_6 v1.toInt64) (fun q_7 => if q_7 = 0 then some ((-2), σ_6) else bd (M_laysNow σ_6) (fun q_8 => bd (M_comes q_8 v1) (fun q_9 => loop (M_tense_B29 q_8 v1) fu (0, q_9)))))
set_option maxHeartbeats 4000000 in
theorem kM_tense (l : Launch) {D : va_G} {ty : Nat → ClassId} {A : Nat → Prop} {o : Nat} {ad : Nat → Nat} {rs : va_W} {σ : PS} {σ' : PS} {v1 : Int32} {r : Int32} (hf : M_tense σ v1 = some (r, σ')) : KI l yX7_tense cX7_tense 4 .int 6 D ty A (wM ty o ad σ ++ rs) (wM ty o ad σ' ++ rs) [.ref o, .int v1] r := by
  refine KI.of (by decide) (Nat.le_of_ble_eq_true rfl) ?_
  intro p e R s m args below meth c Q C hR
  have C : Cx p R s m args c cX7_tense 4 RX7 D ty A 6 := C
  have hR : ∀ (v : Int32) (σ2 : PS), (v, σ2) = (r, σ') → ∀ (H : Heap) (locs : List Loc) (pc : Nat) (ls : Array Slot), Hw D A s H locs (wM ty o ad σ2 ++ rs) → narrow .int (.int v) = .int v → decode cX7_tense pc = .ok (.ireturn, 1) → W p l e R s m args below meth c H locs 0 0 Q (F0 m pc ls [.int v]) := by intro v σ2 e9; cases e9; exact hR
  have j66 : ∀ (σ : PS) (v2 : Int32) (H : Heap) (locs : List Loc) (ls : Array Slot), Hw D A s H locs (wM ty o ad σ ++ rs) → lv_has ls 4 [(2, .int v2)] → M_tense_j66 σ v2 = some (r, σ') → W p l e R s m args below meth c H locs 0 0 Q (F0 m 66 ls []) := by
    intro σ v2 H locs ls h hl hf
    unfold M_tense_j66 at hf
    refine lv_iload_n C.x C.b dX7_tense_66 rfl (lv_at hl 0 rfl) ?_
    exact hR _ _ (some_k hf) _ _ _ _ h rfl dX7_tense_67
  have l29 : ∀ (σ : PS) (n29 : Nat) (v2 : Int32) (v3 : Int32) (H : Heap) (locs : List Loc) (ls : Array Slot), Hw D A s H locs (wM ty o ad σ ++ rs) → lv_has ls 4 [(0, .ref o), (1, .int v1), (2, .int v2), (3, .int v3)] → loop (M_tense_B29 σ v1) n29 (v2, v3) = some (r, σ') → W p l e R s m args below meth c H locs 0 0 Q (F0 m 29 ls []) := by
    intro σ n29
    induction n29 with
    | zero => intro v2 v3 H locs ls h hl hf; exact (none_k hf).elim
    | succ n29 ih29 =>
      have j58 : ∀ (v3 : Int32) (x0 : Int32) (x1 : Int32) (H : Heap) (locs : List Loc) (ls : Array Slot), Hw D A s H locs (wM ty o ad σ ++ rs) → lv_has ls 4 [(0, .ref o), (1, .int v1), (3, .int v3)] → bl (M_tense_B29 σ v1) n29 (M_tense_j58 σ v1 v3 x0 x1) = some (r, σ') → W p l e R s m args below meth c H locs 0 0 Q (F0 m 58 ls [.int x0, .int x1]) := by
        intro v3 x0 x1 H locs ls h hl hf
        unfold M_tense_j58 at hf
        refine lv_iadd C.x C.b dX7_tense_58 ?_
        obtain ⟨v2_1, e9, hf⟩ := nm_k (K := bl (M_tense_B29 σ v1) n29) hf
        refine lv_topI e9 ?_
        refine lv_istore_n (lv' := [(2, .int v2_1), (0, .ref o), (1, .int v1), (3, .int v3)]) C.x C.b dX7_tense_59 rfl hl (by decide) rfl (fun ls hl => ?_)
        obtain ⟨v3_2, e9, hf⟩ := nm_k (K := bl (M_tense_B29 σ v1) n29) hf
        refine lv_iinc (v := v3_2) (lv' := [(3, .int v3_2), (2, .int v2_1), (0, .ref o), (1, .int v1)]) C.x C.b dX7_tense_60 hl (k := 3) rfl (iinc_e (k := 1) (by decide) e9) (by decide) rfl (fun ls hl => ?_)
        refine lv_goto (tgt := 29) C.x C.b dX7_tense_63 (by decide) ?_
        exact ih29 v2_1 v3_2 _ _ _ h (lv_sub hl [2, 3, 1, 0] rfl) hf
      intro v2 v3 H locs ls h hl hf
      have hf : bl (M_tense_B29 σ v1) n29 (M_tense_l29 σ v1 v2 v3) = some (r, σ') := hf
      unfold M_tense_l29 at hf
      refine lv_iload_n C.x C.b dX7_tense_29 rfl (lv_at hl 3 rfl) ?_
      refine lv_aload_n C.x C.b dX7_tense_30 rfl (lv_at hl 0 rfl) ?_
      obtain ⟨q_3, hc, hf⟩ := bd_k (K := bl (M_tense_B29 σ v1) n29) rfl hf
      refine cM_steps C h hc (Nat.le_of_ble_eq_true rfl) hl.1 (Nat.le_of_ble_eq_true rfl) dX7_tense_31 (fun H locs h => ?_)
      refine lv_icmp_gt (tgt := 66) C.x C.b dX7_tense_34 (by decide) (fun c9 => ?_) (fun c9 => ?_)
      · have hf := if_t (K := bl (M_tense_B29 σ v1) n29) c9 hf
        have hf := bl_upK (K := fun x => x) hf
        exact j66 σ v2 _ _ _ h (lv_sub hl [2] rfl) hf
      · have hf := if_f (K := bl (M_tense_B29 σ v1) n29) c9 hf
        refine lv_iload_n C.x C.b dX7_tense_37 rfl (lv_at hl 2 rfl) ?_
        refine lv_aload_n C.x C.b dX7_tense_38 rfl (lv_at hl 0 rfl) ?_
        refine lv_iload_n C.x C.b dX7_tense_39 rfl (lv_at hl 1 rfl) ?_
        refine lv_iload_n C.x C.b dX7_tense_40 rfl (lv_at hl 3 rfl) ?_
        obtain ⟨q_4, hc, hf⟩ := bd_k (K := bl (M_tense_B29 σ v1) n29) rfl hf
        refine cM_skinOf C h hc (Nat.le_of_ble_eq_true rfl) hl.1 (Nat.le_of_ble_eq_true rfl) dX7_tense_41 (fun H locs h => ?_)
        refine lv_aload_n C.x C.b dX7_tense_44 rfl (lv_at hl 0 rfl) ?_
        refine lv_iload_n C.x C.b dX7_tense_45 rfl (lv_at hl 1 rfl) ?_
        refine lv_iload_n C.x C.b dX7_tense_46 rfl (lv_at hl 3 rfl) ?_
        obtain ⟨q_5, hc, hf⟩ := bd_k (K := bl (M_tense_B29 σ v1) n29) rfl hf
        refine cM_coreOf C h hc (Nat.le_of_ble_eq_true rfl) hl.1 (Nat.le_of_ble_eq_true rfl) dX7_tense_47 (fun H locs h => ?_)
        refine lv_icmp_ge (tgt := 57) C.x C.b dX7_tense_50 (by decide) (fun c9 => ?_) (fun c9 => ?_)
        · have hf := if_t (K := bl (M_tense_B29 σ v1) n29) c9 hf
          refine lv_iconst (v := 0) C.x C.b dX7_tense_57 (by decide) ?_
          exact j58 v3 0 v2 _ _ _ h (lv_sub hl [0, 1, 3] rfl) hf
        · have hf := if_f (K := bl (M_tense_B29 σ v1) n29) c9 hf
          refine lv_iconst (v := 1) C.x C.b dX7_tense_53 (by decide) ?_
          refine lv_goto (tgt := 58) C.x C.b dX7_tense_54 (by decide) ?_
          exact j58 v3 1 v2 _ _ _ h (lv_sub hl [0, 1, 3] rfl) hf
  intro H locs ls h hl
  have hl : lv_has ls 4 [(0, .ref o), (1, .int v1)] := hl
  unfold M_tense at hf
  refine lv_aload_n C.x C.b dX7_tense_0 rfl (lv_at hl 0 rfl) ?_
  refine lv_iconst (v := 0) C.x C.b dX7_tense_1 (by decide) ?_
  obtain ⟨σ_6, e9, hf⟩ := nm_k (K := fun x => x) hf
  refine m_p0 C h e9 dX7_tense_2 (fun H locs h => ?_)
  refine lv_aload_n C.x C.b dX7_tense_5 rfl (lv_at hl 0 rfl) ?_
  refine lv_iload_n C.x C.b dX7_tense_6 rfl (lv_at hl 1 rfl) ?_
  refine lv_i2l C.x C.b dX7_tense_7 rfl ?_
  obtain ⟨q_7, hc, hf⟩ := bd_k (K := fun x => x) rfl hf
  refine cM_isPiece C h hc (Nat.le_of_ble_eq_true rfl) hl.1 (Nat.le_of_ble_eq_true rfl) dX7_tense_8 (fun H locs h => ?_)
  refine lv_if_ne (tgt := 17) C.x C.b dX7_tense_11 (by decide) (fun c9 => ?_) (fun c9 => ?_)
  · have hf := if_f (K := fun x => x) c9 hf
    refine lv_aload_n C.x C.b dX7_tense_17 rfl (lv_at hl 0 rfl) ?_
    obtain ⟨q_8, hc, hf⟩ := bd_k (K := fun x => x) rfl hf
    refine cM_laysNow C h hc (Nat.le_of_ble_eq_true rfl) hl.1 (Nat.le_of_ble_eq_true rfl) dX7_tense_18 (fun H locs h => ?_)
    refine lv_iconst (v := 0) C.x C.b dX7_tense_21 (by decide) ?_
    refine lv_istore_n (lv' := [(2, .int 0), (0, .ref o), (1, .int v1)]) C.x C.b dX7_tense_22 rfl hl (by decide) rfl (fun ls hl => ?_)
    refine lv_aload_n C.x C.b dX7_tense_23 rfl (lv_at hl 1 rfl) ?_
    refine lv_iload_n C.x C.b dX7_tense_24 rfl (lv_at hl 2 rfl) ?_
    obtain ⟨q_9, hc, hf⟩ := bd_k (K := fun x => x) rfl hf
    refine cM_comes C h hc (Nat.le_of_ble_eq_true rfl) hl.1 (Nat.le_of_ble_eq_true rfl) dX7_tense_25 (fun H locs h => ?_)
    refine lv_istore_n (lv' := [(3, .int q_9), (2, .int 0), (0, .ref o), (1, .int v1)]) C.x C.b dX7_tense_28 rfl hl (by decide) rfl (fun ls hl => ?_)
    exact l29 q_8 fu 0 q_9 _ _ _ h (lv_sub hl [2, 3, 1, 0] rfl) hf
  · have hf := if_t (K := fun x => x) c9 hf
    refine lv_bipush (v := (-2)) C.x C.b dX7_tense_14 (by decide) ?_
    exact hR _ _ (some_k hf) _ _ _ _ h rfl dX7_tense_16
def M_warms_j64 (σ : PS) (v2 : Int32) : Option (Int32 × PS) := some (v2, σ)
def M_warms_j56 (σ : PS) (v1 : Int32) (v3 : Int32) (x0 : Int32) (x1 : Int32) : Option ((Int32 × Int32) ⊕ (Int32 × PS)) := nm (x1 + x0) (fun v2_1 => nm (v3 + 1) (fun v3_2 => some (.inl (v2_1, v3_2))))
def M_warms_l25 (σ : PS) (v1 : Int32) (v2 : Int32) (v3 : Int32) : Option ((Int32 × Int32) ⊕ (Int32 × PS)) := bd (M_steps σ) (fun q_3 => if q_3 < v3 then up (M_warms_j64 σ v2) else bd (M_skinOf σ v1 v3) (fun q_4 => bd (M_skinOf σ v1 (v3 - 1)) (fun q_5 => if q_4 ≤ q_5 then M_warms_j56 σ v1 v3 0 v2 else M_warms_j56 σ v1 v3 1 v2)))
def M_warms_B25 (σ : PS) (v1 : Int32) : (Int32 × Int32) → Option ((Int32 × Int32) ⊕ (Int32 × PS)) := fun t => M_warms_l25 σ v1 t.1 t.2
def M_warms (σ : PS) (v1 : Int32) : Option (Int32 × PS) := nm (sI σ 0 0) (fun σ_6 => bd (M_isPiece σ_6 v1.toInt64) (fun q_7 => if q_7 = 0 then some ((-2), σ_6) else bd (M_laysNow σ_6) (fun q_8 => loop (M_warms_B25 q_8 v1) fu (0, 1))))
set_option maxHeartbeats 4000000 in
theorem kM_warms (l : Launch) {D : va_G} {ty : Nat → ClassId} {A : Nat → Prop} {o : Nat} {ad : Nat → Nat} {rs : va_W} {σ : PS} {σ' : PS} {v1 : Int32} {r : Int32} (hf : M_warms σ v1 = some (r, σ')) : KI l yX7_warms cX7_warms 4 .int 6 D ty A (wM ty o ad σ ++ rs) (wM ty o ad σ' ++ rs) [.ref o, .int v1] r := by
  refine KI.of (by decide) (Nat.le_of_ble_eq_true rfl) ?_
  intro p e R s m args below meth c Q C hR
  have C : Cx p R s m args c cX7_warms 4 RX7 D ty A 6 := C
  have hR : ∀ (v : Int32) (σ2 : PS), (v, σ2) = (r, σ') → ∀ (H : Heap) (locs : List Loc) (pc : Nat) (ls : Array Slot), Hw D A s H locs (wM ty o ad σ2 ++ rs) → narrow .int (.int v) = .int v → decode cX7_warms pc = .ok (.ireturn, 1) → W p l e R s m args below meth c H locs 0 0 Q (F0 m pc ls [.int v]) := by intro v σ2 e9; cases e9; exact hR
  have j64 : ∀ (σ : PS) (v2 : Int32) (H : Heap) (locs : List Loc) (ls : Array Slot), Hw D A s H locs (wM ty o ad σ ++ rs) → lv_has ls 4 [(2, .int v2)] → M_warms_j64 σ v2 = some (r, σ') → W p l e R s m args below meth c H locs 0 0 Q (F0 m 64 ls []) := by
    intro σ v2 H locs ls h hl hf
    unfold M_warms_j64 at hf
    refine lv_iload_n C.x C.b dX7_warms_64 rfl (lv_at hl 0 rfl) ?_
    exact hR _ _ (some_k hf) _ _ _ _ h rfl dX7_warms_65
  have l25 : ∀ (σ : PS) (n25 : Nat) (v2 : Int32) (v3 : Int32) (H : Heap) (locs : List Loc) (ls : Array Slot), Hw D A s H locs (wM ty o ad σ ++ rs) → lv_has ls 4 [(0, .ref o), (1, .int v1), (2, .int v2), (3, .int v3)] → loop (M_warms_B25 σ v1) n25 (v2, v3) = some (r, σ') → W p l e R s m args below meth c H locs 0 0 Q (F0 m 25 ls []) := by
    intro σ n25
    induction n25 with
    | zero => intro v2 v3 H locs ls h hl hf; exact (none_k hf).elim
    | succ n25 ih25 =>
      have j56 : ∀ (v3 : Int32) (x0 : Int32) (x1 : Int32) (H : Heap) (locs : List Loc) (ls : Array Slot), Hw D A s H locs (wM ty o ad σ ++ rs) → lv_has ls 4 [(0, .ref o), (1, .int v1), (3, .int v3)] → bl (M_warms_B25 σ v1) n25 (M_warms_j56 σ v1 v3 x0 x1) = some (r, σ') → W p l e R s m args below meth c H locs 0 0 Q (F0 m 56 ls [.int x0, .int x1]) := by
        intro v3 x0 x1 H locs ls h hl hf
        unfold M_warms_j56 at hf
        refine lv_iadd C.x C.b dX7_warms_56 ?_
        obtain ⟨v2_1, e9, hf⟩ := nm_k (K := bl (M_warms_B25 σ v1) n25) hf
        refine lv_topI e9 ?_
        refine lv_istore_n (lv' := [(2, .int v2_1), (0, .ref o), (1, .int v1), (3, .int v3)]) C.x C.b dX7_warms_57 rfl hl (by decide) rfl (fun ls hl => ?_)
        obtain ⟨v3_2, e9, hf⟩ := nm_k (K := bl (M_warms_B25 σ v1) n25) hf
        refine lv_iinc (v := v3_2) (lv' := [(3, .int v3_2), (2, .int v2_1), (0, .ref o), (1, .int v1)]) C.x C.b dX7_warms_58 hl (k := 3) rfl (iinc_e (k := 1) (by decide) e9) (by decide) rfl (fun ls hl => ?_)
        refine lv_goto (tgt := 25) C.x C.b dX7_warms_61 (by decide) ?_
        exact ih25 v2_1 v3_2 _ _ _ h (lv_sub hl [2, 3, 1, 0] rfl) hf
      intro v2 v3 H locs ls h hl hf
      have hf : bl (M_warms_B25 σ v1) n25 (M_warms_l25 σ v1 v2 v3) = some (r, σ') := hf
      unfold M_warms_l25 at hf
      refine lv_iload_n C.x C.b dX7_warms_25 rfl (lv_at hl 3 rfl) ?_
      refine lv_aload_n C.x C.b dX7_warms_26 rfl (lv_at hl 0 rfl) ?_
      obtain ⟨q_3, hc, hf⟩ := bd_k (K := bl (M_warms_B25 σ v1) n25) rfl hf
      refine cM_steps C h hc (Nat.le_of_ble_eq_true rfl) hl.1 (Nat.le_of_ble_eq_true rfl) dX7_warms_27 (fun H locs h => ?_)
      refine lv_icmp_gt (tgt := 64) C.x C.b dX7_warms_30 (by decide) (fun c9 => ?_) (fun c9 => ?_)
      · have hf := if_t (K := bl (M_warms_B25 σ v1) n25) c9 hf
        have hf := bl_upK (K := fun x => x) hf
        exact j64 σ v2 _ _ _ h (lv_sub hl [2] rfl) hf
      · have hf := if_f (K := bl (M_warms_B25 σ v1) n25) c9 hf
        refine lv_iload_n C.x C.b dX7_warms_33 rfl (lv_at hl 2 rfl) ?_
        refine lv_aload_n C.x C.b dX7_warms_34 rfl (lv_at hl 0 rfl) ?_
        refine lv_iload_n C.x C.b dX7_warms_35 rfl (lv_at hl 1 rfl) ?_
        refine lv_iload_n C.x C.b dX7_warms_36 rfl (lv_at hl 3 rfl) ?_
        obtain ⟨q_4, hc, hf⟩ := bd_k (K := bl (M_warms_B25 σ v1) n25) rfl hf
        refine cM_skinOf C h hc (Nat.le_of_ble_eq_true rfl) hl.1 (Nat.le_of_ble_eq_true rfl) dX7_warms_37 (fun H locs h => ?_)
        refine lv_aload_n C.x C.b dX7_warms_40 rfl (lv_at hl 0 rfl) ?_
        refine lv_iload_n C.x C.b dX7_warms_41 rfl (lv_at hl 1 rfl) ?_
        refine lv_iload_n C.x C.b dX7_warms_42 rfl (lv_at hl 3 rfl) ?_
        refine lv_iconst (v := 1) C.x C.b dX7_warms_43 (by decide) ?_
        refine lv_isub C.x C.b dX7_warms_44 ?_
        obtain ⟨q_5, hc, hf⟩ := bd_k (K := bl (M_warms_B25 σ v1) n25) rfl hf
        refine cM_skinOf C h hc (Nat.le_of_ble_eq_true rfl) hl.1 (Nat.le_of_ble_eq_true rfl) dX7_warms_45 (fun H locs h => ?_)
        refine lv_icmp_le (tgt := 55) C.x C.b dX7_warms_48 (by decide) (fun c9 => ?_) (fun c9 => ?_)
        · have hf := if_t (K := bl (M_warms_B25 σ v1) n25) c9 hf
          refine lv_iconst (v := 0) C.x C.b dX7_warms_55 (by decide) ?_
          exact j56 v3 0 v2 _ _ _ h (lv_sub hl [0, 1, 3] rfl) hf
        · have hf := if_f (K := bl (M_warms_B25 σ v1) n25) c9 hf
          refine lv_iconst (v := 1) C.x C.b dX7_warms_51 (by decide) ?_
          refine lv_goto (tgt := 56) C.x C.b dX7_warms_52 (by decide) ?_
          exact j56 v3 1 v2 _ _ _ h (lv_sub hl [0, 1, 3] rfl) hf
  intro H locs ls h hl
  have hl : lv_has ls 4 [(0, .ref o), (1, .int v1)] := hl
  unfold M_warms at hf
  refine lv_aload_n C.x C.b dX7_warms_0 rfl (lv_at hl 0 rfl) ?_
  refine lv_iconst (v := 0) C.x C.b dX7_warms_1 (by decide) ?_
  obtain ⟨σ_6, e9, hf⟩ := nm_k (K := fun x => x) hf
  refine m_p0 C h e9 dX7_warms_2 (fun H locs h => ?_)
  refine lv_aload_n C.x C.b dX7_warms_5 rfl (lv_at hl 0 rfl) ?_
  refine lv_iload_n C.x C.b dX7_warms_6 rfl (lv_at hl 1 rfl) ?_
  refine lv_i2l C.x C.b dX7_warms_7 rfl ?_
  obtain ⟨q_7, hc, hf⟩ := bd_k (K := fun x => x) rfl hf
  refine cM_isPiece C h hc (Nat.le_of_ble_eq_true rfl) hl.1 (Nat.le_of_ble_eq_true rfl) dX7_warms_8 (fun H locs h => ?_)
  refine lv_if_ne (tgt := 17) C.x C.b dX7_warms_11 (by decide) (fun c9 => ?_) (fun c9 => ?_)
  · have hf := if_f (K := fun x => x) c9 hf
    refine lv_aload_n C.x C.b dX7_warms_17 rfl (lv_at hl 0 rfl) ?_
    obtain ⟨q_8, hc, hf⟩ := bd_k (K := fun x => x) rfl hf
    refine cM_laysNow C h hc (Nat.le_of_ble_eq_true rfl) hl.1 (Nat.le_of_ble_eq_true rfl) dX7_warms_18 (fun H locs h => ?_)
    refine lv_iconst (v := 0) C.x C.b dX7_warms_21 (by decide) ?_
    refine lv_istore_n (lv' := [(2, .int 0), (0, .ref o), (1, .int v1)]) C.x C.b dX7_warms_22 rfl hl (by decide) rfl (fun ls hl => ?_)
    refine lv_iconst (v := 1) C.x C.b dX7_warms_23 (by decide) ?_
    refine lv_istore_n (lv' := [(3, .int 1), (2, .int 0), (0, .ref o), (1, .int v1)]) C.x C.b dX7_warms_24 rfl hl (by decide) rfl (fun ls hl => ?_)
    exact l25 q_8 fu 0 1 _ _ _ h (lv_sub hl [2, 3, 1, 0] rfl) hf
  · have hf := if_t (K := fun x => x) c9 hf
    refine lv_bipush (v := (-2)) C.x C.b dX7_warms_14 (by decide) ?_
    exact hR _ _ (some_k hf) _ _ _ _ h rfl dX7_warms_16
def M_cool_j65 (σ : PS) : Option (Int32 × PS) := some ((-1), σ)
def M_cool_j57 (σ : PS) (v3 : Int32) : Option (Int32 × PS) := some (v3, σ)
def M_cool_l39 (σ : PS) (v1 : Int32) (v2 : Int32) (v3 : Int32) : Option ((Int32) ⊕ (Int32 × PS)) := bd (M_steps σ) (fun q_1 => if q_1 < v3 then up (M_cool_j65 σ) else bd (M_skinOf σ v1 v3) (fun q_2 => if v2 < q_2 then nm (v3 + 1) (fun v3_3 => some (.inl (v3_3))) else up (M_cool_j57 σ v3)))
def M_cool_B39 (σ : PS) (v1 : Int32) (v2 : Int32) : (Int32) → Option ((Int32) ⊕ (Int32 × PS)) := fun t => M_cool_l39 σ v1 v2 t
def M_cool_j26 (σ : PS) : Option (Int32 × PS) := some ((-2), σ)
def M_cool (σ : PS) (v1 : Int32) (v2 : Int32) : Option (Int32 × PS) := nm (sI σ 0 0) (fun σ_4 => bd (M_isPiece σ_4 v1.toInt64) (fun q_5 => if q_5 = 0 then M_cool_j26 σ_4 else bd (M_in v2.toInt64 0 600) (fun q_6 => if q_6 = 0 then M_cool_j26 σ_4 else bd (M_laysNow σ_4) (fun q_7 => bd (M_comes q_7 v1) (fun q_8 => loop (M_cool_B39 q_7 v1 v2) fu (q_8))))))
set_option maxHeartbeats 4000000 in
theorem kM_cool (l : Launch) {D : va_G} {ty : Nat → ClassId} {A : Nat → Prop} {o : Nat} {ad : Nat → Nat} {rs : va_W} {σ : PS} {σ' : PS} {v1 : Int32} {v2 : Int32} {r : Int32} (hf : M_cool σ v1 v2 = some (r, σ')) : KI l yX7_cool cX7_cool 4 .int 6 D ty A (wM ty o ad σ ++ rs) (wM ty o ad σ' ++ rs) [.ref o, .int v1, .int v2] r := by
  refine KI.of (by decide) (Nat.le_of_ble_eq_true rfl) ?_
  intro p e R s m args below meth c Q C hR
  have C : Cx p R s m args c cX7_cool 4 RX7 D ty A 6 := C
  have hR : ∀ (v : Int32) (σ2 : PS), (v, σ2) = (r, σ') → ∀ (H : Heap) (locs : List Loc) (pc : Nat) (ls : Array Slot), Hw D A s H locs (wM ty o ad σ2 ++ rs) → narrow .int (.int v) = .int v → decode cX7_cool pc = .ok (.ireturn, 1) → W p l e R s m args below meth c H locs 0 0 Q (F0 m pc ls [.int v]) := by intro v σ2 e9; cases e9; exact hR
  have j65 : ∀ (σ : PS) (H : Heap) (locs : List Loc) (ls : Array Slot), Hw D A s H locs (wM ty o ad σ ++ rs) → lv_has ls 4 [] → M_cool_j65 σ = some (r, σ') → W p l e R s m args below meth c H locs 0 0 Q (F0 m 65 ls []) := by
    intro σ H locs ls h hl hf
    unfold M_cool_j65 at hf
    refine lv_iconst (v := (-1)) C.x C.b dX7_cool_65 (by decide) ?_
    exact hR _ _ (some_k hf) _ _ _ _ h rfl dX7_cool_66
  have j57 : ∀ (σ : PS) (v3 : Int32) (H : Heap) (locs : List Loc) (ls : Array Slot), Hw D A s H locs (wM ty o ad σ ++ rs) → lv_has ls 4 [(3, .int v3)] → M_cool_j57 σ v3 = some (r, σ') → W p l e R s m args below meth c H locs 0 0 Q (F0 m 57 ls []) := by
    intro σ v3 H locs ls h hl hf
    unfold M_cool_j57 at hf
    refine lv_iload_n C.x C.b dX7_cool_57 rfl (lv_at hl 0 rfl) ?_
    exact hR _ _ (some_k hf) _ _ _ _ h rfl dX7_cool_58
  have l39 : ∀ (σ : PS) (n39 : Nat) (v3 : Int32) (H : Heap) (locs : List Loc) (ls : Array Slot), Hw D A s H locs (wM ty o ad σ ++ rs) → lv_has ls 4 [(0, .ref o), (1, .int v1), (2, .int v2), (3, .int v3)] → loop (M_cool_B39 σ v1 v2) n39 (v3) = some (r, σ') → W p l e R s m args below meth c H locs 0 0 Q (F0 m 39 ls []) := by
    intro σ n39
    induction n39 with
    | zero => intro v3 H locs ls h hl hf; exact (none_k hf).elim
    | succ n39 ih39 =>
      intro v3 H locs ls h hl hf
      have hf : bl (M_cool_B39 σ v1 v2) n39 (M_cool_l39 σ v1 v2 v3) = some (r, σ') := hf
      unfold M_cool_l39 at hf
      refine lv_iload_n C.x C.b dX7_cool_39 rfl (lv_at hl 3 rfl) ?_
      refine lv_aload_n C.x C.b dX7_cool_40 rfl (lv_at hl 0 rfl) ?_
      obtain ⟨q_1, hc, hf⟩ := bd_k (K := bl (M_cool_B39 σ v1 v2) n39) rfl hf
      refine cM_steps C h hc (Nat.le_of_ble_eq_true rfl) hl.1 (Nat.le_of_ble_eq_true rfl) dX7_cool_41 (fun H locs h => ?_)
      refine lv_icmp_gt (tgt := 65) C.x C.b dX7_cool_44 (by decide) (fun c9 => ?_) (fun c9 => ?_)
      · have hf := if_t (K := bl (M_cool_B39 σ v1 v2) n39) c9 hf
        have hf := bl_upK (K := fun x => x) hf
        exact j65 σ _ _ _ h (lv_sub hl [] rfl) hf
      · have hf := if_f (K := bl (M_cool_B39 σ v1 v2) n39) c9 hf
        refine lv_aload_n C.x C.b dX7_cool_47 rfl (lv_at hl 0 rfl) ?_
        refine lv_iload_n C.x C.b dX7_cool_48 rfl (lv_at hl 1 rfl) ?_
        refine lv_iload_n C.x C.b dX7_cool_49 rfl (lv_at hl 3 rfl) ?_
        obtain ⟨q_2, hc, hf⟩ := bd_k (K := bl (M_cool_B39 σ v1 v2) n39) rfl hf
        refine cM_skinOf C h hc (Nat.le_of_ble_eq_true rfl) hl.1 (Nat.le_of_ble_eq_true rfl) dX7_cool_50 (fun H locs h => ?_)
        refine lv_iload_n C.x C.b dX7_cool_53 rfl (lv_at hl 2 rfl) ?_
        refine lv_icmp_gt (tgt := 59) C.x C.b dX7_cool_54 (by decide) (fun c9 => ?_) (fun c9 => ?_)
        · have hf := if_t (K := bl (M_cool_B39 σ v1 v2) n39) c9 hf
          obtain ⟨v3_3, e9, hf⟩ := nm_k (K := bl (M_cool_B39 σ v1 v2) n39) hf
          refine lv_iinc (v := v3_3) (lv' := [(3, .int v3_3), (0, .ref o), (1, .int v1), (2, .int v2)]) C.x C.b dX7_cool_59 hl (k := 3) rfl (iinc_e (k := 1) (by decide) e9) (by decide) rfl (fun ls hl => ?_)
          refine lv_goto (tgt := 39) C.x C.b dX7_cool_62 (by decide) ?_
          exact ih39 v3_3 _ _ _ h (lv_sub hl [1, 2, 3, 0] rfl) hf
        · have hf := if_f (K := bl (M_cool_B39 σ v1 v2) n39) c9 hf
          have hf := bl_upK (K := fun x => x) hf
          exact j57 σ v3 _ _ _ h (lv_sub hl [3] rfl) hf
  have j26 : ∀ (σ : PS) (H : Heap) (locs : List Loc) (ls : Array Slot), Hw D A s H locs (wM ty o ad σ ++ rs) → lv_has ls 4 [] → M_cool_j26 σ = some (r, σ') → W p l e R s m args below meth c H locs 0 0 Q (F0 m 26 ls []) := by
    intro σ H locs ls h hl hf
    unfold M_cool_j26 at hf
    refine lv_bipush (v := (-2)) C.x C.b dX7_cool_26 (by decide) ?_
    exact hR _ _ (some_k hf) _ _ _ _ h rfl dX7_cool_28
  intro H locs ls h hl
  have hl : lv_has ls 4 [(0, .ref o), (1, .int v1), (2, .int v2)] := hl
  unfold M_cool at hf
  refine lv_aload_n C.x C.b dX7_cool_0 rfl (lv_at hl 0 rfl) ?_
  refine lv_iconst (v := 0) C.x C.b dX7_cool_1 (by decide) ?_
  obtain ⟨σ_4, e9, hf⟩ := nm_k (K := fun x => x) hf
  refine m_p0 C h e9 dX7_cool_2 (fun H locs h => ?_)
  refine lv_aload_n C.x C.b dX7_cool_5 rfl (lv_at hl 0 rfl) ?_
  refine lv_iload_n C.x C.b dX7_cool_6 rfl (lv_at hl 1 rfl) ?_
  refine lv_i2l C.x C.b dX7_cool_7 rfl ?_
  obtain ⟨q_5, hc, hf⟩ := bd_k (K := fun x => x) rfl hf
  refine cM_isPiece C h hc (Nat.le_of_ble_eq_true rfl) hl.1 (Nat.le_of_ble_eq_true rfl) dX7_cool_8 (fun H locs h => ?_)
  refine lv_if_eq (tgt := 26) C.x C.b dX7_cool_11 (by decide) (fun c9 => ?_) (fun c9 => ?_)
  · have hf := if_t (K := fun x => x) c9 hf
    exact j26 σ_4 _ _ _ h (lv_sub hl [] rfl) hf
  · have hf := if_f (K := fun x => x) c9 hf
    refine lv_iload_n C.x C.b dX7_cool_14 rfl (lv_at hl 2 rfl) ?_
    refine lv_i2l C.x C.b dX7_cool_15 rfl ?_
    refine lv_lconst (v := 0) C.x C.b dX7_cool_16 (by decide) ?_
    refine lv_ldc2 (v := 600) C.x C.b C.own (C.ts _ q2026) dX7_cool_17 ?_
    obtain ⟨q_6, hc, hf⟩ := bd_k (K := fun x => x) rfl hf
    refine cM_in C h hc (Nat.le_of_ble_eq_true rfl) hl.1 (Nat.le_of_ble_eq_true rfl) dX7_cool_20 (fun H locs h => ?_)
    refine lv_if_ne (tgt := 29) C.x C.b dX7_cool_23 (by decide) (fun c9 => ?_) (fun c9 => ?_)
    · have hf := if_f (K := fun x => x) c9 hf
      refine lv_aload_n C.x C.b dX7_cool_29 rfl (lv_at hl 0 rfl) ?_
      obtain ⟨q_7, hc, hf⟩ := bd_k (K := fun x => x) rfl hf
      refine cM_laysNow C h hc (Nat.le_of_ble_eq_true rfl) hl.1 (Nat.le_of_ble_eq_true rfl) dX7_cool_30 (fun H locs h => ?_)
      refine lv_aload_n C.x C.b dX7_cool_33 rfl (lv_at hl 0 rfl) ?_
      refine lv_iload_n C.x C.b dX7_cool_34 rfl (lv_at hl 1 rfl) ?_
      obtain ⟨q_8, hc, hf⟩ := bd_k (K := fun x => x) rfl hf
      refine cM_comes C h hc (Nat.le_of_ble_eq_true rfl) hl.1 (Nat.le_of_ble_eq_true rfl) dX7_cool_35 (fun H locs h => ?_)
      refine lv_istore_n (lv' := [(3, .int q_8), (0, .ref o), (1, .int v1), (2, .int v2)]) C.x C.b dX7_cool_38 rfl hl (by decide) rfl (fun ls hl => ?_)
      exact l39 q_7 fu q_8 _ _ _ h (lv_sub hl [1, 2, 3, 0] rfl) hf
    · have hf := if_t (K := fun x => x) c9 hf
      exact j26 σ_4 _ _ _ h (lv_sub hl [] rfl) hf
def M_still_j56 (σ : PS) (v2 : Int32) : Option (Int32 × PS) := some (v2, σ)
def M_still_l26 (σ : PS) (v1 : Int32) (v2 : Int32) : Option ((Int32) ⊕ (Int32 × PS)) := if v2 ≤ 0 then up (M_still_j56 σ v2) else bd (M_skinOf σ v1 (v2 - 1)) (fun q_1 => bd (M_steps σ) (fun q_2 => bd (M_skinOf σ v1 q_2) (fun q_3 => if q_1 = q_3 then nm (v2 + (-1)) (fun v2_4 => some (.inl (v2_4))) else up (M_still_j56 σ v2))))
def M_still_B26 (σ : PS) (v1 : Int32) : (Int32) → Option ((Int32) ⊕ (Int32 × PS)) := fun t => M_still_l26 σ v1 t
def M_still (σ : PS) (v1 : Int32) : Option (Int32 × PS) := nm (sI σ 0 0) (fun σ_5 => bd (M_isPiece σ_5 v1.toInt64) (fun q_6 => if q_6 = 0 then some ((-2), σ_5) else bd (M_laysNow σ_5) (fun q_7 => bd (M_steps q_7) (fun q_8 => loop (M_still_B26 q_7 v1) fu (q_8)))))
set_option maxHeartbeats 4000000 in
theorem kM_still (l : Launch) {D : va_G} {ty : Nat → ClassId} {A : Nat → Prop} {o : Nat} {ad : Nat → Nat} {rs : va_W} {σ : PS} {σ' : PS} {v1 : Int32} {r : Int32} (hf : M_still σ v1 = some (r, σ')) : KI l yX7_still cX7_still 3 .int 6 D ty A (wM ty o ad σ ++ rs) (wM ty o ad σ' ++ rs) [.ref o, .int v1] r := by
  refine KI.of (by decide) (Nat.le_of_ble_eq_true rfl) ?_
  intro p e R s m args below meth c Q C hR
  have C : Cx p R s m args c cX7_still 3 RX7 D ty A 6 := C
  have hR : ∀ (v : Int32) (σ2 : PS), (v, σ2) = (r, σ') → ∀ (H : Heap) (locs : List Loc) (pc : Nat) (ls : Array Slot), Hw D A s H locs (wM ty o ad σ2 ++ rs) → narrow .int (.int v) = .int v → decode cX7_still pc = .ok (.ireturn, 1) → W p l e R s m args below meth c H locs 0 0 Q (F0 m pc ls [.int v]) := by intro v σ2 e9; cases e9; exact hR
  have j56 : ∀ (σ : PS) (v2 : Int32) (H : Heap) (locs : List Loc) (ls : Array Slot), Hw D A s H locs (wM ty o ad σ ++ rs) → lv_has ls 3 [(2, .int v2)] → M_still_j56 σ v2 = some (r, σ') → W p l e R s m args below meth c H locs 0 0 Q (F0 m 56 ls []) := by
    intro σ v2 H locs ls h hl hf
    unfold M_still_j56 at hf
    refine lv_iload_n C.x C.b dX7_still_56 rfl (lv_at hl 0 rfl) ?_
    exact hR _ _ (some_k hf) _ _ _ _ h rfl dX7_still_57
  have l26 : ∀ (σ : PS) (n26 : Nat) (v2 : Int32) (H : Heap) (locs : List Loc) (ls : Array Slot), Hw D A s H locs (wM ty o ad σ ++ rs) → lv_has ls 3 [(0, .ref o), (1, .int v1), (2, .int v2)] → loop (M_still_B26 σ v1) n26 (v2) = some (r, σ') → W p l e R s m args below meth c H locs 0 0 Q (F0 m 26 ls []) := by
    intro σ n26
    induction n26 with
    | zero => intro v2 H locs ls h hl hf; exact (none_k hf).elim
    | succ n26 ih26 =>
      intro v2 H locs ls h hl hf
      have hf : bl (M_still_B26 σ v1) n26 (M_still_l26 σ v1 v2) = some (r, σ') := hf
      unfold M_still_l26 at hf
      refine lv_iload_n C.x C.b dX7_still_26 rfl (lv_at hl 2 rfl) ?_
      refine lv_if_le (tgt := 56) C.x C.b dX7_still_27 (by decide) (fun c9 => ?_) (fun c9 => ?_)
      · have hf := if_t (K := bl (M_still_B26 σ v1) n26) c9 hf
        have hf := bl_upK (K := fun x => x) hf
        exact j56 σ v2 _ _ _ h (lv_sub hl [2] rfl) hf
      · have hf := if_f (K := bl (M_still_B26 σ v1) n26) c9 hf
        refine lv_aload_n C.x C.b dX7_still_30 rfl (lv_at hl 0 rfl) ?_
        refine lv_iload_n C.x C.b dX7_still_31 rfl (lv_at hl 1 rfl) ?_
        refine lv_iload_n C.x C.b dX7_still_32 rfl (lv_at hl 2 rfl) ?_
        refine lv_iconst (v := 1) C.x C.b dX7_still_33 (by decide) ?_
        refine lv_isub C.x C.b dX7_still_34 ?_
        obtain ⟨q_1, hc, hf⟩ := bd_k (K := bl (M_still_B26 σ v1) n26) rfl hf
        refine cM_skinOf C h hc (Nat.le_of_ble_eq_true rfl) hl.1 (Nat.le_of_ble_eq_true rfl) dX7_still_35 (fun H locs h => ?_)
        refine lv_aload_n C.x C.b dX7_still_38 rfl (lv_at hl 0 rfl) ?_
        refine lv_iload_n C.x C.b dX7_still_39 rfl (lv_at hl 1 rfl) ?_
        refine lv_aload_n C.x C.b dX7_still_40 rfl (lv_at hl 0 rfl) ?_
        obtain ⟨q_2, hc, hf⟩ := bd_k (K := bl (M_still_B26 σ v1) n26) rfl hf
        refine cM_steps C h hc (Nat.le_of_ble_eq_true rfl) hl.1 (Nat.le_of_ble_eq_true rfl) dX7_still_41 (fun H locs h => ?_)
        obtain ⟨q_3, hc, hf⟩ := bd_k (K := bl (M_still_B26 σ v1) n26) rfl hf
        refine cM_skinOf C h hc (Nat.le_of_ble_eq_true rfl) hl.1 (Nat.le_of_ble_eq_true rfl) dX7_still_44 (fun H locs h => ?_)
        refine lv_icmp_ne (tgt := 56) C.x C.b dX7_still_47 (by decide) (fun c9 => ?_) (fun c9 => ?_)
        · have hf := if_f (K := bl (M_still_B26 σ v1) n26) c9 hf
          have hf := bl_upK (K := fun x => x) hf
          exact j56 σ v2 _ _ _ h (lv_sub hl [2] rfl) hf
        · have hf := if_t (K := bl (M_still_B26 σ v1) n26) c9 hf
          obtain ⟨v2_4, e9, hf⟩ := nm_k (K := bl (M_still_B26 σ v1) n26) hf
          refine lv_iinc (v := v2_4) (lv' := [(2, .int v2_4), (0, .ref o), (1, .int v1)]) C.x C.b dX7_still_50 hl (k := 2) rfl (iinc_e (k := (-1)) (by decide) e9) (by decide) rfl (fun ls hl => ?_)
          refine lv_goto (tgt := 26) C.x C.b dX7_still_53 (by decide) ?_
          exact ih26 v2_4 _ _ _ h (lv_sub hl [1, 2, 0] rfl) hf
  intro H locs ls h hl
  have hl : lv_has ls 3 [(0, .ref o), (1, .int v1)] := hl
  unfold M_still at hf
  refine lv_aload_n C.x C.b dX7_still_0 rfl (lv_at hl 0 rfl) ?_
  refine lv_iconst (v := 0) C.x C.b dX7_still_1 (by decide) ?_
  obtain ⟨σ_5, e9, hf⟩ := nm_k (K := fun x => x) hf
  refine m_p0 C h e9 dX7_still_2 (fun H locs h => ?_)
  refine lv_aload_n C.x C.b dX7_still_5 rfl (lv_at hl 0 rfl) ?_
  refine lv_iload_n C.x C.b dX7_still_6 rfl (lv_at hl 1 rfl) ?_
  refine lv_i2l C.x C.b dX7_still_7 rfl ?_
  obtain ⟨q_6, hc, hf⟩ := bd_k (K := fun x => x) rfl hf
  refine cM_isPiece C h hc (Nat.le_of_ble_eq_true rfl) hl.1 (Nat.le_of_ble_eq_true rfl) dX7_still_8 (fun H locs h => ?_)
  refine lv_if_ne (tgt := 17) C.x C.b dX7_still_11 (by decide) (fun c9 => ?_) (fun c9 => ?_)
  · have hf := if_f (K := fun x => x) c9 hf
    refine lv_aload_n C.x C.b dX7_still_17 rfl (lv_at hl 0 rfl) ?_
    obtain ⟨q_7, hc, hf⟩ := bd_k (K := fun x => x) rfl hf
    refine cM_laysNow C h hc (Nat.le_of_ble_eq_true rfl) hl.1 (Nat.le_of_ble_eq_true rfl) dX7_still_18 (fun H locs h => ?_)
    refine lv_aload_n C.x C.b dX7_still_21 rfl (lv_at hl 0 rfl) ?_
    obtain ⟨q_8, hc, hf⟩ := bd_k (K := fun x => x) rfl hf
    refine cM_steps C h hc (Nat.le_of_ble_eq_true rfl) hl.1 (Nat.le_of_ble_eq_true rfl) dX7_still_22 (fun H locs h => ?_)
    refine lv_istore_n (lv' := [(2, .int q_8), (0, .ref o), (1, .int v1)]) C.x C.b dX7_still_25 rfl hl (by decide) rfl (fun ls hl => ?_)
    exact l26 q_7 fu q_8 _ _ _ h (lv_sub hl [1, 2, 0] rfl) hf
  · have hf := if_t (K := fun x => x) c9 hf
    refine lv_bipush (v := (-2)) C.x C.b dX7_still_14 (by decide) ?_
    exact hR _ _ (some_k hf) _ _ _ _ h rfl dX7_still_16
def M_least_j68 (σ : PS) (v2 : Int32) : Option (Int32 × PS) := some (v2, σ)
def M_least_j61 (σ : PS) (v1 : Int32) (v3 : Int32) (x0 : Int32) : Option ((Int32 × Int32) ⊕ (Int32 × PS)) := nm (v3 + 1) (fun v3_1 => some (.inl (x0, v3_1)))
def M_least_l29 (σ : PS) (v1 : Int32) (v2 : Int32) (v3 : Int32) : Option ((Int32 × Int32) ⊕ (Int32 × PS)) := bd (M_steps σ) (fun q_2 => if q_2 < v3 then up (M_least_j68 σ v2) else if v2 = ((-1)) then bd (M_skinOf σ v1 v3) (fun q_5 => M_least_j61 σ v1 v3 q_5) else bd (M_skinOf σ v1 v3) (fun q_3 => bd (M_lessOf v2 q_3) (fun q_4 => M_least_j61 σ v1 v3 q_4)))
def M_least_B29 (σ : PS) (v1 : Int32) : (Int32 × Int32) → Option ((Int32 × Int32) ⊕ (Int32 × PS)) := fun t => M_least_l29 σ v1 t.1 t.2
def M_least (σ : PS) (v1 : Int32) : Option (Int32 × PS) := nm (sI σ 0 0) (fun σ_6 => bd (M_isPiece σ_6 v1.toInt64) (fun q_7 => if q_7 = 0 then some ((-2), σ_6) else bd (M_laysNow σ_6) (fun q_8 => bd (M_comes q_8 v1) (fun q_9 => loop (M_least_B29 q_8 v1) fu ((-1), q_9)))))
set_option maxHeartbeats 4000000 in
theorem kM_least (l : Launch) {D : va_G} {ty : Nat → ClassId} {A : Nat → Prop} {o : Nat} {ad : Nat → Nat} {rs : va_W} {σ : PS} {σ' : PS} {v1 : Int32} {r : Int32} (hf : M_least σ v1 = some (r, σ')) : KI l yX7_least cX7_least 4 .int 6 D ty A (wM ty o ad σ ++ rs) (wM ty o ad σ' ++ rs) [.ref o, .int v1] r := by
  refine KI.of (by decide) (Nat.le_of_ble_eq_true rfl) ?_
  intro p e R s m args below meth c Q C hR
  have C : Cx p R s m args c cX7_least 4 RX7 D ty A 6 := C
  have hR : ∀ (v : Int32) (σ2 : PS), (v, σ2) = (r, σ') → ∀ (H : Heap) (locs : List Loc) (pc : Nat) (ls : Array Slot), Hw D A s H locs (wM ty o ad σ2 ++ rs) → narrow .int (.int v) = .int v → decode cX7_least pc = .ok (.ireturn, 1) → W p l e R s m args below meth c H locs 0 0 Q (F0 m pc ls [.int v]) := by intro v σ2 e9; cases e9; exact hR
  have j68 : ∀ (σ : PS) (v2 : Int32) (H : Heap) (locs : List Loc) (ls : Array Slot), Hw D A s H locs (wM ty o ad σ ++ rs) → lv_has ls 4 [(2, .int v2)] → M_least_j68 σ v2 = some (r, σ') → W p l e R s m args below meth c H locs 0 0 Q (F0 m 68 ls []) := by
    intro σ v2 H locs ls h hl hf
    unfold M_least_j68 at hf
    refine lv_iload_n C.x C.b dX7_least_68 rfl (lv_at hl 0 rfl) ?_
    exact hR _ _ (some_k hf) _ _ _ _ h rfl dX7_least_69
  have l29 : ∀ (σ : PS) (n29 : Nat) (v2 : Int32) (v3 : Int32) (H : Heap) (locs : List Loc) (ls : Array Slot), Hw D A s H locs (wM ty o ad σ ++ rs) → lv_has ls 4 [(0, .ref o), (1, .int v1), (2, .int v2), (3, .int v3)] → loop (M_least_B29 σ v1) n29 (v2, v3) = some (r, σ') → W p l e R s m args below meth c H locs 0 0 Q (F0 m 29 ls []) := by
    intro σ n29
    induction n29 with
    | zero => intro v2 v3 H locs ls h hl hf; exact (none_k hf).elim
    | succ n29 ih29 =>
      have j61 : ∀ (v3 : Int32) (x0 : Int32) (H : Heap) (locs : List Loc) (ls : Array Slot), Hw D A s H locs (wM ty o ad σ ++ rs) → lv_has ls 4 [(0, .ref o), (1, .int v1), (3, .int v3)] → bl (M_least_B29 σ v1) n29 (M_least_j61 σ v1 v3 x0) = some (r, σ') → W p l e R s m args below meth c H locs 0 0 Q (F0 m 61 ls [.int x0]) := by
        intro v3 x0 H locs ls h hl hf
        unfold M_least_j61 at hf
        refine lv_istore_n (lv' := [(2, .int x0), (0, .ref o), (1, .int v1), (3, .int v3)]) C.x C.b dX7_least_61 rfl hl (by decide) rfl (fun ls hl => ?_)
        obtain ⟨v3_1, e9, hf⟩ := nm_k (K := bl (M_least_B29 σ v1) n29) hf
        refine lv_iinc (v := v3_1) (lv' := [(3, .int v3_1), (2, .int x0), (0, .ref o), (1, .int v1)]) C.x C.b dX7_least_62 hl (k := 3) rfl (iinc_e (k := 1) (by decide) e9) (by decide) rfl (fun ls hl => ?_)
        refine lv_goto (tgt := 29) C.x C.b dX7_least_65 (by decide) ?_
        exact ih29 x0 v3_1 _ _ _ h (lv_sub hl [2, 3, 1, 0] rfl) hf
      intro v2 v3 H locs ls h hl hf
      have hf : bl (M_least_B29 σ v1) n29 (M_least_l29 σ v1 v2 v3) = some (r, σ') := hf
      unfold M_least_l29 at hf
      refine lv_iload_n C.x C.b dX7_least_29 rfl (lv_at hl 3 rfl) ?_
      refine lv_aload_n C.x C.b dX7_least_30 rfl (lv_at hl 0 rfl) ?_
      obtain ⟨q_2, hc, hf⟩ := bd_k (K := bl (M_least_B29 σ v1) n29) rfl hf
      refine cM_steps C h hc (Nat.le_of_ble_eq_true rfl) hl.1 (Nat.le_of_ble_eq_true rfl) dX7_least_31 (fun H locs h => ?_)
      refine lv_icmp_gt (tgt := 68) C.x C.b dX7_least_34 (by decide) (fun c9 => ?_) (fun c9 => ?_)
      · have hf := if_t (K := bl (M_least_B29 σ v1) n29) c9 hf
        have hf := bl_upK (K := fun x => x) hf
        exact j68 σ v2 _ _ _ h (lv_sub hl [2] rfl) hf
      · have hf := if_f (K := bl (M_least_B29 σ v1) n29) c9 hf
        refine lv_iload_n C.x C.b dX7_least_37 rfl (lv_at hl 2 rfl) ?_
        refine lv_iconst (v := (-1)) C.x C.b dX7_least_38 (by decide) ?_
        refine lv_icmp_ne (tgt := 51) C.x C.b dX7_least_39 (by decide) (fun c9 => ?_) (fun c9 => ?_)
        · have hf := if_f (K := bl (M_least_B29 σ v1) n29) c9 hf
          refine lv_iload_n C.x C.b dX7_least_51 rfl (lv_at hl 2 rfl) ?_
          refine lv_aload_n C.x C.b dX7_least_52 rfl (lv_at hl 0 rfl) ?_
          refine lv_iload_n C.x C.b dX7_least_53 rfl (lv_at hl 1 rfl) ?_
          refine lv_iload_n C.x C.b dX7_least_54 rfl (lv_at hl 3 rfl) ?_
          obtain ⟨q_3, hc, hf⟩ := bd_k (K := bl (M_least_B29 σ v1) n29) rfl hf
          refine cM_skinOf C h hc (Nat.le_of_ble_eq_true rfl) hl.1 (Nat.le_of_ble_eq_true rfl) dX7_least_55 (fun H locs h => ?_)
          obtain ⟨q_4, hc, hf⟩ := bd_k (K := bl (M_least_B29 σ v1) n29) rfl hf
          refine cM_lessOf C h hc (Nat.le_of_ble_eq_true rfl) hl.1 (Nat.le_of_ble_eq_true rfl) dX7_least_58 (fun H locs h => ?_)
          exact j61 v3 q_4 _ _ _ h (lv_sub hl [0, 1, 3] rfl) hf
        · have hf := if_t (K := bl (M_least_B29 σ v1) n29) c9 hf
          refine lv_aload_n C.x C.b dX7_least_42 rfl (lv_at hl 0 rfl) ?_
          refine lv_iload_n C.x C.b dX7_least_43 rfl (lv_at hl 1 rfl) ?_
          refine lv_iload_n C.x C.b dX7_least_44 rfl (lv_at hl 3 rfl) ?_
          obtain ⟨q_5, hc, hf⟩ := bd_k (K := bl (M_least_B29 σ v1) n29) rfl hf
          refine cM_skinOf C h hc (Nat.le_of_ble_eq_true rfl) hl.1 (Nat.le_of_ble_eq_true rfl) dX7_least_45 (fun H locs h => ?_)
          refine lv_goto (tgt := 61) C.x C.b dX7_least_48 (by decide) ?_
          exact j61 v3 q_5 _ _ _ h (lv_sub hl [0, 1, 3] rfl) hf
  intro H locs ls h hl
  have hl : lv_has ls 4 [(0, .ref o), (1, .int v1)] := hl
  unfold M_least at hf
  refine lv_aload_n C.x C.b dX7_least_0 rfl (lv_at hl 0 rfl) ?_
  refine lv_iconst (v := 0) C.x C.b dX7_least_1 (by decide) ?_
  obtain ⟨σ_6, e9, hf⟩ := nm_k (K := fun x => x) hf
  refine m_p0 C h e9 dX7_least_2 (fun H locs h => ?_)
  refine lv_aload_n C.x C.b dX7_least_5 rfl (lv_at hl 0 rfl) ?_
  refine lv_iload_n C.x C.b dX7_least_6 rfl (lv_at hl 1 rfl) ?_
  refine lv_i2l C.x C.b dX7_least_7 rfl ?_
  obtain ⟨q_7, hc, hf⟩ := bd_k (K := fun x => x) rfl hf
  refine cM_isPiece C h hc (Nat.le_of_ble_eq_true rfl) hl.1 (Nat.le_of_ble_eq_true rfl) dX7_least_8 (fun H locs h => ?_)
  refine lv_if_ne (tgt := 17) C.x C.b dX7_least_11 (by decide) (fun c9 => ?_) (fun c9 => ?_)
  · have hf := if_f (K := fun x => x) c9 hf
    refine lv_aload_n C.x C.b dX7_least_17 rfl (lv_at hl 0 rfl) ?_
    obtain ⟨q_8, hc, hf⟩ := bd_k (K := fun x => x) rfl hf
    refine cM_laysNow C h hc (Nat.le_of_ble_eq_true rfl) hl.1 (Nat.le_of_ble_eq_true rfl) dX7_least_18 (fun H locs h => ?_)
    refine lv_iconst (v := (-1)) C.x C.b dX7_least_21 (by decide) ?_
    refine lv_istore_n (lv' := [(2, .int ((-1))), (0, .ref o), (1, .int v1)]) C.x C.b dX7_least_22 rfl hl (by decide) rfl (fun ls hl => ?_)
    refine lv_aload_n C.x C.b dX7_least_23 rfl (lv_at hl 1 rfl) ?_
    refine lv_iload_n C.x C.b dX7_least_24 rfl (lv_at hl 2 rfl) ?_
    obtain ⟨q_9, hc, hf⟩ := bd_k (K := fun x => x) rfl hf
    refine cM_comes C h hc (Nat.le_of_ble_eq_true rfl) hl.1 (Nat.le_of_ble_eq_true rfl) dX7_least_25 (fun H locs h => ?_)
    refine lv_istore_n (lv' := [(3, .int q_9), (2, .int ((-1))), (0, .ref o), (1, .int v1)]) C.x C.b dX7_least_28 rfl hl (by decide) rfl (fun ls hl => ?_)
    exact l29 q_8 fu ((-1)) q_9 _ _ _ h (lv_sub hl [2, 3, 1, 0] rfl) hf
  · have hf := if_t (K := fun x => x) c9 hf
    refine lv_bipush (v := (-2)) C.x C.b dX7_least_14 (by decide) ?_
    exact hR _ _ (some_k hf) _ _ _ _ h rfl dX7_least_16
def M_chill_j65 (σ : PS) (v2 : Int32) : Option (Int32 × PS) := some (v2, σ)
def M_chill_j59 (σ : PS) (v1 : Int32) (v2 : Int32) (v3 : Int32) : Option ((Int32 × Int32) ⊕ (Int32 × PS)) := nm (v3 + 1) (fun v3_1 => some (.inl (v2, v3_1)))
def M_chill_j54 (σ : PS) (v1 : Int32) (v2 : Int32) (v3 : Int32) (x0 : Int32) (x1 : Int32) : Option ((Int32 × Int32) ⊕ (Int32 × PS)) := if x1 ≤ x0 then M_chill_j59 σ v1 v2 v3 else M_chill_j59 σ v1 v3 v3
def M_chill_l25 (σ : PS) (v1 : Int32) (v2 : Int32) (v3 : Int32) : Option ((Int32 × Int32) ⊕ (Int32 × PS)) := bd (M_steps σ) (fun q_2 => if q_2 ≤ v3 then up (M_chill_j65 σ v2) else bd (M_dropOf σ v1 v3) (fun q_3 => if v2 = ((-1)) then M_chill_j54 σ v1 v2 v3 0 q_3 else bd (M_dropOf σ v1 v2) (fun q_4 => M_chill_j54 σ v1 v2 v3 q_4 q_3)))
def M_chill_B25 (σ : PS) (v1 : Int32) : (Int32 × Int32) → Option ((Int32 × Int32) ⊕ (Int32 × PS)) := fun t => M_chill_l25 σ v1 t.1 t.2
def M_chill (σ : PS) (v1 : Int32) : Option (Int32 × PS) := nm (sI σ 0 0) (fun σ_5 => bd (M_isPiece σ_5 v1.toInt64) (fun q_6 => if q_6 = 0 then some ((-2), σ_5) else bd (M_laysNow σ_5) (fun q_7 => loop (M_chill_B25 q_7 v1) fu ((-1), 0))))
set_option maxHeartbeats 4000000 in
theorem kM_chill (l : Launch) {D : va_G} {ty : Nat → ClassId} {A : Nat → Prop} {o : Nat} {ad : Nat → Nat} {rs : va_W} {σ : PS} {σ' : PS} {v1 : Int32} {r : Int32} (hf : M_chill σ v1 = some (r, σ')) : KI l yX7_chill cX7_chill 4 .int 6 D ty A (wM ty o ad σ ++ rs) (wM ty o ad σ' ++ rs) [.ref o, .int v1] r := by
  refine KI.of (by decide) (Nat.le_of_ble_eq_true rfl) ?_
  intro p e R s m args below meth c Q C hR
  have C : Cx p R s m args c cX7_chill 4 RX7 D ty A 6 := C
  have hR : ∀ (v : Int32) (σ2 : PS), (v, σ2) = (r, σ') → ∀ (H : Heap) (locs : List Loc) (pc : Nat) (ls : Array Slot), Hw D A s H locs (wM ty o ad σ2 ++ rs) → narrow .int (.int v) = .int v → decode cX7_chill pc = .ok (.ireturn, 1) → W p l e R s m args below meth c H locs 0 0 Q (F0 m pc ls [.int v]) := by intro v σ2 e9; cases e9; exact hR
  have j65 : ∀ (σ : PS) (v2 : Int32) (H : Heap) (locs : List Loc) (ls : Array Slot), Hw D A s H locs (wM ty o ad σ ++ rs) → lv_has ls 4 [(2, .int v2)] → M_chill_j65 σ v2 = some (r, σ') → W p l e R s m args below meth c H locs 0 0 Q (F0 m 65 ls []) := by
    intro σ v2 H locs ls h hl hf
    unfold M_chill_j65 at hf
    refine lv_iload_n C.x C.b dX7_chill_65 rfl (lv_at hl 0 rfl) ?_
    exact hR _ _ (some_k hf) _ _ _ _ h rfl dX7_chill_66
  have l25 : ∀ (σ : PS) (n25 : Nat) (v2 : Int32) (v3 : Int32) (H : Heap) (locs : List Loc) (ls : Array Slot), Hw D A s H locs (wM ty o ad σ ++ rs) → lv_has ls 4 [(0, .ref o), (1, .int v1), (2, .int v2), (3, .int v3)] → loop (M_chill_B25 σ v1) n25 (v2, v3) = some (r, σ') → W p l e R s m args below meth c H locs 0 0 Q (F0 m 25 ls []) := by
    intro σ n25
    induction n25 with
    | zero => intro v2 v3 H locs ls h hl hf; exact (none_k hf).elim
    | succ n25 ih25 =>
      have j59 : ∀ (v2 : Int32) (v3 : Int32) (H : Heap) (locs : List Loc) (ls : Array Slot), Hw D A s H locs (wM ty o ad σ ++ rs) → lv_has ls 4 [(0, .ref o), (1, .int v1), (2, .int v2), (3, .int v3)] → bl (M_chill_B25 σ v1) n25 (M_chill_j59 σ v1 v2 v3) = some (r, σ') → W p l e R s m args below meth c H locs 0 0 Q (F0 m 59 ls []) := by
        intro v2 v3 H locs ls h hl hf
        unfold M_chill_j59 at hf
        obtain ⟨v3_1, e9, hf⟩ := nm_k (K := bl (M_chill_B25 σ v1) n25) hf
        refine lv_iinc (v := v3_1) (lv' := [(3, .int v3_1), (0, .ref o), (1, .int v1), (2, .int v2)]) C.x C.b dX7_chill_59 hl (k := 3) rfl (iinc_e (k := 1) (by decide) e9) (by decide) rfl (fun ls hl => ?_)
        refine lv_goto (tgt := 25) C.x C.b dX7_chill_62 (by decide) ?_
        exact ih25 v2 v3_1 _ _ _ h (lv_sub hl [1, 2, 3, 0] rfl) hf
      have j54 : ∀ (v2 : Int32) (v3 : Int32) (x0 : Int32) (x1 : Int32) (H : Heap) (locs : List Loc) (ls : Array Slot), Hw D A s H locs (wM ty o ad σ ++ rs) → lv_has ls 4 [(0, .ref o), (1, .int v1), (2, .int v2), (3, .int v3)] → bl (M_chill_B25 σ v1) n25 (M_chill_j54 σ v1 v2 v3 x0 x1) = some (r, σ') → W p l e R s m args below meth c H locs 0 0 Q (F0 m 54 ls [.int x0, .int x1]) := by
        intro v2 v3 x0 x1 H locs ls h hl hf
        unfold M_chill_j54 at hf
        refine lv_icmp_le (tgt := 59) C.x C.b dX7_chill_54 (by decide) (fun c9 => ?_) (fun c9 => ?_)
        · have hf := if_t (K := bl (M_chill_B25 σ v1) n25) c9 hf
          exact j59 v2 v3 _ _ _ h (lv_sub hl [0, 1, 2, 3] rfl) hf
        · have hf := if_f (K := bl (M_chill_B25 σ v1) n25) c9 hf
          refine lv_iload_n C.x C.b dX7_chill_57 rfl (lv_at hl 3 rfl) ?_
          refine lv_istore_n (lv' := [(2, .int v3), (0, .ref o), (1, .int v1), (3, .int v3)]) C.x C.b dX7_chill_58 rfl hl (by decide) rfl (fun ls hl => ?_)
          exact j59 v3 v3 _ _ _ h (lv_sub hl [1, 2, 0, 3] rfl) hf
      intro v2 v3 H locs ls h hl hf
      have hf : bl (M_chill_B25 σ v1) n25 (M_chill_l25 σ v1 v2 v3) = some (r, σ') := hf
      unfold M_chill_l25 at hf
      refine lv_iload_n C.x C.b dX7_chill_25 rfl (lv_at hl 3 rfl) ?_
      refine lv_aload_n C.x C.b dX7_chill_26 rfl (lv_at hl 0 rfl) ?_
      obtain ⟨q_2, hc, hf⟩ := bd_k (K := bl (M_chill_B25 σ v1) n25) rfl hf
      refine cM_steps C h hc (Nat.le_of_ble_eq_true rfl) hl.1 (Nat.le_of_ble_eq_true rfl) dX7_chill_27 (fun H locs h => ?_)
      refine lv_icmp_ge (tgt := 65) C.x C.b dX7_chill_30 (by decide) (fun c9 => ?_) (fun c9 => ?_)
      · have hf := if_t (K := bl (M_chill_B25 σ v1) n25) c9 hf
        have hf := bl_upK (K := fun x => x) hf
        exact j65 σ v2 _ _ _ h (lv_sub hl [2] rfl) hf
      · have hf := if_f (K := bl (M_chill_B25 σ v1) n25) c9 hf
        refine lv_aload_n C.x C.b dX7_chill_33 rfl (lv_at hl 0 rfl) ?_
        refine lv_iload_n C.x C.b dX7_chill_34 rfl (lv_at hl 1 rfl) ?_
        refine lv_iload_n C.x C.b dX7_chill_35 rfl (lv_at hl 3 rfl) ?_
        obtain ⟨q_3, hc, hf⟩ := bd_k (K := bl (M_chill_B25 σ v1) n25) rfl hf
        refine cM_dropOf C h hc (Nat.le_of_ble_eq_true rfl) hl.1 (Nat.le_of_ble_eq_true rfl) dX7_chill_36 (fun H locs h => ?_)
        refine lv_iload_n C.x C.b dX7_chill_39 rfl (lv_at hl 2 rfl) ?_
        refine lv_iconst (v := (-1)) C.x C.b dX7_chill_40 (by decide) ?_
        refine lv_icmp_ne (tgt := 48) C.x C.b dX7_chill_41 (by decide) (fun c9 => ?_) (fun c9 => ?_)
        · have hf := if_f (K := bl (M_chill_B25 σ v1) n25) c9 hf
          refine lv_aload_n C.x C.b dX7_chill_48 rfl (lv_at hl 0 rfl) ?_
          refine lv_iload_n C.x C.b dX7_chill_49 rfl (lv_at hl 1 rfl) ?_
          refine lv_iload_n C.x C.b dX7_chill_50 rfl (lv_at hl 2 rfl) ?_
          obtain ⟨q_4, hc, hf⟩ := bd_k (K := bl (M_chill_B25 σ v1) n25) rfl hf
          refine cM_dropOf C h hc (Nat.le_of_ble_eq_true rfl) hl.1 (Nat.le_of_ble_eq_true rfl) dX7_chill_51 (fun H locs h => ?_)
          exact j54 v2 v3 q_4 q_3 _ _ _ h (lv_sub hl [0, 1, 2, 3] rfl) hf
        · have hf := if_t (K := bl (M_chill_B25 σ v1) n25) c9 hf
          refine lv_iconst (v := 0) C.x C.b dX7_chill_44 (by decide) ?_
          refine lv_goto (tgt := 54) C.x C.b dX7_chill_45 (by decide) ?_
          exact j54 v2 v3 0 q_3 _ _ _ h (lv_sub hl [0, 1, 2, 3] rfl) hf
  intro H locs ls h hl
  have hl : lv_has ls 4 [(0, .ref o), (1, .int v1)] := hl
  unfold M_chill at hf
  refine lv_aload_n C.x C.b dX7_chill_0 rfl (lv_at hl 0 rfl) ?_
  refine lv_iconst (v := 0) C.x C.b dX7_chill_1 (by decide) ?_
  obtain ⟨σ_5, e9, hf⟩ := nm_k (K := fun x => x) hf
  refine m_p0 C h e9 dX7_chill_2 (fun H locs h => ?_)
  refine lv_aload_n C.x C.b dX7_chill_5 rfl (lv_at hl 0 rfl) ?_
  refine lv_iload_n C.x C.b dX7_chill_6 rfl (lv_at hl 1 rfl) ?_
  refine lv_i2l C.x C.b dX7_chill_7 rfl ?_
  obtain ⟨q_6, hc, hf⟩ := bd_k (K := fun x => x) rfl hf
  refine cM_isPiece C h hc (Nat.le_of_ble_eq_true rfl) hl.1 (Nat.le_of_ble_eq_true rfl) dX7_chill_8 (fun H locs h => ?_)
  refine lv_if_ne (tgt := 17) C.x C.b dX7_chill_11 (by decide) (fun c9 => ?_) (fun c9 => ?_)
  · have hf := if_f (K := fun x => x) c9 hf
    refine lv_aload_n C.x C.b dX7_chill_17 rfl (lv_at hl 0 rfl) ?_
    obtain ⟨q_7, hc, hf⟩ := bd_k (K := fun x => x) rfl hf
    refine cM_laysNow C h hc (Nat.le_of_ble_eq_true rfl) hl.1 (Nat.le_of_ble_eq_true rfl) dX7_chill_18 (fun H locs h => ?_)
    refine lv_iconst (v := (-1)) C.x C.b dX7_chill_21 (by decide) ?_
    refine lv_istore_n (lv' := [(2, .int ((-1))), (0, .ref o), (1, .int v1)]) C.x C.b dX7_chill_22 rfl hl (by decide) rfl (fun ls hl => ?_)
    refine lv_iconst (v := 0) C.x C.b dX7_chill_23 (by decide) ?_
    refine lv_istore_n (lv' := [(3, .int 0), (2, .int ((-1))), (0, .ref o), (1, .int v1)]) C.x C.b dX7_chill_24 rfl hl (by decide) rfl (fun ls hl => ?_)
    exact l25 q_7 fu ((-1)) 0 _ _ _ h (lv_sub hl [2, 3, 1, 0] rfl) hf
  · have hf := if_t (K := fun x => x) c9 hf
    refine lv_bipush (v := (-2)) C.x C.b dX7_chill_14 (by decide) ?_
    exact hR _ _ (some_k hf) _ _ _ _ h rfl dX7_chill_16
def M_drop_j22 (σ : PS) : Option (Int32 × PS) := some ((-100000), σ)
def M_drop (σ : PS) (v1 : Int32) (v2 : Int32) : Option (Int32 × PS) := nm (sI σ 0 0) (fun σ_1 => bd (M_isPiece σ_1 v1.toInt64) (fun q_2 => if q_2 = 0 then M_drop_j22 σ_1 else bd (M_isAhead σ_1 v2) (fun q_3 => if q_3 = 0 then M_drop_j22 σ_1 else bd (M_laysNow σ_1) (fun q_4 => bd (M_dropOf q_4 v1 v2) (fun q_5 => some (q_5, q_4))))))
set_option maxHeartbeats 4000000 in
theorem kM_drop (l : Launch) {D : va_G} {ty : Nat → ClassId} {A : Nat → Prop} {o : Nat} {ad : Nat → Nat} {rs : va_W} {σ : PS} {σ' : PS} {v1 : Int32} {v2 : Int32} {r : Int32} (hf : M_drop σ v1 v2 = some (r, σ')) : KI l yX7_drop cX7_drop 3 .int 6 D ty A (wM ty o ad σ ++ rs) (wM ty o ad σ' ++ rs) [.ref o, .int v1, .int v2] r := by
  refine KI.of (by decide) (Nat.le_of_ble_eq_true rfl) ?_
  intro p e R s m args below meth c Q C hR
  have C : Cx p R s m args c cX7_drop 3 RX7 D ty A 6 := C
  have hR : ∀ (v : Int32) (σ2 : PS), (v, σ2) = (r, σ') → ∀ (H : Heap) (locs : List Loc) (pc : Nat) (ls : Array Slot), Hw D A s H locs (wM ty o ad σ2 ++ rs) → narrow .int (.int v) = .int v → decode cX7_drop pc = .ok (.ireturn, 1) → W p l e R s m args below meth c H locs 0 0 Q (F0 m pc ls [.int v]) := by intro v σ2 e9; cases e9; exact hR
  have j22 : ∀ (σ : PS) (H : Heap) (locs : List Loc) (ls : Array Slot), Hw D A s H locs (wM ty o ad σ ++ rs) → lv_has ls 3 [] → M_drop_j22 σ = some (r, σ') → W p l e R s m args below meth c H locs 0 0 Q (F0 m 22 ls []) := by
    intro σ H locs ls h hl hf
    unfold M_drop_j22 at hf
    refine lv_ldcw (v := (-100000)) C.x C.b C.own (C.ts _ q2075) dX7_drop_22 ?_
    exact hR _ _ (some_k hf) _ _ _ _ h rfl dX7_drop_25
  intro H locs ls h hl
  have hl : lv_has ls 3 [(0, .ref o), (1, .int v1), (2, .int v2)] := hl
  unfold M_drop at hf
  refine lv_aload_n C.x C.b dX7_drop_0 rfl (lv_at hl 0 rfl) ?_
  refine lv_iconst (v := 0) C.x C.b dX7_drop_1 (by decide) ?_
  obtain ⟨σ_1, e9, hf⟩ := nm_k (K := fun x => x) hf
  refine m_p0 C h e9 dX7_drop_2 (fun H locs h => ?_)
  refine lv_aload_n C.x C.b dX7_drop_5 rfl (lv_at hl 0 rfl) ?_
  refine lv_iload_n C.x C.b dX7_drop_6 rfl (lv_at hl 1 rfl) ?_
  refine lv_i2l C.x C.b dX7_drop_7 rfl ?_
  obtain ⟨q_2, hc, hf⟩ := bd_k (K := fun x => x) rfl hf
  refine cM_isPiece C h hc (Nat.le_of_ble_eq_true rfl) hl.1 (Nat.le_of_ble_eq_true rfl) dX7_drop_8 (fun H locs h => ?_)
  refine lv_if_eq (tgt := 22) C.x C.b dX7_drop_11 (by decide) (fun c9 => ?_) (fun c9 => ?_)
  · have hf := if_t (K := fun x => x) c9 hf
    exact j22 σ_1 _ _ _ h (lv_sub hl [] rfl) hf
  · have hf := if_f (K := fun x => x) c9 hf
    refine lv_aload_n C.x C.b dX7_drop_14 rfl (lv_at hl 0 rfl) ?_
    refine lv_iload_n C.x C.b dX7_drop_15 rfl (lv_at hl 2 rfl) ?_
    obtain ⟨q_3, hc, hf⟩ := bd_k (K := fun x => x) rfl hf
    refine cM_isAhead C h hc (Nat.le_of_ble_eq_true rfl) hl.1 (Nat.le_of_ble_eq_true rfl) dX7_drop_16 (fun H locs h => ?_)
    refine lv_if_ne (tgt := 26) C.x C.b dX7_drop_19 (by decide) (fun c9 => ?_) (fun c9 => ?_)
    · have hf := if_f (K := fun x => x) c9 hf
      refine lv_aload_n C.x C.b dX7_drop_26 rfl (lv_at hl 0 rfl) ?_
      obtain ⟨q_4, hc, hf⟩ := bd_k (K := fun x => x) rfl hf
      refine cM_laysNow C h hc (Nat.le_of_ble_eq_true rfl) hl.1 (Nat.le_of_ble_eq_true rfl) dX7_drop_27 (fun H locs h => ?_)
      refine lv_aload_n C.x C.b dX7_drop_30 rfl (lv_at hl 0 rfl) ?_
      refine lv_iload_n C.x C.b dX7_drop_31 rfl (lv_at hl 1 rfl) ?_
      refine lv_iload_n C.x C.b dX7_drop_32 rfl (lv_at hl 2 rfl) ?_
      obtain ⟨q_5, hc, hf⟩ := bd_k (K := fun x => x) rfl hf
      refine cM_dropOf C h hc (Nat.le_of_ble_eq_true rfl) hl.1 (Nat.le_of_ble_eq_true rfl) dX7_drop_33 (fun H locs h => ?_)
      exact hR _ _ (some_k hf) _ _ _ _ h rfl dX7_drop_36
    · have hf := if_t (K := fun x => x) c9 hf
      exact j22 σ_1 _ _ _ h (lv_sub hl [] rfl) hf
def M_gaps_j68 (σ : PS) (v2 : Int32) : Option (Int32 × PS) := some (v2, σ)
def M_gaps_j60 (σ : PS) (v1 : Int32) (v3 : Int32) (x0 : Int32) (x1 : Int32) : Option ((Int32 × Int32) ⊕ (Int32 × PS)) := nm (x1 + x0) (fun v2_1 => nm (v3 + 1) (fun v3_2 => some (.inl (v2_1, v3_2))))
def M_gaps_l25 (σ : PS) (v1 : Int32) (v2 : Int32) (v3 : Int32) : Option ((Int32 × Int32) ⊕ (Int32 × PS)) := bd (M_steps σ) (fun q_3 => if q_3 < v3 then up (M_gaps_j68 σ v2) else bd (M_strainOf σ v1 v3) (fun q_4 => ix ((4 * v1) + 2) 120 (if q_4 ≤ ((rA σ 19 ((4 * v1) + 2)) / 2) then M_gaps_j60 σ v1 v3 0 v2 else M_gaps_j60 σ v1 v3 1 v2)))
def M_gaps_B25 (σ : PS) (v1 : Int32) : (Int32 × Int32) → Option ((Int32 × Int32) ⊕ (Int32 × PS)) := fun t => M_gaps_l25 σ v1 t.1 t.2
def M_gaps (σ : PS) (v1 : Int32) : Option (Int32 × PS) := nm (sI σ 0 0) (fun σ_5 => bd (M_isPiece σ_5 v1.toInt64) (fun q_6 => if q_6 = 0 then some ((-2), σ_5) else bd (M_laysNow σ_5) (fun q_7 => loop (M_gaps_B25 q_7 v1) fu (0, 0))))
set_option maxHeartbeats 4000000 in
theorem kM_gaps (l : Launch) {D : va_G} {ty : Nat → ClassId} {A : Nat → Prop} {o : Nat} {ad : Nat → Nat} {rs : va_W} {σ : PS} {σ' : PS} {v1 : Int32} {r : Int32} (hf : M_gaps σ v1 = some (r, σ')) : KI l yX7_gaps cX7_gaps 4 .int 6 D ty A (wM ty o ad σ ++ rs) (wM ty o ad σ' ++ rs) [.ref o, .int v1] r := by
  refine KI.of (by decide) (Nat.le_of_ble_eq_true rfl) ?_
  intro p e R s m args below meth c Q C hR
  have C : Cx p R s m args c cX7_gaps 4 RX7 D ty A 6 := C
  have hR : ∀ (v : Int32) (σ2 : PS), (v, σ2) = (r, σ') → ∀ (H : Heap) (locs : List Loc) (pc : Nat) (ls : Array Slot), Hw D A s H locs (wM ty o ad σ2 ++ rs) → narrow .int (.int v) = .int v → decode cX7_gaps pc = .ok (.ireturn, 1) → W p l e R s m args below meth c H locs 0 0 Q (F0 m pc ls [.int v]) := by intro v σ2 e9; cases e9; exact hR
  have j68 : ∀ (σ : PS) (v2 : Int32) (H : Heap) (locs : List Loc) (ls : Array Slot), Hw D A s H locs (wM ty o ad σ ++ rs) → lv_has ls 4 [(2, .int v2)] → M_gaps_j68 σ v2 = some (r, σ') → W p l e R s m args below meth c H locs 0 0 Q (F0 m 68 ls []) := by
    intro σ v2 H locs ls h hl hf
    unfold M_gaps_j68 at hf
    refine lv_iload_n C.x C.b dX7_gaps_68 rfl (lv_at hl 0 rfl) ?_
    exact hR _ _ (some_k hf) _ _ _ _ h rfl dX7_gaps_69
  have l25 : ∀ (σ : PS) (n25 : Nat) (v2 : Int32) (v3 : Int32) (H : Heap) (locs : List Loc) (ls : Array Slot), Hw D A s H locs (wM ty o ad σ ++ rs) → lv_has ls 4 [(0, .ref o), (1, .int v1), (2, .int v2), (3, .int v3)] → loop (M_gaps_B25 σ v1) n25 (v2, v3) = some (r, σ') → W p l e R s m args below meth c H locs 0 0 Q (F0 m 25 ls []) := by
    intro σ n25
    induction n25 with
    | zero => intro v2 v3 H locs ls h hl hf; exact (none_k hf).elim
    | succ n25 ih25 =>
      have j60 : ∀ (v3 : Int32) (x0 : Int32) (x1 : Int32) (H : Heap) (locs : List Loc) (ls : Array Slot), Hw D A s H locs (wM ty o ad σ ++ rs) → lv_has ls 4 [(0, .ref o), (1, .int v1), (3, .int v3)] → bl (M_gaps_B25 σ v1) n25 (M_gaps_j60 σ v1 v3 x0 x1) = some (r, σ') → W p l e R s m args below meth c H locs 0 0 Q (F0 m 60 ls [.int x0, .int x1]) := by
        intro v3 x0 x1 H locs ls h hl hf
        unfold M_gaps_j60 at hf
        refine lv_iadd C.x C.b dX7_gaps_60 ?_
        obtain ⟨v2_1, e9, hf⟩ := nm_k (K := bl (M_gaps_B25 σ v1) n25) hf
        refine lv_topI e9 ?_
        refine lv_istore_n (lv' := [(2, .int v2_1), (0, .ref o), (1, .int v1), (3, .int v3)]) C.x C.b dX7_gaps_61 rfl hl (by decide) rfl (fun ls hl => ?_)
        obtain ⟨v3_2, e9, hf⟩ := nm_k (K := bl (M_gaps_B25 σ v1) n25) hf
        refine lv_iinc (v := v3_2) (lv' := [(3, .int v3_2), (2, .int v2_1), (0, .ref o), (1, .int v1)]) C.x C.b dX7_gaps_62 hl (k := 3) rfl (iinc_e (k := 1) (by decide) e9) (by decide) rfl (fun ls hl => ?_)
        refine lv_goto (tgt := 25) C.x C.b dX7_gaps_65 (by decide) ?_
        exact ih25 v2_1 v3_2 _ _ _ h (lv_sub hl [2, 3, 1, 0] rfl) hf
      intro v2 v3 H locs ls h hl hf
      have hf : bl (M_gaps_B25 σ v1) n25 (M_gaps_l25 σ v1 v2 v3) = some (r, σ') := hf
      unfold M_gaps_l25 at hf
      refine lv_iload_n C.x C.b dX7_gaps_25 rfl (lv_at hl 3 rfl) ?_
      refine lv_aload_n C.x C.b dX7_gaps_26 rfl (lv_at hl 0 rfl) ?_
      obtain ⟨q_3, hc, hf⟩ := bd_k (K := bl (M_gaps_B25 σ v1) n25) rfl hf
      refine cM_steps C h hc (Nat.le_of_ble_eq_true rfl) hl.1 (Nat.le_of_ble_eq_true rfl) dX7_gaps_27 (fun H locs h => ?_)
      refine lv_icmp_gt (tgt := 68) C.x C.b dX7_gaps_30 (by decide) (fun c9 => ?_) (fun c9 => ?_)
      · have hf := if_t (K := bl (M_gaps_B25 σ v1) n25) c9 hf
        have hf := bl_upK (K := fun x => x) hf
        exact j68 σ v2 _ _ _ h (lv_sub hl [2] rfl) hf
      · have hf := if_f (K := bl (M_gaps_B25 σ v1) n25) c9 hf
        refine lv_iload_n C.x C.b dX7_gaps_33 rfl (lv_at hl 2 rfl) ?_
        refine lv_aload_n C.x C.b dX7_gaps_34 rfl (lv_at hl 0 rfl) ?_
        refine lv_iload_n C.x C.b dX7_gaps_35 rfl (lv_at hl 1 rfl) ?_
        refine lv_iload_n C.x C.b dX7_gaps_36 rfl (lv_at hl 3 rfl) ?_
        obtain ⟨q_4, hc, hf⟩ := bd_k (K := bl (M_gaps_B25 σ v1) n25) rfl hf
        refine cM_strainOf C h hc (Nat.le_of_ble_eq_true rfl) hl.1 (Nat.le_of_ble_eq_true rfl) dX7_gaps_37 (fun H locs h => ?_)
        refine lv_aload_n C.x C.b dX7_gaps_40 rfl (lv_at hl 0 rfl) ?_
        refine m_g19 C h dX7_gaps_41 ?_
        refine lv_iconst (v := 4) C.x C.b dX7_gaps_44 (by decide) ?_
        refine lv_iload_n C.x C.b dX7_gaps_45 rfl (lv_at hl 1 rfl) ?_
        refine lv_imul C.x C.b dX7_gaps_46 ?_
        refine lv_iconst (v := 2) C.x C.b dX7_gaps_47 (by decide) ?_
        refine lv_iadd C.x C.b dX7_gaps_48 ?_
        obtain ⟨hi, hf⟩ := ix_k (K := bl (M_gaps_B25 σ v1) n25) rfl hf
        refine m_a19 C h hi dX7_gaps_49 ?_
        refine lv_iconst (v := 2) C.x C.b dX7_gaps_50 (by decide) ?_
        refine lv_idiv C.x C.b dX7_gaps_51 (by decide) ?_
        refine lv_icmp_le (tgt := 59) C.x C.b dX7_gaps_52 (by decide) (fun c9 => ?_) (fun c9 => ?_)
        · have hf := if_t (K := bl (M_gaps_B25 σ v1) n25) c9 hf
          refine lv_iconst (v := 0) C.x C.b dX7_gaps_59 (by decide) ?_
          exact j60 v3 0 v2 _ _ _ h (lv_sub hl [0, 1, 3] rfl) hf
        · have hf := if_f (K := bl (M_gaps_B25 σ v1) n25) c9 hf
          refine lv_iconst (v := 1) C.x C.b dX7_gaps_55 (by decide) ?_
          refine lv_goto (tgt := 60) C.x C.b dX7_gaps_56 (by decide) ?_
          exact j60 v3 1 v2 _ _ _ h (lv_sub hl [0, 1, 3] rfl) hf
  intro H locs ls h hl
  have hl : lv_has ls 4 [(0, .ref o), (1, .int v1)] := hl
  unfold M_gaps at hf
  refine lv_aload_n C.x C.b dX7_gaps_0 rfl (lv_at hl 0 rfl) ?_
  refine lv_iconst (v := 0) C.x C.b dX7_gaps_1 (by decide) ?_
  obtain ⟨σ_5, e9, hf⟩ := nm_k (K := fun x => x) hf
  refine m_p0 C h e9 dX7_gaps_2 (fun H locs h => ?_)
  refine lv_aload_n C.x C.b dX7_gaps_5 rfl (lv_at hl 0 rfl) ?_
  refine lv_iload_n C.x C.b dX7_gaps_6 rfl (lv_at hl 1 rfl) ?_
  refine lv_i2l C.x C.b dX7_gaps_7 rfl ?_
  obtain ⟨q_6, hc, hf⟩ := bd_k (K := fun x => x) rfl hf
  refine cM_isPiece C h hc (Nat.le_of_ble_eq_true rfl) hl.1 (Nat.le_of_ble_eq_true rfl) dX7_gaps_8 (fun H locs h => ?_)
  refine lv_if_ne (tgt := 17) C.x C.b dX7_gaps_11 (by decide) (fun c9 => ?_) (fun c9 => ?_)
  · have hf := if_f (K := fun x => x) c9 hf
    refine lv_aload_n C.x C.b dX7_gaps_17 rfl (lv_at hl 0 rfl) ?_
    obtain ⟨q_7, hc, hf⟩ := bd_k (K := fun x => x) rfl hf
    refine cM_laysNow C h hc (Nat.le_of_ble_eq_true rfl) hl.1 (Nat.le_of_ble_eq_true rfl) dX7_gaps_18 (fun H locs h => ?_)
    refine lv_iconst (v := 0) C.x C.b dX7_gaps_21 (by decide) ?_
    refine lv_istore_n (lv' := [(2, .int 0), (0, .ref o), (1, .int v1)]) C.x C.b dX7_gaps_22 rfl hl (by decide) rfl (fun ls hl => ?_)
    refine lv_iconst (v := 0) C.x C.b dX7_gaps_23 (by decide) ?_
    refine lv_istore_n (lv' := [(3, .int 0), (2, .int 0), (0, .ref o), (1, .int v1)]) C.x C.b dX7_gaps_24 rfl hl (by decide) rfl (fun ls hl => ?_)
    exact l25 q_7 fu 0 0 _ _ _ h (lv_sub hl [2, 3, 1, 0] rfl) hf
  · have hf := if_t (K := fun x => x) c9 hf
    refine lv_bipush (v := (-2)) C.x C.b dX7_gaps_14 (by decide) ?_
    exact hR _ _ (some_k hf) _ _ _ _ h rfl dX7_gaps_16
def M_spread_j77 (σ : PS) (v3 : Int32) : Option (Int32 × PS) := some (v3, σ)
def M_spread_j71 (σ : PS) (v1 : Int32) (v2 : Int32) (v3 : Int32) (v4 : Int32) : Option ((Int32 × Int32) ⊕ (Int32 × PS)) := nm (v4 + 1) (fun v4_1 => some (.inl (v3, v4_1)))
def M_spread_l33 (σ : PS) (v1 : Int32) (v2 : Int32) (v3 : Int32) (v4 : Int32) : Option ((Int32 × Int32) ⊕ (Int32 × PS)) := bd (M_pieces σ) (fun q_2 => if q_2 ≤ v4 then up (M_spread_j77 σ v3) else bd (M_hasCome σ v4 v1) (fun q_3 => if q_3 = 0 then M_spread_j71 σ v1 v2 v3 v4 else bd (M_skinOf σ v2 v1) (fun q_4 => bd (M_skinOf σ v4 v1) (fun q_5 => bd (M_moreOf v3 (q_4 - q_5)) (fun q_6 => M_spread_j71 σ v1 v2 q_6 v4)))))
def M_spread_B33 (σ : PS) (v1 : Int32) (v2 : Int32) : (Int32 × Int32) → Option ((Int32 × Int32) ⊕ (Int32 × PS)) := fun t => M_spread_l33 σ v1 v2 t.1 t.2
def M_spread (σ : PS) (v1 : Int32) : Option (Int32 × PS) := nm (sI σ 0 0) (fun σ_7 => bd (M_isStep σ_7 v1.toInt64) (fun q_8 => if q_8 = 0 then some ((-2), σ_7) else bd (M_laysNow σ_7) (fun q_9 => bd (M_mostAt q_9 v1 1) (fun q_10 => loop (M_spread_B33 q_9 v1 q_10) fu (0, 0)))))
set_option maxHeartbeats 4000000 in
theorem kM_spread (l : Launch) {D : va_G} {ty : Nat → ClassId} {A : Nat → Prop} {o : Nat} {ad : Nat → Nat} {rs : va_W} {σ : PS} {σ' : PS} {v1 : Int32} {r : Int32} (hf : M_spread σ v1 = some (r, σ')) : KI l yX7_spread cX7_spread 5 .int 6 D ty A (wM ty o ad σ ++ rs) (wM ty o ad σ' ++ rs) [.ref o, .int v1] r := by
  refine KI.of (by decide) (Nat.le_of_ble_eq_true rfl) ?_
  intro p e R s m args below meth c Q C hR
  have C : Cx p R s m args c cX7_spread 5 RX7 D ty A 6 := C
  have hR : ∀ (v : Int32) (σ2 : PS), (v, σ2) = (r, σ') → ∀ (H : Heap) (locs : List Loc) (pc : Nat) (ls : Array Slot), Hw D A s H locs (wM ty o ad σ2 ++ rs) → narrow .int (.int v) = .int v → decode cX7_spread pc = .ok (.ireturn, 1) → W p l e R s m args below meth c H locs 0 0 Q (F0 m pc ls [.int v]) := by intro v σ2 e9; cases e9; exact hR
  have j77 : ∀ (σ : PS) (v3 : Int32) (H : Heap) (locs : List Loc) (ls : Array Slot), Hw D A s H locs (wM ty o ad σ ++ rs) → lv_has ls 5 [(3, .int v3)] → M_spread_j77 σ v3 = some (r, σ') → W p l e R s m args below meth c H locs 0 0 Q (F0 m 77 ls []) := by
    intro σ v3 H locs ls h hl hf
    unfold M_spread_j77 at hf
    refine lv_iload_n C.x C.b dX7_spread_77 rfl (lv_at hl 0 rfl) ?_
    exact hR _ _ (some_k hf) _ _ _ _ h rfl dX7_spread_78
  have l33 : ∀ (σ : PS) (v2 : Int32) (n33 : Nat) (v3 : Int32) (v4 : Int32) (H : Heap) (locs : List Loc) (ls : Array Slot), Hw D A s H locs (wM ty o ad σ ++ rs) → lv_has ls 5 [(0, .ref o), (1, .int v1), (2, .int v2), (3, .int v3), (4, .int v4)] → loop (M_spread_B33 σ v1 v2) n33 (v3, v4) = some (r, σ') → W p l e R s m args below meth c H locs 0 0 Q (F0 m 33 ls []) := by
    intro σ v2 n33
    induction n33 with
    | zero => intro v3 v4 H locs ls h hl hf; exact (none_k hf).elim
    | succ n33 ih33 =>
      have j71 : ∀ (v3 : Int32) (v4 : Int32) (H : Heap) (locs : List Loc) (ls : Array Slot), Hw D A s H locs (wM ty o ad σ ++ rs) → lv_has ls 5 [(0, .ref o), (1, .int v1), (2, .int v2), (3, .int v3), (4, .int v4)] → bl (M_spread_B33 σ v1 v2) n33 (M_spread_j71 σ v1 v2 v3 v4) = some (r, σ') → W p l e R s m args below meth c H locs 0 0 Q (F0 m 71 ls []) := by
        intro v3 v4 H locs ls h hl hf
        unfold M_spread_j71 at hf
        obtain ⟨v4_1, e9, hf⟩ := nm_k (K := bl (M_spread_B33 σ v1 v2) n33) hf
        refine lv_iinc (v := v4_1) (lv' := [(4, .int v4_1), (0, .ref o), (1, .int v1), (2, .int v2), (3, .int v3)]) C.x C.b dX7_spread_71 hl (k := 4) rfl (iinc_e (k := 1) (by decide) e9) (by decide) rfl (fun ls hl => ?_)
        refine lv_goto (tgt := 33) C.x C.b dX7_spread_74 (by decide) ?_
        exact ih33 v3 v4_1 _ _ _ h (lv_sub hl [1, 2, 3, 4, 0] rfl) hf
      intro v3 v4 H locs ls h hl hf
      have hf : bl (M_spread_B33 σ v1 v2) n33 (M_spread_l33 σ v1 v2 v3 v4) = some (r, σ') := hf
      unfold M_spread_l33 at hf
      refine lv_iload C.x C.b dX7_spread_33 (lv_at hl 4 rfl) ?_
      refine lv_aload_n C.x C.b dX7_spread_35 rfl (lv_at hl 0 rfl) ?_
      obtain ⟨q_2, hc, hf⟩ := bd_k (K := bl (M_spread_B33 σ v1 v2) n33) rfl hf
      refine cM_pieces C h hc (Nat.le_of_ble_eq_true rfl) hl.1 (Nat.le_of_ble_eq_true rfl) dX7_spread_36 (fun H locs h => ?_)
      refine lv_icmp_ge (tgt := 77) C.x C.b dX7_spread_39 (by decide) (fun c9 => ?_) (fun c9 => ?_)
      · have hf := if_t (K := bl (M_spread_B33 σ v1 v2) n33) c9 hf
        have hf := bl_upK (K := fun x => x) hf
        exact j77 σ v3 _ _ _ h (lv_sub hl [3] rfl) hf
      · have hf := if_f (K := bl (M_spread_B33 σ v1 v2) n33) c9 hf
        refine lv_aload_n C.x C.b dX7_spread_42 rfl (lv_at hl 0 rfl) ?_
        refine lv_iload C.x C.b dX7_spread_43 (lv_at hl 4 rfl) ?_
        refine lv_iload_n C.x C.b dX7_spread_45 rfl (lv_at hl 1 rfl) ?_
        obtain ⟨q_3, hc, hf⟩ := bd_k (K := bl (M_spread_B33 σ v1 v2) n33) rfl hf
        refine cM_hasCome C h hc (Nat.le_of_ble_eq_true rfl) hl.1 (Nat.le_of_ble_eq_true rfl) dX7_spread_46 (fun H locs h => ?_)
        refine lv_if_eq (tgt := 71) C.x C.b dX7_spread_49 (by decide) (fun c9 => ?_) (fun c9 => ?_)
        · have hf := if_t (K := bl (M_spread_B33 σ v1 v2) n33) c9 hf
          exact j71 v3 v4 _ _ _ h (lv_sub hl [0, 1, 2, 3, 4] rfl) hf
        · have hf := if_f (K := bl (M_spread_B33 σ v1 v2) n33) c9 hf
          refine lv_iload_n C.x C.b dX7_spread_52 rfl (lv_at hl 3 rfl) ?_
          refine lv_aload_n C.x C.b dX7_spread_53 rfl (lv_at hl 0 rfl) ?_
          refine lv_iload_n C.x C.b dX7_spread_54 rfl (lv_at hl 2 rfl) ?_
          refine lv_iload_n C.x C.b dX7_spread_55 rfl (lv_at hl 1 rfl) ?_
          obtain ⟨q_4, hc, hf⟩ := bd_k (K := bl (M_spread_B33 σ v1 v2) n33) rfl hf
          refine cM_skinOf C h hc (Nat.le_of_ble_eq_true rfl) hl.1 (Nat.le_of_ble_eq_true rfl) dX7_spread_56 (fun H locs h => ?_)
          refine lv_aload_n C.x C.b dX7_spread_59 rfl (lv_at hl 0 rfl) ?_
          refine lv_iload C.x C.b dX7_spread_60 (lv_at hl 4 rfl) ?_
          refine lv_iload_n C.x C.b dX7_spread_62 rfl (lv_at hl 1 rfl) ?_
          obtain ⟨q_5, hc, hf⟩ := bd_k (K := bl (M_spread_B33 σ v1 v2) n33) rfl hf
          refine cM_skinOf C h hc (Nat.le_of_ble_eq_true rfl) hl.1 (Nat.le_of_ble_eq_true rfl) dX7_spread_63 (fun H locs h => ?_)
          refine lv_isub C.x C.b dX7_spread_66 ?_
          obtain ⟨q_6, hc, hf⟩ := bd_k (K := bl (M_spread_B33 σ v1 v2) n33) rfl hf
          refine cM_moreOf C h hc (Nat.le_of_ble_eq_true rfl) hl.1 (Nat.le_of_ble_eq_true rfl) dX7_spread_67 (fun H locs h => ?_)
          refine lv_istore_n (lv' := [(3, .int q_6), (0, .ref o), (1, .int v1), (2, .int v2), (4, .int v4)]) C.x C.b dX7_spread_70 rfl hl (by decide) rfl (fun ls hl => ?_)
          exact j71 q_6 v4 _ _ _ h (lv_sub hl [1, 2, 3, 0, 4] rfl) hf
  intro H locs ls h hl
  have hl : lv_has ls 5 [(0, .ref o), (1, .int v1)] := hl
  unfold M_spread at hf
  refine lv_aload_n C.x C.b dX7_spread_0 rfl (lv_at hl 0 rfl) ?_
  refine lv_iconst (v := 0) C.x C.b dX7_spread_1 (by decide) ?_
  obtain ⟨σ_7, e9, hf⟩ := nm_k (K := fun x => x) hf
  refine m_p0 C h e9 dX7_spread_2 (fun H locs h => ?_)
  refine lv_aload_n C.x C.b dX7_spread_5 rfl (lv_at hl 0 rfl) ?_
  refine lv_iload_n C.x C.b dX7_spread_6 rfl (lv_at hl 1 rfl) ?_
  refine lv_i2l C.x C.b dX7_spread_7 rfl ?_
  obtain ⟨q_8, hc, hf⟩ := bd_k (K := fun x => x) rfl hf
  refine cM_isStep C h hc (Nat.le_of_ble_eq_true rfl) hl.1 (Nat.le_of_ble_eq_true rfl) dX7_spread_8 (fun H locs h => ?_)
  refine lv_if_ne (tgt := 17) C.x C.b dX7_spread_11 (by decide) (fun c9 => ?_) (fun c9 => ?_)
  · have hf := if_f (K := fun x => x) c9 hf
    refine lv_aload_n C.x C.b dX7_spread_17 rfl (lv_at hl 0 rfl) ?_
    obtain ⟨q_9, hc, hf⟩ := bd_k (K := fun x => x) rfl hf
    refine cM_laysNow C h hc (Nat.le_of_ble_eq_true rfl) hl.1 (Nat.le_of_ble_eq_true rfl) dX7_spread_18 (fun H locs h => ?_)
    refine lv_aload_n C.x C.b dX7_spread_21 rfl (lv_at hl 0 rfl) ?_
    refine lv_iload_n C.x C.b dX7_spread_22 rfl (lv_at hl 1 rfl) ?_
    refine lv_iconst (v := 1) C.x C.b dX7_spread_23 (by decide) ?_
    obtain ⟨q_10, hc, hf⟩ := bd_k (K := fun x => x) rfl hf
    refine cM_mostAt C h hc (Nat.le_of_ble_eq_true rfl) hl.1 (Nat.le_of_ble_eq_true rfl) dX7_spread_24 (fun H locs h => ?_)
    refine lv_istore_n (lv' := [(2, .int q_10), (0, .ref o), (1, .int v1)]) C.x C.b dX7_spread_27 rfl hl (by decide) rfl (fun ls hl => ?_)
    refine lv_iconst (v := 0) C.x C.b dX7_spread_28 (by decide) ?_
    refine lv_istore_n (lv' := [(3, .int 0), (2, .int q_10), (0, .ref o), (1, .int v1)]) C.x C.b dX7_spread_29 rfl hl (by decide) rfl (fun ls hl => ?_)
    refine lv_iconst (v := 0) C.x C.b dX7_spread_30 (by decide) ?_
    refine lv_istore (lv' := [(4, .int 0), (3, .int 0), (2, .int q_10), (0, .ref o), (1, .int v1)]) C.x C.b dX7_spread_31 hl (by decide) rfl (fun ls hl => ?_)
    exact l33 q_9 q_10 fu 0 0 _ _ _ h (lv_sub hl [3, 4, 2, 1, 0] rfl) hf
  · have hf := if_t (K := fun x => x) c9 hf
    refine lv_bipush (v := (-2)) C.x C.b dX7_spread_14 (by decide) ?_
    exact hR _ _ (some_k hf) _ _ _ _ h rfl dX7_spread_16
def M_cracked (σ : PS) (v1 : Int32) : Option (Int32 × PS) := nm (sI σ 0 0) (fun σ_1 => bd (M_isStep σ_1 v1.toInt64) (fun q_2 => if q_2 = 0 then some ((-2), σ_1) else bd (M_laysNow σ_1) (fun q_3 => bd (M_crackedIn q_3 v1) (fun q_4 => some (q_4, q_3)))))
set_option maxHeartbeats 4000000 in
theorem kM_cracked (l : Launch) {D : va_G} {ty : Nat → ClassId} {A : Nat → Prop} {o : Nat} {ad : Nat → Nat} {rs : va_W} {σ : PS} {σ' : PS} {v1 : Int32} {r : Int32} (hf : M_cracked σ v1 = some (r, σ')) : KI l yX7_cracked cX7_cracked 2 .int 6 D ty A (wM ty o ad σ ++ rs) (wM ty o ad σ' ++ rs) [.ref o, .int v1] r := by
  refine KI.of (by decide) (Nat.le_of_ble_eq_true rfl) ?_
  intro p e R s m args below meth c Q C hR
  have C : Cx p R s m args c cX7_cracked 2 RX7 D ty A 6 := C
  have hR : ∀ (v : Int32) (σ2 : PS), (v, σ2) = (r, σ') → ∀ (H : Heap) (locs : List Loc) (pc : Nat) (ls : Array Slot), Hw D A s H locs (wM ty o ad σ2 ++ rs) → narrow .int (.int v) = .int v → decode cX7_cracked pc = .ok (.ireturn, 1) → W p l e R s m args below meth c H locs 0 0 Q (F0 m pc ls [.int v]) := by intro v σ2 e9; cases e9; exact hR
  intro H locs ls h hl
  have hl : lv_has ls 2 [(0, .ref o), (1, .int v1)] := hl
  unfold M_cracked at hf
  refine lv_aload_n C.x C.b dX7_cracked_0 rfl (lv_at hl 0 rfl) ?_
  refine lv_iconst (v := 0) C.x C.b dX7_cracked_1 (by decide) ?_
  obtain ⟨σ_1, e9, hf⟩ := nm_k (K := fun x => x) hf
  refine m_p0 C h e9 dX7_cracked_2 (fun H locs h => ?_)
  refine lv_aload_n C.x C.b dX7_cracked_5 rfl (lv_at hl 0 rfl) ?_
  refine lv_iload_n C.x C.b dX7_cracked_6 rfl (lv_at hl 1 rfl) ?_
  refine lv_i2l C.x C.b dX7_cracked_7 rfl ?_
  obtain ⟨q_2, hc, hf⟩ := bd_k (K := fun x => x) rfl hf
  refine cM_isStep C h hc (Nat.le_of_ble_eq_true rfl) hl.1 (Nat.le_of_ble_eq_true rfl) dX7_cracked_8 (fun H locs h => ?_)
  refine lv_if_ne (tgt := 17) C.x C.b dX7_cracked_11 (by decide) (fun c9 => ?_) (fun c9 => ?_)
  · have hf := if_f (K := fun x => x) c9 hf
    refine lv_aload_n C.x C.b dX7_cracked_17 rfl (lv_at hl 0 rfl) ?_
    obtain ⟨q_3, hc, hf⟩ := bd_k (K := fun x => x) rfl hf
    refine cM_laysNow C h hc (Nat.le_of_ble_eq_true rfl) hl.1 (Nat.le_of_ble_eq_true rfl) dX7_cracked_18 (fun H locs h => ?_)
    refine lv_aload_n C.x C.b dX7_cracked_21 rfl (lv_at hl 0 rfl) ?_
    refine lv_iload_n C.x C.b dX7_cracked_22 rfl (lv_at hl 1 rfl) ?_
    obtain ⟨q_4, hc, hf⟩ := bd_k (K := fun x => x) rfl hf
    refine cM_crackedIn C h hc (Nat.le_of_ble_eq_true rfl) hl.1 (Nat.le_of_ble_eq_true rfl) dX7_cracked_23 (fun H locs h => ?_)
    exact hR _ _ (some_k hf) _ _ _ _ h rfl dX7_cracked_26
  · have hf := if_t (K := fun x => x) c9 hf
    refine lv_bipush (v := (-2)) C.x C.b dX7_cracked_14 (by decide) ?_
    exact hR _ _ (some_k hf) _ _ _ _ h rfl dX7_cracked_16
def M_tally_j67 (σ : PS) (v2 : Int32) : Option (Int32 × PS) := some (v2, σ)
def M_tally_j59 (σ : PS) (v1 : Int32) (v3 : Int32) (x0 : Int32) (x1 : Int32) : Option ((Int32 × Int32) ⊕ (Int32 × PS)) := nm (x1 + x0) (fun v2_1 => nm (v3 + 1) (fun v3_2 => some (.inl (v2_1, v3_2))))
def M_tally_l35 (σ : PS) (v1 : Int32) (v2 : Int32) (v3 : Int32) : Option ((Int32 × Int32) ⊕ (Int32 × PS)) := bd (M_pieces σ) (fun q_3 => if q_3 ≤ v3 then up (M_tally_j67 σ v2) else ix v3 6 (if (rA σ 35 v3) = v1 then M_tally_j59 σ v1 v3 1 v2 else M_tally_j59 σ v1 v3 0 v2))
def M_tally_B35 (σ : PS) (v1 : Int32) : (Int32 × Int32) → Option ((Int32 × Int32) ⊕ (Int32 × PS)) := fun t => M_tally_l35 σ v1 t.1 t.2
def M_tally_j24 (σ : PS) : Option (Int32 × PS) := some ((-2), σ)
def M_tally (σ : PS) (v1 : Int32) : Option (Int32 × PS) := nm (sI σ 0 0) (fun σ_4 => bd (M_isLehr σ_4) (fun q_5 => if q_5 = 0 then M_tally_j24 σ_4 else bd (M_in v1.toInt64 0 2) (fun q_6 => if q_6 = 0 then M_tally_j24 σ_4 else bd (M_laysNow σ_4) (fun q_7 => loop (M_tally_B35 q_7 v1) fu (0, 0)))))
set_option maxHeartbeats 4000000 in
theorem kM_tally (l : Launch) {D : va_G} {ty : Nat → ClassId} {A : Nat → Prop} {o : Nat} {ad : Nat → Nat} {rs : va_W} {σ : PS} {σ' : PS} {v1 : Int32} {r : Int32} (hf : M_tally σ v1 = some (r, σ')) : KI l yX7_tally cX7_tally 4 .int 6 D ty A (wM ty o ad σ ++ rs) (wM ty o ad σ' ++ rs) [.ref o, .int v1] r := by
  refine KI.of (by decide) (Nat.le_of_ble_eq_true rfl) ?_
  intro p e R s m args below meth c Q C hR
  have C : Cx p R s m args c cX7_tally 4 RX7 D ty A 6 := C
  have hR : ∀ (v : Int32) (σ2 : PS), (v, σ2) = (r, σ') → ∀ (H : Heap) (locs : List Loc) (pc : Nat) (ls : Array Slot), Hw D A s H locs (wM ty o ad σ2 ++ rs) → narrow .int (.int v) = .int v → decode cX7_tally pc = .ok (.ireturn, 1) → W p l e R s m args below meth c H locs 0 0 Q (F0 m pc ls [.int v]) := by intro v σ2 e9; cases e9; exact hR
  have j67 : ∀ (σ : PS) (v2 : Int32) (H : Heap) (locs : List Loc) (ls : Array Slot), Hw D A s H locs (wM ty o ad σ ++ rs) → lv_has ls 4 [(2, .int v2)] → M_tally_j67 σ v2 = some (r, σ') → W p l e R s m args below meth c H locs 0 0 Q (F0 m 67 ls []) := by
    intro σ v2 H locs ls h hl hf
    unfold M_tally_j67 at hf
    refine lv_iload_n C.x C.b dX7_tally_67 rfl (lv_at hl 0 rfl) ?_
    exact hR _ _ (some_k hf) _ _ _ _ h rfl dX7_tally_68
  have l35 : ∀ (σ : PS) (n35 : Nat) (v2 : Int32) (v3 : Int32) (H : Heap) (locs : List Loc) (ls : Array Slot), Hw D A s H locs (wM ty o ad σ ++ rs) → lv_has ls 4 [(0, .ref o), (1, .int v1), (2, .int v2), (3, .int v3)] → loop (M_tally_B35 σ v1) n35 (v2, v3) = some (r, σ') → W p l e R s m args below meth c H locs 0 0 Q (F0 m 35 ls []) := by
    intro σ n35
    induction n35 with
    | zero => intro v2 v3 H locs ls h hl hf; exact (none_k hf).elim
    | succ n35 ih35 =>
      have j59 : ∀ (v3 : Int32) (x0 : Int32) (x1 : Int32) (H : Heap) (locs : List Loc) (ls : Array Slot), Hw D A s H locs (wM ty o ad σ ++ rs) → lv_has ls 4 [(0, .ref o), (1, .int v1), (3, .int v3)] → bl (M_tally_B35 σ v1) n35 (M_tally_j59 σ v1 v3 x0 x1) = some (r, σ') → W p l e R s m args below meth c H locs 0 0 Q (F0 m 59 ls [.int x0, .int x1]) := by
        intro v3 x0 x1 H locs ls h hl hf
        unfold M_tally_j59 at hf
        refine lv_iadd C.x C.b dX7_tally_59 ?_
        obtain ⟨v2_1, e9, hf⟩ := nm_k (K := bl (M_tally_B35 σ v1) n35) hf
        refine lv_topI e9 ?_
        refine lv_istore_n (lv' := [(2, .int v2_1), (0, .ref o), (1, .int v1), (3, .int v3)]) C.x C.b dX7_tally_60 rfl hl (by decide) rfl (fun ls hl => ?_)
        obtain ⟨v3_2, e9, hf⟩ := nm_k (K := bl (M_tally_B35 σ v1) n35) hf
        refine lv_iinc (v := v3_2) (lv' := [(3, .int v3_2), (2, .int v2_1), (0, .ref o), (1, .int v1)]) C.x C.b dX7_tally_61 hl (k := 3) rfl (iinc_e (k := 1) (by decide) e9) (by decide) rfl (fun ls hl => ?_)
        refine lv_goto (tgt := 35) C.x C.b dX7_tally_64 (by decide) ?_
        exact ih35 v2_1 v3_2 _ _ _ h (lv_sub hl [2, 3, 1, 0] rfl) hf
      intro v2 v3 H locs ls h hl hf
      have hf : bl (M_tally_B35 σ v1) n35 (M_tally_l35 σ v1 v2 v3) = some (r, σ') := hf
      unfold M_tally_l35 at hf
      refine lv_iload_n C.x C.b dX7_tally_35 rfl (lv_at hl 3 rfl) ?_
      refine lv_aload_n C.x C.b dX7_tally_36 rfl (lv_at hl 0 rfl) ?_
      obtain ⟨q_3, hc, hf⟩ := bd_k (K := bl (M_tally_B35 σ v1) n35) rfl hf
      refine cM_pieces C h hc (Nat.le_of_ble_eq_true rfl) hl.1 (Nat.le_of_ble_eq_true rfl) dX7_tally_37 (fun H locs h => ?_)
      refine lv_icmp_ge (tgt := 67) C.x C.b dX7_tally_40 (by decide) (fun c9 => ?_) (fun c9 => ?_)
      · have hf := if_t (K := bl (M_tally_B35 σ v1) n35) c9 hf
        have hf := bl_upK (K := fun x => x) hf
        exact j67 σ v2 _ _ _ h (lv_sub hl [2] rfl) hf
      · have hf := if_f (K := bl (M_tally_B35 σ v1) n35) c9 hf
        refine lv_iload_n C.x C.b dX7_tally_43 rfl (lv_at hl 2 rfl) ?_
        refine lv_aload_n C.x C.b dX7_tally_44 rfl (lv_at hl 0 rfl) ?_
        refine m_g35 C h dX7_tally_45 ?_
        refine lv_iload_n C.x C.b dX7_tally_48 rfl (lv_at hl 3 rfl) ?_
        obtain ⟨hi, hf⟩ := ix_k (K := bl (M_tally_B35 σ v1) n35) rfl hf
        refine m_a35 C h hi dX7_tally_49 ?_
        refine lv_iload_n C.x C.b dX7_tally_50 rfl (lv_at hl 1 rfl) ?_
        refine lv_icmp_ne (tgt := 58) C.x C.b dX7_tally_51 (by decide) (fun c9 => ?_) (fun c9 => ?_)
        · have hf := if_f (K := bl (M_tally_B35 σ v1) n35) c9 hf
          refine lv_iconst (v := 0) C.x C.b dX7_tally_58 (by decide) ?_
          exact j59 v3 0 v2 _ _ _ h (lv_sub hl [0, 1, 3] rfl) hf
        · have hf := if_t (K := bl (M_tally_B35 σ v1) n35) c9 hf
          refine lv_iconst (v := 1) C.x C.b dX7_tally_54 (by decide) ?_
          refine lv_goto (tgt := 59) C.x C.b dX7_tally_55 (by decide) ?_
          exact j59 v3 1 v2 _ _ _ h (lv_sub hl [0, 1, 3] rfl) hf
  have j24 : ∀ (σ : PS) (H : Heap) (locs : List Loc) (ls : Array Slot), Hw D A s H locs (wM ty o ad σ ++ rs) → lv_has ls 4 [] → M_tally_j24 σ = some (r, σ') → W p l e R s m args below meth c H locs 0 0 Q (F0 m 24 ls []) := by
    intro σ H locs ls h hl hf
    unfold M_tally_j24 at hf
    refine lv_bipush (v := (-2)) C.x C.b dX7_tally_24 (by decide) ?_
    exact hR _ _ (some_k hf) _ _ _ _ h rfl dX7_tally_26
  intro H locs ls h hl
  have hl : lv_has ls 4 [(0, .ref o), (1, .int v1)] := hl
  unfold M_tally at hf
  refine lv_aload_n C.x C.b dX7_tally_0 rfl (lv_at hl 0 rfl) ?_
  refine lv_iconst (v := 0) C.x C.b dX7_tally_1 (by decide) ?_
  obtain ⟨σ_4, e9, hf⟩ := nm_k (K := fun x => x) hf
  refine m_p0 C h e9 dX7_tally_2 (fun H locs h => ?_)
  refine lv_aload_n C.x C.b dX7_tally_5 rfl (lv_at hl 0 rfl) ?_
  obtain ⟨q_5, hc, hf⟩ := bd_k (K := fun x => x) rfl hf
  refine cM_isLehr C h hc (Nat.le_of_ble_eq_true rfl) hl.1 (Nat.le_of_ble_eq_true rfl) dX7_tally_6 (fun H locs h => ?_)
  refine lv_if_eq (tgt := 24) C.x C.b dX7_tally_9 (by decide) (fun c9 => ?_) (fun c9 => ?_)
  · have hf := if_t (K := fun x => x) c9 hf
    exact j24 σ_4 _ _ _ h (lv_sub hl [] rfl) hf
  · have hf := if_f (K := fun x => x) c9 hf
    refine lv_iload_n C.x C.b dX7_tally_12 rfl (lv_at hl 1 rfl) ?_
    refine lv_i2l C.x C.b dX7_tally_13 rfl ?_
    refine lv_lconst (v := 0) C.x C.b dX7_tally_14 (by decide) ?_
    refine lv_ldc2 (v := 2) C.x C.b C.own (C.ts _ q2096) dX7_tally_15 ?_
    obtain ⟨q_6, hc, hf⟩ := bd_k (K := fun x => x) rfl hf
    refine cM_in C h hc (Nat.le_of_ble_eq_true rfl) hl.1 (Nat.le_of_ble_eq_true rfl) dX7_tally_18 (fun H locs h => ?_)
    refine lv_if_ne (tgt := 27) C.x C.b dX7_tally_21 (by decide) (fun c9 => ?_) (fun c9 => ?_)
    · have hf := if_f (K := fun x => x) c9 hf
      refine lv_aload_n C.x C.b dX7_tally_27 rfl (lv_at hl 0 rfl) ?_
      obtain ⟨q_7, hc, hf⟩ := bd_k (K := fun x => x) rfl hf
      refine cM_laysNow C h hc (Nat.le_of_ble_eq_true rfl) hl.1 (Nat.le_of_ble_eq_true rfl) dX7_tally_28 (fun H locs h => ?_)
      refine lv_iconst (v := 0) C.x C.b dX7_tally_31 (by decide) ?_
      refine lv_istore_n (lv' := [(2, .int 0), (0, .ref o), (1, .int v1)]) C.x C.b dX7_tally_32 rfl hl (by decide) rfl (fun ls hl => ?_)
      refine lv_iconst (v := 0) C.x C.b dX7_tally_33 (by decide) ?_
      refine lv_istore_n (lv' := [(3, .int 0), (2, .int 0), (0, .ref o), (1, .int v1)]) C.x C.b dX7_tally_34 rfl hl (by decide) rfl (fun ls hl => ?_)
      exact l35 q_7 fu 0 0 _ _ _ h (lv_sub hl [2, 3, 1, 0] rfl) hf
    · have hf := if_t (K := fun x => x) c9 hf
      exact j24 σ_4 _ _ _ h (lv_sub hl [] rfl) hf
def M_stiff_j73 (σ : PS) (v2 : Int32) : Option (Int32 × PS) := some (v2, σ)
def M_stiff_j65 (σ : PS) (v1 : Int32) (v3 : Int32) (x0 : Int32) (x1 : Int32) : Option ((Int32 × Int32) ⊕ (Int32 × PS)) := nm (x1 ||| x0) (fun v2_1 => nm (v3 + 1) (fun v3_2 => some (.inl (v2_1, v3_2))))
def M_stiff_j64 (σ : PS) (v1 : Int32) (v3 : Int32) (x0 : Int32) : Option ((Int32 × Int32) ⊕ (Int32 × PS)) := M_stiff_j65 σ v1 v3 0 x0
def M_stiff_l25 (σ : PS) (v1 : Int32) (v2 : Int32) (v3 : Int32) : Option ((Int32 × Int32) ⊕ (Int32 × PS)) := bd (M_pieces σ) (fun q_3 => if q_3 ≤ v3 then up (M_stiff_j73 σ v2) else bd (M_hasCome σ v3 v1) (fun q_4 => if q_4 = 0 then M_stiff_j64 σ v1 v3 v2 else bd (M_coreOf σ v3 v1) (fun q_5 => ix 4 40 (if (rA σ 17 4) ≤ q_5 then M_stiff_j64 σ v1 v3 v2 else M_stiff_j65 σ v1 v3 (1 <<< (v3 &&& 31)) v2))))
def M_stiff_B25 (σ : PS) (v1 : Int32) : (Int32 × Int32) → Option ((Int32 × Int32) ⊕ (Int32 × PS)) := fun t => M_stiff_l25 σ v1 t.1 t.2
def M_stiff (σ : PS) (v1 : Int32) : Option (Int32 × PS) := nm (sI σ 0 0) (fun σ_6 => bd (M_isStep σ_6 v1.toInt64) (fun q_7 => if q_7 = 0 then some ((-2), σ_6) else bd (M_laysNow σ_6) (fun q_8 => loop (M_stiff_B25 q_8 v1) fu (0, 0))))
set_option maxHeartbeats 4000000 in
theorem kM_stiff (l : Launch) {D : va_G} {ty : Nat → ClassId} {A : Nat → Prop} {o : Nat} {ad : Nat → Nat} {rs : va_W} {σ : PS} {σ' : PS} {v1 : Int32} {r : Int32} (hf : M_stiff σ v1 = some (r, σ')) : KI l yX7_stiff cX7_stiff 4 .int 6 D ty A (wM ty o ad σ ++ rs) (wM ty o ad σ' ++ rs) [.ref o, .int v1] r := by
  refine KI.of (by decide) (Nat.le_of_ble_eq_true rfl) ?_
  intro p e R s m args below meth c Q C hR
  have C : Cx p R s m args c cX7_stiff 4 RX7 D ty A 6 := C
  have hR : ∀ (v : Int32) (σ2 : PS), (v, σ2) = (r, σ') → ∀ (H : Heap) (locs : List Loc) (pc : Nat) (ls : Array Slot), Hw D A s H locs (wM ty o ad σ2 ++ rs) → narrow .int (.int v) = .int v → decode cX7_stiff pc = .ok (.ireturn, 1) → W p l e R s m args below meth c H locs 0 0 Q (F0 m pc ls [.int v]) := by intro v σ2 e9; cases e9; exact hR
  have j73 : ∀ (σ : PS) (v2 : Int32) (H : Heap) (locs : List Loc) (ls : Array Slot), Hw D A s H locs (wM ty o ad σ ++ rs) → lv_has ls 4 [(2, .int v2)] → M_stiff_j73 σ v2 = some (r, σ') → W p l e R s m args below meth c H locs 0 0 Q (F0 m 73 ls []) := by
    intro σ v2 H locs ls h hl hf
    unfold M_stiff_j73 at hf
    refine lv_iload_n C.x C.b dX7_stiff_73 rfl (lv_at hl 0 rfl) ?_
    exact hR _ _ (some_k hf) _ _ _ _ h rfl dX7_stiff_74
  have l25 : ∀ (σ : PS) (n25 : Nat) (v2 : Int32) (v3 : Int32) (H : Heap) (locs : List Loc) (ls : Array Slot), Hw D A s H locs (wM ty o ad σ ++ rs) → lv_has ls 4 [(0, .ref o), (1, .int v1), (2, .int v2), (3, .int v3)] → loop (M_stiff_B25 σ v1) n25 (v2, v3) = some (r, σ') → W p l e R s m args below meth c H locs 0 0 Q (F0 m 25 ls []) := by
    intro σ n25
    induction n25 with
    | zero => intro v2 v3 H locs ls h hl hf; exact (none_k hf).elim
    | succ n25 ih25 =>
      have j65 : ∀ (v3 : Int32) (x0 : Int32) (x1 : Int32) (H : Heap) (locs : List Loc) (ls : Array Slot), Hw D A s H locs (wM ty o ad σ ++ rs) → lv_has ls 4 [(0, .ref o), (1, .int v1), (3, .int v3)] → bl (M_stiff_B25 σ v1) n25 (M_stiff_j65 σ v1 v3 x0 x1) = some (r, σ') → W p l e R s m args below meth c H locs 0 0 Q (F0 m 65 ls [.int x0, .int x1]) := by
        intro v3 x0 x1 H locs ls h hl hf
        unfold M_stiff_j65 at hf
        refine lv_ior C.x C.b dX7_stiff_65 ?_
        obtain ⟨v2_1, e9, hf⟩ := nm_k (K := bl (M_stiff_B25 σ v1) n25) hf
        refine lv_topI e9 ?_
        refine lv_istore_n (lv' := [(2, .int v2_1), (0, .ref o), (1, .int v1), (3, .int v3)]) C.x C.b dX7_stiff_66 rfl hl (by decide) rfl (fun ls hl => ?_)
        obtain ⟨v3_2, e9, hf⟩ := nm_k (K := bl (M_stiff_B25 σ v1) n25) hf
        refine lv_iinc (v := v3_2) (lv' := [(3, .int v3_2), (2, .int v2_1), (0, .ref o), (1, .int v1)]) C.x C.b dX7_stiff_67 hl (k := 3) rfl (iinc_e (k := 1) (by decide) e9) (by decide) rfl (fun ls hl => ?_)
        refine lv_goto (tgt := 25) C.x C.b dX7_stiff_70 (by decide) ?_
        exact ih25 v2_1 v3_2 _ _ _ h (lv_sub hl [2, 3, 1, 0] rfl) hf
      have j64 : ∀ (v3 : Int32) (x0 : Int32) (H : Heap) (locs : List Loc) (ls : Array Slot), Hw D A s H locs (wM ty o ad σ ++ rs) → lv_has ls 4 [(0, .ref o), (1, .int v1), (3, .int v3)] → bl (M_stiff_B25 σ v1) n25 (M_stiff_j64 σ v1 v3 x0) = some (r, σ') → W p l e R s m args below meth c H locs 0 0 Q (F0 m 64 ls [.int x0]) := by
        intro v3 x0 H locs ls h hl hf
        unfold M_stiff_j64 at hf
        refine lv_iconst (v := 0) C.x C.b dX7_stiff_64 (by decide) ?_
        exact j65 v3 0 x0 _ _ _ h (lv_sub hl [0, 1, 2] rfl) hf
      intro v2 v3 H locs ls h hl hf
      have hf : bl (M_stiff_B25 σ v1) n25 (M_stiff_l25 σ v1 v2 v3) = some (r, σ') := hf
      unfold M_stiff_l25 at hf
      refine lv_iload_n C.x C.b dX7_stiff_25 rfl (lv_at hl 3 rfl) ?_
      refine lv_aload_n C.x C.b dX7_stiff_26 rfl (lv_at hl 0 rfl) ?_
      obtain ⟨q_3, hc, hf⟩ := bd_k (K := bl (M_stiff_B25 σ v1) n25) rfl hf
      refine cM_pieces C h hc (Nat.le_of_ble_eq_true rfl) hl.1 (Nat.le_of_ble_eq_true rfl) dX7_stiff_27 (fun H locs h => ?_)
      refine lv_icmp_ge (tgt := 73) C.x C.b dX7_stiff_30 (by decide) (fun c9 => ?_) (fun c9 => ?_)
      · have hf := if_t (K := bl (M_stiff_B25 σ v1) n25) c9 hf
        have hf := bl_upK (K := fun x => x) hf
        exact j73 σ v2 _ _ _ h (lv_sub hl [2] rfl) hf
      · have hf := if_f (K := bl (M_stiff_B25 σ v1) n25) c9 hf
        refine lv_iload_n C.x C.b dX7_stiff_33 rfl (lv_at hl 2 rfl) ?_
        refine lv_aload_n C.x C.b dX7_stiff_34 rfl (lv_at hl 0 rfl) ?_
        refine lv_iload_n C.x C.b dX7_stiff_35 rfl (lv_at hl 3 rfl) ?_
        refine lv_iload_n C.x C.b dX7_stiff_36 rfl (lv_at hl 1 rfl) ?_
        obtain ⟨q_4, hc, hf⟩ := bd_k (K := bl (M_stiff_B25 σ v1) n25) rfl hf
        refine cM_hasCome C h hc (Nat.le_of_ble_eq_true rfl) hl.1 (Nat.le_of_ble_eq_true rfl) dX7_stiff_37 (fun H locs h => ?_)
        refine lv_if_eq (tgt := 64) C.x C.b dX7_stiff_40 (by decide) (fun c9 => ?_) (fun c9 => ?_)
        · have hf := if_t (K := bl (M_stiff_B25 σ v1) n25) c9 hf
          exact j64 v3 v2 _ _ _ h (lv_sub hl [0, 1, 3] rfl) hf
        · have hf := if_f (K := bl (M_stiff_B25 σ v1) n25) c9 hf
          refine lv_aload_n C.x C.b dX7_stiff_43 rfl (lv_at hl 0 rfl) ?_
          refine lv_iload_n C.x C.b dX7_stiff_44 rfl (lv_at hl 3 rfl) ?_
          refine lv_iload_n C.x C.b dX7_stiff_45 rfl (lv_at hl 1 rfl) ?_
          obtain ⟨q_5, hc, hf⟩ := bd_k (K := bl (M_stiff_B25 σ v1) n25) rfl hf
          refine cM_coreOf C h hc (Nat.le_of_ble_eq_true rfl) hl.1 (Nat.le_of_ble_eq_true rfl) dX7_stiff_46 (fun H locs h => ?_)
          refine lv_aload_n C.x C.b dX7_stiff_49 rfl (lv_at hl 0 rfl) ?_
          refine m_g17 C h dX7_stiff_50 ?_
          refine lv_iconst (v := 4) C.x C.b dX7_stiff_53 (by decide) ?_
          obtain ⟨hi, hf⟩ := ix_k (K := bl (M_stiff_B25 σ v1) n25) rfl hf
          refine m_a17 C h hi dX7_stiff_54 ?_
          refine lv_icmp_ge (tgt := 64) C.x C.b dX7_stiff_55 (by decide) (fun c9 => ?_) (fun c9 => ?_)
          · have hf := if_t (K := bl (M_stiff_B25 σ v1) n25) c9 hf
            exact j64 v3 v2 _ _ _ h (lv_sub hl [0, 1, 3] rfl) hf
          · have hf := if_f (K := bl (M_stiff_B25 σ v1) n25) c9 hf
            refine lv_iconst (v := 1) C.x C.b dX7_stiff_58 (by decide) ?_
            refine lv_iload_n C.x C.b dX7_stiff_59 rfl (lv_at hl 3 rfl) ?_
            refine lv_ishl C.x C.b dX7_stiff_60 ?_
            refine lv_goto (tgt := 65) C.x C.b dX7_stiff_61 (by decide) ?_
            exact j65 v3 (1 <<< (v3 &&& 31)) v2 _ _ _ h (lv_sub hl [0, 1, 3] rfl) hf
  intro H locs ls h hl
  have hl : lv_has ls 4 [(0, .ref o), (1, .int v1)] := hl
  unfold M_stiff at hf
  refine lv_aload_n C.x C.b dX7_stiff_0 rfl (lv_at hl 0 rfl) ?_
  refine lv_iconst (v := 0) C.x C.b dX7_stiff_1 (by decide) ?_
  obtain ⟨σ_6, e9, hf⟩ := nm_k (K := fun x => x) hf
  refine m_p0 C h e9 dX7_stiff_2 (fun H locs h => ?_)
  refine lv_aload_n C.x C.b dX7_stiff_5 rfl (lv_at hl 0 rfl) ?_
  refine lv_iload_n C.x C.b dX7_stiff_6 rfl (lv_at hl 1 rfl) ?_
  refine lv_i2l C.x C.b dX7_stiff_7 rfl ?_
  obtain ⟨q_7, hc, hf⟩ := bd_k (K := fun x => x) rfl hf
  refine cM_isStep C h hc (Nat.le_of_ble_eq_true rfl) hl.1 (Nat.le_of_ble_eq_true rfl) dX7_stiff_8 (fun H locs h => ?_)
  refine lv_if_ne (tgt := 17) C.x C.b dX7_stiff_11 (by decide) (fun c9 => ?_) (fun c9 => ?_)
  · have hf := if_f (K := fun x => x) c9 hf
    refine lv_aload_n C.x C.b dX7_stiff_17 rfl (lv_at hl 0 rfl) ?_
    obtain ⟨q_8, hc, hf⟩ := bd_k (K := fun x => x) rfl hf
    refine cM_laysNow C h hc (Nat.le_of_ble_eq_true rfl) hl.1 (Nat.le_of_ble_eq_true rfl) dX7_stiff_18 (fun H locs h => ?_)
    refine lv_iconst (v := 0) C.x C.b dX7_stiff_21 (by decide) ?_
    refine lv_istore_n (lv' := [(2, .int 0), (0, .ref o), (1, .int v1)]) C.x C.b dX7_stiff_22 rfl hl (by decide) rfl (fun ls hl => ?_)
    refine lv_iconst (v := 0) C.x C.b dX7_stiff_23 (by decide) ?_
    refine lv_istore_n (lv' := [(3, .int 0), (2, .int 0), (0, .ref o), (1, .int v1)]) C.x C.b dX7_stiff_24 rfl hl (by decide) rfl (fun ls hl => ?_)
    exact l25 q_8 fu 0 0 _ _ _ h (lv_sub hl [2, 3, 1, 0] rfl) hf
  · have hf := if_t (K := fun x => x) c9 hf
    refine lv_bipush (v := (-2)) C.x C.b dX7_stiff_14 (by decide) ?_
    exact hR _ _ (some_k hf) _ _ _ _ h rfl dX7_stiff_16
def M_spare_j83 (σ : PS) (v2 : Int32) : Option (Int32 × PS) := some (v2, σ)
def M_spare_j75 (σ : PS) (v2 : Int32) : Option (Int32 × PS) := some (v2, σ)
def M_spare_l33 (v1 : Int32) (v2 : Int32) (σ : PS) : Option ((Int32 × PS) ⊕ (Int32 × PS)) := ix ((4 * v1) + 2) 120 (if (rA σ 19 ((4 * v1) + 2)) ≤ v2 then up (M_spare_j83 σ v2) else ix ((4 * v1) + 2) 120 (ix v1 6 (nm (wA σ 29 v1 (((rA σ 19 ((4 * v1) + 2)) - v2) - 1)) (fun σ_1 => bd (M_isSound σ_1 v1) (fun q_2 => if q_2.1 = 0 then up (M_spare_j75 q_2.2 v2) else nm (v2 + 1) (fun v2_3 => some (.inl (v2_3, q_2.2))))))))
def M_spare_B33 (v1 : Int32) : (Int32 × PS) → Option ((Int32 × PS) ⊕ (Int32 × PS)) := fun t => M_spare_l33 v1 t.1 t.2
def M_spare (σ : PS) (v1 : Int32) : Option (Int32 × PS) := nm (sI σ 0 0) (fun σ_4 => bd (M_isPiece σ_4 v1.toInt64) (fun q_5 => if q_5 = 0 then some ((-2), σ_4) else bd (M_lays σ_4) (fun q_6 => bd (M_isSound q_6 v1) (fun q_7 => if q_7.1 = 0 then some ((-1), q_7.2) else loop (M_spare_B33 v1) fu (0, q_7.2)))))
set_option maxHeartbeats 4000000 in
theorem kM_spare (l : Launch) {D : va_G} {ty : Nat → ClassId} {A : Nat → Prop} {o : Nat} {ad : Nat → Nat} {rs : va_W} {σ : PS} {σ' : PS} {v1 : Int32} {r : Int32} (hf : M_spare σ v1 = some (r, σ')) : KI l yX7_spare cX7_spare 3 .int 6 D ty A (wM ty o ad σ ++ rs) (wM ty o ad σ' ++ rs) [.ref o, .int v1] r := by
  refine KI.of (by decide) (Nat.le_of_ble_eq_true rfl) ?_
  intro p e R s m args below meth c Q C hR
  have C : Cx p R s m args c cX7_spare 3 RX7 D ty A 6 := C
  have hR : ∀ (v : Int32) (σ2 : PS), (v, σ2) = (r, σ') → ∀ (H : Heap) (locs : List Loc) (pc : Nat) (ls : Array Slot), Hw D A s H locs (wM ty o ad σ2 ++ rs) → narrow .int (.int v) = .int v → decode cX7_spare pc = .ok (.ireturn, 1) → W p l e R s m args below meth c H locs 0 0 Q (F0 m pc ls [.int v]) := by intro v σ2 e9; cases e9; exact hR
  have j83 : ∀ (σ : PS) (v2 : Int32) (H : Heap) (locs : List Loc) (ls : Array Slot), Hw D A s H locs (wM ty o ad σ ++ rs) → lv_has ls 3 [(2, .int v2)] → M_spare_j83 σ v2 = some (r, σ') → W p l e R s m args below meth c H locs 0 0 Q (F0 m 83 ls []) := by
    intro σ v2 H locs ls h hl hf
    unfold M_spare_j83 at hf
    refine lv_iload_n C.x C.b dX7_spare_83 rfl (lv_at hl 0 rfl) ?_
    exact hR _ _ (some_k hf) _ _ _ _ h rfl dX7_spare_84
  have j75 : ∀ (σ : PS) (v2 : Int32) (H : Heap) (locs : List Loc) (ls : Array Slot), Hw D A s H locs (wM ty o ad σ ++ rs) → lv_has ls 3 [(2, .int v2)] → M_spare_j75 σ v2 = some (r, σ') → W p l e R s m args below meth c H locs 0 0 Q (F0 m 75 ls []) := by
    intro σ v2 H locs ls h hl hf
    unfold M_spare_j75 at hf
    refine lv_iload_n C.x C.b dX7_spare_75 rfl (lv_at hl 0 rfl) ?_
    exact hR _ _ (some_k hf) _ _ _ _ h rfl dX7_spare_76
  have l33 : ∀ (n33 : Nat) (v2 : Int32) (σ : PS) (H : Heap) (locs : List Loc) (ls : Array Slot), Hw D A s H locs (wM ty o ad σ ++ rs) → lv_has ls 3 [(0, .ref o), (1, .int v1), (2, .int v2)] → loop (M_spare_B33 v1) n33 (v2, σ) = some (r, σ') → W p l e R s m args below meth c H locs 0 0 Q (F0 m 33 ls []) := by
    intro n33
    induction n33 with
    | zero => intro v2 σ H locs ls h hl hf; exact (none_k hf).elim
    | succ n33 ih33 =>
      intro v2 σ H locs ls h hl hf
      have hf : bl (M_spare_B33 v1) n33 (M_spare_l33 v1 v2 σ) = some (r, σ') := hf
      unfold M_spare_l33 at hf
      refine lv_iload_n C.x C.b dX7_spare_33 rfl (lv_at hl 2 rfl) ?_
      refine lv_aload_n C.x C.b dX7_spare_34 rfl (lv_at hl 0 rfl) ?_
      refine m_g19 C h dX7_spare_35 ?_
      refine lv_iconst (v := 4) C.x C.b dX7_spare_38 (by decide) ?_
      refine lv_iload_n C.x C.b dX7_spare_39 rfl (lv_at hl 1 rfl) ?_
      refine lv_imul C.x C.b dX7_spare_40 ?_
      refine lv_iconst (v := 2) C.x C.b dX7_spare_41 (by decide) ?_
      refine lv_iadd C.x C.b dX7_spare_42 ?_
      obtain ⟨hi, hf⟩ := ix_k (K := bl (M_spare_B33 v1) n33) rfl hf
      refine m_a19 C h hi dX7_spare_43 ?_
      refine lv_icmp_ge (tgt := 83) C.x C.b dX7_spare_44 (by decide) (fun c9 => ?_) (fun c9 => ?_)
      · have hf := if_t (K := bl (M_spare_B33 v1) n33) c9 hf
        have hf := bl_upK (K := fun x => x) hf
        exact j83 σ v2 _ _ _ h (lv_sub hl [2] rfl) hf
      · have hf := if_f (K := bl (M_spare_B33 v1) n33) c9 hf
        refine lv_aload_n C.x C.b dX7_spare_47 rfl (lv_at hl 0 rfl) ?_
        refine m_g29 C h dX7_spare_48 ?_
        refine lv_iload_n C.x C.b dX7_spare_51 rfl (lv_at hl 1 rfl) ?_
        refine lv_aload_n C.x C.b dX7_spare_52 rfl (lv_at hl 0 rfl) ?_
        refine m_g19 C h dX7_spare_53 ?_
        refine lv_iconst (v := 4) C.x C.b dX7_spare_56 (by decide) ?_
        refine lv_iload_n C.x C.b dX7_spare_57 rfl (lv_at hl 1 rfl) ?_
        refine lv_imul C.x C.b dX7_spare_58 ?_
        refine lv_iconst (v := 2) C.x C.b dX7_spare_59 (by decide) ?_
        refine lv_iadd C.x C.b dX7_spare_60 ?_
        obtain ⟨hi, hf⟩ := ix_k (K := bl (M_spare_B33 v1) n33) rfl hf
        refine m_a19 C h hi dX7_spare_61 ?_
        refine lv_iload_n C.x C.b dX7_spare_62 rfl (lv_at hl 2 rfl) ?_
        refine lv_isub C.x C.b dX7_spare_63 ?_
        refine lv_iconst (v := 1) C.x C.b dX7_spare_64 (by decide) ?_
        refine lv_isub C.x C.b dX7_spare_65 ?_
        obtain ⟨hi, hf⟩ := ix_k (K := bl (M_spare_B33 v1) n33) rfl hf
        obtain ⟨σ_1, e9, hf⟩ := nm_k (K := bl (M_spare_B33 v1) n33) hf
        refine m_w29 C h hi e9 dX7_spare_66 (fun H locs h => ?_)
        refine lv_aload_n C.x C.b dX7_spare_67 rfl (lv_at hl 0 rfl) ?_
        refine lv_iload_n C.x C.b dX7_spare_68 rfl (lv_at hl 1 rfl) ?_
        obtain ⟨q_2, hc, hf⟩ := bd_k (K := bl (M_spare_B33 v1) n33) rfl hf
        refine cM_isSound C h hc (Nat.le_of_ble_eq_true rfl) hl.1 (Nat.le_of_ble_eq_true rfl) dX7_spare_69 (fun H locs h => ?_)
        refine lv_if_ne (tgt := 77) C.x C.b dX7_spare_72 (by decide) (fun c9 => ?_) (fun c9 => ?_)
        · have hf := if_f (K := bl (M_spare_B33 v1) n33) c9 hf
          obtain ⟨v2_3, e9, hf⟩ := nm_k (K := bl (M_spare_B33 v1) n33) hf
          refine lv_iinc (v := v2_3) (lv' := [(2, .int v2_3), (0, .ref o), (1, .int v1)]) C.x C.b dX7_spare_77 hl (k := 2) rfl (iinc_e (k := 1) (by decide) e9) (by decide) rfl (fun ls hl => ?_)
          refine lv_goto (tgt := 33) C.x C.b dX7_spare_80 (by decide) ?_
          exact ih33 v2_3 q_2.2 _ _ _ h (lv_sub hl [1, 2, 0] rfl) hf
        · have hf := if_t (K := bl (M_spare_B33 v1) n33) c9 hf
          have hf := bl_upK (K := fun x => x) hf
          exact j75 q_2.2 v2 _ _ _ h (lv_sub hl [2] rfl) hf
  intro H locs ls h hl
  have hl : lv_has ls 3 [(0, .ref o), (1, .int v1)] := hl
  unfold M_spare at hf
  refine lv_aload_n C.x C.b dX7_spare_0 rfl (lv_at hl 0 rfl) ?_
  refine lv_iconst (v := 0) C.x C.b dX7_spare_1 (by decide) ?_
  obtain ⟨σ_4, e9, hf⟩ := nm_k (K := fun x => x) hf
  refine m_p0 C h e9 dX7_spare_2 (fun H locs h => ?_)
  refine lv_aload_n C.x C.b dX7_spare_5 rfl (lv_at hl 0 rfl) ?_
  refine lv_iload_n C.x C.b dX7_spare_6 rfl (lv_at hl 1 rfl) ?_
  refine lv_i2l C.x C.b dX7_spare_7 rfl ?_
  obtain ⟨q_5, hc, hf⟩ := bd_k (K := fun x => x) rfl hf
  refine cM_isPiece C h hc (Nat.le_of_ble_eq_true rfl) hl.1 (Nat.le_of_ble_eq_true rfl) dX7_spare_8 (fun H locs h => ?_)
  refine lv_if_ne (tgt := 17) C.x C.b dX7_spare_11 (by decide) (fun c9 => ?_) (fun c9 => ?_)
  · have hf := if_f (K := fun x => x) c9 hf
    refine lv_aload_n C.x C.b dX7_spare_17 rfl (lv_at hl 0 rfl) ?_
    obtain ⟨q_6, hc, hf⟩ := bd_k (K := fun x => x) rfl hf
    refine cM_lays C h hc (Nat.le_of_ble_eq_true rfl) hl.1 (Nat.le_of_ble_eq_true rfl) dX7_spare_18 (fun H locs h => ?_)
    refine lv_aload_n C.x C.b dX7_spare_21 rfl (lv_at hl 0 rfl) ?_
    refine lv_iload_n C.x C.b dX7_spare_22 rfl (lv_at hl 1 rfl) ?_
    obtain ⟨q_7, hc, hf⟩ := bd_k (K := fun x => x) rfl hf
    refine cM_isSound C h hc (Nat.le_of_ble_eq_true rfl) hl.1 (Nat.le_of_ble_eq_true rfl) dX7_spare_23 (fun H locs h => ?_)
    refine lv_if_ne (tgt := 31) C.x C.b dX7_spare_26 (by decide) (fun c9 => ?_) (fun c9 => ?_)
    · have hf := if_f (K := fun x => x) c9 hf
      refine lv_iconst (v := 0) C.x C.b dX7_spare_31 (by decide) ?_
      refine lv_istore_n (lv' := [(2, .int 0), (0, .ref o), (1, .int v1)]) C.x C.b dX7_spare_32 rfl hl (by decide) rfl (fun ls hl => ?_)
      exact l33  fu 0 q_7.2 _ _ _ h (lv_sub hl [1, 2, 0] rfl) hf
    · have hf := if_t (K := fun x => x) c9 hf
      refine lv_iconst (v := (-1)) C.x C.b dX7_spare_29 (by decide) ?_
      exact hR _ _ (some_k hf) _ _ _ _ h rfl dX7_spare_30
  · have hf := if_t (K := fun x => x) c9 hf
    refine lv_bipush (v := (-2)) C.x C.b dX7_spare_14 (by decide) ?_
    exact hR _ _ (some_k hf) _ _ _ _ h rfl dX7_spare_16
def M_bestPace_j31 (σ : PS) (v1 : Int32) : Option (Int32 × PS) := some (v1, σ)
def M_bestPace_j25 (σ : PS) (v1 : Int32) (v2 : Int32) : Option ((Int32 × Int32 × PS) ⊕ (Int32 × PS)) := nm (v2 + 1) (fun v2_1 => some (.inl (v1, v2_1, σ)))
def M_bestPace_l4 (v1 : Int32) (v2 : Int32) (σ : PS) : Option ((Int32 × Int32 × PS) ⊕ (Int32 × PS)) := if 6 < v2 then up (M_bestPace_j31 σ v1) else bd (M_soundBy σ v2) (fun q_2 => bd (M_soundBy q_2.2 v1) (fun q_3 => if q_2.1 ≤ q_3.1 then M_bestPace_j25 q_3.2 v1 v2 else M_bestPace_j25 q_3.2 v2 v2))
def M_bestPace_B4 : (Int32 × Int32 × PS) → Option ((Int32 × Int32 × PS) ⊕ (Int32 × PS)) := fun t => M_bestPace_l4 t.1 t.2.1 t.2.2
def M_bestPace (σ : PS) : Option (Int32 × PS) := loop (M_bestPace_B4) fu (1, 2, σ)
set_option maxHeartbeats 4000000 in
theorem kM_bestPace (l : Launch) {D : va_G} {ty : Nat → ClassId} {A : Nat → Prop} {o : Nat} {ad : Nat → Nat} {rs : va_W} {σ : PS} {σ' : PS} {r : Int32} (hf : M_bestPace σ = some (r, σ')) : KI l yX7_bestPace cX7_bestPace 3 .int 6 D ty A (wM ty o ad σ ++ rs) (wM ty o ad σ' ++ rs) [.ref o] r := by
  refine KI.of (by decide) (Nat.le_of_ble_eq_true rfl) ?_
  intro p e R s m args below meth c Q C hR
  have C : Cx p R s m args c cX7_bestPace 3 RX7 D ty A 6 := C
  have hR : ∀ (v : Int32) (σ2 : PS), (v, σ2) = (r, σ') → ∀ (H : Heap) (locs : List Loc) (pc : Nat) (ls : Array Slot), Hw D A s H locs (wM ty o ad σ2 ++ rs) → narrow .int (.int v) = .int v → decode cX7_bestPace pc = .ok (.ireturn, 1) → W p l e R s m args below meth c H locs 0 0 Q (F0 m pc ls [.int v]) := by intro v σ2 e9; cases e9; exact hR
  have j31 : ∀ (σ : PS) (v1 : Int32) (H : Heap) (locs : List Loc) (ls : Array Slot), Hw D A s H locs (wM ty o ad σ ++ rs) → lv_has ls 3 [(1, .int v1)] → M_bestPace_j31 σ v1 = some (r, σ') → W p l e R s m args below meth c H locs 0 0 Q (F0 m 31 ls []) := by
    intro σ v1 H locs ls h hl hf
    unfold M_bestPace_j31 at hf
    refine lv_iload_n C.x C.b dX7_bestPace_31 rfl (lv_at hl 0 rfl) ?_
    exact hR _ _ (some_k hf) _ _ _ _ h rfl dX7_bestPace_32
  have l4 : ∀ (n4 : Nat) (v1 : Int32) (v2 : Int32) (σ : PS) (H : Heap) (locs : List Loc) (ls : Array Slot), Hw D A s H locs (wM ty o ad σ ++ rs) → lv_has ls 3 [(0, .ref o), (1, .int v1), (2, .int v2)] → loop (M_bestPace_B4) n4 (v1, v2, σ) = some (r, σ') → W p l e R s m args below meth c H locs 0 0 Q (F0 m 4 ls []) := by
    intro n4
    induction n4 with
    | zero => intro v1 v2 σ H locs ls h hl hf; exact (none_k hf).elim
    | succ n4 ih4 =>
      have j25 : ∀ (σ : PS) (v1 : Int32) (v2 : Int32) (H : Heap) (locs : List Loc) (ls : Array Slot), Hw D A s H locs (wM ty o ad σ ++ rs) → lv_has ls 3 [(0, .ref o), (1, .int v1), (2, .int v2)] → bl (M_bestPace_B4) n4 (M_bestPace_j25 σ v1 v2) = some (r, σ') → W p l e R s m args below meth c H locs 0 0 Q (F0 m 25 ls []) := by
        intro σ v1 v2 H locs ls h hl hf
        unfold M_bestPace_j25 at hf
        obtain ⟨v2_1, e9, hf⟩ := nm_k (K := bl (M_bestPace_B4) n4) hf
        refine lv_iinc (v := v2_1) (lv' := [(2, .int v2_1), (0, .ref o), (1, .int v1)]) C.x C.b dX7_bestPace_25 hl (k := 2) rfl (iinc_e (k := 1) (by decide) e9) (by decide) rfl (fun ls hl => ?_)
        refine lv_goto (tgt := 4) C.x C.b dX7_bestPace_28 (by decide) ?_
        exact ih4 v1 v2_1 σ _ _ _ h (lv_sub hl [1, 2, 0] rfl) hf
      intro v1 v2 σ H locs ls h hl hf
      have hf : bl (M_bestPace_B4) n4 (M_bestPace_l4 v1 v2 σ) = some (r, σ') := hf
      unfold M_bestPace_l4 at hf
      refine lv_iload_n C.x C.b dX7_bestPace_4 rfl (lv_at hl 2 rfl) ?_
      refine lv_bipush (v := 6) C.x C.b dX7_bestPace_5 (by decide) ?_
      refine lv_icmp_gt (tgt := 31) C.x C.b dX7_bestPace_7 (by decide) (fun c9 => ?_) (fun c9 => ?_)
      · have hf := if_t (K := bl (M_bestPace_B4) n4) c9 hf
        have hf := bl_upK (K := fun x => x) hf
        exact j31 σ v1 _ _ _ h (lv_sub hl [1] rfl) hf
      · have hf := if_f (K := bl (M_bestPace_B4) n4) c9 hf
        refine lv_aload_n C.x C.b dX7_bestPace_10 rfl (lv_at hl 0 rfl) ?_
        refine lv_iload_n C.x C.b dX7_bestPace_11 rfl (lv_at hl 2 rfl) ?_
        obtain ⟨q_2, hc, hf⟩ := bd_k (K := bl (M_bestPace_B4) n4) rfl hf
        refine cM_soundBy C h hc (Nat.le_of_ble_eq_true rfl) hl.1 (Nat.le_of_ble_eq_true rfl) dX7_bestPace_12 (fun H locs h => ?_)
        refine lv_aload_n C.x C.b dX7_bestPace_15 rfl (lv_at hl 0 rfl) ?_
        refine lv_iload_n C.x C.b dX7_bestPace_16 rfl (lv_at hl 1 rfl) ?_
        obtain ⟨q_3, hc, hf⟩ := bd_k (K := bl (M_bestPace_B4) n4) rfl hf
        refine cM_soundBy C h hc (Nat.le_of_ble_eq_true rfl) hl.1 (Nat.le_of_ble_eq_true rfl) dX7_bestPace_17 (fun H locs h => ?_)
        refine lv_icmp_le (tgt := 25) C.x C.b dX7_bestPace_20 (by decide) (fun c9 => ?_) (fun c9 => ?_)
        · have hf := if_t (K := bl (M_bestPace_B4) n4) c9 hf
          exact j25 q_3.2 v1 v2 _ _ _ h (lv_sub hl [0, 1, 2] rfl) hf
        · have hf := if_f (K := bl (M_bestPace_B4) n4) c9 hf
          refine lv_iload_n C.x C.b dX7_bestPace_23 rfl (lv_at hl 2 rfl) ?_
          refine lv_istore_n (lv' := [(1, .int v2), (0, .ref o), (2, .int v2)]) C.x C.b dX7_bestPace_24 rfl hl (by decide) rfl (fun ls hl => ?_)
          exact j25 q_3.2 v2 v2 _ _ _ h (lv_sub hl [1, 0, 2] rfl) hf
  intro H locs ls h hl
  have hl : lv_has ls 3 [(0, .ref o)] := hl
  unfold M_bestPace at hf
  refine lv_iconst (v := 1) C.x C.b dX7_bestPace_0 (by decide) ?_
  refine lv_istore_n (lv' := [(1, .int 1), (0, .ref o)]) C.x C.b dX7_bestPace_1 rfl hl (by decide) rfl (fun ls hl => ?_)
  refine lv_iconst (v := 2) C.x C.b dX7_bestPace_2 (by decide) ?_
  refine lv_istore_n (lv' := [(2, .int 2), (1, .int 1), (0, .ref o)]) C.x C.b dX7_bestPace_3 rfl hl (by decide) rfl (fun ls hl => ?_)
  exact l4  fu 1 2 σ _ _ _ h (lv_sub hl [2, 1, 0] rfl) hf
theorem tM_bestPace : GoodIn lw_all (wsV RX7 361 RX7 yX7_bestPace (ws_ yX7_bestPace cX7_bestPace 3 (some .int))) := lw_V q2137 q2139 qs121 q147 q2140
theorem cM_bestPace {p : Program} {l : Launch} {e : Env} {R : Room} {s : State} {m : MethodId} {args : Array Value} {below : List Frame} {meth : Method} {c : Code} {H : Heap} {locs : List Loc} {Q : State → Prop} {cc : ByteArray} {pc : Nat} {ls : Array Slot} {st : List Value} {nL d : Nat} {D : va_G} {ty : Nat → ClassId} {A : Nat → Prop} {o : Nat} {ad : Nat → Nat} {rs : va_W} {σ : PS} {q : (Int32 × PS)} (C : Cx p R s m args c cc nL RX7 D ty A d) (h : Hw D A s H locs (wM ty o ad σ ++ rs)) (hc : M_bestPace σ = some q) (hd : 6 + 1 ≤ d) (hls : ls.size = nL) (hcat : (st.map fun v => v.category).sum ≤ 8) (dec : decode cc pc = .ok (.invokevirtual 361, 3)) (kk : ∀ (H : Heap) (locs : List Loc), Hw D A s H locs (wM ty o ad q.2 ++ rs) → W p l e R s m args below meth c H locs 0 0 Q (F0 m (pc + 3) ls (.int (q.1) :: st))) : W p l e R s m args below meth c H locs 0 0 Q (F0 m pc ls (.ref o :: st)) := KI.callV (As := []) C (kM_bestPace l hc) tM_bestPace ⟨rfl, by decide, by decide, by show _ = some 0; decide +kernel⟩ 0 7 rfl rfl rfl hd (by decide) (Nat.zero_le _) (Nat.zero_le _) h hls rfl hcat dec kk
def M_paced_j25 (σ : PS) (x0 : Int32) : Option (Int32 × PS) := some (x0, σ)
def M_paced (σ : PS) : Option (Int32 × PS) := nm (sI σ 0 0) (fun σ_1 => bd (M_isLehr σ_1) (fun q_2 => if q_2 = 0 then M_paced_j25 σ_1 ((-2)) else bd (M_bestPace σ_1) (fun q_3 => bd (M_soundBy q_3.2 q_3.1) (fun q_4 => M_paced_j25 q_4.2 q_4.1))))
set_option maxHeartbeats 4000000 in
theorem kM_paced (l : Launch) {D : va_G} {ty : Nat → ClassId} {A : Nat → Prop} {o : Nat} {ad : Nat → Nat} {rs : va_W} {σ : PS} {σ' : PS} {r : Int32} (hf : M_paced σ = some (r, σ')) : KI l yX7_paced cX7_paced 1 .int 7 D ty A (wM ty o ad σ ++ rs) (wM ty o ad σ' ++ rs) [.ref o] r := by
  refine KI.of (by decide) (Nat.le_of_ble_eq_true rfl) ?_
  intro p e R s m args below meth c Q C hR
  have C : Cx p R s m args c cX7_paced 1 RX7 D ty A 7 := C
  have hR : ∀ (v : Int32) (σ2 : PS), (v, σ2) = (r, σ') → ∀ (H : Heap) (locs : List Loc) (pc : Nat) (ls : Array Slot), Hw D A s H locs (wM ty o ad σ2 ++ rs) → narrow .int (.int v) = .int v → decode cX7_paced pc = .ok (.ireturn, 1) → W p l e R s m args below meth c H locs 0 0 Q (F0 m pc ls [.int v]) := by intro v σ2 e9; cases e9; exact hR
  have j25 : ∀ (σ : PS) (x0 : Int32) (H : Heap) (locs : List Loc) (ls : Array Slot), Hw D A s H locs (wM ty o ad σ ++ rs) → lv_has ls 1 [] → M_paced_j25 σ x0 = some (r, σ') → W p l e R s m args below meth c H locs 0 0 Q (F0 m 25 ls [.int x0]) := by
    intro σ x0 H locs ls h hl hf
    unfold M_paced_j25 at hf
    exact hR _ _ (some_k hf) _ _ _ _ h rfl dX7_paced_25
  intro H locs ls h hl
  have hl : lv_has ls 1 [(0, .ref o)] := hl
  unfold M_paced at hf
  refine lv_aload_n C.x C.b dX7_paced_0 rfl (lv_at hl 0 rfl) ?_
  refine lv_iconst (v := 0) C.x C.b dX7_paced_1 (by decide) ?_
  obtain ⟨σ_1, e9, hf⟩ := nm_k (K := fun x => x) hf
  refine m_p0 C h e9 dX7_paced_2 (fun H locs h => ?_)
  refine lv_aload_n C.x C.b dX7_paced_5 rfl (lv_at hl 0 rfl) ?_
  obtain ⟨q_2, hc, hf⟩ := bd_k (K := fun x => x) rfl hf
  refine cM_isLehr C h hc (Nat.le_of_ble_eq_true rfl) hl.1 (Nat.le_of_ble_eq_true rfl) dX7_paced_6 (fun H locs h => ?_)
  refine lv_if_eq (tgt := 23) C.x C.b dX7_paced_9 (by decide) (fun c9 => ?_) (fun c9 => ?_)
  · have hf := if_t (K := fun x => x) c9 hf
    refine lv_bipush (v := (-2)) C.x C.b dX7_paced_23 (by decide) ?_
    exact j25 σ_1 ((-2)) _ _ _ h (lv_sub hl [] rfl) hf
  · have hf := if_f (K := fun x => x) c9 hf
    refine lv_aload_n C.x C.b dX7_paced_12 rfl (lv_at hl 0 rfl) ?_
    refine lv_aload_n C.x C.b dX7_paced_13 rfl (lv_at hl 0 rfl) ?_
    obtain ⟨q_3, hc, hf⟩ := bd_k (K := fun x => x) rfl hf
    refine cM_bestPace C h hc (Nat.le_of_ble_eq_true rfl) hl.1 (Nat.le_of_ble_eq_true rfl) dX7_paced_14 (fun H locs h => ?_)
    obtain ⟨q_4, hc, hf⟩ := bd_k (K := fun x => x) rfl hf
    refine cM_soundBy C h hc (Nat.le_of_ble_eq_true rfl) hl.1 (Nat.le_of_ble_eq_true rfl) dX7_paced_17 (fun H locs h => ?_)
    refine lv_goto (tgt := 25) C.x C.b dX7_paced_20 (by decide) ?_
    exact j25 q_4.2 q_4.1 _ _ _ h (lv_sub hl [] rfl) hf
def M_raise_j33 (σ : PS) (x0 : Int32) : Option (Int32 × PS) := some (x0, σ)
def M_raise_j31 (σ : PS) : Option (Int32 × PS) := M_raise_j33 σ ((-2))
def M_raise (σ : PS) (v1 : Int32) (v2 : Int32) : Option (Int32 × PS) := nm (sI σ 0 0) (fun σ_1 => bd (M_isZone σ_1 v1) (fun q_2 => if q_2 = 0 then M_raise_j31 σ_1 else bd (M_isPiece σ_1 v2.toInt64) (fun q_3 => if q_3 = 0 then M_raise_j31 σ_1 else bd (M_raiseOf σ_1 v1 v2) (fun q_4 => M_raise_j33 q_4.2 q_4.1))))
set_option maxHeartbeats 4000000 in
theorem kM_raise (l : Launch) {D : va_G} {ty : Nat → ClassId} {A : Nat → Prop} {o : Nat} {ad : Nat → Nat} {rs : va_W} {σ : PS} {σ' : PS} {v1 : Int32} {v2 : Int32} {r : Int32} (hf : M_raise σ v1 v2 = some (r, σ')) : KI l yX7_raise cX7_raise 3 .int 7 D ty A (wM ty o ad σ ++ rs) (wM ty o ad σ' ++ rs) [.ref o, .int v1, .int v2] r := by
  refine KI.of (by decide) (Nat.le_of_ble_eq_true rfl) ?_
  intro p e R s m args below meth c Q C hR
  have C : Cx p R s m args c cX7_raise 3 RX7 D ty A 7 := C
  have hR : ∀ (v : Int32) (σ2 : PS), (v, σ2) = (r, σ') → ∀ (H : Heap) (locs : List Loc) (pc : Nat) (ls : Array Slot), Hw D A s H locs (wM ty o ad σ2 ++ rs) → narrow .int (.int v) = .int v → decode cX7_raise pc = .ok (.ireturn, 1) → W p l e R s m args below meth c H locs 0 0 Q (F0 m pc ls [.int v]) := by intro v σ2 e9; cases e9; exact hR
  have j33 : ∀ (σ : PS) (x0 : Int32) (H : Heap) (locs : List Loc) (ls : Array Slot), Hw D A s H locs (wM ty o ad σ ++ rs) → lv_has ls 3 [] → M_raise_j33 σ x0 = some (r, σ') → W p l e R s m args below meth c H locs 0 0 Q (F0 m 33 ls [.int x0]) := by
    intro σ x0 H locs ls h hl hf
    unfold M_raise_j33 at hf
    exact hR _ _ (some_k hf) _ _ _ _ h rfl dX7_raise_33
  have j31 : ∀ (σ : PS) (H : Heap) (locs : List Loc) (ls : Array Slot), Hw D A s H locs (wM ty o ad σ ++ rs) → lv_has ls 3 [] → M_raise_j31 σ = some (r, σ') → W p l e R s m args below meth c H locs 0 0 Q (F0 m 31 ls []) := by
    intro σ H locs ls h hl hf
    unfold M_raise_j31 at hf
    refine lv_bipush (v := (-2)) C.x C.b dX7_raise_31 (by decide) ?_
    exact j33 σ ((-2)) _ _ _ h (lv_sub hl [] rfl) hf
  intro H locs ls h hl
  have hl : lv_has ls 3 [(0, .ref o), (1, .int v1), (2, .int v2)] := hl
  unfold M_raise at hf
  refine lv_aload_n C.x C.b dX7_raise_0 rfl (lv_at hl 0 rfl) ?_
  refine lv_iconst (v := 0) C.x C.b dX7_raise_1 (by decide) ?_
  obtain ⟨σ_1, e9, hf⟩ := nm_k (K := fun x => x) hf
  refine m_p0 C h e9 dX7_raise_2 (fun H locs h => ?_)
  refine lv_aload_n C.x C.b dX7_raise_5 rfl (lv_at hl 0 rfl) ?_
  refine lv_iload_n C.x C.b dX7_raise_6 rfl (lv_at hl 1 rfl) ?_
  obtain ⟨q_2, hc, hf⟩ := bd_k (K := fun x => x) rfl hf
  refine cM_isZone C h hc (Nat.le_of_ble_eq_true rfl) hl.1 (Nat.le_of_ble_eq_true rfl) dX7_raise_7 (fun H locs h => ?_)
  refine lv_if_eq (tgt := 31) C.x C.b dX7_raise_10 (by decide) (fun c9 => ?_) (fun c9 => ?_)
  · have hf := if_t (K := fun x => x) c9 hf
    exact j31 σ_1 _ _ _ h (lv_sub hl [] rfl) hf
  · have hf := if_f (K := fun x => x) c9 hf
    refine lv_aload_n C.x C.b dX7_raise_13 rfl (lv_at hl 0 rfl) ?_
    refine lv_iload_n C.x C.b dX7_raise_14 rfl (lv_at hl 2 rfl) ?_
    refine lv_i2l C.x C.b dX7_raise_15 rfl ?_
    obtain ⟨q_3, hc, hf⟩ := bd_k (K := fun x => x) rfl hf
    refine cM_isPiece C h hc (Nat.le_of_ble_eq_true rfl) hl.1 (Nat.le_of_ble_eq_true rfl) dX7_raise_16 (fun H locs h => ?_)
    refine lv_if_eq (tgt := 31) C.x C.b dX7_raise_19 (by decide) (fun c9 => ?_) (fun c9 => ?_)
    · have hf := if_t (K := fun x => x) c9 hf
      exact j31 σ_1 _ _ _ h (lv_sub hl [] rfl) hf
    · have hf := if_f (K := fun x => x) c9 hf
      refine lv_aload_n C.x C.b dX7_raise_22 rfl (lv_at hl 0 rfl) ?_
      refine lv_iload_n C.x C.b dX7_raise_23 rfl (lv_at hl 1 rfl) ?_
      refine lv_iload_n C.x C.b dX7_raise_24 rfl (lv_at hl 2 rfl) ?_
      obtain ⟨q_4, hc, hf⟩ := bd_k (K := fun x => x) rfl hf
      refine cM_raiseOf C h hc (Nat.le_of_ble_eq_true rfl) hl.1 (Nat.le_of_ble_eq_true rfl) dX7_raise_25 (fun H locs h => ?_)
      refine lv_goto (tgt := 33) C.x C.b dX7_raise_28 (by decide) ?_
      exact j33 q_4.2 q_4.1 _ _ _ h (lv_sub hl [] rfl) hf
def M_swap_j133 (σ : PS) (v1 : Int32) : Option (Int32 × PS) := some (v1, σ)
def M_swap_j127 (σ : PS) (v1 : Int32) (v2 : Int32) (v3 : Int32) : Option ((Int32 × Int32 × Int32 × PS) ⊕ (Int32 × PS)) := nm (v3 + 1) (fun v3_1 => some (.inl (v1, v2, v3_1, σ)))
def M_swap_j121 (σ : PS) (v1 : Int32) (v2 : Int32) (v3 : Int32) (v4 : Int32) : Option ((Int32 × Int32 × Int32 × PS) ⊕ ((Int32 × Int32 × Int32 × PS) ⊕ (Int32 × PS))) := nm (v4 + 1) (fun v4_2 => some (.inl (v1, v2, v4_2, σ)))
def M_swap_l46 (v3 : Int32) (v1 : Int32) (v2 : Int32) (v4 : Int32) (σ : PS) : Option ((Int32 × Int32 × Int32 × PS) ⊕ ((Int32 × Int32 × Int32 × PS) ⊕ (Int32 × PS))) := ix 5 40 (if (rA σ 17 5) ≤ v4 then up (M_swap_j127 σ v1 v2 v3) else bd (M_lays σ) (fun q_3 => ix v4 35 (ix v3 7 (nm (wA q_3 27 v3 (rA q_3 18 v4)) (fun σ_4 => ix v3 35 (ix v4 7 (nm (wA σ_4 27 v4 (rA σ_4 18 v3)) (fun σ_5 => bd (M_runs σ_5) (fun q_6 => bd (M_soundNow q_6) (fun q_7 => bd (M_sizeOf q_7) (fun q_8 => if v2 < q_8 then nm ((10 * v3) + v4) (fun v1_9 => bd (M_soundNow q_6) (fun q_10 => bd (M_sizeOf q_10) (fun q_11 => M_swap_j121 q_6 v1_9 q_11 v3 v4))) else M_swap_j121 q_6 v1 v2 v3 v4)))))))))))
def M_swap_B46 (v3 : Int32) : (Int32 × Int32 × Int32 × PS) → Option ((Int32 × Int32 × Int32 × PS) ⊕ ((Int32 × Int32 × Int32 × PS) ⊕ (Int32 × PS))) := fun t => M_swap_l46 v3 t.1 t.2.1 t.2.2.1 t.2.2.2
def M_swap_l31 (v1 : Int32) (v2 : Int32) (v3 : Int32) (σ : PS) : Option ((Int32 × Int32 × Int32 × PS) ⊕ (Int32 × PS)) := ix 5 40 (if (rA σ 17 5) ≤ v3 then up (M_swap_j133 σ v1) else nm (v3 + 1) (fun v4_12 => loop (M_swap_B46 v3) fu (v1, v2, v4_12, σ)))
def M_swap_B31 : (Int32 × Int32 × Int32 × PS) → Option ((Int32 × Int32 × Int32 × PS) ⊕ (Int32 × PS)) := fun t => M_swap_l31 t.1 t.2.1 t.2.2.1 t.2.2.2
def M_swap (σ : PS) : Option (Int32 × PS) := nm (sI σ 0 0) (fun σ_13 => bd (M_isLehr σ_13) (fun q_14 => if q_14 = 0 then some ((-2), σ_13) else bd (M_laysNow σ_13) (fun q_15 => bd (M_soundNow q_15) (fun q_16 => bd (M_sizeOf q_16) (fun q_17 => loop (M_swap_B31) fu ((-1), q_17, 0, q_15))))))
set_option maxHeartbeats 4000000 in
theorem kM_swap (l : Launch) {D : va_G} {ty : Nat → ClassId} {A : Nat → Prop} {o : Nat} {ad : Nat → Nat} {rs : va_W} {σ : PS} {σ' : PS} {r : Int32} (hf : M_swap σ = some (r, σ')) : KI l yX7_swap cX7_swap 5 .int 6 D ty A (wM ty o ad σ ++ rs) (wM ty o ad σ' ++ rs) [.ref o] r := by
  refine KI.of (by decide) (Nat.le_of_ble_eq_true rfl) ?_
  intro p e R s m args below meth c Q C hR
  have C : Cx p R s m args c cX7_swap 5 RX7 D ty A 6 := C
  have hR : ∀ (v : Int32) (σ2 : PS), (v, σ2) = (r, σ') → ∀ (H : Heap) (locs : List Loc) (pc : Nat) (ls : Array Slot), Hw D A s H locs (wM ty o ad σ2 ++ rs) → narrow .int (.int v) = .int v → decode cX7_swap pc = .ok (.ireturn, 1) → W p l e R s m args below meth c H locs 0 0 Q (F0 m pc ls [.int v]) := by intro v σ2 e9; cases e9; exact hR
  have j133 : ∀ (σ : PS) (v1 : Int32) (H : Heap) (locs : List Loc) (ls : Array Slot), Hw D A s H locs (wM ty o ad σ ++ rs) → lv_has ls 5 [(1, .int v1)] → M_swap_j133 σ v1 = some (r, σ') → W p l e R s m args below meth c H locs 0 0 Q (F0 m 133 ls []) := by
    intro σ v1 H locs ls h hl hf
    unfold M_swap_j133 at hf
    refine lv_iload_n C.x C.b dX7_swap_133 rfl (lv_at hl 0 rfl) ?_
    exact hR _ _ (some_k hf) _ _ _ _ h rfl dX7_swap_134
  have l31 : ∀ (n31 : Nat) (v1 : Int32) (v2 : Int32) (v3 : Int32) (σ : PS) (H : Heap) (locs : List Loc) (ls : Array Slot), Hw D A s H locs (wM ty o ad σ ++ rs) → lv_has ls 5 [(0, .ref o), (1, .int v1), (2, .int v2), (3, .int v3)] → loop (M_swap_B31) n31 (v1, v2, v3, σ) = some (r, σ') → W p l e R s m args below meth c H locs 0 0 Q (F0 m 31 ls []) := by
    intro n31
    induction n31 with
    | zero => intro v1 v2 v3 σ H locs ls h hl hf; exact (none_k hf).elim
    | succ n31 ih31 =>
      have j127 : ∀ (σ : PS) (v1 : Int32) (v2 : Int32) (v3 : Int32) (H : Heap) (locs : List Loc) (ls : Array Slot), Hw D A s H locs (wM ty o ad σ ++ rs) → lv_has ls 5 [(0, .ref o), (1, .int v1), (2, .int v2), (3, .int v3)] → bl (M_swap_B31) n31 (M_swap_j127 σ v1 v2 v3) = some (r, σ') → W p l e R s m args below meth c H locs 0 0 Q (F0 m 127 ls []) := by
        intro σ v1 v2 v3 H locs ls h hl hf
        unfold M_swap_j127 at hf
        obtain ⟨v3_1, e9, hf⟩ := nm_k (K := bl (M_swap_B31) n31) hf
        refine lv_iinc (v := v3_1) (lv' := [(3, .int v3_1), (0, .ref o), (1, .int v1), (2, .int v2)]) C.x C.b dX7_swap_127 hl (k := 3) rfl (iinc_e (k := 1) (by decide) e9) (by decide) rfl (fun ls hl => ?_)
        refine lv_goto (tgt := 31) C.x C.b dX7_swap_130 (by decide) ?_
        exact ih31 v1 v2 v3_1 σ _ _ _ h (lv_sub hl [1, 2, 3, 0] rfl) hf
      have l46 : ∀ (v3 : Int32) (n46 : Nat) (v1 : Int32) (v2 : Int32) (v4 : Int32) (σ : PS) (H : Heap) (locs : List Loc) (ls : Array Slot), Hw D A s H locs (wM ty o ad σ ++ rs) → lv_has ls 5 [(0, .ref o), (1, .int v1), (2, .int v2), (3, .int v3), (4, .int v4)] → bl (M_swap_B31) n31 (loop (M_swap_B46 v3) n46 (v1, v2, v4, σ)) = some (r, σ') → W p l e R s m args below meth c H locs 0 0 Q (F0 m 46 ls []) := by
        intro v3 n46
        induction n46 with
        | zero => intro v1 v2 v4 σ H locs ls h hl hf; exact (none_k hf).elim
        | succ n46 ih46 =>
          have j121 : ∀ (σ : PS) (v1 : Int32) (v2 : Int32) (v4 : Int32) (H : Heap) (locs : List Loc) (ls : Array Slot), Hw D A s H locs (wM ty o ad σ ++ rs) → lv_has ls 5 [(0, .ref o), (1, .int v1), (2, .int v2), (3, .int v3), (4, .int v4)] → bl (M_swap_B31) n31 (bl (M_swap_B46 v3) n46 (M_swap_j121 σ v1 v2 v3 v4)) = some (r, σ') → W p l e R s m args below meth c H locs 0 0 Q (F0 m 121 ls []) := by
            intro σ v1 v2 v4 H locs ls h hl hf
            unfold M_swap_j121 at hf
            obtain ⟨v4_2, e9, hf⟩ := nm_k (K := fun x => bl (M_swap_B31) n31 (bl (M_swap_B46 v3) n46 x)) hf
            refine lv_iinc (v := v4_2) (lv' := [(4, .int v4_2), (0, .ref o), (1, .int v1), (2, .int v2), (3, .int v3)]) C.x C.b dX7_swap_121 hl (k := 4) rfl (iinc_e (k := 1) (by decide) e9) (by decide) rfl (fun ls hl => ?_)
            refine lv_goto (tgt := 46) C.x C.b dX7_swap_124 (by decide) ?_
            exact ih46 v1 v2 v4_2 σ _ _ _ h (lv_sub hl [1, 2, 3, 4, 0] rfl) hf
          intro v1 v2 v4 σ H locs ls h hl hf
          have hf : bl (M_swap_B31) n31 (bl (M_swap_B46 v3) n46 (M_swap_l46 v3 v1 v2 v4 σ)) = some (r, σ') := hf
          unfold M_swap_l46 at hf
          refine lv_iload C.x C.b dX7_swap_46 (lv_at hl 4 rfl) ?_
          refine lv_aload_n C.x C.b dX7_swap_48 rfl (lv_at hl 0 rfl) ?_
          refine m_g17 C h dX7_swap_49 ?_
          refine lv_iconst (v := 5) C.x C.b dX7_swap_52 (by decide) ?_
          obtain ⟨hi, hf⟩ := ix_k (K := fun x => bl (M_swap_B31) n31 (bl (M_swap_B46 v3) n46 x)) rfl hf
          refine m_a17 C h hi dX7_swap_53 ?_
          refine lv_icmp_ge (tgt := 127) C.x C.b dX7_swap_54 (by decide) (fun c9 => ?_) (fun c9 => ?_)
          · have hf := if_t (K := fun x => bl (M_swap_B31) n31 (bl (M_swap_B46 v3) n46 x)) c9 hf
            have hf := bl_upK (K := bl (M_swap_B31) n31) hf
            exact j127 σ v1 v2 v3 _ _ _ h (lv_sub hl [0, 1, 2, 3] rfl) hf
          · have hf := if_f (K := fun x => bl (M_swap_B31) n31 (bl (M_swap_B46 v3) n46 x)) c9 hf
            refine lv_aload_n C.x C.b dX7_swap_57 rfl (lv_at hl 0 rfl) ?_
            obtain ⟨q_3, hc, hf⟩ := bd_k (K := fun x => bl (M_swap_B31) n31 (bl (M_swap_B46 v3) n46 x)) rfl hf
            refine cM_lays C h hc (Nat.le_of_ble_eq_true rfl) hl.1 (Nat.le_of_ble_eq_true rfl) dX7_swap_58 (fun H locs h => ?_)
            refine lv_aload_n C.x C.b dX7_swap_61 rfl (lv_at hl 0 rfl) ?_
            refine m_g27 C h dX7_swap_62 ?_
            refine lv_iload_n C.x C.b dX7_swap_65 rfl (lv_at hl 3 rfl) ?_
            refine lv_aload_n C.x C.b dX7_swap_66 rfl (lv_at hl 0 rfl) ?_
            refine m_g18 C h dX7_swap_67 ?_
            refine lv_iload C.x C.b dX7_swap_70 (lv_at hl 4 rfl) ?_
            obtain ⟨hi, hf⟩ := ix_k (K := fun x => bl (M_swap_B31) n31 (bl (M_swap_B46 v3) n46 x)) rfl hf
            refine m_a18 C h hi dX7_swap_72 ?_
            obtain ⟨hi, hf⟩ := ix_k (K := fun x => bl (M_swap_B31) n31 (bl (M_swap_B46 v3) n46 x)) rfl hf
            obtain ⟨σ_4, e9, hf⟩ := nm_k (K := fun x => bl (M_swap_B31) n31 (bl (M_swap_B46 v3) n46 x)) hf
            refine m_w27 C h hi e9 dX7_swap_73 (fun H locs h => ?_)
            refine lv_aload_n C.x C.b dX7_swap_74 rfl (lv_at hl 0 rfl) ?_
            refine m_g27 C h dX7_swap_75 ?_
            refine lv_iload C.x C.b dX7_swap_78 (lv_at hl 4 rfl) ?_
            refine lv_aload_n C.x C.b dX7_swap_80 rfl (lv_at hl 0 rfl) ?_
            refine m_g18 C h dX7_swap_81 ?_
            refine lv_iload_n C.x C.b dX7_swap_84 rfl (lv_at hl 3 rfl) ?_
            obtain ⟨hi, hf⟩ := ix_k (K := fun x => bl (M_swap_B31) n31 (bl (M_swap_B46 v3) n46 x)) rfl hf
            refine m_a18 C h hi dX7_swap_85 ?_
            obtain ⟨hi, hf⟩ := ix_k (K := fun x => bl (M_swap_B31) n31 (bl (M_swap_B46 v3) n46 x)) rfl hf
            obtain ⟨σ_5, e9, hf⟩ := nm_k (K := fun x => bl (M_swap_B31) n31 (bl (M_swap_B46 v3) n46 x)) hf
            refine m_w27 C h hi e9 dX7_swap_86 (fun H locs h => ?_)
            refine lv_aload_n C.x C.b dX7_swap_87 rfl (lv_at hl 0 rfl) ?_
            obtain ⟨q_6, hc, hf⟩ := bd_k (K := fun x => bl (M_swap_B31) n31 (bl (M_swap_B46 v3) n46 x)) rfl hf
            refine cM_runs C h hc (Nat.le_of_ble_eq_true rfl) hl.1 (Nat.le_of_ble_eq_true rfl) dX7_swap_88 (fun H locs h => ?_)
            refine lv_aload_n C.x C.b dX7_swap_91 rfl (lv_at hl 0 rfl) ?_
            obtain ⟨q_7, hc, hf⟩ := bd_k (K := fun x => bl (M_swap_B31) n31 (bl (M_swap_B46 v3) n46 x)) rfl hf
            refine cM_soundNow C h hc (Nat.le_of_ble_eq_true rfl) hl.1 (Nat.le_of_ble_eq_true rfl) dX7_swap_92 (fun H locs h => ?_)
            obtain ⟨q_8, hc, hf⟩ := bd_k (K := fun x => bl (M_swap_B31) n31 (bl (M_swap_B46 v3) n46 x)) rfl hf
            refine cM_sizeOf C h hc (Nat.le_of_ble_eq_true rfl) hl.1 (Nat.le_of_ble_eq_true rfl) dX7_swap_95 (fun H locs h => ?_)
            refine lv_iload_n C.x C.b dX7_swap_98 rfl (lv_at hl 2 rfl) ?_
            refine lv_icmp_gt (tgt := 105) C.x C.b dX7_swap_99 (by decide) (fun c9 => ?_) (fun c9 => ?_)
            · have hf := if_t (K := fun x => bl (M_swap_B31) n31 (bl (M_swap_B46 v3) n46 x)) c9 hf
              refine lv_bipush (v := 10) C.x C.b dX7_swap_105 (by decide) ?_
              refine lv_iload_n C.x C.b dX7_swap_107 rfl (lv_at hl 3 rfl) ?_
              refine lv_imul C.x C.b dX7_swap_108 ?_
              refine lv_iload C.x C.b dX7_swap_109 (lv_at hl 4 rfl) ?_
              refine lv_iadd C.x C.b dX7_swap_111 ?_
              obtain ⟨v1_9, e9, hf⟩ := nm_k (K := fun x => bl (M_swap_B31) n31 (bl (M_swap_B46 v3) n46 x)) hf
              refine lv_topI e9 ?_
              refine lv_istore_n (lv' := [(1, .int v1_9), (0, .ref o), (2, .int v2), (3, .int v3), (4, .int v4)]) C.x C.b dX7_swap_112 rfl hl (by decide) rfl (fun ls hl => ?_)
              refine lv_aload_n C.x C.b dX7_swap_113 rfl (lv_at hl 1 rfl) ?_
              obtain ⟨q_10, hc, hf⟩ := bd_k (K := fun x => bl (M_swap_B31) n31 (bl (M_swap_B46 v3) n46 x)) rfl hf
              refine cM_soundNow C h hc (Nat.le_of_ble_eq_true rfl) hl.1 (Nat.le_of_ble_eq_true rfl) dX7_swap_114 (fun H locs h => ?_)
              obtain ⟨q_11, hc, hf⟩ := bd_k (K := fun x => bl (M_swap_B31) n31 (bl (M_swap_B46 v3) n46 x)) rfl hf
              refine cM_sizeOf C h hc (Nat.le_of_ble_eq_true rfl) hl.1 (Nat.le_of_ble_eq_true rfl) dX7_swap_117 (fun H locs h => ?_)
              refine lv_istore_n (lv' := [(2, .int q_11), (1, .int v1_9), (0, .ref o), (3, .int v3), (4, .int v4)]) C.x C.b dX7_swap_120 rfl hl (by decide) rfl (fun ls hl => ?_)
              exact j121 q_6 v1_9 q_11 v4 _ _ _ h (lv_sub hl [2, 1, 0, 3, 4] rfl) hf
            · have hf := if_f (K := fun x => bl (M_swap_B31) n31 (bl (M_swap_B46 v3) n46 x)) c9 hf
              refine lv_goto (tgt := 121) C.x C.b dX7_swap_102 (by decide) ?_
              exact j121 q_6 v1 v2 v4 _ _ _ h (lv_sub hl [0, 1, 2, 3, 4] rfl) hf
      intro v1 v2 v3 σ H locs ls h hl hf
      have hf : bl (M_swap_B31) n31 (M_swap_l31 v1 v2 v3 σ) = some (r, σ') := hf
      unfold M_swap_l31 at hf
      refine lv_iload_n C.x C.b dX7_swap_31 rfl (lv_at hl 3 rfl) ?_
      refine lv_aload_n C.x C.b dX7_swap_32 rfl (lv_at hl 0 rfl) ?_
      refine m_g17 C h dX7_swap_33 ?_
      refine lv_iconst (v := 5) C.x C.b dX7_swap_36 (by decide) ?_
      obtain ⟨hi, hf⟩ := ix_k (K := bl (M_swap_B31) n31) rfl hf
      refine m_a17 C h hi dX7_swap_37 ?_
      refine lv_icmp_ge (tgt := 133) C.x C.b dX7_swap_38 (by decide) (fun c9 => ?_) (fun c9 => ?_)
      · have hf := if_t (K := bl (M_swap_B31) n31) c9 hf
        have hf := bl_upK (K := fun x => x) hf
        exact j133 σ v1 _ _ _ h (lv_sub hl [1] rfl) hf
      · have hf := if_f (K := bl (M_swap_B31) n31) c9 hf
        refine lv_iload_n C.x C.b dX7_swap_41 rfl (lv_at hl 3 rfl) ?_
        refine lv_iconst (v := 1) C.x C.b dX7_swap_42 (by decide) ?_
        refine lv_iadd C.x C.b dX7_swap_43 ?_
        obtain ⟨v4_12, e9, hf⟩ := nm_k (K := bl (M_swap_B31) n31) hf
        refine lv_topI e9 ?_
        refine lv_istore (lv' := [(4, .int v4_12), (0, .ref o), (1, .int v1), (2, .int v2), (3, .int v3)]) C.x C.b dX7_swap_44 hl (by decide) rfl (fun ls hl => ?_)
        exact l46 v3 fu v1 v2 v4_12 σ _ _ _ h (lv_sub hl [1, 2, 3, 4, 0] rfl) hf
  intro H locs ls h hl
  have hl : lv_has ls 5 [(0, .ref o)] := hl
  unfold M_swap at hf
  refine lv_aload_n C.x C.b dX7_swap_0 rfl (lv_at hl 0 rfl) ?_
  refine lv_iconst (v := 0) C.x C.b dX7_swap_1 (by decide) ?_
  obtain ⟨σ_13, e9, hf⟩ := nm_k (K := fun x => x) hf
  refine m_p0 C h e9 dX7_swap_2 (fun H locs h => ?_)
  refine lv_aload_n C.x C.b dX7_swap_5 rfl (lv_at hl 0 rfl) ?_
  obtain ⟨q_14, hc, hf⟩ := bd_k (K := fun x => x) rfl hf
  refine cM_isLehr C h hc (Nat.le_of_ble_eq_true rfl) hl.1 (Nat.le_of_ble_eq_true rfl) dX7_swap_6 (fun H locs h => ?_)
  refine lv_if_ne (tgt := 15) C.x C.b dX7_swap_9 (by decide) (fun c9 => ?_) (fun c9 => ?_)
  · have hf := if_f (K := fun x => x) c9 hf
    refine lv_aload_n C.x C.b dX7_swap_15 rfl (lv_at hl 0 rfl) ?_
    obtain ⟨q_15, hc, hf⟩ := bd_k (K := fun x => x) rfl hf
    refine cM_laysNow C h hc (Nat.le_of_ble_eq_true rfl) hl.1 (Nat.le_of_ble_eq_true rfl) dX7_swap_16 (fun H locs h => ?_)
    refine lv_iconst (v := (-1)) C.x C.b dX7_swap_19 (by decide) ?_
    refine lv_istore_n (lv' := [(1, .int ((-1))), (0, .ref o)]) C.x C.b dX7_swap_20 rfl hl (by decide) rfl (fun ls hl => ?_)
    refine lv_aload_n C.x C.b dX7_swap_21 rfl (lv_at hl 1 rfl) ?_
    obtain ⟨q_16, hc, hf⟩ := bd_k (K := fun x => x) rfl hf
    refine cM_soundNow C h hc (Nat.le_of_ble_eq_true rfl) hl.1 (Nat.le_of_ble_eq_true rfl) dX7_swap_22 (fun H locs h => ?_)
    obtain ⟨q_17, hc, hf⟩ := bd_k (K := fun x => x) rfl hf
    refine cM_sizeOf C h hc (Nat.le_of_ble_eq_true rfl) hl.1 (Nat.le_of_ble_eq_true rfl) dX7_swap_25 (fun H locs h => ?_)
    refine lv_istore_n (lv' := [(2, .int q_17), (1, .int ((-1))), (0, .ref o)]) C.x C.b dX7_swap_28 rfl hl (by decide) rfl (fun ls hl => ?_)
    refine lv_iconst (v := 0) C.x C.b dX7_swap_29 (by decide) ?_
    refine lv_istore_n (lv' := [(3, .int 0), (2, .int q_17), (1, .int ((-1))), (0, .ref o)]) C.x C.b dX7_swap_30 rfl hl (by decide) rfl (fun ls hl => ?_)
    exact l31  fu ((-1)) q_17 0 q_15 _ _ _ h (lv_sub hl [3, 2, 1, 0] rfl) hf
  · have hf := if_t (K := fun x => x) c9 hf
    refine lv_bipush (v := (-2)) C.x C.b dX7_swap_12 (by decide) ?_
    exact hR _ _ (some_k hf) _ _ _ _ h rfl dX7_swap_14
def M_skip_j84 (σ : PS) (v1 : Int32) : Option (Int32 × PS) := some (v1, σ)
def M_skip_j78 (σ : PS) (v1 : Int32) (v2 : Int32) (v3 : Int32) : Option ((Int32 × Int32 × Int32 × PS) ⊕ (Int32 × PS)) := nm (v3 + 1) (fun v3_1 => some (.inl (v1, v2, v3_1, σ)))
def M_skip_l31 (v1 : Int32) (v2 : Int32) (v3 : Int32) (σ : PS) : Option ((Int32 × Int32 × Int32 × PS) ⊕ (Int32 × PS)) := ix 5 40 (if (rA σ 17 5) ≤ v3 then up (M_skip_j84 σ v1) else bd (M_lays σ) (fun q_2 => bd (M_skips q_2 v3) (fun q_3 => bd (M_runs q_3) (fun q_4 => bd (M_soundNow q_4) (fun q_5 => bd (M_sizeOf q_5) (fun q_6 => if v2 < q_6 then bd (M_soundNow q_4) (fun q_7 => bd (M_sizeOf q_7) (fun q_8 => M_skip_j78 q_4 v3 q_8 v3)) else M_skip_j78 q_4 v1 v2 v3))))))
def M_skip_B31 : (Int32 × Int32 × Int32 × PS) → Option ((Int32 × Int32 × Int32 × PS) ⊕ (Int32 × PS)) := fun t => M_skip_l31 t.1 t.2.1 t.2.2.1 t.2.2.2
def M_skip (σ : PS) : Option (Int32 × PS) := nm (sI σ 0 0) (fun σ_9 => bd (M_isLehr σ_9) (fun q_10 => if q_10 = 0 then some ((-2), σ_9) else bd (M_laysNow σ_9) (fun q_11 => bd (M_soundNow q_11) (fun q_12 => bd (M_sizeOf q_12) (fun q_13 => loop (M_skip_B31) fu ((-1), q_13, 0, q_11))))))
set_option maxHeartbeats 4000000 in
theorem kM_skip (l : Launch) {D : va_G} {ty : Nat → ClassId} {A : Nat → Prop} {o : Nat} {ad : Nat → Nat} {rs : va_W} {σ : PS} {σ' : PS} {r : Int32} (hf : M_skip σ = some (r, σ')) : KI l yX7_skip cX7_skip 4 .int 6 D ty A (wM ty o ad σ ++ rs) (wM ty o ad σ' ++ rs) [.ref o] r := by
  refine KI.of (by decide) (Nat.le_of_ble_eq_true rfl) ?_
  intro p e R s m args below meth c Q C hR
  have C : Cx p R s m args c cX7_skip 4 RX7 D ty A 6 := C
  have hR : ∀ (v : Int32) (σ2 : PS), (v, σ2) = (r, σ') → ∀ (H : Heap) (locs : List Loc) (pc : Nat) (ls : Array Slot), Hw D A s H locs (wM ty o ad σ2 ++ rs) → narrow .int (.int v) = .int v → decode cX7_skip pc = .ok (.ireturn, 1) → W p l e R s m args below meth c H locs 0 0 Q (F0 m pc ls [.int v]) := by intro v σ2 e9; cases e9; exact hR
  have j84 : ∀ (σ : PS) (v1 : Int32) (H : Heap) (locs : List Loc) (ls : Array Slot), Hw D A s H locs (wM ty o ad σ ++ rs) → lv_has ls 4 [(1, .int v1)] → M_skip_j84 σ v1 = some (r, σ') → W p l e R s m args below meth c H locs 0 0 Q (F0 m 84 ls []) := by
    intro σ v1 H locs ls h hl hf
    unfold M_skip_j84 at hf
    refine lv_iload_n C.x C.b dX7_skip_84 rfl (lv_at hl 0 rfl) ?_
    exact hR _ _ (some_k hf) _ _ _ _ h rfl dX7_skip_85
  have l31 : ∀ (n31 : Nat) (v1 : Int32) (v2 : Int32) (v3 : Int32) (σ : PS) (H : Heap) (locs : List Loc) (ls : Array Slot), Hw D A s H locs (wM ty o ad σ ++ rs) → lv_has ls 4 [(0, .ref o), (1, .int v1), (2, .int v2), (3, .int v3)] → loop (M_skip_B31) n31 (v1, v2, v3, σ) = some (r, σ') → W p l e R s m args below meth c H locs 0 0 Q (F0 m 31 ls []) := by
    intro n31
    induction n31 with
    | zero => intro v1 v2 v3 σ H locs ls h hl hf; exact (none_k hf).elim
    | succ n31 ih31 =>
      have j78 : ∀ (σ : PS) (v1 : Int32) (v2 : Int32) (v3 : Int32) (H : Heap) (locs : List Loc) (ls : Array Slot), Hw D A s H locs (wM ty o ad σ ++ rs) → lv_has ls 4 [(0, .ref o), (1, .int v1), (2, .int v2), (3, .int v3)] → bl (M_skip_B31) n31 (M_skip_j78 σ v1 v2 v3) = some (r, σ') → W p l e R s m args below meth c H locs 0 0 Q (F0 m 78 ls []) := by
        intro σ v1 v2 v3 H locs ls h hl hf
        unfold M_skip_j78 at hf
        obtain ⟨v3_1, e9, hf⟩ := nm_k (K := bl (M_skip_B31) n31) hf
        refine lv_iinc (v := v3_1) (lv' := [(3, .int v3_1), (0, .ref o), (1, .int v1), (2, .int v2)]) C.x C.b dX7_skip_78 hl (k := 3) rfl (iinc_e (k := 1) (by decide) e9) (by decide) rfl (fun ls hl => ?_)
        refine lv_goto (tgt := 31) C.x C.b dX7_skip_81 (by decide) ?_
        exact ih31 v1 v2 v3_1 σ _ _ _ h (lv_sub hl [1, 2, 3, 0] rfl) hf
      intro v1 v2 v3 σ H locs ls h hl hf
      have hf : bl (M_skip_B31) n31 (M_skip_l31 v1 v2 v3 σ) = some (r, σ') := hf
      unfold M_skip_l31 at hf
      refine lv_iload_n C.x C.b dX7_skip_31 rfl (lv_at hl 3 rfl) ?_
      refine lv_aload_n C.x C.b dX7_skip_32 rfl (lv_at hl 0 rfl) ?_
      refine m_g17 C h dX7_skip_33 ?_
      refine lv_iconst (v := 5) C.x C.b dX7_skip_36 (by decide) ?_
      obtain ⟨hi, hf⟩ := ix_k (K := bl (M_skip_B31) n31) rfl hf
      refine m_a17 C h hi dX7_skip_37 ?_
      refine lv_icmp_ge (tgt := 84) C.x C.b dX7_skip_38 (by decide) (fun c9 => ?_) (fun c9 => ?_)
      · have hf := if_t (K := bl (M_skip_B31) n31) c9 hf
        have hf := bl_upK (K := fun x => x) hf
        exact j84 σ v1 _ _ _ h (lv_sub hl [1] rfl) hf
      · have hf := if_f (K := bl (M_skip_B31) n31) c9 hf
        refine lv_aload_n C.x C.b dX7_skip_41 rfl (lv_at hl 0 rfl) ?_
        obtain ⟨q_2, hc, hf⟩ := bd_k (K := bl (M_skip_B31) n31) rfl hf
        refine cM_lays C h hc (Nat.le_of_ble_eq_true rfl) hl.1 (Nat.le_of_ble_eq_true rfl) dX7_skip_42 (fun H locs h => ?_)
        refine lv_aload_n C.x C.b dX7_skip_45 rfl (lv_at hl 0 rfl) ?_
        refine lv_iload_n C.x C.b dX7_skip_46 rfl (lv_at hl 3 rfl) ?_
        obtain ⟨q_3, hc, hf⟩ := bd_k (K := bl (M_skip_B31) n31) rfl hf
        refine cM_skips C h hc (Nat.le_of_ble_eq_true rfl) hl.1 (Nat.le_of_ble_eq_true rfl) dX7_skip_47 (fun H locs h => ?_)
        refine lv_aload_n C.x C.b dX7_skip_50 rfl (lv_at hl 0 rfl) ?_
        obtain ⟨q_4, hc, hf⟩ := bd_k (K := bl (M_skip_B31) n31) rfl hf
        refine cM_runs C h hc (Nat.le_of_ble_eq_true rfl) hl.1 (Nat.le_of_ble_eq_true rfl) dX7_skip_51 (fun H locs h => ?_)
        refine lv_aload_n C.x C.b dX7_skip_54 rfl (lv_at hl 0 rfl) ?_
        obtain ⟨q_5, hc, hf⟩ := bd_k (K := bl (M_skip_B31) n31) rfl hf
        refine cM_soundNow C h hc (Nat.le_of_ble_eq_true rfl) hl.1 (Nat.le_of_ble_eq_true rfl) dX7_skip_55 (fun H locs h => ?_)
        obtain ⟨q_6, hc, hf⟩ := bd_k (K := bl (M_skip_B31) n31) rfl hf
        refine cM_sizeOf C h hc (Nat.le_of_ble_eq_true rfl) hl.1 (Nat.le_of_ble_eq_true rfl) dX7_skip_58 (fun H locs h => ?_)
        refine lv_iload_n C.x C.b dX7_skip_61 rfl (lv_at hl 2 rfl) ?_
        refine lv_icmp_gt (tgt := 68) C.x C.b dX7_skip_62 (by decide) (fun c9 => ?_) (fun c9 => ?_)
        · have hf := if_t (K := bl (M_skip_B31) n31) c9 hf
          refine lv_iload_n C.x C.b dX7_skip_68 rfl (lv_at hl 3 rfl) ?_
          refine lv_istore_n (lv' := [(1, .int v3), (0, .ref o), (2, .int v2), (3, .int v3)]) C.x C.b dX7_skip_69 rfl hl (by decide) rfl (fun ls hl => ?_)
          refine lv_aload_n C.x C.b dX7_skip_70 rfl (lv_at hl 1 rfl) ?_
          obtain ⟨q_7, hc, hf⟩ := bd_k (K := bl (M_skip_B31) n31) rfl hf
          refine cM_soundNow C h hc (Nat.le_of_ble_eq_true rfl) hl.1 (Nat.le_of_ble_eq_true rfl) dX7_skip_71 (fun H locs h => ?_)
          obtain ⟨q_8, hc, hf⟩ := bd_k (K := bl (M_skip_B31) n31) rfl hf
          refine cM_sizeOf C h hc (Nat.le_of_ble_eq_true rfl) hl.1 (Nat.le_of_ble_eq_true rfl) dX7_skip_74 (fun H locs h => ?_)
          refine lv_istore_n (lv' := [(2, .int q_8), (1, .int v3), (0, .ref o), (3, .int v3)]) C.x C.b dX7_skip_77 rfl hl (by decide) rfl (fun ls hl => ?_)
          exact j78 q_4 v3 q_8 v3 _ _ _ h (lv_sub hl [2, 1, 0, 3] rfl) hf
        · have hf := if_f (K := bl (M_skip_B31) n31) c9 hf
          refine lv_goto (tgt := 78) C.x C.b dX7_skip_65 (by decide) ?_
          exact j78 q_4 v1 v2 v3 _ _ _ h (lv_sub hl [0, 1, 2, 3] rfl) hf
  intro H locs ls h hl
  have hl : lv_has ls 4 [(0, .ref o)] := hl
  unfold M_skip at hf
  refine lv_aload_n C.x C.b dX7_skip_0 rfl (lv_at hl 0 rfl) ?_
  refine lv_iconst (v := 0) C.x C.b dX7_skip_1 (by decide) ?_
  obtain ⟨σ_9, e9, hf⟩ := nm_k (K := fun x => x) hf
  refine m_p0 C h e9 dX7_skip_2 (fun H locs h => ?_)
  refine lv_aload_n C.x C.b dX7_skip_5 rfl (lv_at hl 0 rfl) ?_
  obtain ⟨q_10, hc, hf⟩ := bd_k (K := fun x => x) rfl hf
  refine cM_isLehr C h hc (Nat.le_of_ble_eq_true rfl) hl.1 (Nat.le_of_ble_eq_true rfl) dX7_skip_6 (fun H locs h => ?_)
  refine lv_if_ne (tgt := 15) C.x C.b dX7_skip_9 (by decide) (fun c9 => ?_) (fun c9 => ?_)
  · have hf := if_f (K := fun x => x) c9 hf
    refine lv_aload_n C.x C.b dX7_skip_15 rfl (lv_at hl 0 rfl) ?_
    obtain ⟨q_11, hc, hf⟩ := bd_k (K := fun x => x) rfl hf
    refine cM_laysNow C h hc (Nat.le_of_ble_eq_true rfl) hl.1 (Nat.le_of_ble_eq_true rfl) dX7_skip_16 (fun H locs h => ?_)
    refine lv_iconst (v := (-1)) C.x C.b dX7_skip_19 (by decide) ?_
    refine lv_istore_n (lv' := [(1, .int ((-1))), (0, .ref o)]) C.x C.b dX7_skip_20 rfl hl (by decide) rfl (fun ls hl => ?_)
    refine lv_aload_n C.x C.b dX7_skip_21 rfl (lv_at hl 1 rfl) ?_
    obtain ⟨q_12, hc, hf⟩ := bd_k (K := fun x => x) rfl hf
    refine cM_soundNow C h hc (Nat.le_of_ble_eq_true rfl) hl.1 (Nat.le_of_ble_eq_true rfl) dX7_skip_22 (fun H locs h => ?_)
    obtain ⟨q_13, hc, hf⟩ := bd_k (K := fun x => x) rfl hf
    refine cM_sizeOf C h hc (Nat.le_of_ble_eq_true rfl) hl.1 (Nat.le_of_ble_eq_true rfl) dX7_skip_25 (fun H locs h => ?_)
    refine lv_istore_n (lv' := [(2, .int q_13), (1, .int ((-1))), (0, .ref o)]) C.x C.b dX7_skip_28 rfl hl (by decide) rfl (fun ls hl => ?_)
    refine lv_iconst (v := 0) C.x C.b dX7_skip_29 (by decide) ?_
    refine lv_istore_n (lv' := [(3, .int 0), (2, .int q_13), (1, .int ((-1))), (0, .ref o)]) C.x C.b dX7_skip_30 rfl hl (by decide) rfl (fun ls hl => ?_)
    exact l31  fu ((-1)) q_13 0 q_11 _ _ _ h (lv_sub hl [3, 2, 1, 0] rfl) hf
  · have hf := if_t (K := fun x => x) c9 hf
    refine lv_bipush (v := (-2)) C.x C.b dX7_skip_12 (by decide) ?_
    exact hR _ _ (some_k hf) _ _ _ _ h rfl dX7_skip_14
def M_airs (σ : PS) (v1 : Int32) (v2 : Int32) : Option (Int32 × PS) := nm (sI σ 0 0) (fun σ_1 => bd (M_isZone σ_1 v2) (fun q_2 => bd (M_whyNot σ_1 v1 q_2) (fun q_3 => if q_3 = 0 then bd (M_laysSeen σ_1 v1 v2) (fun q_4 => some (gI q_4 36, q_4)) else some (q_3, σ_1))))
set_option maxHeartbeats 4000000 in
theorem kM_airs (l : Launch) {D : va_G} {ty : Nat → ClassId} {A : Nat → Prop} {o : Nat} {ad : Nat → Nat} {rs : va_W} {σ : PS} {σ' : PS} {v1 : Int32} {v2 : Int32} {r : Int32} (hf : M_airs σ v1 v2 = some (r, σ')) : KI l yX7_airs cX7_airs 4 .int 6 D ty A (wM ty o ad σ ++ rs) (wM ty o ad σ' ++ rs) [.ref o, .int v1, .int v2] r := by
  refine KI.of (by decide) (Nat.le_of_ble_eq_true rfl) ?_
  intro p e R s m args below meth c Q C hR
  have C : Cx p R s m args c cX7_airs 4 RX7 D ty A 6 := C
  have hR : ∀ (v : Int32) (σ2 : PS), (v, σ2) = (r, σ') → ∀ (H : Heap) (locs : List Loc) (pc : Nat) (ls : Array Slot), Hw D A s H locs (wM ty o ad σ2 ++ rs) → narrow .int (.int v) = .int v → decode cX7_airs pc = .ok (.ireturn, 1) → W p l e R s m args below meth c H locs 0 0 Q (F0 m pc ls [.int v]) := by intro v σ2 e9; cases e9; exact hR
  intro H locs ls h hl
  have hl : lv_has ls 4 [(0, .ref o), (1, .int v1), (2, .int v2)] := hl
  unfold M_airs at hf
  refine lv_aload_n C.x C.b dX7_airs_0 rfl (lv_at hl 0 rfl) ?_
  refine lv_iconst (v := 0) C.x C.b dX7_airs_1 (by decide) ?_
  obtain ⟨σ_1, e9, hf⟩ := nm_k (K := fun x => x) hf
  refine m_p0 C h e9 dX7_airs_2 (fun H locs h => ?_)
  refine lv_aload_n C.x C.b dX7_airs_5 rfl (lv_at hl 0 rfl) ?_
  refine lv_iload_n C.x C.b dX7_airs_6 rfl (lv_at hl 1 rfl) ?_
  refine lv_aload_n C.x C.b dX7_airs_7 rfl (lv_at hl 0 rfl) ?_
  refine lv_iload_n C.x C.b dX7_airs_8 rfl (lv_at hl 2 rfl) ?_
  obtain ⟨q_2, hc, hf⟩ := bd_k (K := fun x => x) rfl hf
  refine cM_isZone C h hc (Nat.le_of_ble_eq_true rfl) hl.1 (Nat.le_of_ble_eq_true rfl) dX7_airs_9 (fun H locs h => ?_)
  obtain ⟨q_3, hc, hf⟩ := bd_k (K := fun x => x) rfl hf
  refine cM_whyNot C h hc (Nat.le_of_ble_eq_true rfl) hl.1 (Nat.le_of_ble_eq_true rfl) dX7_airs_12 (fun H locs h => ?_)
  refine lv_istore_n (lv' := [(3, .int q_3), (0, .ref o), (1, .int v1), (2, .int v2)]) C.x C.b dX7_airs_15 rfl hl (by decide) rfl (fun ls hl => ?_)
  refine lv_iload_n C.x C.b dX7_airs_16 rfl (lv_at hl 0 rfl) ?_
  refine lv_if_eq (tgt := 22) C.x C.b dX7_airs_17 (by decide) (fun c9 => ?_) (fun c9 => ?_)
  · have hf := if_t (K := fun x => x) c9 hf
    refine lv_aload_n C.x C.b dX7_airs_22 rfl (lv_at hl 1 rfl) ?_
    refine lv_iload_n C.x C.b dX7_airs_23 rfl (lv_at hl 2 rfl) ?_
    refine lv_iload_n C.x C.b dX7_airs_24 rfl (lv_at hl 3 rfl) ?_
    obtain ⟨q_4, hc, hf⟩ := bd_k (K := fun x => x) rfl hf
    refine cM_laysSeen C h hc (Nat.le_of_ble_eq_true rfl) hl.1 (Nat.le_of_ble_eq_true rfl) dX7_airs_25 (fun H locs h => ?_)
    refine lv_aload_n C.x C.b dX7_airs_28 rfl (lv_at hl 1 rfl) ?_
    refine m_g36 C h dX7_airs_29 ?_
    exact hR _ _ (some_k hf) _ _ _ _ h rfl dX7_airs_32
  · have hf := if_f (K := fun x => x) c9 hf
    refine lv_iload_n C.x C.b dX7_airs_20 rfl (lv_at hl 0 rfl) ?_
    exact hR _ _ (some_k hf) _ _ _ _ h rfl dX7_airs_21
def M_laws_j61 (σ : PS) (v3 : Int32) : Option (Int32 × PS) := some (v3, σ)
def M_laws_j53 (σ : PS) (v1 : Int32) (v4 : Int32) (x0 : Int32) (x1 : Int32) : Option ((Int32 × Int32 × PS) ⊕ (Int32 × PS)) := nm (x1 ||| x0) (fun v3_1 => nm (v4 + 1) (fun v4_2 => some (.inl (v3_1, v4_2, σ))))
def M_laws_l23 (v1 : Int32) (v3 : Int32) (v4 : Int32) (σ : PS) : Option ((Int32 × Int32 × PS) ⊕ (Int32 × PS)) := if 4 ≤ v4 then up (M_laws_j61 σ v3) else bd (M_byLaw σ v4) (fun q_3 => bd (M_isSo q_3.2 v1) (fun q_4 => if q_4 = 0 then M_laws_j53 q_3.2 v1 v4 0 v3 else M_laws_j53 q_3.2 v1 v4 (1 <<< (v4 &&& 31)) v3))
def M_laws_B23 (v1 : Int32) : (Int32 × Int32 × PS) → Option ((Int32 × Int32 × PS) ⊕ (Int32 × PS)) := fun t => M_laws_l23 v1 t.1 t.2.1 t.2.2
def M_laws (σ : PS) (v1 : Int32) : Option (Int32 × PS) := nm (sI σ 0 0) (fun σ_5 => bd (M_whyNot σ_5 v1 1) (fun q_6 => if q_6 = 0 then loop (M_laws_B23 v1) fu (0, 0, σ_5) else some (q_6, σ_5)))
set_option maxHeartbeats 4000000 in
theorem kM_laws (l : Launch) {D : va_G} {ty : Nat → ClassId} {A : Nat → Prop} {o : Nat} {ad : Nat → Nat} {rs : va_W} {σ : PS} {σ' : PS} {v1 : Int32} {r : Int32} (hf : M_laws σ v1 = some (r, σ')) : KI l yX7_laws cX7_laws 5 .int 6 D ty A (wM ty o ad σ ++ rs) (wM ty o ad σ' ++ rs) [.ref o, .int v1] r := by
  refine KI.of (by decide) (Nat.le_of_ble_eq_true rfl) ?_
  intro p e R s m args below meth c Q C hR
  have C : Cx p R s m args c cX7_laws 5 RX7 D ty A 6 := C
  have hR : ∀ (v : Int32) (σ2 : PS), (v, σ2) = (r, σ') → ∀ (H : Heap) (locs : List Loc) (pc : Nat) (ls : Array Slot), Hw D A s H locs (wM ty o ad σ2 ++ rs) → narrow .int (.int v) = .int v → decode cX7_laws pc = .ok (.ireturn, 1) → W p l e R s m args below meth c H locs 0 0 Q (F0 m pc ls [.int v]) := by intro v σ2 e9; cases e9; exact hR
  have j61 : ∀ (σ : PS) (v3 : Int32) (H : Heap) (locs : List Loc) (ls : Array Slot), Hw D A s H locs (wM ty o ad σ ++ rs) → lv_has ls 5 [(3, .int v3)] → M_laws_j61 σ v3 = some (r, σ') → W p l e R s m args below meth c H locs 0 0 Q (F0 m 61 ls []) := by
    intro σ v3 H locs ls h hl hf
    unfold M_laws_j61 at hf
    refine lv_iload_n C.x C.b dX7_laws_61 rfl (lv_at hl 0 rfl) ?_
    exact hR _ _ (some_k hf) _ _ _ _ h rfl dX7_laws_62
  have l23 : ∀ (n23 : Nat) (v3 : Int32) (v4 : Int32) (σ : PS) (H : Heap) (locs : List Loc) (ls : Array Slot), Hw D A s H locs (wM ty o ad σ ++ rs) → lv_has ls 5 [(0, .ref o), (1, .int v1), (3, .int v3), (4, .int v4)] → loop (M_laws_B23 v1) n23 (v3, v4, σ) = some (r, σ') → W p l e R s m args below meth c H locs 0 0 Q (F0 m 23 ls []) := by
    intro n23
    induction n23 with
    | zero => intro v3 v4 σ H locs ls h hl hf; exact (none_k hf).elim
    | succ n23 ih23 =>
      have j53 : ∀ (σ : PS) (v4 : Int32) (x0 : Int32) (x1 : Int32) (H : Heap) (locs : List Loc) (ls : Array Slot), Hw D A s H locs (wM ty o ad σ ++ rs) → lv_has ls 5 [(0, .ref o), (1, .int v1), (4, .int v4)] → bl (M_laws_B23 v1) n23 (M_laws_j53 σ v1 v4 x0 x1) = some (r, σ') → W p l e R s m args below meth c H locs 0 0 Q (F0 m 53 ls [.int x0, .int x1]) := by
        intro σ v4 x0 x1 H locs ls h hl hf
        unfold M_laws_j53 at hf
        refine lv_ior C.x C.b dX7_laws_53 ?_
        obtain ⟨v3_1, e9, hf⟩ := nm_k (K := bl (M_laws_B23 v1) n23) hf
        refine lv_topI e9 ?_
        refine lv_istore_n (lv' := [(3, .int v3_1), (0, .ref o), (1, .int v1), (4, .int v4)]) C.x C.b dX7_laws_54 rfl hl (by decide) rfl (fun ls hl => ?_)
        obtain ⟨v4_2, e9, hf⟩ := nm_k (K := bl (M_laws_B23 v1) n23) hf
        refine lv_iinc (v := v4_2) (lv' := [(4, .int v4_2), (3, .int v3_1), (0, .ref o), (1, .int v1)]) C.x C.b dX7_laws_55 hl (k := 3) rfl (iinc_e (k := 1) (by decide) e9) (by decide) rfl (fun ls hl => ?_)
        refine lv_goto (tgt := 23) C.x C.b dX7_laws_58 (by decide) ?_
        exact ih23 v3_1 v4_2 σ _ _ _ h (lv_sub hl [2, 3, 1, 0] rfl) hf
      intro v3 v4 σ H locs ls h hl hf
      have hf : bl (M_laws_B23 v1) n23 (M_laws_l23 v1 v3 v4 σ) = some (r, σ') := hf
      unfold M_laws_l23 at hf
      refine lv_iload C.x C.b dX7_laws_23 (lv_at hl 3 rfl) ?_
      refine lv_iconst (v := 4) C.x C.b dX7_laws_25 (by decide) ?_
      refine lv_icmp_ge (tgt := 61) C.x C.b dX7_laws_26 (by decide) (fun c9 => ?_) (fun c9 => ?_)
      · have hf := if_t (K := bl (M_laws_B23 v1) n23) c9 hf
        have hf := bl_upK (K := fun x => x) hf
        exact j61 σ v3 _ _ _ h (lv_sub hl [2] rfl) hf
      · have hf := if_f (K := bl (M_laws_B23 v1) n23) c9 hf
        refine lv_aload_n C.x C.b dX7_laws_29 rfl (lv_at hl 0 rfl) ?_
        refine lv_iload C.x C.b dX7_laws_30 (lv_at hl 3 rfl) ?_
        obtain ⟨q_3, hc, hf⟩ := bd_k (K := bl (M_laws_B23 v1) n23) rfl hf
        refine cM_byLaw C h hc (Nat.le_of_ble_eq_true rfl) hl.1 (Nat.le_of_ble_eq_true rfl) dX7_laws_32 (fun H locs h => ?_)
        refine lv_pop C.x C.b dX7_laws_35 rfl ?_
        refine lv_iload_n C.x C.b dX7_laws_36 rfl (lv_at hl 2 rfl) ?_
        refine lv_aload_n C.x C.b dX7_laws_37 rfl (lv_at hl 0 rfl) ?_
        refine lv_iload_n C.x C.b dX7_laws_38 rfl (lv_at hl 1 rfl) ?_
        obtain ⟨q_4, hc, hf⟩ := bd_k (K := bl (M_laws_B23 v1) n23) rfl hf
        refine cM_isSo C h hc (Nat.le_of_ble_eq_true rfl) hl.1 (Nat.le_of_ble_eq_true rfl) dX7_laws_39 (fun H locs h => ?_)
        refine lv_if_eq (tgt := 52) C.x C.b dX7_laws_42 (by decide) (fun c9 => ?_) (fun c9 => ?_)
        · have hf := if_t (K := bl (M_laws_B23 v1) n23) c9 hf
          refine lv_iconst (v := 0) C.x C.b dX7_laws_52 (by decide) ?_
          exact j53 q_3.2 v4 0 v3 _ _ _ h (lv_sub hl [0, 1, 3] rfl) hf
        · have hf := if_f (K := bl (M_laws_B23 v1) n23) c9 hf
          refine lv_iconst (v := 1) C.x C.b dX7_laws_45 (by decide) ?_
          refine lv_iload C.x C.b dX7_laws_46 (lv_at hl 3 rfl) ?_
          refine lv_ishl C.x C.b dX7_laws_48 ?_
          refine lv_goto (tgt := 53) C.x C.b dX7_laws_49 (by decide) ?_
          exact j53 q_3.2 v4 (1 <<< (v4 &&& 31)) v3 _ _ _ h (lv_sub hl [0, 1, 3] rfl) hf
  intro H locs ls h hl
  have hl : lv_has ls 5 [(0, .ref o), (1, .int v1)] := hl
  unfold M_laws at hf
  refine lv_aload_n C.x C.b dX7_laws_0 rfl (lv_at hl 0 rfl) ?_
  refine lv_iconst (v := 0) C.x C.b dX7_laws_1 (by decide) ?_
  obtain ⟨σ_5, e9, hf⟩ := nm_k (K := fun x => x) hf
  refine m_p0 C h e9 dX7_laws_2 (fun H locs h => ?_)
  refine lv_aload_n C.x C.b dX7_laws_5 rfl (lv_at hl 0 rfl) ?_
  refine lv_iload_n C.x C.b dX7_laws_6 rfl (lv_at hl 1 rfl) ?_
  refine lv_iconst (v := 1) C.x C.b dX7_laws_7 (by decide) ?_
  obtain ⟨q_6, hc, hf⟩ := bd_k (K := fun x => x) rfl hf
  refine cM_whyNot C h hc (Nat.le_of_ble_eq_true rfl) hl.1 (Nat.le_of_ble_eq_true rfl) dX7_laws_8 (fun H locs h => ?_)
  refine lv_istore_n (lv' := [(2, .int q_6), (0, .ref o), (1, .int v1)]) C.x C.b dX7_laws_11 rfl hl (by decide) rfl (fun ls hl => ?_)
  refine lv_iload_n C.x C.b dX7_laws_12 rfl (lv_at hl 0 rfl) ?_
  refine lv_if_eq (tgt := 18) C.x C.b dX7_laws_13 (by decide) (fun c9 => ?_) (fun c9 => ?_)
  · have hf := if_t (K := fun x => x) c9 hf
    refine lv_iconst (v := 0) C.x C.b dX7_laws_18 (by decide) ?_
    refine lv_istore_n (lv' := [(3, .int 0), (2, .int q_6), (0, .ref o), (1, .int v1)]) C.x C.b dX7_laws_19 rfl hl (by decide) rfl (fun ls hl => ?_)
    refine lv_iconst (v := 0) C.x C.b dX7_laws_20 (by decide) ?_
    refine lv_istore (lv' := [(4, .int 0), (3, .int 0), (2, .int q_6), (0, .ref o), (1, .int v1)]) C.x C.b dX7_laws_21 hl (by decide) rfl (fun ls hl => ?_)
    exact l23  fu 0 0 σ_5 _ _ _ h (lv_sub hl [3, 4, 1, 0] rfl) hf
  · have hf := if_f (K := fun x => x) c9 hf
    refine lv_iload_n C.x C.b dX7_laws_16 rfl (lv_at hl 0 rfl) ?_
    exact hR _ _ (some_k hf) _ _ _ _ h rfl dX7_laws_17
def M_worth_j42 (σ : PS) (x0 : Int32) : Option (Int32 × PS) := some (x0, σ)
def M_worth_j40 (σ : PS) : Option (Int32 × PS) := M_worth_j42 σ ((-2))
def M_worth (σ : PS) (v1 : Int32) : Option (Int32 × PS) := nm (sI σ 0 0) (fun σ_1 => bd (M_isLehr σ_1) (fun q_2 => if q_2 = 0 then M_worth_j40 σ_1 else ix 5 40 (bd (M_in v1.toInt64 0 (((1 <<< ((rA σ_1 17 5) &&& 31)).toInt64) - 1)) (fun q_3 => if q_3 = 0 then M_worth_j40 σ_1 else bd (M_worthOf σ_1 v1) (fun q_4 => M_worth_j42 q_4.2 q_4.1)))))
set_option maxHeartbeats 4000000 in
theorem kM_worth (l : Launch) {D : va_G} {ty : Nat → ClassId} {A : Nat → Prop} {o : Nat} {ad : Nat → Nat} {rs : va_W} {σ : PS} {σ' : PS} {v1 : Int32} {r : Int32} (hf : M_worth σ v1 = some (r, σ')) : KI l yX7_worth cX7_worth 2 .int 6 D ty A (wM ty o ad σ ++ rs) (wM ty o ad σ' ++ rs) [.ref o, .int v1] r := by
  refine KI.of (by decide) (Nat.le_of_ble_eq_true rfl) ?_
  intro p e R s m args below meth c Q C hR
  have C : Cx p R s m args c cX7_worth 2 RX7 D ty A 6 := C
  have hR : ∀ (v : Int32) (σ2 : PS), (v, σ2) = (r, σ') → ∀ (H : Heap) (locs : List Loc) (pc : Nat) (ls : Array Slot), Hw D A s H locs (wM ty o ad σ2 ++ rs) → narrow .int (.int v) = .int v → decode cX7_worth pc = .ok (.ireturn, 1) → W p l e R s m args below meth c H locs 0 0 Q (F0 m pc ls [.int v]) := by intro v σ2 e9; cases e9; exact hR
  have j42 : ∀ (σ : PS) (x0 : Int32) (H : Heap) (locs : List Loc) (ls : Array Slot), Hw D A s H locs (wM ty o ad σ ++ rs) → lv_has ls 2 [] → M_worth_j42 σ x0 = some (r, σ') → W p l e R s m args below meth c H locs 0 0 Q (F0 m 42 ls [.int x0]) := by
    intro σ x0 H locs ls h hl hf
    unfold M_worth_j42 at hf
    exact hR _ _ (some_k hf) _ _ _ _ h rfl dX7_worth_42
  have j40 : ∀ (σ : PS) (H : Heap) (locs : List Loc) (ls : Array Slot), Hw D A s H locs (wM ty o ad σ ++ rs) → lv_has ls 2 [] → M_worth_j40 σ = some (r, σ') → W p l e R s m args below meth c H locs 0 0 Q (F0 m 40 ls []) := by
    intro σ H locs ls h hl hf
    unfold M_worth_j40 at hf
    refine lv_bipush (v := (-2)) C.x C.b dX7_worth_40 (by decide) ?_
    exact j42 σ ((-2)) _ _ _ h (lv_sub hl [] rfl) hf
  intro H locs ls h hl
  have hl : lv_has ls 2 [(0, .ref o), (1, .int v1)] := hl
  unfold M_worth at hf
  refine lv_aload_n C.x C.b dX7_worth_0 rfl (lv_at hl 0 rfl) ?_
  refine lv_iconst (v := 0) C.x C.b dX7_worth_1 (by decide) ?_
  obtain ⟨σ_1, e9, hf⟩ := nm_k (K := fun x => x) hf
  refine m_p0 C h e9 dX7_worth_2 (fun H locs h => ?_)
  refine lv_aload_n C.x C.b dX7_worth_5 rfl (lv_at hl 0 rfl) ?_
  obtain ⟨q_2, hc, hf⟩ := bd_k (K := fun x => x) rfl hf
  refine cM_isLehr C h hc (Nat.le_of_ble_eq_true rfl) hl.1 (Nat.le_of_ble_eq_true rfl) dX7_worth_6 (fun H locs h => ?_)
  refine lv_if_eq (tgt := 40) C.x C.b dX7_worth_9 (by decide) (fun c9 => ?_) (fun c9 => ?_)
  · have hf := if_t (K := fun x => x) c9 hf
    exact j40 σ_1 _ _ _ h (lv_sub hl [] rfl) hf
  · have hf := if_f (K := fun x => x) c9 hf
    refine lv_iload_n C.x C.b dX7_worth_12 rfl (lv_at hl 1 rfl) ?_
    refine lv_i2l C.x C.b dX7_worth_13 rfl ?_
    refine lv_lconst (v := 0) C.x C.b dX7_worth_14 (by decide) ?_
    refine lv_iconst (v := 1) C.x C.b dX7_worth_15 (by decide) ?_
    refine lv_aload_n C.x C.b dX7_worth_16 rfl (lv_at hl 0 rfl) ?_
    refine m_g17 C h dX7_worth_17 ?_
    refine lv_iconst (v := 5) C.x C.b dX7_worth_20 (by decide) ?_
    obtain ⟨hi, hf⟩ := ix_k (K := fun x => x) rfl hf
    refine m_a17 C h hi dX7_worth_21 ?_
    refine lv_ishl C.x C.b dX7_worth_22 ?_
    refine lv_i2l C.x C.b dX7_worth_23 rfl ?_
    refine lv_lconst (v := 1) C.x C.b dX7_worth_24 (by decide) ?_
    refine lv_lsub C.x C.b dX7_worth_25 ?_
    obtain ⟨q_3, hc, hf⟩ := bd_k (K := fun x => x) rfl hf
    refine cM_in C h hc (Nat.le_of_ble_eq_true rfl) hl.1 (Nat.le_of_ble_eq_true rfl) dX7_worth_26 (fun H locs h => ?_)
    refine lv_if_eq (tgt := 40) C.x C.b dX7_worth_29 (by decide) (fun c9 => ?_) (fun c9 => ?_)
    · have hf := if_t (K := fun x => x) c9 hf
      exact j40 σ_1 _ _ _ h (lv_sub hl [] rfl) hf
    · have hf := if_f (K := fun x => x) c9 hf
      refine lv_aload_n C.x C.b dX7_worth_32 rfl (lv_at hl 0 rfl) ?_
      refine lv_iload_n C.x C.b dX7_worth_33 rfl (lv_at hl 1 rfl) ?_
      obtain ⟨q_4, hc, hf⟩ := bd_k (K := fun x => x) rfl hf
      refine cM_worthOf C h hc (Nat.le_of_ble_eq_true rfl) hl.1 (Nat.le_of_ble_eq_true rfl) dX7_worth_34 (fun H locs h => ?_)
      refine lv_goto (tgt := 42) C.x C.b dX7_worth_37 (by decide) ?_
      exact j42 q_4.2 q_4.1 _ _ _ h (lv_sub hl [] rfl) hf
def M_rests_j123 (σ : PS) (v3 : Int32) : Option (Int32 × PS) := some (v3, σ)
def M_rests_j115 (σ : PS) (v1 : Int32) (v2 : Int32) (v4 : Int32) (x0 : Int32) (x1 : Int32) : Option ((Int32 × Int32 × PS) ⊕ (Int32 × PS)) := nm (x1 ||| x0) (fun v3_1 => nm (v4 + 1) (fun v4_2 => some (.inl (v3_1, v4_2, σ))))
def M_rests_j99 (σ : PS) (v1 : Int32) (v2 : Int32) (v3 : Int32) (v4 : Int32) (x0 : Int32) : Option ((Int32 × Int32 × PS) ⊕ (Int32 × PS)) := if x0 = 0 then M_rests_j115 σ v1 v2 v4 0 v3 else M_rests_j115 σ v1 v2 v4 (1 <<< (v4 &&& 31)) v3
def M_rests_j98 (σ : PS) (v1 : Int32) (v2 : Int32) (v3 : Int32) (v4 : Int32) : Option ((Int32 × Int32 × PS) ⊕ (Int32 × PS)) := M_rests_j99 σ v1 v2 v3 v4 0
def M_rests_l22 (v1 : Int32) (v2 : Int32) (v3 : Int32) (v4 : Int32) (σ : PS) : Option ((Int32 × Int32 × PS) ⊕ (Int32 × PS)) := if 4 ≤ v4 then up (M_rests_j123 σ v3) else nm (v4 - v4 / 2 * 2) (fun v5_3 => nm (v4 / 2) (fun v6_4 => bd (M_getsBy σ v1 v2 (1 - v5_3) v6_4 0) (fun q_5 => bd (M_getsBy q_5.2 v1 v2 v5_3 v6_4 0) (fun q_6 => if q_6.1 < q_5.1 then M_rests_j98 q_6.2 v1 v2 v3 v4 else bd (M_getsBy q_6.2 v1 v2 v5_3 (1 - v6_4) 1) (fun q_7 => bd (M_getsBy q_7.2 v1 v2 v5_3 v6_4 1) (fun q_8 => if q_8.1 < q_7.1 then M_rests_j98 q_8.2 v1 v2 v3 v4 else M_rests_j99 q_8.2 v1 v2 v3 v4 1))))))
def M_rests_B22 (v1 : Int32) (v2 : Int32) : (Int32 × Int32 × PS) → Option ((Int32 × Int32 × PS) ⊕ (Int32 × PS)) := fun t => M_rests_l22 v1 v2 t.1 t.2.1 t.2.2
def M_rests (σ : PS) (v1 : Int32) (v2 : Int32) : Option (Int32 × PS) := nm (sI σ 0 0) (fun σ_9 => bd (M_areTwo σ_9 v1 v2) (fun q_10 => if q_10 = 0 then some ((-2), σ_9) else loop (M_rests_B22 v1 v2) fu (0, 0, σ_9)))
set_option maxHeartbeats 4000000 in
theorem kM_rests (l : Launch) {D : va_G} {ty : Nat → ClassId} {A : Nat → Prop} {o : Nat} {ad : Nat → Nat} {rs : va_W} {σ : PS} {σ' : PS} {v1 : Int32} {v2 : Int32} {r : Int32} (hf : M_rests σ v1 v2 = some (r, σ')) : KI l yX7_rests cX7_rests 8 .int 6 D ty A (wM ty o ad σ ++ rs) (wM ty o ad σ' ++ rs) [.ref o, .int v1, .int v2] r := by
  refine KI.of (by decide) (Nat.le_of_ble_eq_true rfl) ?_
  intro p e R s m args below meth c Q C hR
  have C : Cx p R s m args c cX7_rests 8 RX7 D ty A 6 := C
  have hR : ∀ (v : Int32) (σ2 : PS), (v, σ2) = (r, σ') → ∀ (H : Heap) (locs : List Loc) (pc : Nat) (ls : Array Slot), Hw D A s H locs (wM ty o ad σ2 ++ rs) → narrow .int (.int v) = .int v → decode cX7_rests pc = .ok (.ireturn, 1) → W p l e R s m args below meth c H locs 0 0 Q (F0 m pc ls [.int v]) := by intro v σ2 e9; cases e9; exact hR
  have j123 : ∀ (σ : PS) (v3 : Int32) (H : Heap) (locs : List Loc) (ls : Array Slot), Hw D A s H locs (wM ty o ad σ ++ rs) → lv_has ls 8 [(3, .int v3)] → M_rests_j123 σ v3 = some (r, σ') → W p l e R s m args below meth c H locs 0 0 Q (F0 m 123 ls []) := by
    intro σ v3 H locs ls h hl hf
    unfold M_rests_j123 at hf
    refine lv_iload_n C.x C.b dX7_rests_123 rfl (lv_at hl 0 rfl) ?_
    exact hR _ _ (some_k hf) _ _ _ _ h rfl dX7_rests_124
  have l22 : ∀ (n22 : Nat) (v3 : Int32) (v4 : Int32) (σ : PS) (H : Heap) (locs : List Loc) (ls : Array Slot), Hw D A s H locs (wM ty o ad σ ++ rs) → lv_has ls 8 [(0, .ref o), (1, .int v1), (2, .int v2), (3, .int v3), (4, .int v4)] → loop (M_rests_B22 v1 v2) n22 (v3, v4, σ) = some (r, σ') → W p l e R s m args below meth c H locs 0 0 Q (F0 m 22 ls []) := by
    intro n22
    induction n22 with
    | zero => intro v3 v4 σ H locs ls h hl hf; exact (none_k hf).elim
    | succ n22 ih22 =>
      have j115 : ∀ (σ : PS) (v4 : Int32) (x0 : Int32) (x1 : Int32) (H : Heap) (locs : List Loc) (ls : Array Slot), Hw D A s H locs (wM ty o ad σ ++ rs) → lv_has ls 8 [(0, .ref o), (1, .int v1), (2, .int v2), (4, .int v4)] → bl (M_rests_B22 v1 v2) n22 (M_rests_j115 σ v1 v2 v4 x0 x1) = some (r, σ') → W p l e R s m args below meth c H locs 0 0 Q (F0 m 115 ls [.int x0, .int x1]) := by
        intro σ v4 x0 x1 H locs ls h hl hf
        unfold M_rests_j115 at hf
        refine lv_ior C.x C.b dX7_rests_115 ?_
        obtain ⟨v3_1, e9, hf⟩ := nm_k (K := bl (M_rests_B22 v1 v2) n22) hf
        refine lv_topI e9 ?_
        refine lv_istore_n (lv' := [(3, .int v3_1), (0, .ref o), (1, .int v1), (2, .int v2), (4, .int v4)]) C.x C.b dX7_rests_116 rfl hl (by decide) rfl (fun ls hl => ?_)
        obtain ⟨v4_2, e9, hf⟩ := nm_k (K := bl (M_rests_B22 v1 v2) n22) hf
        refine lv_iinc (v := v4_2) (lv' := [(4, .int v4_2), (3, .int v3_1), (0, .ref o), (1, .int v1), (2, .int v2)]) C.x C.b dX7_rests_117 hl (k := 4) rfl (iinc_e (k := 1) (by decide) e9) (by decide) rfl (fun ls hl => ?_)
        refine lv_goto (tgt := 22) C.x C.b dX7_rests_120 (by decide) ?_
        exact ih22 v3_1 v4_2 σ _ _ _ h (lv_sub hl [2, 3, 4, 1, 0] rfl) hf
      have j99 : ∀ (σ : PS) (v3 : Int32) (v4 : Int32) (x0 : Int32) (H : Heap) (locs : List Loc) (ls : Array Slot), Hw D A s H locs (wM ty o ad σ ++ rs) → lv_has ls 8 [(0, .ref o), (1, .int v1), (2, .int v2), (3, .int v3), (4, .int v4)] → bl (M_rests_B22 v1 v2) n22 (M_rests_j99 σ v1 v2 v3 v4 x0) = some (r, σ') → W p l e R s m args below meth c H locs 0 0 Q (F0 m 99 ls [.int x0]) := by
        intro σ v3 v4 x0 H locs ls h hl hf
        unfold M_rests_j99 at hf
        refine lv_istore (lv' := [(7, .int x0), (0, .ref o), (1, .int v1), (2, .int v2), (3, .int v3), (4, .int v4)]) C.x C.b dX7_rests_99 hl (by decide) rfl (fun ls hl => ?_)
        refine lv_iload_n C.x C.b dX7_rests_101 rfl (lv_at hl 4 rfl) ?_
        refine lv_iload C.x C.b dX7_rests_102 (lv_at hl 0 rfl) ?_
        refine lv_if_eq (tgt := 114) C.x C.b dX7_rests_104 (by decide) (fun c9 => ?_) (fun c9 => ?_)
        · have hf := if_t (K := bl (M_rests_B22 v1 v2) n22) c9 hf
          refine lv_iconst (v := 0) C.x C.b dX7_rests_114 (by decide) ?_
          exact j115 σ v4 0 v3 _ _ _ h (lv_sub hl [1, 2, 3, 5] rfl) hf
        · have hf := if_f (K := bl (M_rests_B22 v1 v2) n22) c9 hf
          refine lv_iconst (v := 1) C.x C.b dX7_rests_107 (by decide) ?_
          refine lv_iload C.x C.b dX7_rests_108 (lv_at hl 5 rfl) ?_
          refine lv_ishl C.x C.b dX7_rests_110 ?_
          refine lv_goto (tgt := 115) C.x C.b dX7_rests_111 (by decide) ?_
          exact j115 σ v4 (1 <<< (v4 &&& 31)) v3 _ _ _ h (lv_sub hl [1, 2, 3, 5] rfl) hf
      have j98 : ∀ (σ : PS) (v3 : Int32) (v4 : Int32) (H : Heap) (locs : List Loc) (ls : Array Slot), Hw D A s H locs (wM ty o ad σ ++ rs) → lv_has ls 8 [(0, .ref o), (1, .int v1), (2, .int v2), (3, .int v3), (4, .int v4)] → bl (M_rests_B22 v1 v2) n22 (M_rests_j98 σ v1 v2 v3 v4) = some (r, σ') → W p l e R s m args below meth c H locs 0 0 Q (F0 m 98 ls []) := by
        intro σ v3 v4 H locs ls h hl hf
        unfold M_rests_j98 at hf
        refine lv_iconst (v := 0) C.x C.b dX7_rests_98 (by decide) ?_
        exact j99 σ v3 v4 0 _ _ _ h (lv_sub hl [0, 1, 2, 3, 4] rfl) hf
      intro v3 v4 σ H locs ls h hl hf
      have hf : bl (M_rests_B22 v1 v2) n22 (M_rests_l22 v1 v2 v3 v4 σ) = some (r, σ') := hf
      unfold M_rests_l22 at hf
      refine lv_iload C.x C.b dX7_rests_22 (lv_at hl 4 rfl) ?_
      refine lv_iconst (v := 4) C.x C.b dX7_rests_24 (by decide) ?_
      refine lv_icmp_ge (tgt := 123) C.x C.b dX7_rests_25 (by decide) (fun c9 => ?_) (fun c9 => ?_)
      · have hf := if_t (K := bl (M_rests_B22 v1 v2) n22) c9 hf
        have hf := bl_upK (K := fun x => x) hf
        exact j123 σ v3 _ _ _ h (lv_sub hl [3] rfl) hf
      · have hf := if_f (K := bl (M_rests_B22 v1 v2) n22) c9 hf
        refine lv_iload C.x C.b dX7_rests_28 (lv_at hl 4 rfl) ?_
        refine lv_iconst (v := 2) C.x C.b dX7_rests_30 (by decide) ?_
        refine lv_irem C.x C.b dX7_rests_31 (by decide) ?_
        obtain ⟨v5_3, e9, hf⟩ := nm_k (K := bl (M_rests_B22 v1 v2) n22) hf
        refine lv_topI e9 ?_
        refine lv_istore (lv' := [(5, .int v5_3), (0, .ref o), (1, .int v1), (2, .int v2), (3, .int v3), (4, .int v4)]) C.x C.b dX7_rests_32 hl (by decide) rfl (fun ls hl => ?_)
        refine lv_iload C.x C.b dX7_rests_34 (lv_at hl 5 rfl) ?_
        refine lv_iconst (v := 2) C.x C.b dX7_rests_36 (by decide) ?_
        refine lv_idiv C.x C.b dX7_rests_37 (by decide) ?_
        obtain ⟨v6_4, e9, hf⟩ := nm_k (K := bl (M_rests_B22 v1 v2) n22) hf
        refine lv_topI e9 ?_
        refine lv_istore (lv' := [(6, .int v6_4), (5, .int v5_3), (0, .ref o), (1, .int v1), (2, .int v2), (3, .int v3), (4, .int v4)]) C.x C.b dX7_rests_38 hl (by decide) rfl (fun ls hl => ?_)
        refine lv_aload_n C.x C.b dX7_rests_40 rfl (lv_at hl 2 rfl) ?_
        refine lv_iload_n C.x C.b dX7_rests_41 rfl (lv_at hl 3 rfl) ?_
        refine lv_iload_n C.x C.b dX7_rests_42 rfl (lv_at hl 4 rfl) ?_
        refine lv_iconst (v := 1) C.x C.b dX7_rests_43 (by decide) ?_
        refine lv_iload C.x C.b dX7_rests_44 (lv_at hl 1 rfl) ?_
        refine lv_isub C.x C.b dX7_rests_46 ?_
        refine lv_iload C.x C.b dX7_rests_47 (lv_at hl 0 rfl) ?_
        refine lv_iconst (v := 0) C.x C.b dX7_rests_49 (by decide) ?_
        obtain ⟨q_5, hc, hf⟩ := bd_k (K := bl (M_rests_B22 v1 v2) n22) rfl hf
        refine cM_getsBy C h hc (Nat.le_of_ble_eq_true rfl) hl.1 (Nat.le_of_ble_eq_true rfl) dX7_rests_50 (fun H locs h => ?_)
        refine lv_aload_n C.x C.b dX7_rests_53 rfl (lv_at hl 2 rfl) ?_
        refine lv_iload_n C.x C.b dX7_rests_54 rfl (lv_at hl 3 rfl) ?_
        refine lv_iload_n C.x C.b dX7_rests_55 rfl (lv_at hl 4 rfl) ?_
        refine lv_iload C.x C.b dX7_rests_56 (lv_at hl 1 rfl) ?_
        refine lv_iload C.x C.b dX7_rests_58 (lv_at hl 0 rfl) ?_
        refine lv_iconst (v := 0) C.x C.b dX7_rests_60 (by decide) ?_
        obtain ⟨q_6, hc, hf⟩ := bd_k (K := bl (M_rests_B22 v1 v2) n22) rfl hf
        refine cM_getsBy C h hc (Nat.le_of_ble_eq_true rfl) hl.1 (Nat.le_of_ble_eq_true rfl) dX7_rests_61 (fun H locs h => ?_)
        refine lv_icmp_gt (tgt := 98) C.x C.b dX7_rests_64 (by decide) (fun c9 => ?_) (fun c9 => ?_)
        · have hf := if_t (K := bl (M_rests_B22 v1 v2) n22) c9 hf
          exact j98 q_6.2 v3 v4 _ _ _ h (lv_sub hl [2, 3, 4, 5, 6] rfl) hf
        · have hf := if_f (K := bl (M_rests_B22 v1 v2) n22) c9 hf
          refine lv_aload_n C.x C.b dX7_rests_67 rfl (lv_at hl 2 rfl) ?_
          refine lv_iload_n C.x C.b dX7_rests_68 rfl (lv_at hl 3 rfl) ?_
          refine lv_iload_n C.x C.b dX7_rests_69 rfl (lv_at hl 4 rfl) ?_
          refine lv_iload C.x C.b dX7_rests_70 (lv_at hl 1 rfl) ?_
          refine lv_iconst (v := 1) C.x C.b dX7_rests_72 (by decide) ?_
          refine lv_iload C.x C.b dX7_rests_73 (lv_at hl 0 rfl) ?_
          refine lv_isub C.x C.b dX7_rests_75 ?_
          refine lv_iconst (v := 1) C.x C.b dX7_rests_76 (by decide) ?_
          obtain ⟨q_7, hc, hf⟩ := bd_k (K := bl (M_rests_B22 v1 v2) n22) rfl hf
          refine cM_getsBy C h hc (Nat.le_of_ble_eq_true rfl) hl.1 (Nat.le_of_ble_eq_true rfl) dX7_rests_77 (fun H locs h => ?_)
          refine lv_aload_n C.x C.b dX7_rests_80 rfl (lv_at hl 2 rfl) ?_
          refine lv_iload_n C.x C.b dX7_rests_81 rfl (lv_at hl 3 rfl) ?_
          refine lv_iload_n C.x C.b dX7_rests_82 rfl (lv_at hl 4 rfl) ?_
          refine lv_iload C.x C.b dX7_rests_83 (lv_at hl 1 rfl) ?_
          refine lv_iload C.x C.b dX7_rests_85 (lv_at hl 0 rfl) ?_
          refine lv_iconst (v := 1) C.x C.b dX7_rests_87 (by decide) ?_
          obtain ⟨q_8, hc, hf⟩ := bd_k (K := bl (M_rests_B22 v1 v2) n22) rfl hf
          refine cM_getsBy C h hc (Nat.le_of_ble_eq_true rfl) hl.1 (Nat.le_of_ble_eq_true rfl) dX7_rests_88 (fun H locs h => ?_)
          refine lv_icmp_gt (tgt := 98) C.x C.b dX7_rests_91 (by decide) (fun c9 => ?_) (fun c9 => ?_)
          · have hf := if_t (K := bl (M_rests_B22 v1 v2) n22) c9 hf
            exact j98 q_8.2 v3 v4 _ _ _ h (lv_sub hl [2, 3, 4, 5, 6] rfl) hf
          · have hf := if_f (K := bl (M_rests_B22 v1 v2) n22) c9 hf
            refine lv_iconst (v := 1) C.x C.b dX7_rests_94 (by decide) ?_
            refine lv_goto (tgt := 99) C.x C.b dX7_rests_95 (by decide) ?_
            exact j99 q_8.2 v3 v4 1 _ _ _ h (lv_sub hl [2, 3, 4, 5, 6] rfl) hf
  intro H locs ls h hl
  have hl : lv_has ls 8 [(0, .ref o), (1, .int v1), (2, .int v2)] := hl
  unfold M_rests at hf
  refine lv_aload_n C.x C.b dX7_rests_0 rfl (lv_at hl 0 rfl) ?_
  refine lv_iconst (v := 0) C.x C.b dX7_rests_1 (by decide) ?_
  obtain ⟨σ_9, e9, hf⟩ := nm_k (K := fun x => x) hf
  refine m_p0 C h e9 dX7_rests_2 (fun H locs h => ?_)
  refine lv_aload_n C.x C.b dX7_rests_5 rfl (lv_at hl 0 rfl) ?_
  refine lv_iload_n C.x C.b dX7_rests_6 rfl (lv_at hl 1 rfl) ?_
  refine lv_iload_n C.x C.b dX7_rests_7 rfl (lv_at hl 2 rfl) ?_
  obtain ⟨q_10, hc, hf⟩ := bd_k (K := fun x => x) rfl hf
  refine cM_areTwo C h hc (Nat.le_of_ble_eq_true rfl) hl.1 (Nat.le_of_ble_eq_true rfl) dX7_rests_8 (fun H locs h => ?_)
  refine lv_if_ne (tgt := 17) C.x C.b dX7_rests_11 (by decide) (fun c9 => ?_) (fun c9 => ?_)
  · have hf := if_f (K := fun x => x) c9 hf
    refine lv_iconst (v := 0) C.x C.b dX7_rests_17 (by decide) ?_
    refine lv_istore_n (lv' := [(3, .int 0), (0, .ref o), (1, .int v1), (2, .int v2)]) C.x C.b dX7_rests_18 rfl hl (by decide) rfl (fun ls hl => ?_)
    refine lv_iconst (v := 0) C.x C.b dX7_rests_19 (by decide) ?_
    refine lv_istore (lv' := [(4, .int 0), (3, .int 0), (0, .ref o), (1, .int v1), (2, .int v2)]) C.x C.b dX7_rests_20 hl (by decide) rfl (fun ls hl => ?_)
    exact l22  fu 0 0 σ_9 _ _ _ h (lv_sub hl [2, 3, 4, 1, 0] rfl) hf
  · have hf := if_t (K := fun x => x) c9 hf
    refine lv_bipush (v := (-2)) C.x C.b dX7_rests_14 (by decide) ?_
    exact hR _ _ (some_k hf) _ _ _ _ h rfl dX7_rests_16
def M_drawn_j50 (σ : PS) (x0 : Int32) : Option (Int32 × PS) := some (x0, σ)
def M_drawn_j26 (σ : PS) : Option (Int32 × PS) := some ((-2), σ)
def M_drawn (σ : PS) (v1 : Int32) (v2 : Int32) : Option (Int32 × PS) := nm (sI σ 0 0) (fun σ_1 => bd (M_isLehr σ_1) (fun q_2 => if q_2 = 0 then M_drawn_j26 σ_1 else bd (M_isSeed v1) (fun q_3 => if q_3 = 0 then M_drawn_j26 σ_1 else bd (M_isHalf v2) (fun q_4 => if q_4 = 0 then M_drawn_j26 σ_1 else bd (M_draws σ_1 v1.toInt64) (fun q_5 => if v2 = 0 then M_drawn_j50 q_5 (gI q_5 24) else bd (M_soundNow q_5) (fun q_6 => M_drawn_j50 q_5 q_6))))))
set_option maxHeartbeats 4000000 in
theorem kM_drawn (l : Launch) {D : va_G} {ty : Nat → ClassId} {A : Nat → Prop} {o : Nat} {ad : Nat → Nat} {rs : va_W} {σ : PS} {σ' : PS} {v1 : Int32} {v2 : Int32} {r : Int32} (hf : M_drawn σ v1 v2 = some (r, σ')) : KI l yX7_drawn cX7_drawn 3 .int 6 D ty A (wM ty o ad σ ++ rs) (wM ty o ad σ' ++ rs) [.ref o, .int v1, .int v2] r := by
  refine KI.of (by decide) (Nat.le_of_ble_eq_true rfl) ?_
  intro p e R s m args below meth c Q C hR
  have C : Cx p R s m args c cX7_drawn 3 RX7 D ty A 6 := C
  have hR : ∀ (v : Int32) (σ2 : PS), (v, σ2) = (r, σ') → ∀ (H : Heap) (locs : List Loc) (pc : Nat) (ls : Array Slot), Hw D A s H locs (wM ty o ad σ2 ++ rs) → narrow .int (.int v) = .int v → decode cX7_drawn pc = .ok (.ireturn, 1) → W p l e R s m args below meth c H locs 0 0 Q (F0 m pc ls [.int v]) := by intro v σ2 e9; cases e9; exact hR
  have j50 : ∀ (σ : PS) (x0 : Int32) (H : Heap) (locs : List Loc) (ls : Array Slot), Hw D A s H locs (wM ty o ad σ ++ rs) → lv_has ls 3 [] → M_drawn_j50 σ x0 = some (r, σ') → W p l e R s m args below meth c H locs 0 0 Q (F0 m 50 ls [.int x0]) := by
    intro σ x0 H locs ls h hl hf
    unfold M_drawn_j50 at hf
    exact hR _ _ (some_k hf) _ _ _ _ h rfl dX7_drawn_50
  have j26 : ∀ (σ : PS) (H : Heap) (locs : List Loc) (ls : Array Slot), Hw D A s H locs (wM ty o ad σ ++ rs) → lv_has ls 3 [] → M_drawn_j26 σ = some (r, σ') → W p l e R s m args below meth c H locs 0 0 Q (F0 m 26 ls []) := by
    intro σ H locs ls h hl hf
    unfold M_drawn_j26 at hf
    refine lv_bipush (v := (-2)) C.x C.b dX7_drawn_26 (by decide) ?_
    exact hR _ _ (some_k hf) _ _ _ _ h rfl dX7_drawn_28
  intro H locs ls h hl
  have hl : lv_has ls 3 [(0, .ref o), (1, .int v1), (2, .int v2)] := hl
  unfold M_drawn at hf
  refine lv_aload_n C.x C.b dX7_drawn_0 rfl (lv_at hl 0 rfl) ?_
  refine lv_iconst (v := 0) C.x C.b dX7_drawn_1 (by decide) ?_
  obtain ⟨σ_1, e9, hf⟩ := nm_k (K := fun x => x) hf
  refine m_p0 C h e9 dX7_drawn_2 (fun H locs h => ?_)
  refine lv_aload_n C.x C.b dX7_drawn_5 rfl (lv_at hl 0 rfl) ?_
  obtain ⟨q_2, hc, hf⟩ := bd_k (K := fun x => x) rfl hf
  refine cM_isLehr C h hc (Nat.le_of_ble_eq_true rfl) hl.1 (Nat.le_of_ble_eq_true rfl) dX7_drawn_6 (fun H locs h => ?_)
  refine lv_if_eq (tgt := 26) C.x C.b dX7_drawn_9 (by decide) (fun c9 => ?_) (fun c9 => ?_)
  · have hf := if_t (K := fun x => x) c9 hf
    exact j26 σ_1 _ _ _ h (lv_sub hl [] rfl) hf
  · have hf := if_f (K := fun x => x) c9 hf
    refine lv_iload_n C.x C.b dX7_drawn_12 rfl (lv_at hl 1 rfl) ?_
    obtain ⟨q_3, hc, hf⟩ := bd_k (K := fun x => x) rfl hf
    refine cM_isSeed C h hc (Nat.le_of_ble_eq_true rfl) hl.1 (Nat.le_of_ble_eq_true rfl) dX7_drawn_13 (fun H locs h => ?_)
    refine lv_if_eq (tgt := 26) C.x C.b dX7_drawn_16 (by decide) (fun c9 => ?_) (fun c9 => ?_)
    · have hf := if_t (K := fun x => x) c9 hf
      exact j26 σ_1 _ _ _ h (lv_sub hl [] rfl) hf
    · have hf := if_f (K := fun x => x) c9 hf
      refine lv_iload_n C.x C.b dX7_drawn_19 rfl (lv_at hl 2 rfl) ?_
      obtain ⟨q_4, hc, hf⟩ := bd_k (K := fun x => x) rfl hf
      refine cM_isHalf C h hc (Nat.le_of_ble_eq_true rfl) hl.1 (Nat.le_of_ble_eq_true rfl) dX7_drawn_20 (fun H locs h => ?_)
      refine lv_if_ne (tgt := 29) C.x C.b dX7_drawn_23 (by decide) (fun c9 => ?_) (fun c9 => ?_)
      · have hf := if_f (K := fun x => x) c9 hf
        refine lv_aload_n C.x C.b dX7_drawn_29 rfl (lv_at hl 0 rfl) ?_
        refine lv_iload_n C.x C.b dX7_drawn_30 rfl (lv_at hl 1 rfl) ?_
        refine lv_i2l C.x C.b dX7_drawn_31 rfl ?_
        obtain ⟨q_5, hc, hf⟩ := bd_k (K := fun x => x) rfl hf
        refine cM_draws C h hc (Nat.le_of_ble_eq_true rfl) hl.1 (Nat.le_of_ble_eq_true rfl) dX7_drawn_32 (fun H locs h => ?_)
        refine lv_iload_n C.x C.b dX7_drawn_35 rfl (lv_at hl 2 rfl) ?_
        refine lv_if_ne (tgt := 46) C.x C.b dX7_drawn_36 (by decide) (fun c9 => ?_) (fun c9 => ?_)
        · have hf := if_f (K := fun x => x) c9 hf
          refine lv_aload_n C.x C.b dX7_drawn_46 rfl (lv_at hl 0 rfl) ?_
          obtain ⟨q_6, hc, hf⟩ := bd_k (K := fun x => x) rfl hf
          refine cM_soundNow C h hc (Nat.le_of_ble_eq_true rfl) hl.1 (Nat.le_of_ble_eq_true rfl) dX7_drawn_47 (fun H locs h => ?_)
          exact j50 q_5 q_6 _ _ _ h (lv_sub hl [] rfl) hf
        · have hf := if_t (K := fun x => x) c9 hf
          refine lv_aload_n C.x C.b dX7_drawn_39 rfl (lv_at hl 0 rfl) ?_
          refine m_g24 C h dX7_drawn_40 ?_
          refine lv_goto (tgt := 50) C.x C.b dX7_drawn_43 (by decide) ?_
          exact j50 q_5 (gI q_5 24) _ _ _ h (lv_sub hl [] rfl) hf
      · have hf := if_t (K := fun x => x) c9 hf
        exact j26 σ_1 _ _ _ h (lv_sub hl [] rfl) hf
def M_does (σ : PS) (v1 : Int32) (v2 : Int32) (v3 : Int32) (v4 : Int32) : Option PS := ix 7 40 (nm (4 * (rA σ 17 7)) (fun v5_1 => ix v5_1 600 (nm (wA σ 20 v5_1 v1) (fun σ_2 => ix (v5_1 + 1) 600 (nm (wA σ_2 20 (v5_1 + 1) v2) (fun σ_3 => ix (v5_1 + 2) 600 (nm (wA σ_3 20 (v5_1 + 2) v3) (fun σ_4 => ix (v5_1 + 3) 600 (nm (wA σ_4 20 (v5_1 + 3) v4) (fun σ_5 => ix 7 40 (ix 7 40 (nm (wA σ_5 17 7 ((rA σ_5 17 7) + 1)) (fun σ_6 => bd (M_laysNow σ_6) (fun q_7 => some q_7))))))))))))))
set_option maxHeartbeats 4000000 in
theorem kM_does (l : Launch) {D : va_G} {ty : Nat → ClassId} {A : Nat → Prop} {o : Nat} {ad : Nat → Nat} {rs : va_W} {σ : PS} {σ' : PS} {v1 : Int32} {v2 : Int32} {v3 : Int32} {v4 : Int32} (hf : M_does σ v1 v2 v3 v4 = some σ') : KV l yX7_does cX7_does 6 6 D ty A (wM ty o ad σ ++ rs) (wM ty o ad σ' ++ rs) [.ref o, .int v1, .int v2, .int v3, .int v4] := by
  refine KV.of (by decide) (Nat.le_of_ble_eq_true rfl) ?_
  intro p e R s m args below meth c Q C hR
  have C : Cx p R s m args c cX7_does 6 RX7 D ty A 6 := C
  have hR : ∀ (σ2 : PS), σ2 = σ' → ∀ (H : Heap) (locs : List Loc) (pc : Nat) (ls : Array Slot), Hw D A s H locs (wM ty o ad σ2 ++ rs) → decode cX7_does pc = .ok (.return_, 1) → W p l e R s m args below meth c H locs 0 0 Q (F0 m pc ls []) := by intro σ2 e9; cases e9; exact hR
  intro H locs ls h hl
  have hl : lv_has ls 6 [(0, .ref o), (1, .int v1), (2, .int v2), (3, .int v3), (4, .int v4)] := hl
  unfold M_does at hf
  refine lv_iconst (v := 4) C.x C.b dX7_does_0 (by decide) ?_
  refine lv_aload_n C.x C.b dX7_does_1 rfl (lv_at hl 0 rfl) ?_
  refine m_g17 C h dX7_does_2 ?_
  refine lv_bipush (v := 7) C.x C.b dX7_does_5 (by decide) ?_
  obtain ⟨hi, hf⟩ := ix_k (K := fun x => x) rfl hf
  refine m_a17 C h hi dX7_does_7 ?_
  refine lv_imul C.x C.b dX7_does_8 ?_
  obtain ⟨v5_1, e9, hf⟩ := nm_k (K := fun x => x) hf
  refine lv_topI e9 ?_
  refine lv_istore (lv' := [(5, .int v5_1), (0, .ref o), (1, .int v1), (2, .int v2), (3, .int v3), (4, .int v4)]) C.x C.b dX7_does_9 hl (by decide) rfl (fun ls hl => ?_)
  refine lv_aload_n C.x C.b dX7_does_11 rfl (lv_at hl 1 rfl) ?_
  refine m_g20 C h dX7_does_12 ?_
  refine lv_iload C.x C.b dX7_does_15 (lv_at hl 0 rfl) ?_
  refine lv_iload_n C.x C.b dX7_does_17 rfl (lv_at hl 2 rfl) ?_
  obtain ⟨hi, hf⟩ := ix_k (K := fun x => x) rfl hf
  obtain ⟨σ_2, e9, hf⟩ := nm_k (K := fun x => x) hf
  refine m_w20 C h hi e9 dX7_does_18 (fun H locs h => ?_)
  refine lv_aload_n C.x C.b dX7_does_19 rfl (lv_at hl 1 rfl) ?_
  refine m_g20 C h dX7_does_20 ?_
  refine lv_iload C.x C.b dX7_does_23 (lv_at hl 0 rfl) ?_
  refine lv_iconst (v := 1) C.x C.b dX7_does_25 (by decide) ?_
  refine lv_iadd C.x C.b dX7_does_26 ?_
  refine lv_iload_n C.x C.b dX7_does_27 rfl (lv_at hl 3 rfl) ?_
  obtain ⟨hi, hf⟩ := ix_k (K := fun x => x) rfl hf
  obtain ⟨σ_3, e9, hf⟩ := nm_k (K := fun x => x) hf
  refine m_w20 C h hi e9 dX7_does_28 (fun H locs h => ?_)
  refine lv_aload_n C.x C.b dX7_does_29 rfl (lv_at hl 1 rfl) ?_
  refine m_g20 C h dX7_does_30 ?_
  refine lv_iload C.x C.b dX7_does_33 (lv_at hl 0 rfl) ?_
  refine lv_iconst (v := 2) C.x C.b dX7_does_35 (by decide) ?_
  refine lv_iadd C.x C.b dX7_does_36 ?_
  refine lv_iload_n C.x C.b dX7_does_37 rfl (lv_at hl 4 rfl) ?_
  obtain ⟨hi, hf⟩ := ix_k (K := fun x => x) rfl hf
  obtain ⟨σ_4, e9, hf⟩ := nm_k (K := fun x => x) hf
  refine m_w20 C h hi e9 dX7_does_38 (fun H locs h => ?_)
  refine lv_aload_n C.x C.b dX7_does_39 rfl (lv_at hl 1 rfl) ?_
  refine m_g20 C h dX7_does_40 ?_
  refine lv_iload C.x C.b dX7_does_43 (lv_at hl 0 rfl) ?_
  refine lv_iconst (v := 3) C.x C.b dX7_does_45 (by decide) ?_
  refine lv_iadd C.x C.b dX7_does_46 ?_
  refine lv_iload C.x C.b dX7_does_47 (lv_at hl 5 rfl) ?_
  obtain ⟨hi, hf⟩ := ix_k (K := fun x => x) rfl hf
  obtain ⟨σ_5, e9, hf⟩ := nm_k (K := fun x => x) hf
  refine m_w20 C h hi e9 dX7_does_49 (fun H locs h => ?_)
  refine lv_aload_n C.x C.b dX7_does_50 rfl (lv_at hl 1 rfl) ?_
  refine m_g17 C h dX7_does_51 ?_
  refine lv_bipush (v := 7) C.x C.b dX7_does_54 (by decide) ?_
  refine lv_dup2_11 C.x C.b dX7_does_56 rfl rfl ?_
  obtain ⟨hi, hf⟩ := ix_k (K := fun x => x) rfl hf
  refine m_a17 C h hi dX7_does_57 ?_
  refine lv_iconst (v := 1) C.x C.b dX7_does_58 (by decide) ?_
  refine lv_iadd C.x C.b dX7_does_59 ?_
  obtain ⟨hi, hf⟩ := ix_k (K := fun x => x) rfl hf
  obtain ⟨σ_6, e9, hf⟩ := nm_k (K := fun x => x) hf
  refine m_w17 C h hi e9 dX7_does_60 (fun H locs h => ?_)
  refine lv_aload_n C.x C.b dX7_does_61 rfl (lv_at hl 1 rfl) ?_
  obtain ⟨q_7, hc, hf⟩ := bd_k (K := fun x => x) rfl hf
  refine cM_laysNow C h hc (Nat.le_of_ble_eq_true rfl) hl.1 (Nat.le_of_ble_eq_true rfl) dX7_does_62 (fun H locs h => ?_)
  exact hR _ (some_k hf) _ _ _ _ h dX7_does_65
theorem tM_does : GoodIn lw_all (wsV RX7 453 RX7 yX7_does (ws_ yX7_does cX7_does 6 none)) := lw_V q2306 q2308 qs135 q147 q2309
theorem cM_does {p : Program} {l : Launch} {e : Env} {R : Room} {s : State} {m : MethodId} {args : Array Value} {below : List Frame} {meth : Method} {c : Code} {H : Heap} {locs : List Loc} {Q : State → Prop} {cc : ByteArray} {pc : Nat} {ls : Array Slot} {st : List Value} {nL d : Nat} {D : va_G} {ty : Nat → ClassId} {A : Nat → Prop} {o : Nat} {ad : Nat → Nat} {rs : va_W} {σ : PS} {v1 : Int32} {v2 : Int32} {v3 : Int32} {v4 : Int32} {q : PS} (C : Cx p R s m args c cc nL RX7 D ty A d) (h : Hw D A s H locs (wM ty o ad σ ++ rs)) (hc : M_does σ v1 v2 v3 v4 = some q) (hd : 6 + 1 ≤ d) (hls : ls.size = nL) (hcat : (st.map fun v => v.category).sum ≤ 8) (dec : decode cc pc = .ok (.invokevirtual 453, 3)) (kk : ∀ (H : Heap) (locs : List Loc), Hw D A s H locs (wM ty o ad q ++ rs) → W p l e R s m args below meth c H locs 0 0 Q (F0 m (pc + 3) ls (st))) : W p l e R s m args below meth c H locs 0 0 Q (F0 m pc ls (.int v4 :: .int v3 :: .int v2 :: .int v1 :: .ref o :: st)) := KV.callV (As := [.int v1, .int v2, .int v3, .int v4]) C (kM_does l hc) tM_does ⟨rfl, by decide, by decide, by show _ = some 4; decide +kernel⟩ 0 7 rfl rfl rfl hd (by decide) (Nat.zero_le _) (Nat.zero_le _) h hls rfl hcat dec kk
def M_gusts (σ : PS) (v1 : Int32) : Option (Int32 × PS) := nm (sI σ 0 0) (fun σ_1 => bd (M_isAhead σ_1 v1) (fun q_2 => if q_2 = 0 then some ((-2), σ_1) else ix 7 40 (if (rA σ_1 17 7) = 30 then some ((-5), σ_1) else bd (M_does σ_1 1 ((-1)) 0 v1) (fun q_3 => bd (M_soundNow q_3) (fun q_4 => bd (M_sizeOf q_4) (fun q_5 => some (q_5, q_3)))))))
set_option maxHeartbeats 4000000 in
theorem kM_gusts (l : Launch) {D : va_G} {ty : Nat → ClassId} {A : Nat → Prop} {o : Nat} {ad : Nat → Nat} {rs : va_W} {σ : PS} {σ' : PS} {v1 : Int32} {r : Int32} (hf : M_gusts σ v1 = some (r, σ')) : KI l yX7_gusts cX7_gusts 2 .int 7 D ty A (wM ty o ad σ ++ rs) (wM ty o ad σ' ++ rs) [.ref o, .int v1] r := by
  refine KI.of (by decide) (Nat.le_of_ble_eq_true rfl) ?_
  intro p e R s m args below meth c Q C hR
  have C : Cx p R s m args c cX7_gusts 2 RX7 D ty A 7 := C
  have hR : ∀ (v : Int32) (σ2 : PS), (v, σ2) = (r, σ') → ∀ (H : Heap) (locs : List Loc) (pc : Nat) (ls : Array Slot), Hw D A s H locs (wM ty o ad σ2 ++ rs) → narrow .int (.int v) = .int v → decode cX7_gusts pc = .ok (.ireturn, 1) → W p l e R s m args below meth c H locs 0 0 Q (F0 m pc ls [.int v]) := by intro v σ2 e9; cases e9; exact hR
  intro H locs ls h hl
  have hl : lv_has ls 2 [(0, .ref o), (1, .int v1)] := hl
  unfold M_gusts at hf
  refine lv_aload_n C.x C.b dX7_gusts_0 rfl (lv_at hl 0 rfl) ?_
  refine lv_iconst (v := 0) C.x C.b dX7_gusts_1 (by decide) ?_
  obtain ⟨σ_1, e9, hf⟩ := nm_k (K := fun x => x) hf
  refine m_p0 C h e9 dX7_gusts_2 (fun H locs h => ?_)
  refine lv_aload_n C.x C.b dX7_gusts_5 rfl (lv_at hl 0 rfl) ?_
  refine lv_iload_n C.x C.b dX7_gusts_6 rfl (lv_at hl 1 rfl) ?_
  obtain ⟨q_2, hc, hf⟩ := bd_k (K := fun x => x) rfl hf
  refine cM_isAhead C h hc (Nat.le_of_ble_eq_true rfl) hl.1 (Nat.le_of_ble_eq_true rfl) dX7_gusts_7 (fun H locs h => ?_)
  refine lv_if_ne (tgt := 16) C.x C.b dX7_gusts_10 (by decide) (fun c9 => ?_) (fun c9 => ?_)
  · have hf := if_f (K := fun x => x) c9 hf
    refine lv_aload_n C.x C.b dX7_gusts_16 rfl (lv_at hl 0 rfl) ?_
    refine m_g17 C h dX7_gusts_17 ?_
    refine lv_bipush (v := 7) C.x C.b dX7_gusts_20 (by decide) ?_
    obtain ⟨hi, hf⟩ := ix_k (K := fun x => x) rfl hf
    refine m_a17 C h hi dX7_gusts_22 ?_
    refine lv_bipush (v := 30) C.x C.b dX7_gusts_23 (by decide) ?_
    refine lv_icmp_ne (tgt := 31) C.x C.b dX7_gusts_25 (by decide) (fun c9 => ?_) (fun c9 => ?_)
    · have hf := if_f (K := fun x => x) c9 hf
      refine lv_aload_n C.x C.b dX7_gusts_31 rfl (lv_at hl 0 rfl) ?_
      refine lv_iconst (v := 1) C.x C.b dX7_gusts_32 (by decide) ?_
      refine lv_iconst (v := (-1)) C.x C.b dX7_gusts_33 (by decide) ?_
      refine lv_iconst (v := 0) C.x C.b dX7_gusts_34 (by decide) ?_
      refine lv_iload_n C.x C.b dX7_gusts_35 rfl (lv_at hl 1 rfl) ?_
      obtain ⟨q_3, hc, hf⟩ := bd_k (K := fun x => x) rfl hf
      refine cM_does C h hc (Nat.le_of_ble_eq_true rfl) hl.1 (Nat.le_of_ble_eq_true rfl) dX7_gusts_36 (fun H locs h => ?_)
      refine lv_aload_n C.x C.b dX7_gusts_39 rfl (lv_at hl 0 rfl) ?_
      obtain ⟨q_4, hc, hf⟩ := bd_k (K := fun x => x) rfl hf
      refine cM_soundNow C h hc (Nat.le_of_ble_eq_true rfl) hl.1 (Nat.le_of_ble_eq_true rfl) dX7_gusts_40 (fun H locs h => ?_)
      obtain ⟨q_5, hc, hf⟩ := bd_k (K := fun x => x) rfl hf
      refine cM_sizeOf C h hc (Nat.le_of_ble_eq_true rfl) hl.1 (Nat.le_of_ble_eq_true rfl) dX7_gusts_43 (fun H locs h => ?_)
      exact hR _ _ (some_k hf) _ _ _ _ h rfl dX7_gusts_46
    · have hf := if_t (K := fun x => x) c9 hf
      refine lv_bipush (v := (-5)) C.x C.b dX7_gusts_28 (by decide) ?_
      exact hR _ _ (some_k hf) _ _ _ _ h rfl dX7_gusts_30
  · have hf := if_t (K := fun x => x) c9 hf
    refine lv_bipush (v := (-2)) C.x C.b dX7_gusts_13 (by decide) ?_
    exact hR _ _ (some_k hf) _ _ _ _ h rfl dX7_gusts_15
def M_skin (σ : PS) (v1 : Int32) (v2 : Int32) : Option (Int32 × PS) := nm (sI σ 0 0) (fun σ_1 => bd (M_isThen σ_1 v1 v2) (fun q_2 => if q_2 = 0 then some ((-2), σ_1) else bd (M_laysNow σ_1) (fun q_3 => bd (M_skinOf q_3 v1 v2) (fun q_4 => some (q_4, q_3)))))
set_option maxHeartbeats 4000000 in
theorem kM_skin (l : Launch) {D : va_G} {ty : Nat → ClassId} {A : Nat → Prop} {o : Nat} {ad : Nat → Nat} {rs : va_W} {σ : PS} {σ' : PS} {v1 : Int32} {v2 : Int32} {r : Int32} (hf : M_skin σ v1 v2 = some (r, σ')) : KI l yX7_skin cX7_skin 3 .int 6 D ty A (wM ty o ad σ ++ rs) (wM ty o ad σ' ++ rs) [.ref o, .int v1, .int v2] r := by
  refine KI.of (by decide) (Nat.le_of_ble_eq_true rfl) ?_
  intro p e R s m args below meth c Q C hR
  have C : Cx p R s m args c cX7_skin 3 RX7 D ty A 6 := C
  have hR : ∀ (v : Int32) (σ2 : PS), (v, σ2) = (r, σ') → ∀ (H : Heap) (locs : List Loc) (pc : Nat) (ls : Array Slot), Hw D A s H locs (wM ty o ad σ2 ++ rs) → narrow .int (.int v) = .int v → decode cX7_skin pc = .ok (.ireturn, 1) → W p l e R s m args below meth c H locs 0 0 Q (F0 m pc ls [.int v]) := by intro v σ2 e9; cases e9; exact hR
  intro H locs ls h hl
  have hl : lv_has ls 3 [(0, .ref o), (1, .int v1), (2, .int v2)] := hl
  unfold M_skin at hf
  refine lv_aload_n C.x C.b dX7_skin_0 rfl (lv_at hl 0 rfl) ?_
  refine lv_iconst (v := 0) C.x C.b dX7_skin_1 (by decide) ?_
  obtain ⟨σ_1, e9, hf⟩ := nm_k (K := fun x => x) hf
  refine m_p0 C h e9 dX7_skin_2 (fun H locs h => ?_)
  refine lv_aload_n C.x C.b dX7_skin_5 rfl (lv_at hl 0 rfl) ?_
  refine lv_iload_n C.x C.b dX7_skin_6 rfl (lv_at hl 1 rfl) ?_
  refine lv_iload_n C.x C.b dX7_skin_7 rfl (lv_at hl 2 rfl) ?_
  obtain ⟨q_2, hc, hf⟩ := bd_k (K := fun x => x) rfl hf
  refine cM_isThen C h hc (Nat.le_of_ble_eq_true rfl) hl.1 (Nat.le_of_ble_eq_true rfl) dX7_skin_8 (fun H locs h => ?_)
  refine lv_if_ne (tgt := 17) C.x C.b dX7_skin_11 (by decide) (fun c9 => ?_) (fun c9 => ?_)
  · have hf := if_f (K := fun x => x) c9 hf
    refine lv_aload_n C.x C.b dX7_skin_17 rfl (lv_at hl 0 rfl) ?_
    obtain ⟨q_3, hc, hf⟩ := bd_k (K := fun x => x) rfl hf
    refine cM_laysNow C h hc (Nat.le_of_ble_eq_true rfl) hl.1 (Nat.le_of_ble_eq_true rfl) dX7_skin_18 (fun H locs h => ?_)
    refine lv_aload_n C.x C.b dX7_skin_21 rfl (lv_at hl 0 rfl) ?_
    refine lv_iload_n C.x C.b dX7_skin_22 rfl (lv_at hl 1 rfl) ?_
    refine lv_iload_n C.x C.b dX7_skin_23 rfl (lv_at hl 2 rfl) ?_
    obtain ⟨q_4, hc, hf⟩ := bd_k (K := fun x => x) rfl hf
    refine cM_skinOf C h hc (Nat.le_of_ble_eq_true rfl) hl.1 (Nat.le_of_ble_eq_true rfl) dX7_skin_24 (fun H locs h => ?_)
    exact hR _ _ (some_k hf) _ _ _ _ h rfl dX7_skin_27
  · have hf := if_t (K := fun x => x) c9 hf
    refine lv_bipush (v := (-2)) C.x C.b dX7_skin_14 (by decide) ?_
    exact hR _ _ (some_k hf) _ _ _ _ h rfl dX7_skin_16
def M_pace_j21 (σ : PS) (x0 : Int32) : Option (Int32 × PS) := some (x0, σ)
def M_pace (σ : PS) : Option (Int32 × PS) := nm (sI σ 0 0) (fun σ_1 => bd (M_isLehr σ_1) (fun q_2 => if q_2 = 0 then M_pace_j21 σ_1 ((-2)) else bd (M_bestPace σ_1) (fun q_3 => M_pace_j21 q_3.2 q_3.1)))
set_option maxHeartbeats 4000000 in
theorem kM_pace (l : Launch) {D : va_G} {ty : Nat → ClassId} {A : Nat → Prop} {o : Nat} {ad : Nat → Nat} {rs : va_W} {σ : PS} {σ' : PS} {r : Int32} (hf : M_pace σ = some (r, σ')) : KI l yX7_pace cX7_pace 1 .int 7 D ty A (wM ty o ad σ ++ rs) (wM ty o ad σ' ++ rs) [.ref o] r := by
  refine KI.of (by decide) (Nat.le_of_ble_eq_true rfl) ?_
  intro p e R s m args below meth c Q C hR
  have C : Cx p R s m args c cX7_pace 1 RX7 D ty A 7 := C
  have hR : ∀ (v : Int32) (σ2 : PS), (v, σ2) = (r, σ') → ∀ (H : Heap) (locs : List Loc) (pc : Nat) (ls : Array Slot), Hw D A s H locs (wM ty o ad σ2 ++ rs) → narrow .int (.int v) = .int v → decode cX7_pace pc = .ok (.ireturn, 1) → W p l e R s m args below meth c H locs 0 0 Q (F0 m pc ls [.int v]) := by intro v σ2 e9; cases e9; exact hR
  have j21 : ∀ (σ : PS) (x0 : Int32) (H : Heap) (locs : List Loc) (ls : Array Slot), Hw D A s H locs (wM ty o ad σ ++ rs) → lv_has ls 1 [] → M_pace_j21 σ x0 = some (r, σ') → W p l e R s m args below meth c H locs 0 0 Q (F0 m 21 ls [.int x0]) := by
    intro σ x0 H locs ls h hl hf
    unfold M_pace_j21 at hf
    exact hR _ _ (some_k hf) _ _ _ _ h rfl dX7_pace_21
  intro H locs ls h hl
  have hl : lv_has ls 1 [(0, .ref o)] := hl
  unfold M_pace at hf
  refine lv_aload_n C.x C.b dX7_pace_0 rfl (lv_at hl 0 rfl) ?_
  refine lv_iconst (v := 0) C.x C.b dX7_pace_1 (by decide) ?_
  obtain ⟨σ_1, e9, hf⟩ := nm_k (K := fun x => x) hf
  refine m_p0 C h e9 dX7_pace_2 (fun H locs h => ?_)
  refine lv_aload_n C.x C.b dX7_pace_5 rfl (lv_at hl 0 rfl) ?_
  obtain ⟨q_2, hc, hf⟩ := bd_k (K := fun x => x) rfl hf
  refine cM_isLehr C h hc (Nat.le_of_ble_eq_true rfl) hl.1 (Nat.le_of_ble_eq_true rfl) dX7_pace_6 (fun H locs h => ?_)
  refine lv_if_eq (tgt := 19) C.x C.b dX7_pace_9 (by decide) (fun c9 => ?_) (fun c9 => ?_)
  · have hf := if_t (K := fun x => x) c9 hf
    refine lv_bipush (v := (-2)) C.x C.b dX7_pace_19 (by decide) ?_
    exact j21 σ_1 ((-2)) _ _ _ h (lv_sub hl [] rfl) hf
  · have hf := if_f (K := fun x => x) c9 hf
    refine lv_aload_n C.x C.b dX7_pace_12 rfl (lv_at hl 0 rfl) ?_
    obtain ⟨q_3, hc, hf⟩ := bd_k (K := fun x => x) rfl hf
    refine cM_bestPace C h hc (Nat.le_of_ble_eq_true rfl) hl.1 (Nat.le_of_ble_eq_true rfl) dX7_pace_13 (fun H locs h => ?_)
    refine lv_goto (tgt := 21) C.x C.b dX7_pace_16 (by decide) ?_
    exact j21 q_3.2 q_3.1 _ _ _ h (lv_sub hl [] rfl) hf
def M_fires_j34 (σ : PS) : Option (Int32 × PS) := some ((-2), σ)
def M_fires (σ : PS) (v1 : Int32) (v2 : Int32) (v3 : Int32) : Option (Int32 × PS) := nm (sI σ 0 0) (fun σ_1 => bd (M_isZone σ_1 v1) (fun q_2 => if q_2 = 0 then M_fires_j34 σ_1 else bd (M_in v2.toInt64 1 200) (fun q_3 => if q_3 = 0 then M_fires_j34 σ_1 else bd (M_isStep σ_1 v3.toInt64) (fun q_4 => if q_4 = 0 then M_fires_j34 σ_1 else ix 7 40 (if (rA σ_1 17 7) = 30 then some ((-5), σ_1) else bd (M_does σ_1 0 v1 v2 v3) (fun q_5 => bd (M_soundNow q_5) (fun q_6 => bd (M_sizeOf q_6) (fun q_7 => some (q_7, q_5)))))))))
set_option maxHeartbeats 4000000 in
theorem kM_fires (l : Launch) {D : va_G} {ty : Nat → ClassId} {A : Nat → Prop} {o : Nat} {ad : Nat → Nat} {rs : va_W} {σ : PS} {σ' : PS} {v1 : Int32} {v2 : Int32} {v3 : Int32} {r : Int32} (hf : M_fires σ v1 v2 v3 = some (r, σ')) : KI l yX7_fires cX7_fires 4 .int 7 D ty A (wM ty o ad σ ++ rs) (wM ty o ad σ' ++ rs) [.ref o, .int v1, .int v2, .int v3] r := by
  refine KI.of (by decide) (Nat.le_of_ble_eq_true rfl) ?_
  intro p e R s m args below meth c Q C hR
  have C : Cx p R s m args c cX7_fires 4 RX7 D ty A 7 := C
  have hR : ∀ (v : Int32) (σ2 : PS), (v, σ2) = (r, σ') → ∀ (H : Heap) (locs : List Loc) (pc : Nat) (ls : Array Slot), Hw D A s H locs (wM ty o ad σ2 ++ rs) → narrow .int (.int v) = .int v → decode cX7_fires pc = .ok (.ireturn, 1) → W p l e R s m args below meth c H locs 0 0 Q (F0 m pc ls [.int v]) := by intro v σ2 e9; cases e9; exact hR
  have j34 : ∀ (σ : PS) (H : Heap) (locs : List Loc) (ls : Array Slot), Hw D A s H locs (wM ty o ad σ ++ rs) → lv_has ls 4 [] → M_fires_j34 σ = some (r, σ') → W p l e R s m args below meth c H locs 0 0 Q (F0 m 34 ls []) := by
    intro σ H locs ls h hl hf
    unfold M_fires_j34 at hf
    refine lv_bipush (v := (-2)) C.x C.b dX7_fires_34 (by decide) ?_
    exact hR _ _ (some_k hf) _ _ _ _ h rfl dX7_fires_36
  intro H locs ls h hl
  have hl : lv_has ls 4 [(0, .ref o), (1, .int v1), (2, .int v2), (3, .int v3)] := hl
  unfold M_fires at hf
  refine lv_aload_n C.x C.b dX7_fires_0 rfl (lv_at hl 0 rfl) ?_
  refine lv_iconst (v := 0) C.x C.b dX7_fires_1 (by decide) ?_
  obtain ⟨σ_1, e9, hf⟩ := nm_k (K := fun x => x) hf
  refine m_p0 C h e9 dX7_fires_2 (fun H locs h => ?_)
  refine lv_aload_n C.x C.b dX7_fires_5 rfl (lv_at hl 0 rfl) ?_
  refine lv_iload_n C.x C.b dX7_fires_6 rfl (lv_at hl 1 rfl) ?_
  obtain ⟨q_2, hc, hf⟩ := bd_k (K := fun x => x) rfl hf
  refine cM_isZone C h hc (Nat.le_of_ble_eq_true rfl) hl.1 (Nat.le_of_ble_eq_true rfl) dX7_fires_7 (fun H locs h => ?_)
  refine lv_if_eq (tgt := 34) C.x C.b dX7_fires_10 (by decide) (fun c9 => ?_) (fun c9 => ?_)
  · have hf := if_t (K := fun x => x) c9 hf
    exact j34 σ_1 _ _ _ h (lv_sub hl [] rfl) hf
  · have hf := if_f (K := fun x => x) c9 hf
    refine lv_iload_n C.x C.b dX7_fires_13 rfl (lv_at hl 2 rfl) ?_
    refine lv_i2l C.x C.b dX7_fires_14 rfl ?_
    refine lv_lconst (v := 1) C.x C.b dX7_fires_15 (by decide) ?_
    refine lv_ldc2 (v := 200) C.x C.b C.own (C.ts _ q2305) dX7_fires_16 ?_
    obtain ⟨q_3, hc, hf⟩ := bd_k (K := fun x => x) rfl hf
    refine cM_in C h hc (Nat.le_of_ble_eq_true rfl) hl.1 (Nat.le_of_ble_eq_true rfl) dX7_fires_19 (fun H locs h => ?_)
    refine lv_if_eq (tgt := 34) C.x C.b dX7_fires_22 (by decide) (fun c9 => ?_) (fun c9 => ?_)
    · have hf := if_t (K := fun x => x) c9 hf
      exact j34 σ_1 _ _ _ h (lv_sub hl [] rfl) hf
    · have hf := if_f (K := fun x => x) c9 hf
      refine lv_aload_n C.x C.b dX7_fires_25 rfl (lv_at hl 0 rfl) ?_
      refine lv_iload_n C.x C.b dX7_fires_26 rfl (lv_at hl 3 rfl) ?_
      refine lv_i2l C.x C.b dX7_fires_27 rfl ?_
      obtain ⟨q_4, hc, hf⟩ := bd_k (K := fun x => x) rfl hf
      refine cM_isStep C h hc (Nat.le_of_ble_eq_true rfl) hl.1 (Nat.le_of_ble_eq_true rfl) dX7_fires_28 (fun H locs h => ?_)
      refine lv_if_ne (tgt := 37) C.x C.b dX7_fires_31 (by decide) (fun c9 => ?_) (fun c9 => ?_)
      · have hf := if_f (K := fun x => x) c9 hf
        refine lv_aload_n C.x C.b dX7_fires_37 rfl (lv_at hl 0 rfl) ?_
        refine m_g17 C h dX7_fires_38 ?_
        refine lv_bipush (v := 7) C.x C.b dX7_fires_41 (by decide) ?_
        obtain ⟨hi, hf⟩ := ix_k (K := fun x => x) rfl hf
        refine m_a17 C h hi dX7_fires_43 ?_
        refine lv_bipush (v := 30) C.x C.b dX7_fires_44 (by decide) ?_
        refine lv_icmp_ne (tgt := 52) C.x C.b dX7_fires_46 (by decide) (fun c9 => ?_) (fun c9 => ?_)
        · have hf := if_f (K := fun x => x) c9 hf
          refine lv_aload_n C.x C.b dX7_fires_52 rfl (lv_at hl 0 rfl) ?_
          refine lv_iconst (v := 0) C.x C.b dX7_fires_53 (by decide) ?_
          refine lv_iload_n C.x C.b dX7_fires_54 rfl (lv_at hl 1 rfl) ?_
          refine lv_iload_n C.x C.b dX7_fires_55 rfl (lv_at hl 2 rfl) ?_
          refine lv_iload_n C.x C.b dX7_fires_56 rfl (lv_at hl 3 rfl) ?_
          obtain ⟨q_5, hc, hf⟩ := bd_k (K := fun x => x) rfl hf
          refine cM_does C h hc (Nat.le_of_ble_eq_true rfl) hl.1 (Nat.le_of_ble_eq_true rfl) dX7_fires_57 (fun H locs h => ?_)
          refine lv_aload_n C.x C.b dX7_fires_60 rfl (lv_at hl 0 rfl) ?_
          obtain ⟨q_6, hc, hf⟩ := bd_k (K := fun x => x) rfl hf
          refine cM_soundNow C h hc (Nat.le_of_ble_eq_true rfl) hl.1 (Nat.le_of_ble_eq_true rfl) dX7_fires_61 (fun H locs h => ?_)
          obtain ⟨q_7, hc, hf⟩ := bd_k (K := fun x => x) rfl hf
          refine cM_sizeOf C h hc (Nat.le_of_ble_eq_true rfl) hl.1 (Nat.le_of_ble_eq_true rfl) dX7_fires_64 (fun H locs h => ?_)
          exact hR _ _ (some_k hf) _ _ _ _ h rfl dX7_fires_67
        · have hf := if_t (K := fun x => x) c9 hf
          refine lv_bipush (v := (-5)) C.x C.b dX7_fires_49 (by decide) ?_
          exact hR _ _ (some_k hf) _ _ _ _ h rfl dX7_fires_51
      · have hf := if_t (K := fun x => x) c9 hf
        exact j34 σ_1 _ _ _ h (lv_sub hl [] rfl) hf
