set_option maxRecDepth 100000
def M_times_j17 (x0 : Int32) : Option Int32 := some x0
def M_times : Nat → Int32 → Option Int32
  | 0, _ => none
  | n9 + 1, v0 => if 2 ≤ v0 then bd (M_times n9 (v0 - 1)) (fun q_1 => M_times_j17 (v0 * q_1)) else M_times_j17 1
theorem tM_times : GoodIn lw_all (va_wsS RX7 397 yX7_times (ws_ yX7_times cX7_times 1 (some .int))) := lw_S q2234 q2235 q147 q2236
set_option maxHeartbeats 4000000 in
theorem kM_times (l : Launch) {D : va_G} {ty : Nat → ClassId} {A : Nat → Prop} {ws : va_W} : ∀ (n9 : Nat) {v0 : Int32} {r : Int32}, M_times n9 v0 = some r → KI l yX7_times cX7_times 1 .int n9 D ty A ws ws [.int v0] r := by
  intro n9
  induction n9 with
  | zero => intro v0 r hf; cases hf
  | succ n9 ih =>
  intro v0 r hf
  have hf : (if 2 ≤ v0 then bd (M_times n9 (v0 - 1)) (fun q_1 => M_times_j17 (v0 * q_1)) else M_times_j17 1) = some r := hf
  refine KI.of (by decide) (Nat.le_of_ble_eq_true rfl) ?_
  intro p e R s m args below meth c Q C hR
  have C : Cx p R s m args c cX7_times 1 RX7 D ty A (n9 + 1) := C
  have hR : ∀ (v : Int32), v = r → ∀ (H : Heap) (locs : List Loc) (pc : Nat) (ls : Array Slot), Hw D A s H locs ws → narrow .int (.int v) = .int v → decode cX7_times pc = .ok (.ireturn, 1) → W p l e R s m args below meth c H locs 0 0 Q (F0 m pc ls [.int v]) := by intro v e9; cases e9; exact hR
  have j17 : ∀ (x0 : Int32) (H : Heap) (locs : List Loc) (ls : Array Slot), Hw D A s H locs ws → lv_has ls 1 [] → M_times_j17 x0 = some r → W p l e R s m args below meth c H locs 0 0 Q (F0 m 17 ls [.int x0]) := by
    intro x0 H locs ls h hl hf
    unfold M_times_j17 at hf
    exact hR _ (some_k hf) _ _ _ _ h rfl dX7_times_17
  intro H locs ls h hl
  have hl : lv_has ls 1 [(0, .int v0)] := hl
  refine lv_iload_n C.x C.b dX7_times_0 rfl (lv_at hl 0 rfl) ?_
  refine lv_iconst (v := 2) C.x C.b dX7_times_1 (by decide) ?_
  refine lv_icmp_ge (tgt := 9) C.x C.b dX7_times_2 (by decide) (fun c9 => ?_) (fun c9 => ?_)
  · have hf := if_t (K := fun x => x) c9 hf
    refine lv_iload_n C.x C.b dX7_times_9 rfl (lv_at hl 0 rfl) ?_
    refine lv_iload_n C.x C.b dX7_times_10 rfl (lv_at hl 0 rfl) ?_
    refine lv_iconst (v := 1) C.x C.b dX7_times_11 (by decide) ?_
    refine lv_isub C.x C.b dX7_times_12 ?_
    obtain ⟨q_1, hc, hf⟩ := bd_k (K := fun x => x) rfl hf
    refine KI.callS (As := [.int (v0 - 1)]) C (ih hc) tM_times ⟨by decide, by decide, by show _ = some 1; decide +kernel⟩ (Nat.le_refl _) (by decide) (Nat.zero_le _) (Nat.zero_le _) h hl.1 rfl (Nat.le_of_ble_eq_true rfl) dX7_times_13 (fun H locs h => ?_)
    refine lv_imul C.x C.b dX7_times_16 ?_
    exact j17 (v0 * q_1) _ _ _ h (lv_sub hl [] rfl) hf
  · have hf := if_f (K := fun x => x) c9 hf
    refine lv_iconst (v := 1) C.x C.b dX7_times_5 (by decide) ?_
    refine lv_goto (tgt := 17) C.x C.b dX7_times_6 (by decide) ?_
    exact j17 1 _ _ _ h (lv_sub hl [] rfl) hf
theorem cM_times {p : Program} {l : Launch} {e : Env} {R : Room} {s : State} {m : MethodId} {args : Array Value} {below : List Frame} {meth : Method} {c : Code} {H : Heap} {locs : List Loc} {Q : State → Prop} {cc : ByteArray} {pc : Nat} {ls : Array Slot} {st : List Value} {nL d : Nat} {D : va_G} {ty : Nat → ClassId} {A : Nat → Prop} {ws : va_W} {v0 : Int32} {q : Int32} (C : Cx p R s m args c cc nL RX7 D ty A d) (h : Hw D A s H locs ws) (hc : M_times 64 v0 = some q) (hd : 64 + 1 ≤ d) (hls : ls.size = nL) (hcat : (st.map fun v => v.category).sum ≤ 8) (dec : decode cc pc = .ok (.invokestatic 397, 3)) (kk : ∀ (H : Heap) (locs : List Loc), Hw D A s H locs ws → W p l e R s m args below meth c H locs 0 0 Q (F0 m (pc + 3) ls (.int q :: st))) : W p l e R s m args below meth c H locs 0 0 Q (F0 m pc ls (.int v0 :: st)) := KI.callS (As := [.int v0]) C (kM_times l 64 hc) tM_times ⟨by decide, by decide, by show _ = some 1; decide +kernel⟩ hd (by decide) (Nat.zero_le _) (Nat.zero_le _) h hls rfl hcat dec kk
def M_common_j28 (x0 : Int64) : Option Int64 := some x0
def M_common : Nat → Int64 → Int64 → Option Int64
  | 0, _, _ => none
  | n9 + 1, v0, v2 => if (lg_cmp v2 0) = 0 then if 0 ≤ (lg_cmp v0 0) then M_common_j28 v0 else M_common_j28 (-v0) else nzl v2 (bd (M_common n9 v2 (v0 - v0 / v2 * v2)) (fun q_1 => M_common_j28 q_1))
theorem tM_common : GoodIn lw_all (va_wsS RX7 400 yX7_common (ws_ yX7_common cX7_common 4 (some .long))) := lw_S q2240 q2241 q147 q2242
set_option maxHeartbeats 4000000 in
theorem kM_common (l : Launch) {D : va_G} {ty : Nat → ClassId} {A : Nat → Prop} {ws : va_W} : ∀ (n9 : Nat) {v0 : Int64} {v2 : Int64} {r : Int64}, M_common n9 v0 v2 = some r → KL l yX7_common cX7_common 4 n9 D ty A ws ws [.long v0, .long v2] r := by
  intro n9
  induction n9 with
  | zero => intro v0 v2 r hf; cases hf
  | succ n9 ih =>
  intro v0 v2 r hf
  have hf : (if (lg_cmp v2 0) = 0 then if 0 ≤ (lg_cmp v0 0) then M_common_j28 v0 else M_common_j28 (-v0) else nzl v2 (bd (M_common n9 v2 (v0 - v0 / v2 * v2)) (fun q_1 => M_common_j28 q_1))) = some r := hf
  refine KL.of (by decide) (Nat.le_of_ble_eq_true rfl) ?_
  intro p e R s m args below meth c Q C hR
  have C : Cx p R s m args c cX7_common 4 RX7 D ty A (n9 + 1) := C
  have hR : ∀ (v : Int64), v = r → ∀ (H : Heap) (locs : List Loc) (pc : Nat) (ls : Array Slot), Hw D A s H locs ws → decode cX7_common pc = .ok (.lreturn, 1) → W p l e R s m args below meth c H locs 0 0 Q (F0 m pc ls [.long v]) := by intro v e9; cases e9; exact hR
  have j28 : ∀ (x0 : Int64) (H : Heap) (locs : List Loc) (ls : Array Slot), Hw D A s H locs ws → lv_has ls 4 [] → M_common_j28 x0 = some r → W p l e R s m args below meth c H locs 0 0 Q (F0 m 28 ls [.long x0]) := by
    intro x0 H locs ls h hl hf
    unfold M_common_j28 at hf
    exact hR _ (some_k hf) _ _ _ _ h dX7_common_28
  intro H locs ls h hl
  have hl : lv_has ls 4 [(0, .long v0), (2, .long v2)] := hl
  refine lv_lload_n C.x C.b dX7_common_0 rfl (lv_at hl 1 rfl) ?_
  refine lv_lconst (v := 0) C.x C.b dX7_common_1 (by decide) ?_
  refine W.lcmp C.x C.b dX7_common_2 ?_
  refine lv_if_ne (tgt := 21) C.x C.b dX7_common_3 (by decide) (fun c9 => ?_) (fun c9 => ?_)
  · have hf := if_f (K := fun x => x) c9 hf
    refine lv_lload_n C.x C.b dX7_common_21 rfl (lv_at hl 1 rfl) ?_
    refine lv_lload_n C.x C.b dX7_common_22 rfl (lv_at hl 0 rfl) ?_
    refine lv_lload_n C.x C.b dX7_common_23 rfl (lv_at hl 1 rfl) ?_
    obtain ⟨hz, hf⟩ := nzl_k (K := fun x => x) rfl hf
    refine lv_lrem C.x C.b dX7_common_24 hz ?_
    obtain ⟨q_1, hc, hf⟩ := bd_k (K := fun x => x) rfl hf
    refine KL.callS (As := [.long v2, .long (v0 - v0 / v2 * v2)]) C (ih hc) tM_common ⟨by decide, by decide, by show _ = some 2; decide +kernel⟩ (Nat.le_refl _) (by decide) (Nat.zero_le _) (Nat.zero_le _) h hl.1 rfl (Nat.le_of_ble_eq_true rfl) dX7_common_25 (fun H locs h => ?_)
    exact j28 q_1 _ _ _ h (lv_sub hl [] rfl) hf
  · have hf := if_t (K := fun x => x) c9 hf
    refine lv_lload_n C.x C.b dX7_common_6 rfl (lv_at hl 0 rfl) ?_
    refine lv_lconst (v := 0) C.x C.b dX7_common_7 (by decide) ?_
    refine W.lcmp C.x C.b dX7_common_8 ?_
    refine lv_if_ge (tgt := 17) C.x C.b dX7_common_9 (by decide) (fun c9 => ?_) (fun c9 => ?_)
    · have hf := if_t (K := fun x => x) c9 hf
      refine lv_lload_n C.x C.b dX7_common_17 rfl (lv_at hl 0 rfl) ?_
      refine lv_goto (tgt := 28) C.x C.b dX7_common_18 (by decide) ?_
      exact j28 v0 _ _ _ h (lv_sub hl [] rfl) hf
    · have hf := if_f (K := fun x => x) c9 hf
      refine lv_lload_n C.x C.b dX7_common_12 rfl (lv_at hl 0 rfl) ?_
      refine lv_lneg C.x C.b dX7_common_13 ?_
      refine lv_goto (tgt := 28) C.x C.b dX7_common_14 (by decide) ?_
      exact j28 (-v0) _ _ _ h (lv_sub hl [] rfl) hf
theorem cM_common {p : Program} {l : Launch} {e : Env} {R : Room} {s : State} {m : MethodId} {args : Array Value} {below : List Frame} {meth : Method} {c : Code} {H : Heap} {locs : List Loc} {Q : State → Prop} {cc : ByteArray} {pc : Nat} {ls : Array Slot} {st : List Value} {nL d : Nat} {D : va_G} {ty : Nat → ClassId} {A : Nat → Prop} {ws : va_W} {v0 : Int64} {v2 : Int64} {q : Int64} (C : Cx p R s m args c cc nL RX7 D ty A d) (h : Hw D A s H locs ws) (hc : M_common 64 v0 v2 = some q) (hd : 64 + 1 ≤ d) (hls : ls.size = nL) (hcat : (st.map fun v => v.category).sum ≤ 8) (dec : decode cc pc = .ok (.invokestatic 400, 3)) (kk : ∀ (H : Heap) (locs : List Loc), Hw D A s H locs ws → W p l e R s m args below meth c H locs 0 0 Q (F0 m (pc + 3) ls (.long q :: st))) : W p l e R s m args below meth c H locs 0 0 Q (F0 m pc ls (.long v2 :: .long v0 :: st)) := KL.callS (As := [.long v0, .long v2]) C (kM_common l 64 hc) tM_common ⟨by decide, by decide, by show _ = some 2; decide +kernel⟩ hd (by decide) (Nat.zero_le _) (Nat.zero_le _) h hls rfl hcat dec kk
def M_power_j17 (x0 : Int64) : Option Int64 := some x0
def M_power : Nat → Int64 → Int32 → Option Int64
  | 0, _, _ => none
  | n9 + 1, v0, v2 => if v2 = 0 then M_power_j17 1 else bd (M_power n9 v0 (v2 - 1)) (fun q_1 => M_power_j17 (v0 * q_1))
theorem tM_power : GoodIn lw_all (va_wsS RX7 419 yX7_power (ws_ yX7_power cX7_power 3 (some .long))) := lw_S q2271 q2272 q147 q2273
set_option maxHeartbeats 4000000 in
theorem kM_power (l : Launch) {D : va_G} {ty : Nat → ClassId} {A : Nat → Prop} {ws : va_W} : ∀ (n9 : Nat) {v0 : Int64} {v2 : Int32} {r : Int64}, M_power n9 v0 v2 = some r → KL l yX7_power cX7_power 3 n9 D ty A ws ws [.long v0, .int v2] r := by
  intro n9
  induction n9 with
  | zero => intro v0 v2 r hf; cases hf
  | succ n9 ih =>
  intro v0 v2 r hf
  have hf : (if v2 = 0 then M_power_j17 1 else bd (M_power n9 v0 (v2 - 1)) (fun q_1 => M_power_j17 (v0 * q_1))) = some r := hf
  refine KL.of (by decide) (Nat.le_of_ble_eq_true rfl) ?_
  intro p e R s m args below meth c Q C hR
  have C : Cx p R s m args c cX7_power 3 RX7 D ty A (n9 + 1) := C
  have hR : ∀ (v : Int64), v = r → ∀ (H : Heap) (locs : List Loc) (pc : Nat) (ls : Array Slot), Hw D A s H locs ws → decode cX7_power pc = .ok (.lreturn, 1) → W p l e R s m args below meth c H locs 0 0 Q (F0 m pc ls [.long v]) := by intro v e9; cases e9; exact hR
  have j17 : ∀ (x0 : Int64) (H : Heap) (locs : List Loc) (ls : Array Slot), Hw D A s H locs ws → lv_has ls 3 [] → M_power_j17 x0 = some r → W p l e R s m args below meth c H locs 0 0 Q (F0 m 17 ls [.long x0]) := by
    intro x0 H locs ls h hl hf
    unfold M_power_j17 at hf
    exact hR _ (some_k hf) _ _ _ _ h dX7_power_17
  intro H locs ls h hl
  have hl : lv_has ls 3 [(0, .long v0), (2, .int v2)] := hl
  refine lv_iload_n C.x C.b dX7_power_0 rfl (lv_at hl 1 rfl) ?_
  refine lv_if_ne (tgt := 8) C.x C.b dX7_power_1 (by decide) (fun c9 => ?_) (fun c9 => ?_)
  · have hf := if_f (K := fun x => x) c9 hf
    refine lv_lload_n C.x C.b dX7_power_8 rfl (lv_at hl 0 rfl) ?_
    refine lv_lload_n C.x C.b dX7_power_9 rfl (lv_at hl 0 rfl) ?_
    refine lv_iload_n C.x C.b dX7_power_10 rfl (lv_at hl 1 rfl) ?_
    refine lv_iconst (v := 1) C.x C.b dX7_power_11 (by decide) ?_
    refine lv_isub C.x C.b dX7_power_12 ?_
    obtain ⟨q_1, hc, hf⟩ := bd_k (K := fun x => x) rfl hf
    refine KL.callS (As := [.long v0, .int (v2 - 1)]) C (ih hc) tM_power ⟨by decide, by decide, by show _ = some 2; decide +kernel⟩ (Nat.le_refl _) (by decide) (Nat.zero_le _) (Nat.zero_le _) h hl.1 rfl (Nat.le_of_ble_eq_true rfl) dX7_power_13 (fun H locs h => ?_)
    refine lv_lmul C.x C.b dX7_power_16 ?_
    exact j17 (v0 * q_1) _ _ _ h (lv_sub hl [] rfl) hf
  · have hf := if_t (K := fun x => x) c9 hf
    refine lv_lconst (v := 1) C.x C.b dX7_power_4 (by decide) ?_
    refine lv_goto (tgt := 17) C.x C.b dX7_power_5 (by decide) ?_
    exact j17 1 _ _ _ h (lv_sub hl [] rfl) hf
theorem cM_power {p : Program} {l : Launch} {e : Env} {R : Room} {s : State} {m : MethodId} {args : Array Value} {below : List Frame} {meth : Method} {c : Code} {H : Heap} {locs : List Loc} {Q : State → Prop} {cc : ByteArray} {pc : Nat} {ls : Array Slot} {st : List Value} {nL d : Nat} {D : va_G} {ty : Nat → ClassId} {A : Nat → Prop} {ws : va_W} {v0 : Int64} {v2 : Int32} {q : Int64} (C : Cx p R s m args c cc nL RX7 D ty A d) (h : Hw D A s H locs ws) (hc : M_power 64 v0 v2 = some q) (hd : 64 + 1 ≤ d) (hls : ls.size = nL) (hcat : (st.map fun v => v.category).sum ≤ 8) (dec : decode cc pc = .ok (.invokestatic 419, 3)) (kk : ∀ (H : Heap) (locs : List Loc), Hw D A s H locs ws → W p l e R s m args below meth c H locs 0 0 Q (F0 m (pc + 3) ls (.long q :: st))) : W p l e R s m args below meth c H locs 0 0 Q (F0 m pc ls (.int v2 :: .long v0 :: st)) := KL.callS (As := [.long v0, .int v2]) C (kM_power l 64 hc) tM_power ⟨by decide, by decide, by show _ = some 2; decide +kernel⟩ hd (by decide) (Nat.zero_le _) (Nat.zero_le _) h hls rfl hcat dec kk
def M_copyRow_16_j31 (σ : PS) : Option PS := some σ
def M_copyRow_16_l3 (v1 : Int32) (v2 : Int32) (v3 : Int32) (v4 : Int32) (σ : PS) : Option ((Int32 × PS) ⊕ PS) := if v1 ≤ v4 then up (M_copyRow_16_j31 σ) else ix ((v1 * v2) + v4) 5 (ix ((v1 * v3) + v4) 5 (nm (wA σ 16 ((v1 * v3) + v4) (rA σ 16 ((v1 * v2) + v4))) (fun σ_1 => nm (v4 + 1) (fun v4_2 => some (.inl (v4_2, σ_1))))))
def M_copyRow_16_B3 (v1 : Int32) (v2 : Int32) (v3 : Int32) : (Int32 × PS) → Option ((Int32 × PS) ⊕ PS) := fun t => M_copyRow_16_l3 v1 v2 v3 t.1 t.2
def M_copyRow_16 (σ : PS) (v1 : Int32) (v2 : Int32) (v3 : Int32) : Option PS := loop (M_copyRow_16_B3 v1 v2 v3) fu (0, σ)
set_option maxHeartbeats 4000000 in
theorem kM_copyRow_16 (l : Launch) {D : va_G} {ty : Nat → ClassId} {A : Nat → Prop} {o : Nat} {ad : Nat → Nat} {rs : va_W} {σ : PS} {σ' : PS} {v1 : Int32} {v2 : Int32} {v3 : Int32} (hf : M_copyRow_16 σ v1 v2 v3 = some σ') : KV l yX7_copyRow cX7_copyRow 5 0 D ty A (wM ty o ad σ ++ rs) (wM ty o ad σ' ++ rs) [.ref (ad 16), .int v1, .int v2, .int v3] := by
  refine KV.of (by decide) (Nat.le_of_ble_eq_true rfl) ?_
  intro p e R s m args below meth c Q C hR
  have C : Cx p R s m args c cX7_copyRow 5 RX7 D ty A 0 := C
  have hR : ∀ (σ2 : PS), σ2 = σ' → ∀ (H : Heap) (locs : List Loc) (pc : Nat) (ls : Array Slot), Hw D A s H locs (wM ty o ad σ2 ++ rs) → decode cX7_copyRow pc = .ok (.return_, 1) → W p l e R s m args below meth c H locs 0 0 Q (F0 m pc ls []) := by intro σ2 e9; cases e9; exact hR
  have j31 : ∀ (σ : PS) (H : Heap) (locs : List Loc) (ls : Array Slot), Hw D A s H locs (wM ty o ad σ ++ rs) → lv_has ls 5 [] → M_copyRow_16_j31 σ = some σ' → W p l e R s m args below meth c H locs 0 0 Q (F0 m 31 ls []) := by
    intro σ H locs ls h hl hf
    unfold M_copyRow_16_j31 at hf
    exact hR _ (some_k hf) _ _ _ _ h dX7_copyRow_31
  have l3 : ∀ (n3 : Nat) (v4 : Int32) (σ : PS) (H : Heap) (locs : List Loc) (ls : Array Slot), Hw D A s H locs (wM ty o ad σ ++ rs) → lv_has ls 5 [(0, .ref (ad 16)), (1, .int v1), (2, .int v2), (3, .int v3), (4, .int v4)] → loop (M_copyRow_16_B3 v1 v2 v3) n3 (v4, σ) = some σ' → W p l e R s m args below meth c H locs 0 0 Q (F0 m 3 ls []) := by
    intro n3
    induction n3 with
    | zero => intro v4 σ H locs ls h hl hf; exact (none_k hf).elim
    | succ n3 ih3 =>
      intro v4 σ H locs ls h hl hf
      have hf : bl (M_copyRow_16_B3 v1 v2 v3) n3 (M_copyRow_16_l3 v1 v2 v3 v4 σ) = some σ' := hf
      unfold M_copyRow_16_l3 at hf
      refine lv_iload C.x C.b dX7_copyRow_3 (lv_at hl 4 rfl) ?_
      refine lv_iload_n C.x C.b dX7_copyRow_5 rfl (lv_at hl 1 rfl) ?_
      refine lv_icmp_ge (tgt := 31) C.x C.b dX7_copyRow_6 (by decide) (fun c9 => ?_) (fun c9 => ?_)
      · have hf := if_t (K := bl (M_copyRow_16_B3 v1 v2 v3) n3) c9 hf
        have hf := bl_upK (K := fun x => x) hf
        exact j31 σ _ _ _ h (lv_sub hl [] rfl) hf
      · have hf := if_f (K := bl (M_copyRow_16_B3 v1 v2 v3) n3) c9 hf
        refine lv_aload_n C.x C.b dX7_copyRow_9 rfl (lv_at hl 0 rfl) ?_
        refine lv_iload_n C.x C.b dX7_copyRow_10 rfl (lv_at hl 1 rfl) ?_
        refine lv_iload_n C.x C.b dX7_copyRow_11 rfl (lv_at hl 3 rfl) ?_
        refine lv_imul C.x C.b dX7_copyRow_12 ?_
        refine lv_iload C.x C.b dX7_copyRow_13 (lv_at hl 4 rfl) ?_
        refine lv_iadd C.x C.b dX7_copyRow_15 ?_
        refine lv_aload_n C.x C.b dX7_copyRow_16 rfl (lv_at hl 0 rfl) ?_
        refine lv_iload_n C.x C.b dX7_copyRow_17 rfl (lv_at hl 1 rfl) ?_
        refine lv_iload_n C.x C.b dX7_copyRow_18 rfl (lv_at hl 2 rfl) ?_
        refine lv_imul C.x C.b dX7_copyRow_19 ?_
        refine lv_iload C.x C.b dX7_copyRow_20 (lv_at hl 4 rfl) ?_
        refine lv_iadd C.x C.b dX7_copyRow_22 ?_
        obtain ⟨hi, hf⟩ := ix_k (K := bl (M_copyRow_16_B3 v1 v2 v3) n3) rfl hf
        refine m_a16 C h hi dX7_copyRow_23 ?_
        obtain ⟨hi, hf⟩ := ix_k (K := bl (M_copyRow_16_B3 v1 v2 v3) n3) rfl hf
        obtain ⟨σ_1, e9, hf⟩ := nm_k (K := bl (M_copyRow_16_B3 v1 v2 v3) n3) hf
        refine m_w16 C h hi e9 dX7_copyRow_24 (fun H locs h => ?_)
        obtain ⟨v4_2, e9, hf⟩ := nm_k (K := bl (M_copyRow_16_B3 v1 v2 v3) n3) hf
        refine lv_iinc (v := v4_2) (lv' := [(4, .int v4_2), (0, .ref (ad 16)), (1, .int v1), (2, .int v2), (3, .int v3)]) C.x C.b dX7_copyRow_25 hl (k := 4) rfl (iinc_e (k := 1) (by decide) e9) (by decide) rfl (fun ls hl => ?_)
        refine lv_goto (tgt := 3) C.x C.b dX7_copyRow_28 (by decide) ?_
        exact ih3 v4_2 σ_1 _ _ _ h (lv_sub hl [1, 2, 3, 4, 0] rfl) hf
  intro H locs ls h hl
  have hl : lv_has ls 5 [(0, .ref (ad 16)), (1, .int v1), (2, .int v2), (3, .int v3)] := hl
  unfold M_copyRow_16 at hf
  refine lv_iconst (v := 0) C.x C.b dX7_copyRow_0 (by decide) ?_
  refine lv_istore (lv' := [(4, .int 0), (0, .ref (ad 16)), (1, .int v1), (2, .int v2), (3, .int v3)]) C.x C.b dX7_copyRow_1 hl (by decide) rfl (fun ls hl => ?_)
  exact l3  fu 0 σ _ _ _ h (lv_sub hl [1, 2, 3, 4, 0] rfl) hf
theorem tM_copyRow_16 : GoodIn lw_all (va_wsS RX7 223 yX7_copyRow (ws_ yX7_copyRow cX7_copyRow 5 none)) := lw_S q1792 q1793 q147 q1794
theorem cM_copyRow_16 {p : Program} {l : Launch} {e : Env} {R : Room} {s : State} {m : MethodId} {args : Array Value} {below : List Frame} {meth : Method} {c : Code} {H : Heap} {locs : List Loc} {Q : State → Prop} {cc : ByteArray} {pc : Nat} {ls : Array Slot} {st : List Value} {nL d : Nat} {D : va_G} {ty : Nat → ClassId} {A : Nat → Prop} {o : Nat} {ad : Nat → Nat} {rs : va_W} {σ : PS} {v1 : Int32} {v2 : Int32} {v3 : Int32} {q : PS} (C : Cx p R s m args c cc nL RX7 D ty A d) (h : Hw D A s H locs (wM ty o ad σ ++ rs)) (hc : M_copyRow_16 σ v1 v2 v3 = some q) (hd : 0 + 1 ≤ d) (hls : ls.size = nL) (hcat : (st.map fun v => v.category).sum ≤ 8) (dec : decode cc pc = .ok (.invokestatic 223, 3)) (kk : ∀ (H : Heap) (locs : List Loc), Hw D A s H locs (wM ty o ad q ++ rs) → W p l e R s m args below meth c H locs 0 0 Q (F0 m (pc + 3) ls (st))) : W p l e R s m args below meth c H locs 0 0 Q (F0 m pc ls (.int v3 :: .int v2 :: .int v1 :: .ref (ad 16) :: st)) := KV.callS (As := [.ref (ad 16), .int v1, .int v2, .int v3]) C (kM_copyRow_16 l hc) tM_copyRow_16 ⟨by decide, by decide, by show _ = some 4; decide +kernel⟩ hd (by decide) (Nat.zero_le _) (Nat.zero_le _) h hls rfl hcat dec kk
def M_copyRow_17_j31 (σ : PS) : Option PS := some σ
def M_copyRow_17_l3 (v1 : Int32) (v2 : Int32) (v3 : Int32) (v4 : Int32) (σ : PS) : Option ((Int32 × PS) ⊕ PS) := if v1 ≤ v4 then up (M_copyRow_17_j31 σ) else ix ((v1 * v2) + v4) 40 (ix ((v1 * v3) + v4) 40 (nm (wA σ 17 ((v1 * v3) + v4) (rA σ 17 ((v1 * v2) + v4))) (fun σ_1 => nm (v4 + 1) (fun v4_2 => some (.inl (v4_2, σ_1))))))
def M_copyRow_17_B3 (v1 : Int32) (v2 : Int32) (v3 : Int32) : (Int32 × PS) → Option ((Int32 × PS) ⊕ PS) := fun t => M_copyRow_17_l3 v1 v2 v3 t.1 t.2
def M_copyRow_17 (σ : PS) (v1 : Int32) (v2 : Int32) (v3 : Int32) : Option PS := loop (M_copyRow_17_B3 v1 v2 v3) fu (0, σ)
set_option maxHeartbeats 4000000 in
theorem kM_copyRow_17 (l : Launch) {D : va_G} {ty : Nat → ClassId} {A : Nat → Prop} {o : Nat} {ad : Nat → Nat} {rs : va_W} {σ : PS} {σ' : PS} {v1 : Int32} {v2 : Int32} {v3 : Int32} (hf : M_copyRow_17 σ v1 v2 v3 = some σ') : KV l yX7_copyRow cX7_copyRow 5 0 D ty A (wM ty o ad σ ++ rs) (wM ty o ad σ' ++ rs) [.ref (ad 17), .int v1, .int v2, .int v3] := by
  refine KV.of (by decide) (Nat.le_of_ble_eq_true rfl) ?_
  intro p e R s m args below meth c Q C hR
  have C : Cx p R s m args c cX7_copyRow 5 RX7 D ty A 0 := C
  have hR : ∀ (σ2 : PS), σ2 = σ' → ∀ (H : Heap) (locs : List Loc) (pc : Nat) (ls : Array Slot), Hw D A s H locs (wM ty o ad σ2 ++ rs) → decode cX7_copyRow pc = .ok (.return_, 1) → W p l e R s m args below meth c H locs 0 0 Q (F0 m pc ls []) := by intro σ2 e9; cases e9; exact hR
  have j31 : ∀ (σ : PS) (H : Heap) (locs : List Loc) (ls : Array Slot), Hw D A s H locs (wM ty o ad σ ++ rs) → lv_has ls 5 [] → M_copyRow_17_j31 σ = some σ' → W p l e R s m args below meth c H locs 0 0 Q (F0 m 31 ls []) := by
    intro σ H locs ls h hl hf
    unfold M_copyRow_17_j31 at hf
    exact hR _ (some_k hf) _ _ _ _ h dX7_copyRow_31
  have l3 : ∀ (n3 : Nat) (v4 : Int32) (σ : PS) (H : Heap) (locs : List Loc) (ls : Array Slot), Hw D A s H locs (wM ty o ad σ ++ rs) → lv_has ls 5 [(0, .ref (ad 17)), (1, .int v1), (2, .int v2), (3, .int v3), (4, .int v4)] → loop (M_copyRow_17_B3 v1 v2 v3) n3 (v4, σ) = some σ' → W p l e R s m args below meth c H locs 0 0 Q (F0 m 3 ls []) := by
    intro n3
    induction n3 with
    | zero => intro v4 σ H locs ls h hl hf; exact (none_k hf).elim
    | succ n3 ih3 =>
      intro v4 σ H locs ls h hl hf
      have hf : bl (M_copyRow_17_B3 v1 v2 v3) n3 (M_copyRow_17_l3 v1 v2 v3 v4 σ) = some σ' := hf
      unfold M_copyRow_17_l3 at hf
      refine lv_iload C.x C.b dX7_copyRow_3 (lv_at hl 4 rfl) ?_
      refine lv_iload_n C.x C.b dX7_copyRow_5 rfl (lv_at hl 1 rfl) ?_
      refine lv_icmp_ge (tgt := 31) C.x C.b dX7_copyRow_6 (by decide) (fun c9 => ?_) (fun c9 => ?_)
      · have hf := if_t (K := bl (M_copyRow_17_B3 v1 v2 v3) n3) c9 hf
        have hf := bl_upK (K := fun x => x) hf
        exact j31 σ _ _ _ h (lv_sub hl [] rfl) hf
      · have hf := if_f (K := bl (M_copyRow_17_B3 v1 v2 v3) n3) c9 hf
        refine lv_aload_n C.x C.b dX7_copyRow_9 rfl (lv_at hl 0 rfl) ?_
        refine lv_iload_n C.x C.b dX7_copyRow_10 rfl (lv_at hl 1 rfl) ?_
        refine lv_iload_n C.x C.b dX7_copyRow_11 rfl (lv_at hl 3 rfl) ?_
        refine lv_imul C.x C.b dX7_copyRow_12 ?_
        refine lv_iload C.x C.b dX7_copyRow_13 (lv_at hl 4 rfl) ?_
        refine lv_iadd C.x C.b dX7_copyRow_15 ?_
        refine lv_aload_n C.x C.b dX7_copyRow_16 rfl (lv_at hl 0 rfl) ?_
        refine lv_iload_n C.x C.b dX7_copyRow_17 rfl (lv_at hl 1 rfl) ?_
        refine lv_iload_n C.x C.b dX7_copyRow_18 rfl (lv_at hl 2 rfl) ?_
        refine lv_imul C.x C.b dX7_copyRow_19 ?_
        refine lv_iload C.x C.b dX7_copyRow_20 (lv_at hl 4 rfl) ?_
        refine lv_iadd C.x C.b dX7_copyRow_22 ?_
        obtain ⟨hi, hf⟩ := ix_k (K := bl (M_copyRow_17_B3 v1 v2 v3) n3) rfl hf
        refine m_a17 C h hi dX7_copyRow_23 ?_
        obtain ⟨hi, hf⟩ := ix_k (K := bl (M_copyRow_17_B3 v1 v2 v3) n3) rfl hf
        obtain ⟨σ_1, e9, hf⟩ := nm_k (K := bl (M_copyRow_17_B3 v1 v2 v3) n3) hf
        refine m_w17 C h hi e9 dX7_copyRow_24 (fun H locs h => ?_)
        obtain ⟨v4_2, e9, hf⟩ := nm_k (K := bl (M_copyRow_17_B3 v1 v2 v3) n3) hf
        refine lv_iinc (v := v4_2) (lv' := [(4, .int v4_2), (0, .ref (ad 17)), (1, .int v1), (2, .int v2), (3, .int v3)]) C.x C.b dX7_copyRow_25 hl (k := 4) rfl (iinc_e (k := 1) (by decide) e9) (by decide) rfl (fun ls hl => ?_)
        refine lv_goto (tgt := 3) C.x C.b dX7_copyRow_28 (by decide) ?_
        exact ih3 v4_2 σ_1 _ _ _ h (lv_sub hl [1, 2, 3, 4, 0] rfl) hf
  intro H locs ls h hl
  have hl : lv_has ls 5 [(0, .ref (ad 17)), (1, .int v1), (2, .int v2), (3, .int v3)] := hl
  unfold M_copyRow_17 at hf
  refine lv_iconst (v := 0) C.x C.b dX7_copyRow_0 (by decide) ?_
  refine lv_istore (lv' := [(4, .int 0), (0, .ref (ad 17)), (1, .int v1), (2, .int v2), (3, .int v3)]) C.x C.b dX7_copyRow_1 hl (by decide) rfl (fun ls hl => ?_)
  exact l3  fu 0 σ _ _ _ h (lv_sub hl [1, 2, 3, 4, 0] rfl) hf
theorem tM_copyRow_17 : GoodIn lw_all (va_wsS RX7 223 yX7_copyRow (ws_ yX7_copyRow cX7_copyRow 5 none)) := lw_S q1792 q1793 q147 q1794
theorem cM_copyRow_17 {p : Program} {l : Launch} {e : Env} {R : Room} {s : State} {m : MethodId} {args : Array Value} {below : List Frame} {meth : Method} {c : Code} {H : Heap} {locs : List Loc} {Q : State → Prop} {cc : ByteArray} {pc : Nat} {ls : Array Slot} {st : List Value} {nL d : Nat} {D : va_G} {ty : Nat → ClassId} {A : Nat → Prop} {o : Nat} {ad : Nat → Nat} {rs : va_W} {σ : PS} {v1 : Int32} {v2 : Int32} {v3 : Int32} {q : PS} (C : Cx p R s m args c cc nL RX7 D ty A d) (h : Hw D A s H locs (wM ty o ad σ ++ rs)) (hc : M_copyRow_17 σ v1 v2 v3 = some q) (hd : 0 + 1 ≤ d) (hls : ls.size = nL) (hcat : (st.map fun v => v.category).sum ≤ 8) (dec : decode cc pc = .ok (.invokestatic 223, 3)) (kk : ∀ (H : Heap) (locs : List Loc), Hw D A s H locs (wM ty o ad q ++ rs) → W p l e R s m args below meth c H locs 0 0 Q (F0 m (pc + 3) ls (st))) : W p l e R s m args below meth c H locs 0 0 Q (F0 m pc ls (.int v3 :: .int v2 :: .int v1 :: .ref (ad 17) :: st)) := KV.callS (As := [.ref (ad 17), .int v1, .int v2, .int v3]) C (kM_copyRow_17 l hc) tM_copyRow_17 ⟨by decide, by decide, by show _ = some 4; decide +kernel⟩ hd (by decide) (Nat.zero_le _) (Nat.zero_le _) h hls rfl hcat dec kk
def M_copyRow_18_j31 (σ : PS) : Option PS := some σ
def M_copyRow_18_l3 (v1 : Int32) (v2 : Int32) (v3 : Int32) (v4 : Int32) (σ : PS) : Option ((Int32 × PS) ⊕ PS) := if v1 ≤ v4 then up (M_copyRow_18_j31 σ) else ix ((v1 * v2) + v4) 35 (ix ((v1 * v3) + v4) 35 (nm (wA σ 18 ((v1 * v3) + v4) (rA σ 18 ((v1 * v2) + v4))) (fun σ_1 => nm (v4 + 1) (fun v4_2 => some (.inl (v4_2, σ_1))))))
def M_copyRow_18_B3 (v1 : Int32) (v2 : Int32) (v3 : Int32) : (Int32 × PS) → Option ((Int32 × PS) ⊕ PS) := fun t => M_copyRow_18_l3 v1 v2 v3 t.1 t.2
def M_copyRow_18 (σ : PS) (v1 : Int32) (v2 : Int32) (v3 : Int32) : Option PS := loop (M_copyRow_18_B3 v1 v2 v3) fu (0, σ)
set_option maxHeartbeats 4000000 in
theorem kM_copyRow_18 (l : Launch) {D : va_G} {ty : Nat → ClassId} {A : Nat → Prop} {o : Nat} {ad : Nat → Nat} {rs : va_W} {σ : PS} {σ' : PS} {v1 : Int32} {v2 : Int32} {v3 : Int32} (hf : M_copyRow_18 σ v1 v2 v3 = some σ') : KV l yX7_copyRow cX7_copyRow 5 0 D ty A (wM ty o ad σ ++ rs) (wM ty o ad σ' ++ rs) [.ref (ad 18), .int v1, .int v2, .int v3] := by
  refine KV.of (by decide) (Nat.le_of_ble_eq_true rfl) ?_
  intro p e R s m args below meth c Q C hR
  have C : Cx p R s m args c cX7_copyRow 5 RX7 D ty A 0 := C
  have hR : ∀ (σ2 : PS), σ2 = σ' → ∀ (H : Heap) (locs : List Loc) (pc : Nat) (ls : Array Slot), Hw D A s H locs (wM ty o ad σ2 ++ rs) → decode cX7_copyRow pc = .ok (.return_, 1) → W p l e R s m args below meth c H locs 0 0 Q (F0 m pc ls []) := by intro σ2 e9; cases e9; exact hR
  have j31 : ∀ (σ : PS) (H : Heap) (locs : List Loc) (ls : Array Slot), Hw D A s H locs (wM ty o ad σ ++ rs) → lv_has ls 5 [] → M_copyRow_18_j31 σ = some σ' → W p l e R s m args below meth c H locs 0 0 Q (F0 m 31 ls []) := by
    intro σ H locs ls h hl hf
    unfold M_copyRow_18_j31 at hf
    exact hR _ (some_k hf) _ _ _ _ h dX7_copyRow_31
  have l3 : ∀ (n3 : Nat) (v4 : Int32) (σ : PS) (H : Heap) (locs : List Loc) (ls : Array Slot), Hw D A s H locs (wM ty o ad σ ++ rs) → lv_has ls 5 [(0, .ref (ad 18)), (1, .int v1), (2, .int v2), (3, .int v3), (4, .int v4)] → loop (M_copyRow_18_B3 v1 v2 v3) n3 (v4, σ) = some σ' → W p l e R s m args below meth c H locs 0 0 Q (F0 m 3 ls []) := by
    intro n3
    induction n3 with
    | zero => intro v4 σ H locs ls h hl hf; exact (none_k hf).elim
    | succ n3 ih3 =>
      intro v4 σ H locs ls h hl hf
      have hf : bl (M_copyRow_18_B3 v1 v2 v3) n3 (M_copyRow_18_l3 v1 v2 v3 v4 σ) = some σ' := hf
      unfold M_copyRow_18_l3 at hf
      refine lv_iload C.x C.b dX7_copyRow_3 (lv_at hl 4 rfl) ?_
      refine lv_iload_n C.x C.b dX7_copyRow_5 rfl (lv_at hl 1 rfl) ?_
      refine lv_icmp_ge (tgt := 31) C.x C.b dX7_copyRow_6 (by decide) (fun c9 => ?_) (fun c9 => ?_)
      · have hf := if_t (K := bl (M_copyRow_18_B3 v1 v2 v3) n3) c9 hf
        have hf := bl_upK (K := fun x => x) hf
        exact j31 σ _ _ _ h (lv_sub hl [] rfl) hf
      · have hf := if_f (K := bl (M_copyRow_18_B3 v1 v2 v3) n3) c9 hf
        refine lv_aload_n C.x C.b dX7_copyRow_9 rfl (lv_at hl 0 rfl) ?_
        refine lv_iload_n C.x C.b dX7_copyRow_10 rfl (lv_at hl 1 rfl) ?_
        refine lv_iload_n C.x C.b dX7_copyRow_11 rfl (lv_at hl 3 rfl) ?_
        refine lv_imul C.x C.b dX7_copyRow_12 ?_
        refine lv_iload C.x C.b dX7_copyRow_13 (lv_at hl 4 rfl) ?_
        refine lv_iadd C.x C.b dX7_copyRow_15 ?_
        refine lv_aload_n C.x C.b dX7_copyRow_16 rfl (lv_at hl 0 rfl) ?_
        refine lv_iload_n C.x C.b dX7_copyRow_17 rfl (lv_at hl 1 rfl) ?_
        refine lv_iload_n C.x C.b dX7_copyRow_18 rfl (lv_at hl 2 rfl) ?_
        refine lv_imul C.x C.b dX7_copyRow_19 ?_
        refine lv_iload C.x C.b dX7_copyRow_20 (lv_at hl 4 rfl) ?_
        refine lv_iadd C.x C.b dX7_copyRow_22 ?_
        obtain ⟨hi, hf⟩ := ix_k (K := bl (M_copyRow_18_B3 v1 v2 v3) n3) rfl hf
        refine m_a18 C h hi dX7_copyRow_23 ?_
        obtain ⟨hi, hf⟩ := ix_k (K := bl (M_copyRow_18_B3 v1 v2 v3) n3) rfl hf
        obtain ⟨σ_1, e9, hf⟩ := nm_k (K := bl (M_copyRow_18_B3 v1 v2 v3) n3) hf
        refine m_w18 C h hi e9 dX7_copyRow_24 (fun H locs h => ?_)
        obtain ⟨v4_2, e9, hf⟩ := nm_k (K := bl (M_copyRow_18_B3 v1 v2 v3) n3) hf
        refine lv_iinc (v := v4_2) (lv' := [(4, .int v4_2), (0, .ref (ad 18)), (1, .int v1), (2, .int v2), (3, .int v3)]) C.x C.b dX7_copyRow_25 hl (k := 4) rfl (iinc_e (k := 1) (by decide) e9) (by decide) rfl (fun ls hl => ?_)
        refine lv_goto (tgt := 3) C.x C.b dX7_copyRow_28 (by decide) ?_
        exact ih3 v4_2 σ_1 _ _ _ h (lv_sub hl [1, 2, 3, 4, 0] rfl) hf
  intro H locs ls h hl
  have hl : lv_has ls 5 [(0, .ref (ad 18)), (1, .int v1), (2, .int v2), (3, .int v3)] := hl
  unfold M_copyRow_18 at hf
  refine lv_iconst (v := 0) C.x C.b dX7_copyRow_0 (by decide) ?_
  refine lv_istore (lv' := [(4, .int 0), (0, .ref (ad 18)), (1, .int v1), (2, .int v2), (3, .int v3)]) C.x C.b dX7_copyRow_1 hl (by decide) rfl (fun ls hl => ?_)
  exact l3  fu 0 σ _ _ _ h (lv_sub hl [1, 2, 3, 4, 0] rfl) hf
theorem tM_copyRow_18 : GoodIn lw_all (va_wsS RX7 223 yX7_copyRow (ws_ yX7_copyRow cX7_copyRow 5 none)) := lw_S q1792 q1793 q147 q1794
theorem cM_copyRow_18 {p : Program} {l : Launch} {e : Env} {R : Room} {s : State} {m : MethodId} {args : Array Value} {below : List Frame} {meth : Method} {c : Code} {H : Heap} {locs : List Loc} {Q : State → Prop} {cc : ByteArray} {pc : Nat} {ls : Array Slot} {st : List Value} {nL d : Nat} {D : va_G} {ty : Nat → ClassId} {A : Nat → Prop} {o : Nat} {ad : Nat → Nat} {rs : va_W} {σ : PS} {v1 : Int32} {v2 : Int32} {v3 : Int32} {q : PS} (C : Cx p R s m args c cc nL RX7 D ty A d) (h : Hw D A s H locs (wM ty o ad σ ++ rs)) (hc : M_copyRow_18 σ v1 v2 v3 = some q) (hd : 0 + 1 ≤ d) (hls : ls.size = nL) (hcat : (st.map fun v => v.category).sum ≤ 8) (dec : decode cc pc = .ok (.invokestatic 223, 3)) (kk : ∀ (H : Heap) (locs : List Loc), Hw D A s H locs (wM ty o ad q ++ rs) → W p l e R s m args below meth c H locs 0 0 Q (F0 m (pc + 3) ls (st))) : W p l e R s m args below meth c H locs 0 0 Q (F0 m pc ls (.int v3 :: .int v2 :: .int v1 :: .ref (ad 18) :: st)) := KV.callS (As := [.ref (ad 18), .int v1, .int v2, .int v3]) C (kM_copyRow_18 l hc) tM_copyRow_18 ⟨by decide, by decide, by show _ = some 4; decide +kernel⟩ hd (by decide) (Nat.zero_le _) (Nat.zero_le _) h hls rfl hcat dec kk
def M_copyRow_19_j31 (σ : PS) : Option PS := some σ
def M_copyRow_19_l3 (v1 : Int32) (v2 : Int32) (v3 : Int32) (v4 : Int32) (σ : PS) : Option ((Int32 × PS) ⊕ PS) := if v1 ≤ v4 then up (M_copyRow_19_j31 σ) else ix ((v1 * v2) + v4) 120 (ix ((v1 * v3) + v4) 120 (nm (wA σ 19 ((v1 * v3) + v4) (rA σ 19 ((v1 * v2) + v4))) (fun σ_1 => nm (v4 + 1) (fun v4_2 => some (.inl (v4_2, σ_1))))))
def M_copyRow_19_B3 (v1 : Int32) (v2 : Int32) (v3 : Int32) : (Int32 × PS) → Option ((Int32 × PS) ⊕ PS) := fun t => M_copyRow_19_l3 v1 v2 v3 t.1 t.2
def M_copyRow_19 (σ : PS) (v1 : Int32) (v2 : Int32) (v3 : Int32) : Option PS := loop (M_copyRow_19_B3 v1 v2 v3) fu (0, σ)
set_option maxHeartbeats 4000000 in
theorem kM_copyRow_19 (l : Launch) {D : va_G} {ty : Nat → ClassId} {A : Nat → Prop} {o : Nat} {ad : Nat → Nat} {rs : va_W} {σ : PS} {σ' : PS} {v1 : Int32} {v2 : Int32} {v3 : Int32} (hf : M_copyRow_19 σ v1 v2 v3 = some σ') : KV l yX7_copyRow cX7_copyRow 5 0 D ty A (wM ty o ad σ ++ rs) (wM ty o ad σ' ++ rs) [.ref (ad 19), .int v1, .int v2, .int v3] := by
  refine KV.of (by decide) (Nat.le_of_ble_eq_true rfl) ?_
  intro p e R s m args below meth c Q C hR
  have C : Cx p R s m args c cX7_copyRow 5 RX7 D ty A 0 := C
  have hR : ∀ (σ2 : PS), σ2 = σ' → ∀ (H : Heap) (locs : List Loc) (pc : Nat) (ls : Array Slot), Hw D A s H locs (wM ty o ad σ2 ++ rs) → decode cX7_copyRow pc = .ok (.return_, 1) → W p l e R s m args below meth c H locs 0 0 Q (F0 m pc ls []) := by intro σ2 e9; cases e9; exact hR
  have j31 : ∀ (σ : PS) (H : Heap) (locs : List Loc) (ls : Array Slot), Hw D A s H locs (wM ty o ad σ ++ rs) → lv_has ls 5 [] → M_copyRow_19_j31 σ = some σ' → W p l e R s m args below meth c H locs 0 0 Q (F0 m 31 ls []) := by
    intro σ H locs ls h hl hf
    unfold M_copyRow_19_j31 at hf
    exact hR _ (some_k hf) _ _ _ _ h dX7_copyRow_31
  have l3 : ∀ (n3 : Nat) (v4 : Int32) (σ : PS) (H : Heap) (locs : List Loc) (ls : Array Slot), Hw D A s H locs (wM ty o ad σ ++ rs) → lv_has ls 5 [(0, .ref (ad 19)), (1, .int v1), (2, .int v2), (3, .int v3), (4, .int v4)] → loop (M_copyRow_19_B3 v1 v2 v3) n3 (v4, σ) = some σ' → W p l e R s m args below meth c H locs 0 0 Q (F0 m 3 ls []) := by
    intro n3
    induction n3 with
    | zero => intro v4 σ H locs ls h hl hf; exact (none_k hf).elim
    | succ n3 ih3 =>
      intro v4 σ H locs ls h hl hf
      have hf : bl (M_copyRow_19_B3 v1 v2 v3) n3 (M_copyRow_19_l3 v1 v2 v3 v4 σ) = some σ' := hf
      unfold M_copyRow_19_l3 at hf
      refine lv_iload C.x C.b dX7_copyRow_3 (lv_at hl 4 rfl) ?_
      refine lv_iload_n C.x C.b dX7_copyRow_5 rfl (lv_at hl 1 rfl) ?_
      refine lv_icmp_ge (tgt := 31) C.x C.b dX7_copyRow_6 (by decide) (fun c9 => ?_) (fun c9 => ?_)
      · have hf := if_t (K := bl (M_copyRow_19_B3 v1 v2 v3) n3) c9 hf
        have hf := bl_upK (K := fun x => x) hf
        exact j31 σ _ _ _ h (lv_sub hl [] rfl) hf
      · have hf := if_f (K := bl (M_copyRow_19_B3 v1 v2 v3) n3) c9 hf
        refine lv_aload_n C.x C.b dX7_copyRow_9 rfl (lv_at hl 0 rfl) ?_
        refine lv_iload_n C.x C.b dX7_copyRow_10 rfl (lv_at hl 1 rfl) ?_
        refine lv_iload_n C.x C.b dX7_copyRow_11 rfl (lv_at hl 3 rfl) ?_
        refine lv_imul C.x C.b dX7_copyRow_12 ?_
        refine lv_iload C.x C.b dX7_copyRow_13 (lv_at hl 4 rfl) ?_
        refine lv_iadd C.x C.b dX7_copyRow_15 ?_
        refine lv_aload_n C.x C.b dX7_copyRow_16 rfl (lv_at hl 0 rfl) ?_
        refine lv_iload_n C.x C.b dX7_copyRow_17 rfl (lv_at hl 1 rfl) ?_
        refine lv_iload_n C.x C.b dX7_copyRow_18 rfl (lv_at hl 2 rfl) ?_
        refine lv_imul C.x C.b dX7_copyRow_19 ?_
        refine lv_iload C.x C.b dX7_copyRow_20 (lv_at hl 4 rfl) ?_
        refine lv_iadd C.x C.b dX7_copyRow_22 ?_
        obtain ⟨hi, hf⟩ := ix_k (K := bl (M_copyRow_19_B3 v1 v2 v3) n3) rfl hf
        refine m_a19 C h hi dX7_copyRow_23 ?_
        obtain ⟨hi, hf⟩ := ix_k (K := bl (M_copyRow_19_B3 v1 v2 v3) n3) rfl hf
        obtain ⟨σ_1, e9, hf⟩ := nm_k (K := bl (M_copyRow_19_B3 v1 v2 v3) n3) hf
        refine m_w19 C h hi e9 dX7_copyRow_24 (fun H locs h => ?_)
        obtain ⟨v4_2, e9, hf⟩ := nm_k (K := bl (M_copyRow_19_B3 v1 v2 v3) n3) hf
        refine lv_iinc (v := v4_2) (lv' := [(4, .int v4_2), (0, .ref (ad 19)), (1, .int v1), (2, .int v2), (3, .int v3)]) C.x C.b dX7_copyRow_25 hl (k := 4) rfl (iinc_e (k := 1) (by decide) e9) (by decide) rfl (fun ls hl => ?_)
        refine lv_goto (tgt := 3) C.x C.b dX7_copyRow_28 (by decide) ?_
        exact ih3 v4_2 σ_1 _ _ _ h (lv_sub hl [1, 2, 3, 4, 0] rfl) hf
  intro H locs ls h hl
  have hl : lv_has ls 5 [(0, .ref (ad 19)), (1, .int v1), (2, .int v2), (3, .int v3)] := hl
  unfold M_copyRow_19 at hf
  refine lv_iconst (v := 0) C.x C.b dX7_copyRow_0 (by decide) ?_
  refine lv_istore (lv' := [(4, .int 0), (0, .ref (ad 19)), (1, .int v1), (2, .int v2), (3, .int v3)]) C.x C.b dX7_copyRow_1 hl (by decide) rfl (fun ls hl => ?_)
  exact l3  fu 0 σ _ _ _ h (lv_sub hl [1, 2, 3, 4, 0] rfl) hf
theorem tM_copyRow_19 : GoodIn lw_all (va_wsS RX7 223 yX7_copyRow (ws_ yX7_copyRow cX7_copyRow 5 none)) := lw_S q1792 q1793 q147 q1794
theorem cM_copyRow_19 {p : Program} {l : Launch} {e : Env} {R : Room} {s : State} {m : MethodId} {args : Array Value} {below : List Frame} {meth : Method} {c : Code} {H : Heap} {locs : List Loc} {Q : State → Prop} {cc : ByteArray} {pc : Nat} {ls : Array Slot} {st : List Value} {nL d : Nat} {D : va_G} {ty : Nat → ClassId} {A : Nat → Prop} {o : Nat} {ad : Nat → Nat} {rs : va_W} {σ : PS} {v1 : Int32} {v2 : Int32} {v3 : Int32} {q : PS} (C : Cx p R s m args c cc nL RX7 D ty A d) (h : Hw D A s H locs (wM ty o ad σ ++ rs)) (hc : M_copyRow_19 σ v1 v2 v3 = some q) (hd : 0 + 1 ≤ d) (hls : ls.size = nL) (hcat : (st.map fun v => v.category).sum ≤ 8) (dec : decode cc pc = .ok (.invokestatic 223, 3)) (kk : ∀ (H : Heap) (locs : List Loc), Hw D A s H locs (wM ty o ad q ++ rs) → W p l e R s m args below meth c H locs 0 0 Q (F0 m (pc + 3) ls (st))) : W p l e R s m args below meth c H locs 0 0 Q (F0 m pc ls (.int v3 :: .int v2 :: .int v1 :: .ref (ad 19) :: st)) := KV.callS (As := [.ref (ad 19), .int v1, .int v2, .int v3]) C (kM_copyRow_19 l hc) tM_copyRow_19 ⟨by decide, by decide, by show _ = some 4; decide +kernel⟩ hd (by decide) (Nat.zero_le _) (Nat.zero_le _) h hls rfl hcat dec kk
def M_copyRow_20_j31 (σ : PS) : Option PS := some σ
def M_copyRow_20_l3 (v1 : Int32) (v2 : Int32) (v3 : Int32) (v4 : Int32) (σ : PS) : Option ((Int32 × PS) ⊕ PS) := if v1 ≤ v4 then up (M_copyRow_20_j31 σ) else ix ((v1 * v2) + v4) 600 (ix ((v1 * v3) + v4) 600 (nm (wA σ 20 ((v1 * v3) + v4) (rA σ 20 ((v1 * v2) + v4))) (fun σ_1 => nm (v4 + 1) (fun v4_2 => some (.inl (v4_2, σ_1))))))
def M_copyRow_20_B3 (v1 : Int32) (v2 : Int32) (v3 : Int32) : (Int32 × PS) → Option ((Int32 × PS) ⊕ PS) := fun t => M_copyRow_20_l3 v1 v2 v3 t.1 t.2
def M_copyRow_20 (σ : PS) (v1 : Int32) (v2 : Int32) (v3 : Int32) : Option PS := loop (M_copyRow_20_B3 v1 v2 v3) fu (0, σ)
set_option maxHeartbeats 4000000 in
theorem kM_copyRow_20 (l : Launch) {D : va_G} {ty : Nat → ClassId} {A : Nat → Prop} {o : Nat} {ad : Nat → Nat} {rs : va_W} {σ : PS} {σ' : PS} {v1 : Int32} {v2 : Int32} {v3 : Int32} (hf : M_copyRow_20 σ v1 v2 v3 = some σ') : KV l yX7_copyRow cX7_copyRow 5 0 D ty A (wM ty o ad σ ++ rs) (wM ty o ad σ' ++ rs) [.ref (ad 20), .int v1, .int v2, .int v3] := by
  refine KV.of (by decide) (Nat.le_of_ble_eq_true rfl) ?_
  intro p e R s m args below meth c Q C hR
  have C : Cx p R s m args c cX7_copyRow 5 RX7 D ty A 0 := C
  have hR : ∀ (σ2 : PS), σ2 = σ' → ∀ (H : Heap) (locs : List Loc) (pc : Nat) (ls : Array Slot), Hw D A s H locs (wM ty o ad σ2 ++ rs) → decode cX7_copyRow pc = .ok (.return_, 1) → W p l e R s m args below meth c H locs 0 0 Q (F0 m pc ls []) := by intro σ2 e9; cases e9; exact hR
  have j31 : ∀ (σ : PS) (H : Heap) (locs : List Loc) (ls : Array Slot), Hw D A s H locs (wM ty o ad σ ++ rs) → lv_has ls 5 [] → M_copyRow_20_j31 σ = some σ' → W p l e R s m args below meth c H locs 0 0 Q (F0 m 31 ls []) := by
    intro σ H locs ls h hl hf
    unfold M_copyRow_20_j31 at hf
    exact hR _ (some_k hf) _ _ _ _ h dX7_copyRow_31
  have l3 : ∀ (n3 : Nat) (v4 : Int32) (σ : PS) (H : Heap) (locs : List Loc) (ls : Array Slot), Hw D A s H locs (wM ty o ad σ ++ rs) → lv_has ls 5 [(0, .ref (ad 20)), (1, .int v1), (2, .int v2), (3, .int v3), (4, .int v4)] → loop (M_copyRow_20_B3 v1 v2 v3) n3 (v4, σ) = some σ' → W p l e R s m args below meth c H locs 0 0 Q (F0 m 3 ls []) := by
    intro n3
    induction n3 with
    | zero => intro v4 σ H locs ls h hl hf; exact (none_k hf).elim
    | succ n3 ih3 =>
      intro v4 σ H locs ls h hl hf
      have hf : bl (M_copyRow_20_B3 v1 v2 v3) n3 (M_copyRow_20_l3 v1 v2 v3 v4 σ) = some σ' := hf
      unfold M_copyRow_20_l3 at hf
      refine lv_iload C.x C.b dX7_copyRow_3 (lv_at hl 4 rfl) ?_
      refine lv_iload_n C.x C.b dX7_copyRow_5 rfl (lv_at hl 1 rfl) ?_
      refine lv_icmp_ge (tgt := 31) C.x C.b dX7_copyRow_6 (by decide) (fun c9 => ?_) (fun c9 => ?_)
      · have hf := if_t (K := bl (M_copyRow_20_B3 v1 v2 v3) n3) c9 hf
        have hf := bl_upK (K := fun x => x) hf
        exact j31 σ _ _ _ h (lv_sub hl [] rfl) hf
      · have hf := if_f (K := bl (M_copyRow_20_B3 v1 v2 v3) n3) c9 hf
        refine lv_aload_n C.x C.b dX7_copyRow_9 rfl (lv_at hl 0 rfl) ?_
        refine lv_iload_n C.x C.b dX7_copyRow_10 rfl (lv_at hl 1 rfl) ?_
        refine lv_iload_n C.x C.b dX7_copyRow_11 rfl (lv_at hl 3 rfl) ?_
        refine lv_imul C.x C.b dX7_copyRow_12 ?_
        refine lv_iload C.x C.b dX7_copyRow_13 (lv_at hl 4 rfl) ?_
        refine lv_iadd C.x C.b dX7_copyRow_15 ?_
        refine lv_aload_n C.x C.b dX7_copyRow_16 rfl (lv_at hl 0 rfl) ?_
        refine lv_iload_n C.x C.b dX7_copyRow_17 rfl (lv_at hl 1 rfl) ?_
        refine lv_iload_n C.x C.b dX7_copyRow_18 rfl (lv_at hl 2 rfl) ?_
        refine lv_imul C.x C.b dX7_copyRow_19 ?_
        refine lv_iload C.x C.b dX7_copyRow_20 (lv_at hl 4 rfl) ?_
        refine lv_iadd C.x C.b dX7_copyRow_22 ?_
        obtain ⟨hi, hf⟩ := ix_k (K := bl (M_copyRow_20_B3 v1 v2 v3) n3) rfl hf
        refine m_a20 C h hi dX7_copyRow_23 ?_
        obtain ⟨hi, hf⟩ := ix_k (K := bl (M_copyRow_20_B3 v1 v2 v3) n3) rfl hf
        obtain ⟨σ_1, e9, hf⟩ := nm_k (K := bl (M_copyRow_20_B3 v1 v2 v3) n3) hf
        refine m_w20 C h hi e9 dX7_copyRow_24 (fun H locs h => ?_)
        obtain ⟨v4_2, e9, hf⟩ := nm_k (K := bl (M_copyRow_20_B3 v1 v2 v3) n3) hf
        refine lv_iinc (v := v4_2) (lv' := [(4, .int v4_2), (0, .ref (ad 20)), (1, .int v1), (2, .int v2), (3, .int v3)]) C.x C.b dX7_copyRow_25 hl (k := 4) rfl (iinc_e (k := 1) (by decide) e9) (by decide) rfl (fun ls hl => ?_)
        refine lv_goto (tgt := 3) C.x C.b dX7_copyRow_28 (by decide) ?_
        exact ih3 v4_2 σ_1 _ _ _ h (lv_sub hl [1, 2, 3, 4, 0] rfl) hf
  intro H locs ls h hl
  have hl : lv_has ls 5 [(0, .ref (ad 20)), (1, .int v1), (2, .int v2), (3, .int v3)] := hl
  unfold M_copyRow_20 at hf
  refine lv_iconst (v := 0) C.x C.b dX7_copyRow_0 (by decide) ?_
  refine lv_istore (lv' := [(4, .int 0), (0, .ref (ad 20)), (1, .int v1), (2, .int v2), (3, .int v3)]) C.x C.b dX7_copyRow_1 hl (by decide) rfl (fun ls hl => ?_)
  exact l3  fu 0 σ _ _ _ h (lv_sub hl [1, 2, 3, 4, 0] rfl) hf
theorem tM_copyRow_20 : GoodIn lw_all (va_wsS RX7 223 yX7_copyRow (ws_ yX7_copyRow cX7_copyRow 5 none)) := lw_S q1792 q1793 q147 q1794
theorem cM_copyRow_20 {p : Program} {l : Launch} {e : Env} {R : Room} {s : State} {m : MethodId} {args : Array Value} {below : List Frame} {meth : Method} {c : Code} {H : Heap} {locs : List Loc} {Q : State → Prop} {cc : ByteArray} {pc : Nat} {ls : Array Slot} {st : List Value} {nL d : Nat} {D : va_G} {ty : Nat → ClassId} {A : Nat → Prop} {o : Nat} {ad : Nat → Nat} {rs : va_W} {σ : PS} {v1 : Int32} {v2 : Int32} {v3 : Int32} {q : PS} (C : Cx p R s m args c cc nL RX7 D ty A d) (h : Hw D A s H locs (wM ty o ad σ ++ rs)) (hc : M_copyRow_20 σ v1 v2 v3 = some q) (hd : 0 + 1 ≤ d) (hls : ls.size = nL) (hcat : (st.map fun v => v.category).sum ≤ 8) (dec : decode cc pc = .ok (.invokestatic 223, 3)) (kk : ∀ (H : Heap) (locs : List Loc), Hw D A s H locs (wM ty o ad q ++ rs) → W p l e R s m args below meth c H locs 0 0 Q (F0 m (pc + 3) ls (st))) : W p l e R s m args below meth c H locs 0 0 Q (F0 m pc ls (.int v3 :: .int v2 :: .int v1 :: .ref (ad 20) :: st)) := KV.callS (As := [.ref (ad 20), .int v1, .int v2, .int v3]) C (kM_copyRow_20 l hc) tM_copyRow_20 ⟨by decide, by decide, by show _ = some 4; decide +kernel⟩ hd (by decide) (Nat.zero_le _) (Nat.zero_le _) h hls rfl hcat dec kk
def M_copyLehr (σ : PS) (v1 : Int32) (v2 : Int32) : Option PS := bd (M_copyRow_16 σ 1 v1 v2) (fun q_1 => bd (M_copyRow_17 q_1 8 v1 v2) (fun q_2 => bd (M_copyRow_18 q_2 7 v1 v2) (fun q_3 => bd (M_copyRow_19 q_3 24 v1 v2) (fun q_4 => bd (M_copyRow_20 q_4 120 v1 v2) (fun q_5 => some q_5)))))
set_option maxHeartbeats 4000000 in
theorem kM_copyLehr (l : Launch) {D : va_G} {ty : Nat → ClassId} {A : Nat → Prop} {o : Nat} {ad : Nat → Nat} {rs : va_W} {σ : PS} {σ' : PS} {v1 : Int32} {v2 : Int32} (hf : M_copyLehr σ v1 v2 = some σ') : KV l yX7_copyLehr cX7_copyLehr 3 1 D ty A (wM ty o ad σ ++ rs) (wM ty o ad σ' ++ rs) [.ref o, .int v1, .int v2] := by
  refine KV.of (by decide) (Nat.le_of_ble_eq_true rfl) ?_
  intro p e R s m args below meth c Q C hR
  have C : Cx p R s m args c cX7_copyLehr 3 RX7 D ty A 1 := C
  have hR : ∀ (σ2 : PS), σ2 = σ' → ∀ (H : Heap) (locs : List Loc) (pc : Nat) (ls : Array Slot), Hw D A s H locs (wM ty o ad σ2 ++ rs) → decode cX7_copyLehr pc = .ok (.return_, 1) → W p l e R s m args below meth c H locs 0 0 Q (F0 m pc ls []) := by intro σ2 e9; cases e9; exact hR
  intro H locs ls h hl
  have hl : lv_has ls 3 [(0, .ref o), (1, .int v1), (2, .int v2)] := hl
  unfold M_copyLehr at hf
  refine lv_aload_n C.x C.b dX7_copyLehr_0 rfl (lv_at hl 0 rfl) ?_
  refine m_g16 C h dX7_copyLehr_1 ?_
  refine lv_iconst (v := 1) C.x C.b dX7_copyLehr_4 (by decide) ?_
  refine lv_iload_n C.x C.b dX7_copyLehr_5 rfl (lv_at hl 1 rfl) ?_
  refine lv_iload_n C.x C.b dX7_copyLehr_6 rfl (lv_at hl 2 rfl) ?_
  obtain ⟨q_1, hc, hf⟩ := bd_k (K := fun x => x) rfl hf
  refine cM_copyRow_16 C h hc (Nat.le_of_ble_eq_true rfl) hl.1 (Nat.le_of_ble_eq_true rfl) dX7_copyLehr_7 (fun H locs h => ?_)
  refine lv_aload_n C.x C.b dX7_copyLehr_10 rfl (lv_at hl 0 rfl) ?_
  refine m_g17 C h dX7_copyLehr_11 ?_
  refine lv_bipush (v := 8) C.x C.b dX7_copyLehr_14 (by decide) ?_
  refine lv_iload_n C.x C.b dX7_copyLehr_16 rfl (lv_at hl 1 rfl) ?_
  refine lv_iload_n C.x C.b dX7_copyLehr_17 rfl (lv_at hl 2 rfl) ?_
  obtain ⟨q_2, hc, hf⟩ := bd_k (K := fun x => x) rfl hf
  refine cM_copyRow_17 C h hc (Nat.le_of_ble_eq_true rfl) hl.1 (Nat.le_of_ble_eq_true rfl) dX7_copyLehr_18 (fun H locs h => ?_)
  refine lv_aload_n C.x C.b dX7_copyLehr_21 rfl (lv_at hl 0 rfl) ?_
  refine m_g18 C h dX7_copyLehr_22 ?_
  refine lv_bipush (v := 7) C.x C.b dX7_copyLehr_25 (by decide) ?_
  refine lv_iload_n C.x C.b dX7_copyLehr_27 rfl (lv_at hl 1 rfl) ?_
  refine lv_iload_n C.x C.b dX7_copyLehr_28 rfl (lv_at hl 2 rfl) ?_
  obtain ⟨q_3, hc, hf⟩ := bd_k (K := fun x => x) rfl hf
  refine cM_copyRow_18 C h hc (Nat.le_of_ble_eq_true rfl) hl.1 (Nat.le_of_ble_eq_true rfl) dX7_copyLehr_29 (fun H locs h => ?_)
  refine lv_aload_n C.x C.b dX7_copyLehr_32 rfl (lv_at hl 0 rfl) ?_
  refine m_g19 C h dX7_copyLehr_33 ?_
  refine lv_bipush (v := 24) C.x C.b dX7_copyLehr_36 (by decide) ?_
  refine lv_iload_n C.x C.b dX7_copyLehr_38 rfl (lv_at hl 1 rfl) ?_
  refine lv_iload_n C.x C.b dX7_copyLehr_39 rfl (lv_at hl 2 rfl) ?_
  obtain ⟨q_4, hc, hf⟩ := bd_k (K := fun x => x) rfl hf
  refine cM_copyRow_19 C h hc (Nat.le_of_ble_eq_true rfl) hl.1 (Nat.le_of_ble_eq_true rfl) dX7_copyLehr_40 (fun H locs h => ?_)
  refine lv_aload_n C.x C.b dX7_copyLehr_43 rfl (lv_at hl 0 rfl) ?_
  refine m_g20 C h dX7_copyLehr_44 ?_
  refine lv_bipush (v := 120) C.x C.b dX7_copyLehr_47 (by decide) ?_
  refine lv_iload_n C.x C.b dX7_copyLehr_49 rfl (lv_at hl 1 rfl) ?_
  refine lv_iload_n C.x C.b dX7_copyLehr_50 rfl (lv_at hl 2 rfl) ?_
  obtain ⟨q_5, hc, hf⟩ := bd_k (K := fun x => x) rfl hf
  refine cM_copyRow_20 C h hc (Nat.le_of_ble_eq_true rfl) hl.1 (Nat.le_of_ble_eq_true rfl) dX7_copyLehr_51 (fun H locs h => ?_)
  exact hR _ (some_k hf) _ _ _ _ h dX7_copyLehr_54
theorem tM_copyLehr : GoodIn lw_all (wsV RX7 220 RX7 yX7_copyLehr (ws_ yX7_copyLehr cX7_copyLehr 3 none)) := lw_V q1788 q1790 qs89 q147 q1791
theorem cM_copyLehr {p : Program} {l : Launch} {e : Env} {R : Room} {s : State} {m : MethodId} {args : Array Value} {below : List Frame} {meth : Method} {c : Code} {H : Heap} {locs : List Loc} {Q : State → Prop} {cc : ByteArray} {pc : Nat} {ls : Array Slot} {st : List Value} {nL d : Nat} {D : va_G} {ty : Nat → ClassId} {A : Nat → Prop} {o : Nat} {ad : Nat → Nat} {rs : va_W} {σ : PS} {v1 : Int32} {v2 : Int32} {q : PS} (C : Cx p R s m args c cc nL RX7 D ty A d) (h : Hw D A s H locs (wM ty o ad σ ++ rs)) (hc : M_copyLehr σ v1 v2 = some q) (hd : 1 + 1 ≤ d) (hls : ls.size = nL) (hcat : (st.map fun v => v.category).sum ≤ 8) (dec : decode cc pc = .ok (.invokevirtual 220, 3)) (kk : ∀ (H : Heap) (locs : List Loc), Hw D A s H locs (wM ty o ad q ++ rs) → W p l e R s m args below meth c H locs 0 0 Q (F0 m (pc + 3) ls (st))) : W p l e R s m args below meth c H locs 0 0 Q (F0 m pc ls (.int v2 :: .int v1 :: .ref o :: st)) := KV.callV (As := [.int v1, .int v2]) C (kM_copyLehr l hc) tM_copyLehr ⟨rfl, by decide, by decide, by show _ = some 2; decide +kernel⟩ 0 7 rfl rfl rfl hd (by decide) (Nat.zero_le _) (Nat.zero_le _) h hls rfl hcat dec kk
def M_partOf_j10 (v0 : Int64) (v2 : Int64) (x0 : Int64) : Option Int64 := bd (M_common 64 v0 v2) (fun q_1 => nzl q_1 (some (x0 / q_1)))
def M_partOf (v0 : Int64) (v2 : Int64) (v4 : Int32) : Option Int64 := if v4 = 0 then M_partOf_j10 v0 v2 v0 else M_partOf_j10 v0 v2 v2
set_option maxHeartbeats 4000000 in
theorem kM_partOf (l : Launch) {D : va_G} {ty : Nat → ClassId} {A : Nat → Prop} {ws : va_W} {v0 : Int64} {v2 : Int64} {v4 : Int32} {r : Int64} (hf : M_partOf v0 v2 v4 = some r) : KL l yX7_partOf cX7_partOf 5 65 D ty A ws ws [.long v0, .long v2, .int v4] r := by
  refine KL.of (by decide) (Nat.le_of_ble_eq_true rfl) ?_
  intro p e R s m args below meth c Q C hR
  have C : Cx p R s m args c cX7_partOf 5 RX7 D ty A 65 := C
  have hR : ∀ (v : Int64), v = r → ∀ (H : Heap) (locs : List Loc) (pc : Nat) (ls : Array Slot), Hw D A s H locs ws → decode cX7_partOf pc = .ok (.lreturn, 1) → W p l e R s m args below meth c H locs 0 0 Q (F0 m pc ls [.long v]) := by intro v e9; cases e9; exact hR
  have j10 : ∀ (x0 : Int64) (H : Heap) (locs : List Loc) (ls : Array Slot), Hw D A s H locs ws → lv_has ls 5 [(0, .long v0), (2, .long v2)] → M_partOf_j10 v0 v2 x0 = some r → W p l e R s m args below meth c H locs 0 0 Q (F0 m 10 ls [.long x0]) := by
    intro x0 H locs ls h hl hf
    unfold M_partOf_j10 at hf
    refine lv_lload_n C.x C.b dX7_partOf_10 rfl (lv_at hl 0 rfl) ?_
    refine lv_lload_n C.x C.b dX7_partOf_11 rfl (lv_at hl 1 rfl) ?_
    obtain ⟨q_1, hc, hf⟩ := bd_k (K := fun x => x) rfl hf
    refine cM_common C h hc (Nat.le_of_ble_eq_true rfl) hl.1 (Nat.le_of_ble_eq_true rfl) dX7_partOf_12 (fun H locs h => ?_)
    obtain ⟨hz, hf⟩ := nzl_k (K := fun x => x) rfl hf
    refine lv_ldiv C.x C.b dX7_partOf_15 hz ?_
    exact hR _ (some_k hf) _ _ _ _ h dX7_partOf_16
  intro H locs ls h hl
  have hl : lv_has ls 5 [(0, .long v0), (2, .long v2), (4, .int v4)] := hl
  unfold M_partOf at hf
  refine lv_iload C.x C.b dX7_partOf_0 (lv_at hl 2 rfl) ?_
  refine lv_if_ne (tgt := 9) C.x C.b dX7_partOf_2 (by decide) (fun c9 => ?_) (fun c9 => ?_)
  · have hf := if_f (K := fun x => x) c9 hf
    refine lv_lload_n C.x C.b dX7_partOf_9 rfl (lv_at hl 1 rfl) ?_
    exact j10 v2 _ _ _ h (lv_sub hl [0, 1] rfl) hf
  · have hf := if_t (K := fun x => x) c9 hf
    refine lv_lload_n C.x C.b dX7_partOf_5 rfl (lv_at hl 0 rfl) ?_
    refine lv_goto (tgt := 10) C.x C.b dX7_partOf_6 (by decide) ?_
    exact j10 v0 _ _ _ h (lv_sub hl [0, 1] rfl) hf
theorem tM_partOf : GoodIn lw_all (va_wsS RX7 408 yX7_partOf (ws_ yX7_partOf cX7_partOf 5 (some .long))) := lw_S q2237 q2238 q147 q2239
theorem cM_partOf {p : Program} {l : Launch} {e : Env} {R : Room} {s : State} {m : MethodId} {args : Array Value} {below : List Frame} {meth : Method} {c : Code} {H : Heap} {locs : List Loc} {Q : State → Prop} {cc : ByteArray} {pc : Nat} {ls : Array Slot} {st : List Value} {nL d : Nat} {D : va_G} {ty : Nat → ClassId} {A : Nat → Prop} {ws : va_W} {v0 : Int64} {v2 : Int64} {v4 : Int32} {q : Int64} (C : Cx p R s m args c cc nL RX7 D ty A d) (h : Hw D A s H locs ws) (hc : M_partOf v0 v2 v4 = some q) (hd : 65 + 1 ≤ d) (hls : ls.size = nL) (hcat : (st.map fun v => v.category).sum ≤ 8) (dec : decode cc pc = .ok (.invokestatic 408, 3)) (kk : ∀ (H : Heap) (locs : List Loc), Hw D A s H locs ws → W p l e R s m args below meth c H locs 0 0 Q (F0 m (pc + 3) ls (.long q :: st))) : W p l e R s m args below meth c H locs 0 0 Q (F0 m pc ls (.int v4 :: .long v2 :: .long v0 :: st)) := KL.callS (As := [.long v0, .long v2, .int v4]) C (kM_partOf l hc) tM_partOf ⟨by decide, by decide, by show _ = some 3; decide +kernel⟩ hd (by decide) (Nat.zero_le _) (Nat.zero_le _) h hls rfl hcat dec kk
def M_weightOf_j129 (σ : PS) (v3 : Int64) : Option (Int64 × PS) := some (v3, σ)
def M_weightOf_j79 (σ : PS) (v1 : Int32) (v2 : Int32) (v3 : Int64) (v5 : Int32) (v6 : Int32) : Option ((Int64 × Int32 × PS) ⊕ (Int64 × PS)) := ix 2 40 (bd (M_sizeOf v5) (fun q_1 => bd (M_power 64 ((rA σ 17 2).toInt64) q_1) (fun q_2 => ix 2 40 (bd (M_sizeOf v5) (fun q_3 => bd (M_power 64 (10 - ((rA σ 17 2).toInt64)) (v2 - q_3)) (fun q_4 => nm (v3 + ((q_2 * q_4) * v6.toInt64)) (fun v3_5 => nm (v5 + 1) (fun v5_6 => some (.inl (v3_5, v5_6, σ))))))))))
def M_weightOf_j70 (σ : PS) (v1 : Int32) (v2 : Int32) (v3 : Int64) (v5 : Int32) (v7 : Int32) (x0 : Int32) (x1 : Int32) : Option ((Int32 × Int32) ⊕ ((Int64 × Int32 × PS) ⊕ (Int64 × PS))) := nm (x1 + x0) (fun v6_7 => nm (v7 + 1) (fun v7_8 => some (.inl (v6_7, v7_8))))
def M_weightOf_j69 (σ : PS) (v1 : Int32) (v2 : Int32) (v3 : Int64) (v5 : Int32) (v7 : Int32) (x0 : Int32) : Option ((Int32 × Int32) ⊕ ((Int64 × Int32 × PS) ⊕ (Int64 × PS))) := M_weightOf_j70 σ v1 v2 v3 v5 v7 0 x0
def M_weightOf_j55 (σ : PS) (v1 : Int32) (v2 : Int32) (v3 : Int64) (v5 : Int32) (v7 : Int32) (x0 : Int32) : Option ((Int32 × Int32) ⊕ ((Int64 × Int32 × PS) ⊕ (Int64 × PS))) := bd (M_isWhole σ v7 v2) (fun q_9 => if q_9 = 0 then M_weightOf_j69 σ v1 v2 v3 v5 v7 x0 else M_weightOf_j70 σ v1 v2 v3 v5 v7 1 x0)
def M_weightOf_l33 (σ : PS) (v1 : Int32) (v2 : Int32) (v3 : Int64) (v5 : Int32) (v6 : Int32) (v7 : Int32) : Option ((Int32 × Int32) ⊕ ((Int64 × Int32 × PS) ⊕ (Int64 × PS))) := bd (M_pieces σ) (fun q_10 => if q_10 ≤ v7 then up (M_weightOf_j79 σ v1 v2 v3 v5 v6) else if v1 = ((-1)) then M_weightOf_j55 σ v1 v2 v3 v5 v7 v6 else if v7 = v1 then M_weightOf_j55 σ v1 v2 v3 v5 v7 v6 else M_weightOf_j69 σ v1 v2 v3 v5 v7 v6)
def M_weightOf_B33 (σ : PS) (v1 : Int32) (v2 : Int32) (v3 : Int64) (v5 : Int32) : (Int32 × Int32) → Option ((Int32 × Int32) ⊕ ((Int64 × Int32 × PS) ⊕ (Int64 × PS))) := fun t => M_weightOf_l33 σ v1 v2 v3 v5 t.1 t.2
def M_weightOf_l9 (v1 : Int32) (v2 : Int32) (v3 : Int64) (v5 : Int32) (σ : PS) : Option ((Int64 × Int32 × PS) ⊕ (Int64 × PS)) := if (1 <<< (v2 &&& 31)) ≤ v5 then up (M_weightOf_j129 σ v3) else nm (sI σ 24 v5) (fun σ_11 => bd (M_runs σ_11) (fun q_12 => loop (M_weightOf_B33 q_12 v1 v2 v3 v5) fu (0, 0)))
def M_weightOf_B9 (v1 : Int32) (v2 : Int32) : (Int64 × Int32 × PS) → Option ((Int64 × Int32 × PS) ⊕ (Int64 × PS)) := fun t => M_weightOf_l9 v1 v2 t.1 t.2.1 t.2.2
def M_weightOf (σ : PS) (v1 : Int32) (v2 : Int32) : Option (Int64 × PS) := bd (M_lays σ) (fun q_13 => loop (M_weightOf_B9 v1 v2) fu (0, 0, q_13))
set_option maxHeartbeats 4000000 in
theorem kM_weightOf (l : Launch) {D : va_G} {ty : Nat → ClassId} {A : Nat → Prop} {o : Nat} {ad : Nat → Nat} {rs : va_W} {σ : PS} {σ' : PS} {v1 : Int32} {v2 : Int32} {r : Int64} (hf : M_weightOf σ v1 v2 = some (r, σ')) : KL l yX7_weightOf cX7_weightOf 8 65 D ty A (wM ty o ad σ ++ rs) (wM ty o ad σ' ++ rs) [.ref o, .int v1, .int v2] r := by
  refine KL.of (by decide) (Nat.le_of_ble_eq_true rfl) ?_
  intro p e R s m args below meth c Q C hR
  have C : Cx p R s m args c cX7_weightOf 8 RX7 D ty A 65 := C
  have hR : ∀ (v : Int64) (σ2 : PS), (v, σ2) = (r, σ') → ∀ (H : Heap) (locs : List Loc) (pc : Nat) (ls : Array Slot), Hw D A s H locs (wM ty o ad σ2 ++ rs) → decode cX7_weightOf pc = .ok (.lreturn, 1) → W p l e R s m args below meth c H locs 0 0 Q (F0 m pc ls [.long v]) := by intro v σ2 e9; cases e9; exact hR
  have j129 : ∀ (σ : PS) (v3 : Int64) (H : Heap) (locs : List Loc) (ls : Array Slot), Hw D A s H locs (wM ty o ad σ ++ rs) → lv_has ls 8 [(3, .long v3)] → M_weightOf_j129 σ v3 = some (r, σ') → W p l e R s m args below meth c H locs 0 0 Q (F0 m 129 ls []) := by
    intro σ v3 H locs ls h hl hf
    unfold M_weightOf_j129 at hf
    refine lv_lload_n C.x C.b dX7_weightOf_129 rfl (lv_at hl 0 rfl) ?_
    exact hR _ _ (some_k hf) _ _ _ _ h dX7_weightOf_130
  have l9 : ∀ (n9 : Nat) (v3 : Int64) (v5 : Int32) (σ : PS) (H : Heap) (locs : List Loc) (ls : Array Slot), Hw D A s H locs (wM ty o ad σ ++ rs) → lv_has ls 8 [(0, .ref o), (1, .int v1), (2, .int v2), (3, .long v3), (5, .int v5)] → loop (M_weightOf_B9 v1 v2) n9 (v3, v5, σ) = some (r, σ') → W p l e R s m args below meth c H locs 0 0 Q (F0 m 9 ls []) := by
    intro n9
    induction n9 with
    | zero => intro v3 v5 σ H locs ls h hl hf; exact (none_k hf).elim
    | succ n9 ih9 =>
      have j79 : ∀ (σ : PS) (v3 : Int64) (v5 : Int32) (v6 : Int32) (H : Heap) (locs : List Loc) (ls : Array Slot), Hw D A s H locs (wM ty o ad σ ++ rs) → lv_has ls 8 [(0, .ref o), (1, .int v1), (2, .int v2), (3, .long v3), (5, .int v5), (6, .int v6)] → bl (M_weightOf_B9 v1 v2) n9 (M_weightOf_j79 σ v1 v2 v3 v5 v6) = some (r, σ') → W p l e R s m args below meth c H locs 0 0 Q (F0 m 79 ls []) := by
        intro σ v3 v5 v6 H locs ls h hl hf
        unfold M_weightOf_j79 at hf
        refine lv_lload_n C.x C.b dX7_weightOf_79 rfl (lv_at hl 3 rfl) ?_
        refine lv_aload_n C.x C.b dX7_weightOf_80 rfl (lv_at hl 0 rfl) ?_
        refine m_g17 C h dX7_weightOf_81 ?_
        refine lv_iconst (v := 2) C.x C.b dX7_weightOf_84 (by decide) ?_
        obtain ⟨hi, hf⟩ := ix_k (K := bl (M_weightOf_B9 v1 v2) n9) rfl hf
        refine m_a17 C h hi dX7_weightOf_85 ?_
        refine lv_i2l C.x C.b dX7_weightOf_86 rfl ?_
        refine lv_iload C.x C.b dX7_weightOf_87 (lv_at hl 4 rfl) ?_
        obtain ⟨q_1, hc, hf⟩ := bd_k (K := bl (M_weightOf_B9 v1 v2) n9) rfl hf
        refine cM_sizeOf C h hc (Nat.le_of_ble_eq_true rfl) hl.1 (Nat.le_of_ble_eq_true rfl) dX7_weightOf_89 (fun H locs h => ?_)
        obtain ⟨q_2, hc, hf⟩ := bd_k (K := bl (M_weightOf_B9 v1 v2) n9) rfl hf
        refine cM_power C h hc (Nat.le_of_ble_eq_true rfl) hl.1 (Nat.le_of_ble_eq_true rfl) dX7_weightOf_92 (fun H locs h => ?_)
        refine lv_ldc2 (v := 10) C.x C.b C.own (C.ts _ q2274) dX7_weightOf_95 ?_
        refine lv_aload_n C.x C.b dX7_weightOf_98 rfl (lv_at hl 0 rfl) ?_
        refine m_g17 C h dX7_weightOf_99 ?_
        refine lv_iconst (v := 2) C.x C.b dX7_weightOf_102 (by decide) ?_
        obtain ⟨hi, hf⟩ := ix_k (K := bl (M_weightOf_B9 v1 v2) n9) rfl hf
        refine m_a17 C h hi dX7_weightOf_103 ?_
        refine lv_i2l C.x C.b dX7_weightOf_104 rfl ?_
        refine lv_lsub C.x C.b dX7_weightOf_105 ?_
        refine lv_iload_n C.x C.b dX7_weightOf_106 rfl (lv_at hl 2 rfl) ?_
        refine lv_iload C.x C.b dX7_weightOf_107 (lv_at hl 4 rfl) ?_
        obtain ⟨q_3, hc, hf⟩ := bd_k (K := bl (M_weightOf_B9 v1 v2) n9) rfl hf
        refine cM_sizeOf C h hc (Nat.le_of_ble_eq_true rfl) hl.1 (Nat.le_of_ble_eq_true rfl) dX7_weightOf_109 (fun H locs h => ?_)
        refine lv_isub C.x C.b dX7_weightOf_112 ?_
        obtain ⟨q_4, hc, hf⟩ := bd_k (K := bl (M_weightOf_B9 v1 v2) n9) rfl hf
        refine cM_power C h hc (Nat.le_of_ble_eq_true rfl) hl.1 (Nat.le_of_ble_eq_true rfl) dX7_weightOf_113 (fun H locs h => ?_)
        refine lv_lmul C.x C.b dX7_weightOf_116 ?_
        refine lv_iload C.x C.b dX7_weightOf_117 (lv_at hl 5 rfl) ?_
        refine lv_i2l C.x C.b dX7_weightOf_119 rfl ?_
        refine lv_lmul C.x C.b dX7_weightOf_120 ?_
        refine lv_ladd C.x C.b dX7_weightOf_121 ?_
        obtain ⟨v3_5, e9, hf⟩ := nm_k (K := bl (M_weightOf_B9 v1 v2) n9) hf
        refine lv_topL e9 ?_
        refine lv_lstore_n (lv' := [(3, .long v3_5), (0, .ref o), (1, .int v1), (2, .int v2), (5, .int v5), (6, .int v6)]) C.x C.b dX7_weightOf_122 rfl hl (by decide) rfl (fun ls hl => ?_)
        obtain ⟨v5_6, e9, hf⟩ := nm_k (K := bl (M_weightOf_B9 v1 v2) n9) hf
        refine lv_iinc (v := v5_6) (lv' := [(5, .int v5_6), (3, .long v3_5), (0, .ref o), (1, .int v1), (2, .int v2), (6, .int v6)]) C.x C.b dX7_weightOf_123 hl (k := 4) rfl (iinc_e (k := 1) (by decide) e9) (by decide) rfl (fun ls hl => ?_)
        refine lv_goto (tgt := 9) C.x C.b dX7_weightOf_126 (by decide) ?_
        exact ih9 v3_5 v5_6 σ _ _ _ h (lv_sub hl [2, 3, 4, 1, 0] rfl) hf
      have l33 : ∀ (σ : PS) (v3 : Int64) (v5 : Int32) (n33 : Nat) (v6 : Int32) (v7 : Int32) (H : Heap) (locs : List Loc) (ls : Array Slot), Hw D A s H locs (wM ty o ad σ ++ rs) → lv_has ls 8 [(0, .ref o), (1, .int v1), (2, .int v2), (3, .long v3), (5, .int v5), (6, .int v6), (7, .int v7)] → bl (M_weightOf_B9 v1 v2) n9 (loop (M_weightOf_B33 σ v1 v2 v3 v5) n33 (v6, v7)) = some (r, σ') → W p l e R s m args below meth c H locs 0 0 Q (F0 m 33 ls []) := by
        intro σ v3 v5 n33
        induction n33 with
        | zero => intro v6 v7 H locs ls h hl hf; exact (none_k hf).elim
        | succ n33 ih33 =>
          have j70 : ∀ (v7 : Int32) (x0 : Int32) (x1 : Int32) (H : Heap) (locs : List Loc) (ls : Array Slot), Hw D A s H locs (wM ty o ad σ ++ rs) → lv_has ls 8 [(0, .ref o), (1, .int v1), (2, .int v2), (3, .long v3), (5, .int v5), (7, .int v7)] → bl (M_weightOf_B9 v1 v2) n9 (bl (M_weightOf_B33 σ v1 v2 v3 v5) n33 (M_weightOf_j70 σ v1 v2 v3 v5 v7 x0 x1)) = some (r, σ') → W p l e R s m args below meth c H locs 0 0 Q (F0 m 70 ls [.int x0, .int x1]) := by
            intro v7 x0 x1 H locs ls h hl hf
            unfold M_weightOf_j70 at hf
            refine lv_iadd C.x C.b dX7_weightOf_70 ?_
            obtain ⟨v6_7, e9, hf⟩ := nm_k (K := fun x => bl (M_weightOf_B9 v1 v2) n9 (bl (M_weightOf_B33 σ v1 v2 v3 v5) n33 x)) hf
            refine lv_topI e9 ?_
            refine lv_istore (lv' := [(6, .int v6_7), (0, .ref o), (1, .int v1), (2, .int v2), (3, .long v3), (5, .int v5), (7, .int v7)]) C.x C.b dX7_weightOf_71 hl (by decide) rfl (fun ls hl => ?_)
            obtain ⟨v7_8, e9, hf⟩ := nm_k (K := fun x => bl (M_weightOf_B9 v1 v2) n9 (bl (M_weightOf_B33 σ v1 v2 v3 v5) n33 x)) hf
            refine lv_iinc (v := v7_8) (lv' := [(7, .int v7_8), (6, .int v6_7), (0, .ref o), (1, .int v1), (2, .int v2), (3, .long v3), (5, .int v5)]) C.x C.b dX7_weightOf_73 hl (k := 6) rfl (iinc_e (k := 1) (by decide) e9) (by decide) rfl (fun ls hl => ?_)
            refine lv_goto (tgt := 33) C.x C.b dX7_weightOf_76 (by decide) ?_
            exact ih33 v6_7 v7_8 _ _ _ h (lv_sub hl [2, 3, 4, 5, 6, 1, 0] rfl) hf
          have j69 : ∀ (v7 : Int32) (x0 : Int32) (H : Heap) (locs : List Loc) (ls : Array Slot), Hw D A s H locs (wM ty o ad σ ++ rs) → lv_has ls 8 [(0, .ref o), (1, .int v1), (2, .int v2), (3, .long v3), (5, .int v5), (7, .int v7)] → bl (M_weightOf_B9 v1 v2) n9 (bl (M_weightOf_B33 σ v1 v2 v3 v5) n33 (M_weightOf_j69 σ v1 v2 v3 v5 v7 x0)) = some (r, σ') → W p l e R s m args below meth c H locs 0 0 Q (F0 m 69 ls [.int x0]) := by
            intro v7 x0 H locs ls h hl hf
            unfold M_weightOf_j69 at hf
            refine lv_iconst (v := 0) C.x C.b dX7_weightOf_69 (by decide) ?_
            exact j70 v7 0 x0 _ _ _ h (lv_sub hl [0, 1, 2, 3, 4, 5] rfl) hf
          have j55 : ∀ (v7 : Int32) (x0 : Int32) (H : Heap) (locs : List Loc) (ls : Array Slot), Hw D A s H locs (wM ty o ad σ ++ rs) → lv_has ls 8 [(0, .ref o), (1, .int v1), (2, .int v2), (3, .long v3), (5, .int v5), (7, .int v7)] → bl (M_weightOf_B9 v1 v2) n9 (bl (M_weightOf_B33 σ v1 v2 v3 v5) n33 (M_weightOf_j55 σ v1 v2 v3 v5 v7 x0)) = some (r, σ') → W p l e R s m args below meth c H locs 0 0 Q (F0 m 55 ls [.int x0]) := by
            intro v7 x0 H locs ls h hl hf
            unfold M_weightOf_j55 at hf
            refine lv_aload_n C.x C.b dX7_weightOf_55 rfl (lv_at hl 0 rfl) ?_
            refine lv_iload C.x C.b dX7_weightOf_56 (lv_at hl 5 rfl) ?_
            refine lv_iload_n C.x C.b dX7_weightOf_58 rfl (lv_at hl 2 rfl) ?_
            obtain ⟨q_9, hc, hf⟩ := bd_k (K := fun x => bl (M_weightOf_B9 v1 v2) n9 (bl (M_weightOf_B33 σ v1 v2 v3 v5) n33 x)) rfl hf
            refine cM_isWhole C h hc (Nat.le_of_ble_eq_true rfl) hl.1 (Nat.le_of_ble_eq_true rfl) dX7_weightOf_59 (fun H locs h => ?_)
            refine lv_if_eq (tgt := 69) C.x C.b dX7_weightOf_62 (by decide) (fun c9 => ?_) (fun c9 => ?_)
            · have hf := if_t (K := fun x => bl (M_weightOf_B9 v1 v2) n9 (bl (M_weightOf_B33 σ v1 v2 v3 v5) n33 x)) c9 hf
              exact j69 v7 x0 _ _ _ h (lv_sub hl [0, 1, 2, 3, 4, 5] rfl) hf
            · have hf := if_f (K := fun x => bl (M_weightOf_B9 v1 v2) n9 (bl (M_weightOf_B33 σ v1 v2 v3 v5) n33 x)) c9 hf
              refine lv_iconst (v := 1) C.x C.b dX7_weightOf_65 (by decide) ?_
              refine lv_goto (tgt := 70) C.x C.b dX7_weightOf_66 (by decide) ?_
              exact j70 v7 1 x0 _ _ _ h (lv_sub hl [0, 1, 2, 3, 4, 5] rfl) hf
          intro v6 v7 H locs ls h hl hf
          have hf : bl (M_weightOf_B9 v1 v2) n9 (bl (M_weightOf_B33 σ v1 v2 v3 v5) n33 (M_weightOf_l33 σ v1 v2 v3 v5 v6 v7)) = some (r, σ') := hf
          unfold M_weightOf_l33 at hf
          refine lv_iload C.x C.b dX7_weightOf_33 (lv_at hl 6 rfl) ?_
          refine lv_aload_n C.x C.b dX7_weightOf_35 rfl (lv_at hl 0 rfl) ?_
          obtain ⟨q_10, hc, hf⟩ := bd_k (K := fun x => bl (M_weightOf_B9 v1 v2) n9 (bl (M_weightOf_B33 σ v1 v2 v3 v5) n33 x)) rfl hf
          refine cM_pieces C h hc (Nat.le_of_ble_eq_true rfl) hl.1 (Nat.le_of_ble_eq_true rfl) dX7_weightOf_36 (fun H locs h => ?_)
          refine lv_icmp_ge (tgt := 79) C.x C.b dX7_weightOf_39 (by decide) (fun c9 => ?_) (fun c9 => ?_)
          · have hf := if_t (K := fun x => bl (M_weightOf_B9 v1 v2) n9 (bl (M_weightOf_B33 σ v1 v2 v3 v5) n33 x)) c9 hf
            have hf := bl_upK (K := bl (M_weightOf_B9 v1 v2) n9) hf
            exact j79 σ v3 v5 v6 _ _ _ h (lv_sub hl [0, 1, 2, 3, 4, 5] rfl) hf
          · have hf := if_f (K := fun x => bl (M_weightOf_B9 v1 v2) n9 (bl (M_weightOf_B33 σ v1 v2 v3 v5) n33 x)) c9 hf
            refine lv_iload C.x C.b dX7_weightOf_42 (lv_at hl 5 rfl) ?_
            refine lv_iload_n C.x C.b dX7_weightOf_44 rfl (lv_at hl 1 rfl) ?_
            refine lv_iconst (v := (-1)) C.x C.b dX7_weightOf_45 (by decide) ?_
            refine lv_icmp_eq (tgt := 55) C.x C.b dX7_weightOf_46 (by decide) (fun c9 => ?_) (fun c9 => ?_)
            · have hf := if_t (K := fun x => bl (M_weightOf_B9 v1 v2) n9 (bl (M_weightOf_B33 σ v1 v2 v3 v5) n33 x)) c9 hf
              exact j55 v7 v6 _ _ _ h (lv_sub hl [0, 1, 2, 3, 4, 6] rfl) hf
            · have hf := if_f (K := fun x => bl (M_weightOf_B9 v1 v2) n9 (bl (M_weightOf_B33 σ v1 v2 v3 v5) n33 x)) c9 hf
              refine lv_iload C.x C.b dX7_weightOf_49 (lv_at hl 6 rfl) ?_
              refine lv_iload_n C.x C.b dX7_weightOf_51 rfl (lv_at hl 1 rfl) ?_
              refine lv_icmp_ne (tgt := 69) C.x C.b dX7_weightOf_52 (by decide) (fun c9 => ?_) (fun c9 => ?_)
              · have hf := if_f (K := fun x => bl (M_weightOf_B9 v1 v2) n9 (bl (M_weightOf_B33 σ v1 v2 v3 v5) n33 x)) c9 hf
                exact j69 v7 v6 _ _ _ h (lv_sub hl [0, 1, 2, 3, 4, 6] rfl) hf
              · have hf := if_t (K := fun x => bl (M_weightOf_B9 v1 v2) n9 (bl (M_weightOf_B33 σ v1 v2 v3 v5) n33 x)) c9 hf
                exact j55 v7 v6 _ _ _ h (lv_sub hl [0, 1, 2, 3, 4, 6] rfl) hf
      intro v3 v5 σ H locs ls h hl hf
      have hf : bl (M_weightOf_B9 v1 v2) n9 (M_weightOf_l9 v1 v2 v3 v5 σ) = some (r, σ') := hf
      unfold M_weightOf_l9 at hf
      refine lv_iload C.x C.b dX7_weightOf_9 (lv_at hl 4 rfl) ?_
      refine lv_iconst (v := 1) C.x C.b dX7_weightOf_11 (by decide) ?_
      refine lv_iload_n C.x C.b dX7_weightOf_12 rfl (lv_at hl 2 rfl) ?_
      refine lv_ishl C.x C.b dX7_weightOf_13 ?_
      refine lv_icmp_ge (tgt := 129) C.x C.b dX7_weightOf_14 (by decide) (fun c9 => ?_) (fun c9 => ?_)
      · have hf := if_t (K := bl (M_weightOf_B9 v1 v2) n9) c9 hf
        have hf := bl_upK (K := fun x => x) hf
        exact j129 σ v3 _ _ _ h (lv_sub hl [3] rfl) hf
      · have hf := if_f (K := bl (M_weightOf_B9 v1 v2) n9) c9 hf
        refine lv_aload_n C.x C.b dX7_weightOf_17 rfl (lv_at hl 0 rfl) ?_
        refine lv_iload C.x C.b dX7_weightOf_18 (lv_at hl 4 rfl) ?_
        obtain ⟨σ_11, e9, hf⟩ := nm_k (K := bl (M_weightOf_B9 v1 v2) n9) hf
        refine m_p24 C h e9 dX7_weightOf_20 (fun H locs h => ?_)
        refine lv_aload_n C.x C.b dX7_weightOf_23 rfl (lv_at hl 0 rfl) ?_
        obtain ⟨q_12, hc, hf⟩ := bd_k (K := bl (M_weightOf_B9 v1 v2) n9) rfl hf
        refine cM_runs C h hc (Nat.le_of_ble_eq_true rfl) hl.1 (Nat.le_of_ble_eq_true rfl) dX7_weightOf_24 (fun H locs h => ?_)
        refine lv_iconst (v := 0) C.x C.b dX7_weightOf_27 (by decide) ?_
        refine lv_istore (lv' := [(6, .int 0), (0, .ref o), (1, .int v1), (2, .int v2), (3, .long v3), (5, .int v5)]) C.x C.b dX7_weightOf_28 hl (by decide) rfl (fun ls hl => ?_)
        refine lv_iconst (v := 0) C.x C.b dX7_weightOf_30 (by decide) ?_
        refine lv_istore (lv' := [(7, .int 0), (6, .int 0), (0, .ref o), (1, .int v1), (2, .int v2), (3, .long v3), (5, .int v5)]) C.x C.b dX7_weightOf_31 hl (by decide) rfl (fun ls hl => ?_)
        exact l33 q_12 v3 v5 fu 0 0 _ _ _ h (lv_sub hl [2, 3, 4, 5, 6, 1, 0] rfl) hf
  intro H locs ls h hl
  have hl : lv_has ls 8 [(0, .ref o), (1, .int v1), (2, .int v2)] := hl
  unfold M_weightOf at hf
  refine lv_aload_n C.x C.b dX7_weightOf_0 rfl (lv_at hl 0 rfl) ?_
  obtain ⟨q_13, hc, hf⟩ := bd_k (K := fun x => x) rfl hf
  refine cM_lays C h hc (Nat.le_of_ble_eq_true rfl) hl.1 (Nat.le_of_ble_eq_true rfl) dX7_weightOf_1 (fun H locs h => ?_)
  refine lv_lconst (v := 0) C.x C.b dX7_weightOf_4 (by decide) ?_
  refine lv_lstore_n (lv' := [(3, .long 0), (0, .ref o), (1, .int v1), (2, .int v2)]) C.x C.b dX7_weightOf_5 rfl hl (by decide) rfl (fun ls hl => ?_)
  refine lv_iconst (v := 0) C.x C.b dX7_weightOf_6 (by decide) ?_
  refine lv_istore (lv' := [(5, .int 0), (3, .long 0), (0, .ref o), (1, .int v1), (2, .int v2)]) C.x C.b dX7_weightOf_7 hl (by decide) rfl (fun ls hl => ?_)
  exact l9  fu 0 0 q_13 _ _ _ h (lv_sub hl [2, 3, 4, 1, 0] rfl) hf
theorem tM_weightOf : GoodIn lw_all (wsV RX7 427 RX7 yX7_weightOf (ws_ yX7_weightOf cX7_weightOf 8 (some .long))) := lw_V q2267 q2269 qs133 q147 q2270
theorem cM_weightOf {p : Program} {l : Launch} {e : Env} {R : Room} {s : State} {m : MethodId} {args : Array Value} {below : List Frame} {meth : Method} {c : Code} {H : Heap} {locs : List Loc} {Q : State → Prop} {cc : ByteArray} {pc : Nat} {ls : Array Slot} {st : List Value} {nL d : Nat} {D : va_G} {ty : Nat → ClassId} {A : Nat → Prop} {o : Nat} {ad : Nat → Nat} {rs : va_W} {σ : PS} {v1 : Int32} {v2 : Int32} {q : (Int64 × PS)} (C : Cx p R s m args c cc nL RX7 D ty A d) (h : Hw D A s H locs (wM ty o ad σ ++ rs)) (hc : M_weightOf σ v1 v2 = some q) (hd : 65 + 1 ≤ d) (hls : ls.size = nL) (hcat : (st.map fun v => v.category).sum ≤ 8) (dec : decode cc pc = .ok (.invokevirtual 427, 3)) (kk : ∀ (H : Heap) (locs : List Loc), Hw D A s H locs (wM ty o ad q.2 ++ rs) → W p l e R s m args below meth c H locs 0 0 Q (F0 m (pc + 3) ls (.long (q.1) :: st))) : W p l e R s m args below meth c H locs 0 0 Q (F0 m pc ls (.int v2 :: .int v1 :: .ref o :: st)) := KL.callV (As := [.int v1, .int v2]) C (kM_weightOf l hc) tM_weightOf ⟨rfl, by decide, by decide, by show _ = some 2; decide +kernel⟩ 0 7 rfl rfl rfl hd (by decide) (Nat.zero_le _) (Nat.zero_le _) h hls rfl hcat dec kk
def M_mean_j43 (σ : PS) (x0 : Int64) : Option (Int64 × PS) := some (x0, σ)
def M_mean_j40 (σ : PS) : Option (Int64 × PS) := M_mean_j43 σ ((-2))
def M_mean (σ : PS) (v1 : Int32) (v2 : Int32) : Option (Int64 × PS) := nm (sI σ 0 0) (fun σ_1 => bd (M_isSoon σ_1 v1) (fun q_2 => if q_2 = 0 then M_mean_j40 σ_1 else bd (M_isHalf v2) (fun q_3 => if q_3 = 0 then M_mean_j40 σ_1 else bd (M_weightOf σ_1 ((-1)) v1) (fun q_4 => bd (M_power 64 10 v1) (fun q_5 => bd (M_partOf q_4.1 q_5 v2) (fun q_6 => M_mean_j43 q_4.2 q_6))))))
set_option maxHeartbeats 4000000 in
theorem kM_mean (l : Launch) {D : va_G} {ty : Nat → ClassId} {A : Nat → Prop} {o : Nat} {ad : Nat → Nat} {rs : va_W} {σ : PS} {σ' : PS} {v1 : Int32} {v2 : Int32} {r : Int64} (hf : M_mean σ v1 v2 = some (r, σ')) : KL l yX7_mean cX7_mean 3 66 D ty A (wM ty o ad σ ++ rs) (wM ty o ad σ' ++ rs) [.ref o, .int v1, .int v2] r := by
  refine KL.of (by decide) (Nat.le_of_ble_eq_true rfl) ?_
  intro p e R s m args below meth c Q C hR
  have C : Cx p R s m args c cX7_mean 3 RX7 D ty A 66 := C
  have hR : ∀ (v : Int64) (σ2 : PS), (v, σ2) = (r, σ') → ∀ (H : Heap) (locs : List Loc) (pc : Nat) (ls : Array Slot), Hw D A s H locs (wM ty o ad σ2 ++ rs) → decode cX7_mean pc = .ok (.lreturn, 1) → W p l e R s m args below meth c H locs 0 0 Q (F0 m pc ls [.long v]) := by intro v σ2 e9; cases e9; exact hR
  have j43 : ∀ (σ : PS) (x0 : Int64) (H : Heap) (locs : List Loc) (ls : Array Slot), Hw D A s H locs (wM ty o ad σ ++ rs) → lv_has ls 3 [] → M_mean_j43 σ x0 = some (r, σ') → W p l e R s m args below meth c H locs 0 0 Q (F0 m 43 ls [.long x0]) := by
    intro σ x0 H locs ls h hl hf
    unfold M_mean_j43 at hf
    exact hR _ _ (some_k hf) _ _ _ _ h dX7_mean_43
  have j40 : ∀ (σ : PS) (H : Heap) (locs : List Loc) (ls : Array Slot), Hw D A s H locs (wM ty o ad σ ++ rs) → lv_has ls 3 [] → M_mean_j40 σ = some (r, σ') → W p l e R s m args below meth c H locs 0 0 Q (F0 m 40 ls []) := by
    intro σ H locs ls h hl hf
    unfold M_mean_j40 at hf
    refine lv_ldc2 (v := (-2)) C.x C.b C.own (C.ts _ q2279) dX7_mean_40 ?_
    exact j43 σ ((-2)) _ _ _ h (lv_sub hl [] rfl) hf
  intro H locs ls h hl
  have hl : lv_has ls 3 [(0, .ref o), (1, .int v1), (2, .int v2)] := hl
  unfold M_mean at hf
  refine lv_aload_n C.x C.b dX7_mean_0 rfl (lv_at hl 0 rfl) ?_
  refine lv_iconst (v := 0) C.x C.b dX7_mean_1 (by decide) ?_
  obtain ⟨σ_1, e9, hf⟩ := nm_k (K := fun x => x) hf
  refine m_p0 C h e9 dX7_mean_2 (fun H locs h => ?_)
  refine lv_aload_n C.x C.b dX7_mean_5 rfl (lv_at hl 0 rfl) ?_
  refine lv_iload_n C.x C.b dX7_mean_6 rfl (lv_at hl 1 rfl) ?_
  obtain ⟨q_2, hc, hf⟩ := bd_k (K := fun x => x) rfl hf
  refine cM_isSoon C h hc (Nat.le_of_ble_eq_true rfl) hl.1 (Nat.le_of_ble_eq_true rfl) dX7_mean_7 (fun H locs h => ?_)
  refine lv_if_eq (tgt := 40) C.x C.b dX7_mean_10 (by decide) (fun c9 => ?_) (fun c9 => ?_)
  · have hf := if_t (K := fun x => x) c9 hf
    exact j40 σ_1 _ _ _ h (lv_sub hl [] rfl) hf
  · have hf := if_f (K := fun x => x) c9 hf
    refine lv_iload_n C.x C.b dX7_mean_13 rfl (lv_at hl 2 rfl) ?_
    obtain ⟨q_3, hc, hf⟩ := bd_k (K := fun x => x) rfl hf
    refine cM_isHalf C h hc (Nat.le_of_ble_eq_true rfl) hl.1 (Nat.le_of_ble_eq_true rfl) dX7_mean_14 (fun H locs h => ?_)
    refine lv_if_eq (tgt := 40) C.x C.b dX7_mean_17 (by decide) (fun c9 => ?_) (fun c9 => ?_)
    · have hf := if_t (K := fun x => x) c9 hf
      exact j40 σ_1 _ _ _ h (lv_sub hl [] rfl) hf
    · have hf := if_f (K := fun x => x) c9 hf
      refine lv_aload_n C.x C.b dX7_mean_20 rfl (lv_at hl 0 rfl) ?_
      refine lv_iconst (v := (-1)) C.x C.b dX7_mean_21 (by decide) ?_
      refine lv_iload_n C.x C.b dX7_mean_22 rfl (lv_at hl 1 rfl) ?_
      obtain ⟨q_4, hc, hf⟩ := bd_k (K := fun x => x) rfl hf
      refine cM_weightOf C h hc (Nat.le_of_ble_eq_true rfl) hl.1 (Nat.le_of_ble_eq_true rfl) dX7_mean_23 (fun H locs h => ?_)
      refine lv_ldc2 (v := 10) C.x C.b C.own (C.ts _ q2274) dX7_mean_26 ?_
      refine lv_iload_n C.x C.b dX7_mean_29 rfl (lv_at hl 1 rfl) ?_
      obtain ⟨q_5, hc, hf⟩ := bd_k (K := fun x => x) rfl hf
      refine cM_power C h hc (Nat.le_of_ble_eq_true rfl) hl.1 (Nat.le_of_ble_eq_true rfl) dX7_mean_30 (fun H locs h => ?_)
      refine lv_iload_n C.x C.b dX7_mean_33 rfl (lv_at hl 2 rfl) ?_
      obtain ⟨q_6, hc, hf⟩ := bd_k (K := fun x => x) rfl hf
      refine cM_partOf C h hc (Nat.le_of_ble_eq_true rfl) hl.1 (Nat.le_of_ble_eq_true rfl) dX7_mean_34 (fun H locs h => ?_)
      refine lv_goto (tgt := 43) C.x C.b dX7_mean_37 (by decide) ?_
      exact j43 q_4.2 q_6 _ _ _ h (lv_sub hl [] rfl) hf
def M_image (σ : PS) (v1 : Int32) : Option (Int32 × PS) := nm (sI σ 0 0) (fun σ_1 => bd (M_in v1.toInt64 0 2) (fun q_2 => if q_2 = 0 then some ((-2), σ_1) else bd (M_copyLehr σ_1 0 (1 + v1)) (fun q_3 => ix v1 3 (nm (wA q_3 21 v1 (vp_nar .boolean 1)) (fun σ_4 => some (0, σ_4))))))
set_option maxHeartbeats 4000000 in
theorem kM_image (l : Launch) {D : va_G} {ty : Nat → ClassId} {A : Nat → Prop} {o : Nat} {ad : Nat → Nat} {rs : va_W} {σ : PS} {σ' : PS} {v1 : Int32} {r : Int32} (hf : M_image σ v1 = some (r, σ')) : KI l yX7_image cX7_image 2 .int 2 D ty A (wM ty o ad σ ++ rs) (wM ty o ad σ' ++ rs) [.ref o, .int v1] r := by
  refine KI.of (by decide) (Nat.le_of_ble_eq_true rfl) ?_
  intro p e R s m args below meth c Q C hR
  have C : Cx p R s m args c cX7_image 2 RX7 D ty A 2 := C
  have hR : ∀ (v : Int32) (σ2 : PS), (v, σ2) = (r, σ') → ∀ (H : Heap) (locs : List Loc) (pc : Nat) (ls : Array Slot), Hw D A s H locs (wM ty o ad σ2 ++ rs) → narrow .int (.int v) = .int v → decode cX7_image pc = .ok (.ireturn, 1) → W p l e R s m args below meth c H locs 0 0 Q (F0 m pc ls [.int v]) := by intro v σ2 e9; cases e9; exact hR
  intro H locs ls h hl
  have hl : lv_has ls 2 [(0, .ref o), (1, .int v1)] := hl
  unfold M_image at hf
  refine lv_aload_n C.x C.b dX7_image_0 rfl (lv_at hl 0 rfl) ?_
  refine lv_iconst (v := 0) C.x C.b dX7_image_1 (by decide) ?_
  obtain ⟨σ_1, e9, hf⟩ := nm_k (K := fun x => x) hf
  refine m_p0 C h e9 dX7_image_2 (fun H locs h => ?_)
  refine lv_iload_n C.x C.b dX7_image_5 rfl (lv_at hl 1 rfl) ?_
  refine lv_i2l C.x C.b dX7_image_6 rfl ?_
  refine lv_lconst (v := 0) C.x C.b dX7_image_7 (by decide) ?_
  refine lv_ldc2 (v := 2) C.x C.b C.own (C.ts _ q2096) dX7_image_8 ?_
  obtain ⟨q_2, hc, hf⟩ := bd_k (K := fun x => x) rfl hf
  refine cM_in C h hc (Nat.le_of_ble_eq_true rfl) hl.1 (Nat.le_of_ble_eq_true rfl) dX7_image_11 (fun H locs h => ?_)
  refine lv_if_ne (tgt := 20) C.x C.b dX7_image_14 (by decide) (fun c9 => ?_) (fun c9 => ?_)
  · have hf := if_f (K := fun x => x) c9 hf
    refine lv_aload_n C.x C.b dX7_image_20 rfl (lv_at hl 0 rfl) ?_
    refine lv_iconst (v := 0) C.x C.b dX7_image_21 (by decide) ?_
    refine lv_iconst (v := 1) C.x C.b dX7_image_22 (by decide) ?_
    refine lv_iload_n C.x C.b dX7_image_23 rfl (lv_at hl 1 rfl) ?_
    refine lv_iadd C.x C.b dX7_image_24 ?_
    obtain ⟨q_3, hc, hf⟩ := bd_k (K := fun x => x) rfl hf
    refine cM_copyLehr C h hc (Nat.le_of_ble_eq_true rfl) hl.1 (Nat.le_of_ble_eq_true rfl) dX7_image_25 (fun H locs h => ?_)
    refine lv_aload_n C.x C.b dX7_image_28 rfl (lv_at hl 0 rfl) ?_
    refine m_g21 C h dX7_image_29 ?_
    refine lv_iload_n C.x C.b dX7_image_32 rfl (lv_at hl 1 rfl) ?_
    refine lv_iconst (v := 1) C.x C.b dX7_image_33 (by decide) ?_
    obtain ⟨hi, hf⟩ := ix_k (K := fun x => x) rfl hf
    obtain ⟨σ_4, e9, hf⟩ := nm_k (K := fun x => x) hf
    refine m_w21 C h hi e9 dX7_image_34 (fun H locs h => ?_)
    refine lv_iconst (v := 0) C.x C.b dX7_image_35 (by decide) ?_
    exact hR _ _ (some_k hf) _ _ _ _ h rfl dX7_image_36
  · have hf := if_t (K := fun x => x) c9 hf
    refine lv_bipush (v := (-2)) C.x C.b dX7_image_17 (by decide) ?_
    exact hR _ _ (some_k hf) _ _ _ _ h rfl dX7_image_19
def M_back (σ : PS) (v1 : Int32) : Option (Int32 × PS) := nm (sI σ 0 0) (fun σ_1 => bd (M_in v1.toInt64 0 2) (fun q_2 => if q_2 = 0 then some ((-2), σ_1) else ix v1 3 (if (rA σ_1 21 v1) = 0 then some ((-6), σ_1) else bd (M_copyLehr σ_1 (1 + v1) 0) (fun q_3 => some (0, q_3)))))
set_option maxHeartbeats 4000000 in
theorem kM_back (l : Launch) {D : va_G} {ty : Nat → ClassId} {A : Nat → Prop} {o : Nat} {ad : Nat → Nat} {rs : va_W} {σ : PS} {σ' : PS} {v1 : Int32} {r : Int32} (hf : M_back σ v1 = some (r, σ')) : KI l yX7_back cX7_back 2 .int 2 D ty A (wM ty o ad σ ++ rs) (wM ty o ad σ' ++ rs) [.ref o, .int v1] r := by
  refine KI.of (by decide) (Nat.le_of_ble_eq_true rfl) ?_
  intro p e R s m args below meth c Q C hR
  have C : Cx p R s m args c cX7_back 2 RX7 D ty A 2 := C
  have hR : ∀ (v : Int32) (σ2 : PS), (v, σ2) = (r, σ') → ∀ (H : Heap) (locs : List Loc) (pc : Nat) (ls : Array Slot), Hw D A s H locs (wM ty o ad σ2 ++ rs) → narrow .int (.int v) = .int v → decode cX7_back pc = .ok (.ireturn, 1) → W p l e R s m args below meth c H locs 0 0 Q (F0 m pc ls [.int v]) := by intro v σ2 e9; cases e9; exact hR
  intro H locs ls h hl
  have hl : lv_has ls 2 [(0, .ref o), (1, .int v1)] := hl
  unfold M_back at hf
  refine lv_aload_n C.x C.b dX7_back_0 rfl (lv_at hl 0 rfl) ?_
  refine lv_iconst (v := 0) C.x C.b dX7_back_1 (by decide) ?_
  obtain ⟨σ_1, e9, hf⟩ := nm_k (K := fun x => x) hf
  refine m_p0 C h e9 dX7_back_2 (fun H locs h => ?_)
  refine lv_iload_n C.x C.b dX7_back_5 rfl (lv_at hl 1 rfl) ?_
  refine lv_i2l C.x C.b dX7_back_6 rfl ?_
  refine lv_lconst (v := 0) C.x C.b dX7_back_7 (by decide) ?_
  refine lv_ldc2 (v := 2) C.x C.b C.own (C.ts _ q2096) dX7_back_8 ?_
  obtain ⟨q_2, hc, hf⟩ := bd_k (K := fun x => x) rfl hf
  refine cM_in C h hc (Nat.le_of_ble_eq_true rfl) hl.1 (Nat.le_of_ble_eq_true rfl) dX7_back_11 (fun H locs h => ?_)
  refine lv_if_ne (tgt := 20) C.x C.b dX7_back_14 (by decide) (fun c9 => ?_) (fun c9 => ?_)
  · have hf := if_f (K := fun x => x) c9 hf
    refine lv_aload_n C.x C.b dX7_back_20 rfl (lv_at hl 0 rfl) ?_
    refine m_g21 C h dX7_back_21 ?_
    refine lv_iload_n C.x C.b dX7_back_24 rfl (lv_at hl 1 rfl) ?_
    obtain ⟨hi, hf⟩ := ix_k (K := fun x => x) rfl hf
    refine m_a21 C h hi dX7_back_25 ?_
    refine lv_if_ne (tgt := 32) C.x C.b dX7_back_26 (by decide) (fun c9 => ?_) (fun c9 => ?_)
    · have hf := if_f (K := fun x => x) c9 hf
      refine lv_aload_n C.x C.b dX7_back_32 rfl (lv_at hl 0 rfl) ?_
      refine lv_iconst (v := 1) C.x C.b dX7_back_33 (by decide) ?_
      refine lv_iload_n C.x C.b dX7_back_34 rfl (lv_at hl 1 rfl) ?_
      refine lv_iadd C.x C.b dX7_back_35 ?_
      refine lv_iconst (v := 0) C.x C.b dX7_back_36 (by decide) ?_
      obtain ⟨q_3, hc, hf⟩ := bd_k (K := fun x => x) rfl hf
      refine cM_copyLehr C h hc (Nat.le_of_ble_eq_true rfl) hl.1 (Nat.le_of_ble_eq_true rfl) dX7_back_37 (fun H locs h => ?_)
      refine lv_iconst (v := 0) C.x C.b dX7_back_40 (by decide) ?_
      exact hR _ _ (some_k hf) _ _ _ _ h rfl dX7_back_41
    · have hf := if_t (K := fun x => x) c9 hf
      refine lv_bipush (v := (-6)) C.x C.b dX7_back_29 (by decide) ?_
      exact hR _ _ (some_k hf) _ _ _ _ h rfl dX7_back_31
  · have hf := if_t (K := fun x => x) c9 hf
    refine lv_bipush (v := (-2)) C.x C.b dX7_back_17 (by decide) ?_
    exact hR _ _ (some_k hf) _ _ _ _ h rfl dX7_back_19
def M_lehr_j148 (σ : PS) : Option (Int32 × PS) := bd (M_isOver σ) (fun q_1 => if (gI q_1 12) = 0 then bd (M_copyLehr q_1 4 0) (fun q_2 => ix 0 5 (some (rA q_2 16 0, q_2))) else some ((-4), q_1))
def M_lehr_j135 (σ : PS) : Option ((PS) ⊕ (Int32 × PS)) := ix 4 5 (ix 4 5 (nm (wA σ 16 4 ((rA σ 16 4) + 1)) (fun σ_3 => some (.inl (σ_3)))))
def M_lehr_j124 (σ : PS) : Option ((PS) ⊕ (Int32 × PS)) := bd (M_isGood σ) (fun q_4 => if q_4 = 0 then M_lehr_j135 σ else bd (M_ends σ) (fun q_5 => M_lehr_j135 q_5))
def M_lehr_l13 (σ : PS) : Option ((PS) ⊕ (Int32 × PS)) := bd (M_isGood σ) (fun q_6 => if q_6 = 0 then up (M_lehr_j148 σ) else if (gI σ 8) = 0 then up (M_lehr_j148 σ) else ix 4 5 (if (rA σ 16 4) = 0 then bd (M_asks σ 240075) (fun q_8 => bd (M_number q_8 10495135 1 14) (fun q_9 => bd (M_tells q_9.2 0 q_9.1) (fun q_10 => bd (M_number q_10 8798 0 3) (fun q_11 => bd (M_tells q_11.2 1 q_11.1) (fun q_12 => bd (M_number q_12 298288 0 10) (fun q_13 => bd (M_tells q_13.2 2 q_13.1) (fun q_14 => bd (M_number q_14 315743 1 4) (fun q_15 => bd (M_tells q_15.2 3 q_15.1) (fun q_16 => bd (M_number q_16 14006 0 600) (fun q_17 => bd (M_tells q_17.2 4 q_17.1) (fun q_18 => M_lehr_j124 q_18))))))))))) else bd (M_lineHere σ) (fun q_7 => M_lehr_j124 q_7)))
def M_lehr_B13 : (PS) → Option ((PS) ⊕ (Int32 × PS)) := fun t => M_lehr_l13 t
def M_lehr (σ : PS) : Option (Int32 × PS) := nm (sI σ 0 0) (fun σ_19 => bd (M_clears σ_19) (fun q_20 => bd (M_begins q_20) (fun q_21 => loop (M_lehr_B13) fu (q_21))))
set_option maxHeartbeats 4000000 in
theorem kM_lehr (l : Launch) {D : va_G} {ty : Nat → ClassId} {A : Nat → Prop} {o : Nat} {ad : Nat → Nat} {rs : va_W} {σ : PS} {σ' : PS} {r : Int32} (hf : M_lehr σ = some (r, σ')) : KI l yX7_lehr cX7_lehr 1 .int 7 D ty A (wM ty o ad σ ++ rs) (wM ty o ad σ' ++ rs) [.ref o] r := by
  refine KI.of (by decide) (Nat.le_of_ble_eq_true rfl) ?_
  intro p e R s m args below meth c Q C hR
  have C : Cx p R s m args c cX7_lehr 1 RX7 D ty A 7 := C
  have hR : ∀ (v : Int32) (σ2 : PS), (v, σ2) = (r, σ') → ∀ (H : Heap) (locs : List Loc) (pc : Nat) (ls : Array Slot), Hw D A s H locs (wM ty o ad σ2 ++ rs) → narrow .int (.int v) = .int v → decode cX7_lehr pc = .ok (.ireturn, 1) → W p l e R s m args below meth c H locs 0 0 Q (F0 m pc ls [.int v]) := by intro v σ2 e9; cases e9; exact hR
  have j148 : ∀ (σ : PS) (H : Heap) (locs : List Loc) (ls : Array Slot), Hw D A s H locs (wM ty o ad σ ++ rs) → lv_has ls 1 [(0, .ref o)] → M_lehr_j148 σ = some (r, σ') → W p l e R s m args below meth c H locs 0 0 Q (F0 m 148 ls []) := by
    intro σ H locs ls h hl hf
    unfold M_lehr_j148 at hf
    refine lv_aload_n C.x C.b dX7_lehr_148 rfl (lv_at hl 0 rfl) ?_
    obtain ⟨q_1, hc, hf⟩ := bd_k (K := fun x => x) rfl hf
    refine cM_isOver C h hc (Nat.le_of_ble_eq_true rfl) hl.1 (Nat.le_of_ble_eq_true rfl) dX7_lehr_149 (fun H locs h => ?_)
    refine lv_aload_n C.x C.b dX7_lehr_152 rfl (lv_at hl 0 rfl) ?_
    refine m_g12 C h dX7_lehr_153 ?_
    refine lv_if_eq (tgt := 162) C.x C.b dX7_lehr_156 (by decide) (fun c9 => ?_) (fun c9 => ?_)
    · have hf := if_t (K := fun x => x) c9 hf
      refine lv_aload_n C.x C.b dX7_lehr_162 rfl (lv_at hl 0 rfl) ?_
      refine lv_iconst (v := 4) C.x C.b dX7_lehr_163 (by decide) ?_
      refine lv_iconst (v := 0) C.x C.b dX7_lehr_164 (by decide) ?_
      obtain ⟨q_2, hc, hf⟩ := bd_k (K := fun x => x) rfl hf
      refine cM_copyLehr C h hc (Nat.le_of_ble_eq_true rfl) hl.1 (Nat.le_of_ble_eq_true rfl) dX7_lehr_165 (fun H locs h => ?_)
      refine lv_aload_n C.x C.b dX7_lehr_168 rfl (lv_at hl 0 rfl) ?_
      refine m_g16 C h dX7_lehr_169 ?_
      refine lv_iconst (v := 0) C.x C.b dX7_lehr_172 (by decide) ?_
      obtain ⟨hi, hf⟩ := ix_k (K := fun x => x) rfl hf
      refine m_a16 C h hi dX7_lehr_173 ?_
      exact hR _ _ (some_k hf) _ _ _ _ h rfl dX7_lehr_174
    · have hf := if_f (K := fun x => x) c9 hf
      refine lv_bipush (v := (-4)) C.x C.b dX7_lehr_159 (by decide) ?_
      exact hR _ _ (some_k hf) _ _ _ _ h rfl dX7_lehr_161
  have l13 : ∀ (n13 : Nat) (σ : PS) (H : Heap) (locs : List Loc) (ls : Array Slot), Hw D A s H locs (wM ty o ad σ ++ rs) → lv_has ls 1 [(0, .ref o)] → loop (M_lehr_B13) n13 (σ) = some (r, σ') → W p l e R s m args below meth c H locs 0 0 Q (F0 m 13 ls []) := by
    intro n13
    induction n13 with
    | zero => intro σ H locs ls h hl hf; exact (none_k hf).elim
    | succ n13 ih13 =>
      have j135 : ∀ (σ : PS) (H : Heap) (locs : List Loc) (ls : Array Slot), Hw D A s H locs (wM ty o ad σ ++ rs) → lv_has ls 1 [(0, .ref o)] → bl (M_lehr_B13) n13 (M_lehr_j135 σ) = some (r, σ') → W p l e R s m args below meth c H locs 0 0 Q (F0 m 135 ls []) := by
        intro σ H locs ls h hl hf
        unfold M_lehr_j135 at hf
        refine lv_aload_n C.x C.b dX7_lehr_135 rfl (lv_at hl 0 rfl) ?_
        refine m_g16 C h dX7_lehr_136 ?_
        refine lv_iconst (v := 4) C.x C.b dX7_lehr_139 (by decide) ?_
        refine lv_dup2_11 C.x C.b dX7_lehr_140 rfl rfl ?_
        obtain ⟨hi, hf⟩ := ix_k (K := bl (M_lehr_B13) n13) rfl hf
        refine m_a16 C h hi dX7_lehr_141 ?_
        refine lv_iconst (v := 1) C.x C.b dX7_lehr_142 (by decide) ?_
        refine lv_iadd C.x C.b dX7_lehr_143 ?_
        obtain ⟨hi, hf⟩ := ix_k (K := bl (M_lehr_B13) n13) rfl hf
        obtain ⟨σ_3, e9, hf⟩ := nm_k (K := bl (M_lehr_B13) n13) hf
        refine m_w16 C h hi e9 dX7_lehr_144 (fun H locs h => ?_)
        refine lv_goto (tgt := 13) C.x C.b dX7_lehr_145 (by decide) ?_
        exact ih13 σ_3 _ _ _ h (lv_sub hl [0] rfl) hf
      have j124 : ∀ (σ : PS) (H : Heap) (locs : List Loc) (ls : Array Slot), Hw D A s H locs (wM ty o ad σ ++ rs) → lv_has ls 1 [(0, .ref o)] → bl (M_lehr_B13) n13 (M_lehr_j124 σ) = some (r, σ') → W p l e R s m args below meth c H locs 0 0 Q (F0 m 124 ls []) := by
        intro σ H locs ls h hl hf
        unfold M_lehr_j124 at hf
        refine lv_aload_n C.x C.b dX7_lehr_124 rfl (lv_at hl 0 rfl) ?_
        obtain ⟨q_4, hc, hf⟩ := bd_k (K := bl (M_lehr_B13) n13) rfl hf
        refine cM_isGood C h hc (Nat.le_of_ble_eq_true rfl) hl.1 (Nat.le_of_ble_eq_true rfl) dX7_lehr_125 (fun H locs h => ?_)
        refine lv_if_eq (tgt := 135) C.x C.b dX7_lehr_128 (by decide) (fun c9 => ?_) (fun c9 => ?_)
        · have hf := if_t (K := bl (M_lehr_B13) n13) c9 hf
          exact j135 σ _ _ _ h (lv_sub hl [0] rfl) hf
        · have hf := if_f (K := bl (M_lehr_B13) n13) c9 hf
          refine lv_aload_n C.x C.b dX7_lehr_131 rfl (lv_at hl 0 rfl) ?_
          obtain ⟨q_5, hc, hf⟩ := bd_k (K := bl (M_lehr_B13) n13) rfl hf
          refine cM_ends C h hc (Nat.le_of_ble_eq_true rfl) hl.1 (Nat.le_of_ble_eq_true rfl) dX7_lehr_132 (fun H locs h => ?_)
          exact j135 q_5 _ _ _ h (lv_sub hl [0] rfl) hf
      intro σ H locs ls h hl hf
      have hf : bl (M_lehr_B13) n13 (M_lehr_l13 σ) = some (r, σ') := hf
      unfold M_lehr_l13 at hf
      refine lv_aload_n C.x C.b dX7_lehr_13 rfl (lv_at hl 0 rfl) ?_
      obtain ⟨q_6, hc, hf⟩ := bd_k (K := bl (M_lehr_B13) n13) rfl hf
      refine cM_isGood C h hc (Nat.le_of_ble_eq_true rfl) hl.1 (Nat.le_of_ble_eq_true rfl) dX7_lehr_14 (fun H locs h => ?_)
      refine lv_if_eq (tgt := 148) C.x C.b dX7_lehr_17 (by decide) (fun c9 => ?_) (fun c9 => ?_)
      · have hf := if_t (K := bl (M_lehr_B13) n13) c9 hf
        have hf := bl_upK (K := fun x => x) hf
        exact j148 σ _ _ _ h (lv_sub hl [0] rfl) hf
      · have hf := if_f (K := bl (M_lehr_B13) n13) c9 hf
        refine lv_aload_n C.x C.b dX7_lehr_20 rfl (lv_at hl 0 rfl) ?_
        refine m_g8 C h dX7_lehr_21 ?_
        refine lv_if_eq (tgt := 148) C.x C.b dX7_lehr_24 (by decide) (fun c9 => ?_) (fun c9 => ?_)
        · have hf := if_t (K := bl (M_lehr_B13) n13) c9 hf
          have hf := bl_upK (K := fun x => x) hf
          exact j148 σ _ _ _ h (lv_sub hl [0] rfl) hf
        · have hf := if_f (K := bl (M_lehr_B13) n13) c9 hf
          refine lv_aload_n C.x C.b dX7_lehr_27 rfl (lv_at hl 0 rfl) ?_
          refine m_g16 C h dX7_lehr_28 ?_
          refine lv_iconst (v := 4) C.x C.b dX7_lehr_31 (by decide) ?_
          obtain ⟨hi, hf⟩ := ix_k (K := bl (M_lehr_B13) n13) rfl hf
          refine m_a16 C h hi dX7_lehr_32 ?_
          refine lv_if_ne (tgt := 120) C.x C.b dX7_lehr_33 (by decide) (fun c9 => ?_) (fun c9 => ?_)
          · have hf := if_f (K := bl (M_lehr_B13) n13) c9 hf
            refine lv_aload_n C.x C.b dX7_lehr_120 rfl (lv_at hl 0 rfl) ?_
            obtain ⟨q_7, hc, hf⟩ := bd_k (K := bl (M_lehr_B13) n13) rfl hf
            refine cM_lineHere C h hc (Nat.le_of_ble_eq_true rfl) hl.1 (Nat.le_of_ble_eq_true rfl) dX7_lehr_121 (fun H locs h => ?_)
            exact j124 q_7 _ _ _ h (lv_sub hl [0] rfl) hf
          · have hf := if_t (K := bl (M_lehr_B13) n13) c9 hf
            refine lv_aload_n C.x C.b dX7_lehr_36 rfl (lv_at hl 0 rfl) ?_
            refine lv_ldc2 (v := 240075) C.x C.b C.own (C.ts _ q1728) dX7_lehr_37 ?_
            obtain ⟨q_8, hc, hf⟩ := bd_k (K := bl (M_lehr_B13) n13) rfl hf
            refine cM_asks C h hc (Nat.le_of_ble_eq_true rfl) hl.1 (Nat.le_of_ble_eq_true rfl) dX7_lehr_40 (fun H locs h => ?_)
            refine lv_aload_n C.x C.b dX7_lehr_43 rfl (lv_at hl 0 rfl) ?_
            refine lv_iconst (v := 0) C.x C.b dX7_lehr_44 (by decide) ?_
            refine lv_aload_n C.x C.b dX7_lehr_45 rfl (lv_at hl 0 rfl) ?_
            refine lv_ldc2 (v := 10495135) C.x C.b C.own (C.ts _ q1745) dX7_lehr_46 ?_
            refine lv_iconst (v := 1) C.x C.b dX7_lehr_49 (by decide) ?_
            refine lv_bipush (v := 14) C.x C.b dX7_lehr_50 (by decide) ?_
            obtain ⟨q_9, hc, hf⟩ := bd_k (K := bl (M_lehr_B13) n13) rfl hf
            refine cM_number C h hc (Nat.le_of_ble_eq_true rfl) hl.1 (Nat.le_of_ble_eq_true rfl) dX7_lehr_52 (fun H locs h => ?_)
            obtain ⟨q_10, hc, hf⟩ := bd_k (K := bl (M_lehr_B13) n13) rfl hf
            refine cM_tells C h hc (Nat.le_of_ble_eq_true rfl) hl.1 (Nat.le_of_ble_eq_true rfl) dX7_lehr_55 (fun H locs h => ?_)
            refine lv_aload_n C.x C.b dX7_lehr_58 rfl (lv_at hl 0 rfl) ?_
            refine lv_iconst (v := 1) C.x C.b dX7_lehr_59 (by decide) ?_
            refine lv_aload_n C.x C.b dX7_lehr_60 rfl (lv_at hl 0 rfl) ?_
            refine lv_ldc2 (v := 8798) C.x C.b C.own (C.ts _ q1754) dX7_lehr_61 ?_
            refine lv_iconst (v := 0) C.x C.b dX7_lehr_64 (by decide) ?_
            refine lv_iconst (v := 3) C.x C.b dX7_lehr_65 (by decide) ?_
            obtain ⟨q_11, hc, hf⟩ := bd_k (K := bl (M_lehr_B13) n13) rfl hf
            refine cM_number C h hc (Nat.le_of_ble_eq_true rfl) hl.1 (Nat.le_of_ble_eq_true rfl) dX7_lehr_66 (fun H locs h => ?_)
            obtain ⟨q_12, hc, hf⟩ := bd_k (K := bl (M_lehr_B13) n13) rfl hf
            refine cM_tells C h hc (Nat.le_of_ble_eq_true rfl) hl.1 (Nat.le_of_ble_eq_true rfl) dX7_lehr_69 (fun H locs h => ?_)
            refine lv_aload_n C.x C.b dX7_lehr_72 rfl (lv_at hl 0 rfl) ?_
            refine lv_iconst (v := 2) C.x C.b dX7_lehr_73 (by decide) ?_
            refine lv_aload_n C.x C.b dX7_lehr_74 rfl (lv_at hl 0 rfl) ?_
            refine lv_ldc2 (v := 298288) C.x C.b C.own (C.ts _ q1755) dX7_lehr_75 ?_
            refine lv_iconst (v := 0) C.x C.b dX7_lehr_78 (by decide) ?_
            refine lv_bipush (v := 10) C.x C.b dX7_lehr_79 (by decide) ?_
            obtain ⟨q_13, hc, hf⟩ := bd_k (K := bl (M_lehr_B13) n13) rfl hf
            refine cM_number C h hc (Nat.le_of_ble_eq_true rfl) hl.1 (Nat.le_of_ble_eq_true rfl) dX7_lehr_81 (fun H locs h => ?_)
            obtain ⟨q_14, hc, hf⟩ := bd_k (K := bl (M_lehr_B13) n13) rfl hf
            refine cM_tells C h hc (Nat.le_of_ble_eq_true rfl) hl.1 (Nat.le_of_ble_eq_true rfl) dX7_lehr_84 (fun H locs h => ?_)
            refine lv_aload_n C.x C.b dX7_lehr_87 rfl (lv_at hl 0 rfl) ?_
            refine lv_iconst (v := 3) C.x C.b dX7_lehr_88 (by decide) ?_
            refine lv_aload_n C.x C.b dX7_lehr_89 rfl (lv_at hl 0 rfl) ?_
            refine lv_ldc2 (v := 315743) C.x C.b C.own (C.ts _ q1756) dX7_lehr_90 ?_
            refine lv_iconst (v := 1) C.x C.b dX7_lehr_93 (by decide) ?_
            refine lv_iconst (v := 4) C.x C.b dX7_lehr_94 (by decide) ?_
            obtain ⟨q_15, hc, hf⟩ := bd_k (K := bl (M_lehr_B13) n13) rfl hf
            refine cM_number C h hc (Nat.le_of_ble_eq_true rfl) hl.1 (Nat.le_of_ble_eq_true rfl) dX7_lehr_95 (fun H locs h => ?_)
            obtain ⟨q_16, hc, hf⟩ := bd_k (K := bl (M_lehr_B13) n13) rfl hf
            refine cM_tells C h hc (Nat.le_of_ble_eq_true rfl) hl.1 (Nat.le_of_ble_eq_true rfl) dX7_lehr_98 (fun H locs h => ?_)
            refine lv_aload_n C.x C.b dX7_lehr_101 rfl (lv_at hl 0 rfl) ?_
            refine lv_iconst (v := 4) C.x C.b dX7_lehr_102 (by decide) ?_
            refine lv_aload_n C.x C.b dX7_lehr_103 rfl (lv_at hl 0 rfl) ?_
            refine lv_ldc2 (v := 14006) C.x C.b C.own (C.ts _ q1757) dX7_lehr_104 ?_
            refine lv_iconst (v := 0) C.x C.b dX7_lehr_107 (by decide) ?_
            refine lv_sipush (v := 600) C.x C.b dX7_lehr_108 (by decide) ?_
            obtain ⟨q_17, hc, hf⟩ := bd_k (K := bl (M_lehr_B13) n13) rfl hf
            refine cM_number C h hc (Nat.le_of_ble_eq_true rfl) hl.1 (Nat.le_of_ble_eq_true rfl) dX7_lehr_111 (fun H locs h => ?_)
            obtain ⟨q_18, hc, hf⟩ := bd_k (K := bl (M_lehr_B13) n13) rfl hf
            refine cM_tells C h hc (Nat.le_of_ble_eq_true rfl) hl.1 (Nat.le_of_ble_eq_true rfl) dX7_lehr_114 (fun H locs h => ?_)
            refine lv_goto (tgt := 124) C.x C.b dX7_lehr_117 (by decide) ?_
            exact j124 q_18 _ _ _ h (lv_sub hl [0] rfl) hf
  intro H locs ls h hl
  have hl : lv_has ls 1 [(0, .ref o)] := hl
  unfold M_lehr at hf
  refine lv_aload_n C.x C.b dX7_lehr_0 rfl (lv_at hl 0 rfl) ?_
  refine lv_iconst (v := 0) C.x C.b dX7_lehr_1 (by decide) ?_
  obtain ⟨σ_19, e9, hf⟩ := nm_k (K := fun x => x) hf
  refine m_p0 C h e9 dX7_lehr_2 (fun H locs h => ?_)
  refine lv_aload_n C.x C.b dX7_lehr_5 rfl (lv_at hl 0 rfl) ?_
  obtain ⟨q_20, hc, hf⟩ := bd_k (K := fun x => x) rfl hf
  refine cM_clears C h hc (Nat.le_of_ble_eq_true rfl) hl.1 (Nat.le_of_ble_eq_true rfl) dX7_lehr_6 (fun H locs h => ?_)
  refine lv_aload_n C.x C.b dX7_lehr_9 rfl (lv_at hl 0 rfl) ?_
  obtain ⟨q_21, hc, hf⟩ := bd_k (K := fun x => x) rfl hf
  refine cM_begins C h hc (Nat.le_of_ble_eq_true rfl) hl.1 (Nat.le_of_ble_eq_true rfl) dX7_lehr_10 (fun H locs h => ?_)
  exact l13  fu q_21 _ _ _ h (lv_sub hl [0] rfl) hf
def M_share_j108 (σ : PS) (v2 : Int32) (v3 : Int32) (v4 : Int32) : Option (Int32 × PS) := bd (M_times 64 v3) (fun q_1 => bd (M_partOf v4.toInt64 q_1.toInt64 v2) (fun q_2 => some (q_2.toInt32, σ)))
def M_share_j102 (σ : PS) (v1 : Int32) (v2 : Int32) (v3 : Int32) (v4 : Int32) (v5 : Int32) : Option ((Int32 × Int32 × PS) ⊕ (Int32 × PS)) := nm (v5 + 1) (fun v5_3 => some (.inl (v4, v5_3, σ)))
def M_share_l37 (v1 : Int32) (v2 : Int32) (v3 : Int32) (v4 : Int32) (v5 : Int32) (σ : PS) : Option ((Int32 × Int32 × PS) ⊕ (Int32 × PS)) := if (1 <<< (v3 &&& 31)) ≤ v5 then up (M_share_j108 σ v2 v3 v4) else bd (M_isBit v5 v1) (fun q_4 => if q_4 = 0 then bd (M_sizeOf v5) (fun q_5 => bd (M_times 64 q_5) (fun q_6 => bd (M_times 64 ((v3 - q_5) - 1)) (fun q_7 => bd (M_worthOf σ (v5 ||| (1 <<< (v1 &&& 31)))) (fun q_8 => bd (M_worthOf q_8.2 v5) (fun q_9 => nm (v4 + ((q_6 * q_7) * (q_8.1 - q_9.1))) (fun v4_10 => M_share_j102 q_9.2 v1 v2 v3 v4_10 v5)))))) else M_share_j102 σ v1 v2 v3 v4 v5)
def M_share_B37 (v1 : Int32) (v2 : Int32) (v3 : Int32) : (Int32 × Int32 × PS) → Option ((Int32 × Int32 × PS) ⊕ (Int32 × PS)) := fun t => M_share_l37 v1 v2 v3 t.1 t.2.1 t.2.2
def M_share_j20 (σ : PS) : Option (Int32 × PS) := some ((-1000000), σ)
def M_share (σ : PS) (v1 : Int32) (v2 : Int32) : Option (Int32 × PS) := nm (sI σ 0 0) (fun σ_11 => bd (M_isZone σ_11 v1) (fun q_12 => if q_12 = 0 then M_share_j20 σ_11 else bd (M_isHalf v2) (fun q_13 => if q_13 = 0 then M_share_j20 σ_11 else ix 5 40 (nm (rA σ_11 17 5) (fun v3_14 => loop (M_share_B37 v1 v2 v3_14) fu (0, 0, σ_11))))))
set_option maxHeartbeats 4000000 in
theorem kM_share (l : Launch) {D : va_G} {ty : Nat → ClassId} {A : Nat → Prop} {o : Nat} {ad : Nat → Nat} {rs : va_W} {σ : PS} {σ' : PS} {v1 : Int32} {v2 : Int32} {r : Int32} (hf : M_share σ v1 v2 = some (r, σ')) : KI l yX7_share cX7_share 7 .int 66 D ty A (wM ty o ad σ ++ rs) (wM ty o ad σ' ++ rs) [.ref o, .int v1, .int v2] r := by
  refine KI.of (by decide) (Nat.le_of_ble_eq_true rfl) ?_
  intro p e R s m args below meth c Q C hR
  have C : Cx p R s m args c cX7_share 7 RX7 D ty A 66 := C
  have hR : ∀ (v : Int32) (σ2 : PS), (v, σ2) = (r, σ') → ∀ (H : Heap) (locs : List Loc) (pc : Nat) (ls : Array Slot), Hw D A s H locs (wM ty o ad σ2 ++ rs) → narrow .int (.int v) = .int v → decode cX7_share pc = .ok (.ireturn, 1) → W p l e R s m args below meth c H locs 0 0 Q (F0 m pc ls [.int v]) := by intro v σ2 e9; cases e9; exact hR
  have j108 : ∀ (σ : PS) (v3 : Int32) (v4 : Int32) (H : Heap) (locs : List Loc) (ls : Array Slot), Hw D A s H locs (wM ty o ad σ ++ rs) → lv_has ls 7 [(2, .int v2), (3, .int v3), (4, .int v4)] → M_share_j108 σ v2 v3 v4 = some (r, σ') → W p l e R s m args below meth c H locs 0 0 Q (F0 m 108 ls []) := by
    intro σ v3 v4 H locs ls h hl hf
    unfold M_share_j108 at hf
    refine lv_iload C.x C.b dX7_share_108 (lv_at hl 2 rfl) ?_
    refine lv_i2l C.x C.b dX7_share_110 rfl ?_
    refine lv_iload_n C.x C.b dX7_share_111 rfl (lv_at hl 1 rfl) ?_
    obtain ⟨q_1, hc, hf⟩ := bd_k (K := fun x => x) rfl hf
    refine cM_times C h hc (Nat.le_of_ble_eq_true rfl) hl.1 (Nat.le_of_ble_eq_true rfl) dX7_share_112 (fun H locs h => ?_)
    refine lv_i2l C.x C.b dX7_share_115 rfl ?_
    refine lv_iload_n C.x C.b dX7_share_116 rfl (lv_at hl 0 rfl) ?_
    obtain ⟨q_2, hc, hf⟩ := bd_k (K := fun x => x) rfl hf
    refine cM_partOf C h hc (Nat.le_of_ble_eq_true rfl) hl.1 (Nat.le_of_ble_eq_true rfl) dX7_share_117 (fun H locs h => ?_)
    refine lv_l2i C.x C.b dX7_share_120 rfl ?_
    exact hR _ _ (some_k hf) _ _ _ _ h rfl dX7_share_121
  have l37 : ∀ (v3 : Int32) (n37 : Nat) (v4 : Int32) (v5 : Int32) (σ : PS) (H : Heap) (locs : List Loc) (ls : Array Slot), Hw D A s H locs (wM ty o ad σ ++ rs) → lv_has ls 7 [(0, .ref o), (1, .int v1), (2, .int v2), (3, .int v3), (4, .int v4), (5, .int v5)] → loop (M_share_B37 v1 v2 v3) n37 (v4, v5, σ) = some (r, σ') → W p l e R s m args below meth c H locs 0 0 Q (F0 m 37 ls []) := by
    intro v3 n37
    induction n37 with
    | zero => intro v4 v5 σ H locs ls h hl hf; exact (none_k hf).elim
    | succ n37 ih37 =>
      have j102 : ∀ (σ : PS) (v4 : Int32) (v5 : Int32) (H : Heap) (locs : List Loc) (ls : Array Slot), Hw D A s H locs (wM ty o ad σ ++ rs) → lv_has ls 7 [(0, .ref o), (1, .int v1), (2, .int v2), (3, .int v3), (4, .int v4), (5, .int v5)] → bl (M_share_B37 v1 v2 v3) n37 (M_share_j102 σ v1 v2 v3 v4 v5) = some (r, σ') → W p l e R s m args below meth c H locs 0 0 Q (F0 m 102 ls []) := by
        intro σ v4 v5 H locs ls h hl hf
        unfold M_share_j102 at hf
        obtain ⟨v5_3, e9, hf⟩ := nm_k (K := bl (M_share_B37 v1 v2 v3) n37) hf
        refine lv_iinc (v := v5_3) (lv' := [(5, .int v5_3), (0, .ref o), (1, .int v1), (2, .int v2), (3, .int v3), (4, .int v4)]) C.x C.b dX7_share_102 hl (k := 5) rfl (iinc_e (k := 1) (by decide) e9) (by decide) rfl (fun ls hl => ?_)
        refine lv_goto (tgt := 37) C.x C.b dX7_share_105 (by decide) ?_
        exact ih37 v4 v5_3 σ _ _ _ h (lv_sub hl [1, 2, 3, 4, 5, 0] rfl) hf
      intro v4 v5 σ H locs ls h hl hf
      have hf : bl (M_share_B37 v1 v2 v3) n37 (M_share_l37 v1 v2 v3 v4 v5 σ) = some (r, σ') := hf
      unfold M_share_l37 at hf
      refine lv_iload C.x C.b dX7_share_37 (lv_at hl 5 rfl) ?_
      refine lv_iconst (v := 1) C.x C.b dX7_share_39 (by decide) ?_
      refine lv_iload_n C.x C.b dX7_share_40 rfl (lv_at hl 3 rfl) ?_
      refine lv_ishl C.x C.b dX7_share_41 ?_
      refine lv_icmp_ge (tgt := 108) C.x C.b dX7_share_42 (by decide) (fun c9 => ?_) (fun c9 => ?_)
      · have hf := if_t (K := bl (M_share_B37 v1 v2 v3) n37) c9 hf
        have hf := bl_upK (K := fun x => x) hf
        exact j108 σ v3 v4 _ _ _ h (lv_sub hl [2, 3, 4] rfl) hf
      · have hf := if_f (K := bl (M_share_B37 v1 v2 v3) n37) c9 hf
        refine lv_iload C.x C.b dX7_share_45 (lv_at hl 5 rfl) ?_
        refine lv_iload_n C.x C.b dX7_share_47 rfl (lv_at hl 1 rfl) ?_
        obtain ⟨q_4, hc, hf⟩ := bd_k (K := bl (M_share_B37 v1 v2 v3) n37) rfl hf
        refine cM_isBit C h hc (Nat.le_of_ble_eq_true rfl) hl.1 (Nat.le_of_ble_eq_true rfl) dX7_share_48 (fun H locs h => ?_)
        refine lv_if_eq (tgt := 57) C.x C.b dX7_share_51 (by decide) (fun c9 => ?_) (fun c9 => ?_)
        · have hf := if_t (K := bl (M_share_B37 v1 v2 v3) n37) c9 hf
          refine lv_iload C.x C.b dX7_share_57 (lv_at hl 5 rfl) ?_
          obtain ⟨q_5, hc, hf⟩ := bd_k (K := bl (M_share_B37 v1 v2 v3) n37) rfl hf
          refine cM_sizeOf C h hc (Nat.le_of_ble_eq_true rfl) hl.1 (Nat.le_of_ble_eq_true rfl) dX7_share_59 (fun H locs h => ?_)
          refine lv_istore (lv' := [(6, .int q_5), (0, .ref o), (1, .int v1), (2, .int v2), (3, .int v3), (4, .int v4), (5, .int v5)]) C.x C.b dX7_share_62 hl (by decide) rfl (fun ls hl => ?_)
          refine lv_iload C.x C.b dX7_share_64 (lv_at hl 5 rfl) ?_
          refine lv_iload C.x C.b dX7_share_66 (lv_at hl 0 rfl) ?_
          obtain ⟨q_6, hc, hf⟩ := bd_k (K := bl (M_share_B37 v1 v2 v3) n37) rfl hf
          refine cM_times C h hc (Nat.le_of_ble_eq_true rfl) hl.1 (Nat.le_of_ble_eq_true rfl) dX7_share_68 (fun H locs h => ?_)
          refine lv_iload_n C.x C.b dX7_share_71 rfl (lv_at hl 4 rfl) ?_
          refine lv_iload C.x C.b dX7_share_72 (lv_at hl 0 rfl) ?_
          refine lv_isub C.x C.b dX7_share_74 ?_
          refine lv_iconst (v := 1) C.x C.b dX7_share_75 (by decide) ?_
          refine lv_isub C.x C.b dX7_share_76 ?_
          obtain ⟨q_7, hc, hf⟩ := bd_k (K := bl (M_share_B37 v1 v2 v3) n37) rfl hf
          refine cM_times C h hc (Nat.le_of_ble_eq_true rfl) hl.1 (Nat.le_of_ble_eq_true rfl) dX7_share_77 (fun H locs h => ?_)
          refine lv_imul C.x C.b dX7_share_80 ?_
          refine lv_aload_n C.x C.b dX7_share_81 rfl (lv_at hl 1 rfl) ?_
          refine lv_iload C.x C.b dX7_share_82 (lv_at hl 6 rfl) ?_
          refine lv_iconst (v := 1) C.x C.b dX7_share_84 (by decide) ?_
          refine lv_iload_n C.x C.b dX7_share_85 rfl (lv_at hl 2 rfl) ?_
          refine lv_ishl C.x C.b dX7_share_86 ?_
          refine lv_ior C.x C.b dX7_share_87 ?_
          obtain ⟨q_8, hc, hf⟩ := bd_k (K := bl (M_share_B37 v1 v2 v3) n37) rfl hf
          refine cM_worthOf C h hc (Nat.le_of_ble_eq_true rfl) hl.1 (Nat.le_of_ble_eq_true rfl) dX7_share_88 (fun H locs h => ?_)
          refine lv_aload_n C.x C.b dX7_share_91 rfl (lv_at hl 1 rfl) ?_
          refine lv_iload C.x C.b dX7_share_92 (lv_at hl 6 rfl) ?_
          obtain ⟨q_9, hc, hf⟩ := bd_k (K := bl (M_share_B37 v1 v2 v3) n37) rfl hf
          refine cM_worthOf C h hc (Nat.le_of_ble_eq_true rfl) hl.1 (Nat.le_of_ble_eq_true rfl) dX7_share_94 (fun H locs h => ?_)
          refine lv_isub C.x C.b dX7_share_97 ?_
          refine lv_imul C.x C.b dX7_share_98 ?_
          refine lv_iadd C.x C.b dX7_share_99 ?_
          obtain ⟨v4_10, e9, hf⟩ := nm_k (K := bl (M_share_B37 v1 v2 v3) n37) hf
          refine lv_topI e9 ?_
          refine lv_istore (lv' := [(4, .int v4_10), (6, .int q_5), (0, .ref o), (1, .int v1), (2, .int v2), (3, .int v3), (5, .int v5)]) C.x C.b dX7_share_100 hl (by decide) rfl (fun ls hl => ?_)
          exact j102 q_9.2 v4_10 v5 _ _ _ h (lv_sub hl [2, 3, 4, 5, 0, 6] rfl) hf
        · have hf := if_f (K := bl (M_share_B37 v1 v2 v3) n37) c9 hf
          refine lv_goto (tgt := 102) C.x C.b dX7_share_54 (by decide) ?_
          exact j102 σ v4 v5 _ _ _ h (lv_sub hl [0, 1, 2, 3, 4, 5] rfl) hf
  have j20 : ∀ (σ : PS) (H : Heap) (locs : List Loc) (ls : Array Slot), Hw D A s H locs (wM ty o ad σ ++ rs) → lv_has ls 7 [] → M_share_j20 σ = some (r, σ') → W p l e R s m args below meth c H locs 0 0 Q (F0 m 20 ls []) := by
    intro σ H locs ls h hl hf
    unfold M_share_j20 at hf
    refine lv_ldcw (v := (-1000000)) C.x C.b C.own (C.ts _ q2233) dX7_share_20 ?_
    exact hR _ _ (some_k hf) _ _ _ _ h rfl dX7_share_23
  intro H locs ls h hl
  have hl : lv_has ls 7 [(0, .ref o), (1, .int v1), (2, .int v2)] := hl
  unfold M_share at hf
  refine lv_aload_n C.x C.b dX7_share_0 rfl (lv_at hl 0 rfl) ?_
  refine lv_iconst (v := 0) C.x C.b dX7_share_1 (by decide) ?_
  obtain ⟨σ_11, e9, hf⟩ := nm_k (K := fun x => x) hf
  refine m_p0 C h e9 dX7_share_2 (fun H locs h => ?_)
  refine lv_aload_n C.x C.b dX7_share_5 rfl (lv_at hl 0 rfl) ?_
  refine lv_iload_n C.x C.b dX7_share_6 rfl (lv_at hl 1 rfl) ?_
  obtain ⟨q_12, hc, hf⟩ := bd_k (K := fun x => x) rfl hf
  refine cM_isZone C h hc (Nat.le_of_ble_eq_true rfl) hl.1 (Nat.le_of_ble_eq_true rfl) dX7_share_7 (fun H locs h => ?_)
  refine lv_if_eq (tgt := 20) C.x C.b dX7_share_10 (by decide) (fun c9 => ?_) (fun c9 => ?_)
  · have hf := if_t (K := fun x => x) c9 hf
    exact j20 σ_11 _ _ _ h (lv_sub hl [] rfl) hf
  · have hf := if_f (K := fun x => x) c9 hf
    refine lv_iload_n C.x C.b dX7_share_13 rfl (lv_at hl 2 rfl) ?_
    obtain ⟨q_13, hc, hf⟩ := bd_k (K := fun x => x) rfl hf
    refine cM_isHalf C h hc (Nat.le_of_ble_eq_true rfl) hl.1 (Nat.le_of_ble_eq_true rfl) dX7_share_14 (fun H locs h => ?_)
    refine lv_if_ne (tgt := 24) C.x C.b dX7_share_17 (by decide) (fun c9 => ?_) (fun c9 => ?_)
    · have hf := if_f (K := fun x => x) c9 hf
      refine lv_aload_n C.x C.b dX7_share_24 rfl (lv_at hl 0 rfl) ?_
      refine m_g17 C h dX7_share_25 ?_
      refine lv_iconst (v := 5) C.x C.b dX7_share_28 (by decide) ?_
      obtain ⟨hi, hf⟩ := ix_k (K := fun x => x) rfl hf
      refine m_a17 C h hi dX7_share_29 ?_
      obtain ⟨v3_14, e9, hf⟩ := nm_k (K := fun x => x) hf
      refine lv_topI e9 ?_
      refine lv_istore_n (lv' := [(3, .int v3_14), (0, .ref o), (1, .int v1), (2, .int v2)]) C.x C.b dX7_share_30 rfl hl (by decide) rfl (fun ls hl => ?_)
      refine lv_iconst (v := 0) C.x C.b dX7_share_31 (by decide) ?_
      refine lv_istore (lv' := [(4, .int 0), (3, .int v3_14), (0, .ref o), (1, .int v1), (2, .int v2)]) C.x C.b dX7_share_32 hl (by decide) rfl (fun ls hl => ?_)
      refine lv_iconst (v := 0) C.x C.b dX7_share_34 (by decide) ?_
      refine lv_istore (lv' := [(5, .int 0), (4, .int 0), (3, .int v3_14), (0, .ref o), (1, .int v1), (2, .int v2)]) C.x C.b dX7_share_35 hl (by decide) rfl (fun ls hl => ?_)
      exact l37 v3_14 fu 0 0 σ_11 _ _ _ h (lv_sub hl [3, 4, 5, 2, 1, 0] rfl) hf
    · have hf := if_t (K := fun x => x) c9 hf
      exact j20 σ_11 _ _ _ h (lv_sub hl [] rfl) hf
def M_chance_j52 (σ : PS) (x0 : Int32) : Option (Int32 × PS) := some (x0, σ)
def M_chance_j50 (σ : PS) : Option (Int32 × PS) := M_chance_j52 σ ((-2))
def M_chance (σ : PS) (v1 : Int32) (v2 : Int32) (v3 : Int32) : Option (Int32 × PS) := nm (sI σ 0 0) (fun σ_1 => bd (M_isPiece σ_1 v1.toInt64) (fun q_2 => if q_2 = 0 then M_chance_j50 σ_1 else bd (M_isSoon σ_1 v2) (fun q_3 => if q_3 = 0 then M_chance_j50 σ_1 else bd (M_isHalf v3) (fun q_4 => if q_4 = 0 then M_chance_j50 σ_1 else bd (M_weightOf σ_1 v1 v2) (fun q_5 => bd (M_power 64 10 v2) (fun q_6 => bd (M_partOf q_5.1 q_6 v3) (fun q_7 => M_chance_j52 q_5.2 q_7.toInt32)))))))
set_option maxHeartbeats 4000000 in
theorem kM_chance (l : Launch) {D : va_G} {ty : Nat → ClassId} {A : Nat → Prop} {o : Nat} {ad : Nat → Nat} {rs : va_W} {σ : PS} {σ' : PS} {v1 : Int32} {v2 : Int32} {v3 : Int32} {r : Int32} (hf : M_chance σ v1 v2 v3 = some (r, σ')) : KI l yX7_chance cX7_chance 4 .int 66 D ty A (wM ty o ad σ ++ rs) (wM ty o ad σ' ++ rs) [.ref o, .int v1, .int v2, .int v3] r := by
  refine KI.of (by decide) (Nat.le_of_ble_eq_true rfl) ?_
  intro p e R s m args below meth c Q C hR
  have C : Cx p R s m args c cX7_chance 4 RX7 D ty A 66 := C
  have hR : ∀ (v : Int32) (σ2 : PS), (v, σ2) = (r, σ') → ∀ (H : Heap) (locs : List Loc) (pc : Nat) (ls : Array Slot), Hw D A s H locs (wM ty o ad σ2 ++ rs) → narrow .int (.int v) = .int v → decode cX7_chance pc = .ok (.ireturn, 1) → W p l e R s m args below meth c H locs 0 0 Q (F0 m pc ls [.int v]) := by intro v σ2 e9; cases e9; exact hR
  have j52 : ∀ (σ : PS) (x0 : Int32) (H : Heap) (locs : List Loc) (ls : Array Slot), Hw D A s H locs (wM ty o ad σ ++ rs) → lv_has ls 4 [] → M_chance_j52 σ x0 = some (r, σ') → W p l e R s m args below meth c H locs 0 0 Q (F0 m 52 ls [.int x0]) := by
    intro σ x0 H locs ls h hl hf
    unfold M_chance_j52 at hf
    exact hR _ _ (some_k hf) _ _ _ _ h rfl dX7_chance_52
  have j50 : ∀ (σ : PS) (H : Heap) (locs : List Loc) (ls : Array Slot), Hw D A s H locs (wM ty o ad σ ++ rs) → lv_has ls 4 [] → M_chance_j50 σ = some (r, σ') → W p l e R s m args below meth c H locs 0 0 Q (F0 m 50 ls []) := by
    intro σ H locs ls h hl hf
    unfold M_chance_j50 at hf
    refine lv_bipush (v := (-2)) C.x C.b dX7_chance_50 (by decide) ?_
    exact j52 σ ((-2)) _ _ _ h (lv_sub hl [] rfl) hf
  intro H locs ls h hl
  have hl : lv_has ls 4 [(0, .ref o), (1, .int v1), (2, .int v2), (3, .int v3)] := hl
  unfold M_chance at hf
  refine lv_aload_n C.x C.b dX7_chance_0 rfl (lv_at hl 0 rfl) ?_
  refine lv_iconst (v := 0) C.x C.b dX7_chance_1 (by decide) ?_
  obtain ⟨σ_1, e9, hf⟩ := nm_k (K := fun x => x) hf
  refine m_p0 C h e9 dX7_chance_2 (fun H locs h => ?_)
  refine lv_aload_n C.x C.b dX7_chance_5 rfl (lv_at hl 0 rfl) ?_
  refine lv_iload_n C.x C.b dX7_chance_6 rfl (lv_at hl 1 rfl) ?_
  refine lv_i2l C.x C.b dX7_chance_7 rfl ?_
  obtain ⟨q_2, hc, hf⟩ := bd_k (K := fun x => x) rfl hf
  refine cM_isPiece C h hc (Nat.le_of_ble_eq_true rfl) hl.1 (Nat.le_of_ble_eq_true rfl) dX7_chance_8 (fun H locs h => ?_)
  refine lv_if_eq (tgt := 50) C.x C.b dX7_chance_11 (by decide) (fun c9 => ?_) (fun c9 => ?_)
  · have hf := if_t (K := fun x => x) c9 hf
    exact j50 σ_1 _ _ _ h (lv_sub hl [] rfl) hf
  · have hf := if_f (K := fun x => x) c9 hf
    refine lv_aload_n C.x C.b dX7_chance_14 rfl (lv_at hl 0 rfl) ?_
    refine lv_iload_n C.x C.b dX7_chance_15 rfl (lv_at hl 2 rfl) ?_
    obtain ⟨q_3, hc, hf⟩ := bd_k (K := fun x => x) rfl hf
    refine cM_isSoon C h hc (Nat.le_of_ble_eq_true rfl) hl.1 (Nat.le_of_ble_eq_true rfl) dX7_chance_16 (fun H locs h => ?_)
    refine lv_if_eq (tgt := 50) C.x C.b dX7_chance_19 (by decide) (fun c9 => ?_) (fun c9 => ?_)
    · have hf := if_t (K := fun x => x) c9 hf
      exact j50 σ_1 _ _ _ h (lv_sub hl [] rfl) hf
    · have hf := if_f (K := fun x => x) c9 hf
      refine lv_iload_n C.x C.b dX7_chance_22 rfl (lv_at hl 3 rfl) ?_
      obtain ⟨q_4, hc, hf⟩ := bd_k (K := fun x => x) rfl hf
      refine cM_isHalf C h hc (Nat.le_of_ble_eq_true rfl) hl.1 (Nat.le_of_ble_eq_true rfl) dX7_chance_23 (fun H locs h => ?_)
      refine lv_if_eq (tgt := 50) C.x C.b dX7_chance_26 (by decide) (fun c9 => ?_) (fun c9 => ?_)
      · have hf := if_t (K := fun x => x) c9 hf
        exact j50 σ_1 _ _ _ h (lv_sub hl [] rfl) hf
      · have hf := if_f (K := fun x => x) c9 hf
        refine lv_aload_n C.x C.b dX7_chance_29 rfl (lv_at hl 0 rfl) ?_
        refine lv_iload_n C.x C.b dX7_chance_30 rfl (lv_at hl 1 rfl) ?_
        refine lv_iload_n C.x C.b dX7_chance_31 rfl (lv_at hl 2 rfl) ?_
        obtain ⟨q_5, hc, hf⟩ := bd_k (K := fun x => x) rfl hf
        refine cM_weightOf C h hc (Nat.le_of_ble_eq_true rfl) hl.1 (Nat.le_of_ble_eq_true rfl) dX7_chance_32 (fun H locs h => ?_)
        refine lv_ldc2 (v := 10) C.x C.b C.own (C.ts _ q2274) dX7_chance_35 ?_
        refine lv_iload_n C.x C.b dX7_chance_38 rfl (lv_at hl 2 rfl) ?_
        obtain ⟨q_6, hc, hf⟩ := bd_k (K := fun x => x) rfl hf
        refine cM_power C h hc (Nat.le_of_ble_eq_true rfl) hl.1 (Nat.le_of_ble_eq_true rfl) dX7_chance_39 (fun H locs h => ?_)
        refine lv_iload_n C.x C.b dX7_chance_42 rfl (lv_at hl 3 rfl) ?_
        obtain ⟨q_7, hc, hf⟩ := bd_k (K := fun x => x) rfl hf
        refine cM_partOf C h hc (Nat.le_of_ble_eq_true rfl) hl.1 (Nat.le_of_ble_eq_true rfl) dX7_chance_43 (fun H locs h => ?_)
        refine lv_l2i C.x C.b dX7_chance_46 rfl ?_
        refine lv_goto (tgt := 52) C.x C.b dX7_chance_47 (by decide) ?_
        exact j52 q_5.2 q_7.toInt32 _ _ _ h (lv_sub hl [] rfl) hf
