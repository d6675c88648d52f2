set_option maxRecDepth 100000
def X_asksSeen_j98 (τ : PS) (σ : PS) : Option (Int32 × PS) := bd (X_asItIs σ) (fun q_1 => some (0, q_1))
def X_asksSeen_j89 (τ : PS) (σ : PS) : Option (Int32 × PS) := some ((-2), σ)
def X_asksSeen_l38 (τ : PS) (σ : PS) (v1 : Int32) (v3 : Int32) : Option ((Int32) ⊕ (Int32 × PS)) := bd (S_size τ v1) (fun q_2 => if q_2 ≤ v3 then up (X_asksSeen_j98 τ σ) else bd (S_at τ v1 v3) (fun q_3 => bd (X_isPiece σ q_3) (fun q_4 => if q_4 = 0 then up (X_asksSeen_j89 τ σ) else bd (S_at τ v1 (v3 + 1)) (fun q_5 => bd (X_isStep σ q_5) (fun q_6 => if q_6 = 0 then up (X_asksSeen_j89 τ σ) else bd (S_at τ v1 (v3 + 2)) (fun q_7 => bd (X_isIn q_7 0 100000) (fun q_8 => if q_8 = 0 then up (X_asksSeen_j89 τ σ) else nm (v3 + 3) (fun v3_9 => some (.inl (v3_9))))))))))
def X_asksSeen_B38 (τ : PS) (σ : PS) (v1 : Int32) : (Int32) → Option ((Int32) ⊕ (Int32 × PS)) := fun t => X_asksSeen_l38 τ σ v1 t
def X_asksSeen_j14 (τ : PS) (σ : PS) : Option (Int32 × PS) := some ((-2), σ)
def X_asksSeen (τ : PS) (σ : PS) (v1 : Int32) : Option (Int32 × PS) := bd (X_isSlot v1) (fun q_10 => if q_10 = 0 then X_asksSeen_j14 τ σ else bd (X_isLehr σ) (fun q_11 => if q_11 = 0 then X_asksSeen_j14 τ σ else ix v1 4 (bd (S_size τ v1) (fun q_12 => if (q_12 - q_12 / 3 * 3) = 0 then loop (X_asksSeen_B38 τ σ v1) fu (0) else some ((-2), σ)))))
set_option maxHeartbeats 4000000 in
theorem kX_asksSeen (l : Launch) {D : va_G} {ty : Nat → ClassId} {A : Nat → Prop} {o : Nat} {ad : Nat → Nat} {rs : va_W} {σ : PS} {τ : PS} {σ' : PS} {v1 : Int32} {r : Int32} (hf : X_asksSeen τ σ v1 = some (r, σ')) : KIh l yX0_asksSeen cX0_asksSeen 4 .int [(17, 35, 104, 369), (36, 91, 104, 369), (92, 103, 104, 369)] 2 D ty A (wX ty o ad σ ++ (wS ty ad τ ++ rs)) (wX ty o ad σ' ++ (wS ty ad τ ++ rs)) [.ref o, .int v1] r := by
  refine KIh.of (by decide) (Nat.le_of_ble_eq_true rfl) ?_
  intro p e R s m args below meth c Q C hR
  have C : Cx p R s m args c cX0_asksSeen 4 RX0 D ty A 2 := C
  have hR : ∀ (v : Int32) (σ2 : PS), (v, σ2) = (r, σ') → ∀ (H : Heap) (locs : List Loc) (pc : Nat) (ls : Array Slot), Hw D A s H locs (wX ty o ad σ2 ++ (wS ty ad τ ++ rs)) → narrow .int (.int v) = .int v → decode cX0_asksSeen pc = .ok (.ireturn, 1) → W p l e R s m args below meth c H locs 0 0 Q (F0 m pc ls [.int v]) := by intro v σ2 e9; cases e9; exact hR
  have j98 : ∀ (σ : PS) (H : Heap) (locs : List Loc) (ls : Array Slot), Hw D A s H locs (wX ty o ad σ ++ (wS ty ad τ ++ rs)) → lv_has ls 4 [(0, .ref o)] → X_asksSeen_j98 τ σ = some (r, σ') → W p l e R s m args below meth c H locs 0 0 Q (F0 m 98 ls []) := by
    intro σ H locs ls h hl hf
    unfold X_asksSeen_j98 at hf
    refine lv_aload_n C.x C.b dX0_asksSeen_98 rfl (lv_at hl 0 rfl) ?_
    obtain ⟨q_1, hc, hf⟩ := bd_k (K := fun x => x) rfl hf
    refine cX_asItIs C h hc (Nat.le_of_ble_eq_true rfl) hl.1 (Nat.le_of_ble_eq_true rfl) dX0_asksSeen_99 (fun H locs h => ?_)
    refine lv_iconst (v := 0) C.x C.b dX0_asksSeen_102 (by decide) ?_
    exact hR _ _ (some_k hf) _ _ _ _ h rfl dX0_asksSeen_103
  have j89 : ∀ (σ : PS) (H : Heap) (locs : List Loc) (ls : Array Slot), Hw D A s H locs (wX ty o ad σ ++ (wS ty ad τ ++ rs)) → lv_has ls 4 [] → X_asksSeen_j89 τ σ = some (r, σ') → W p l e R s m args below meth c H locs 0 0 Q (F0 m 89 ls []) := by
    intro σ H locs ls h hl hf
    unfold X_asksSeen_j89 at hf
    refine lv_bipush (v := (-2)) C.x C.b dX0_asksSeen_89 (by decide) ?_
    exact hR _ _ (some_k hf) _ _ _ _ h rfl dX0_asksSeen_91
  have l38 : ∀ (σ : PS) (n38 : Nat) (v3 : Int32) (H : Heap) (locs : List Loc) (ls : Array Slot), Hw D A s H locs (wX ty o ad σ ++ (wS ty ad τ ++ rs)) → lv_has ls 4 [(0, .ref o), (1, .int v1), (2, .ref (ad (50 + v1.toNatClampNeg))), (3, .int v3)] → loop (X_asksSeen_B38 τ σ v1) n38 (v3) = some (r, σ') → W p l e R s m args below meth c H locs 0 0 Q (F0 m 38 ls []) := by
    intro σ n38
    induction n38 with
    | zero => intro v3 H locs ls h hl hf; exact (none_k hf).elim
    | succ n38 ih38 =>
      intro v3 H locs ls h hl hf
      have hf : bl (X_asksSeen_B38 τ σ v1) n38 (X_asksSeen_l38 τ σ v1 v3) = some (r, σ') := hf
      unfold X_asksSeen_l38 at hf
      refine lv_iload_n C.x C.b dX0_asksSeen_38 rfl (lv_at hl 3 rfl) ?_
      refine lv_aload_n C.x C.b dX0_asksSeen_39 rfl (lv_at hl 2 rfl) ?_
      obtain ⟨q_2, hc, hf⟩ := bd_k (K := bl (X_asksSeen_B38 τ σ v1) n38) rfl hf
      refine cS_size C h hc (Nat.le_of_ble_eq_true rfl) hl.1 (Nat.le_of_ble_eq_true rfl) dX0_asksSeen_40 (fun H locs h => ?_)
      refine lv_icmp_ge (tgt := 98) C.x C.b dX0_asksSeen_43 (by decide) (fun c9 => ?_) (fun c9 => ?_)
      · have hf := if_t (K := bl (X_asksSeen_B38 τ σ v1) n38) c9 hf
        have hf := bl_upK (K := fun x => x) hf
        exact j98 σ _ _ _ h (lv_sub hl [0] rfl) hf
      · have hf := if_f (K := bl (X_asksSeen_B38 τ σ v1) n38) c9 hf
        refine lv_aload_n C.x C.b dX0_asksSeen_46 rfl (lv_at hl 0 rfl) ?_
        refine lv_aload_n C.x C.b dX0_asksSeen_47 rfl (lv_at hl 2 rfl) ?_
        refine lv_iload_n C.x C.b dX0_asksSeen_48 rfl (lv_at hl 3 rfl) ?_
        obtain ⟨q_3, hc, hf⟩ := bd_k (K := bl (X_asksSeen_B38 τ σ v1) n38) rfl hf
        refine cS_at C h hc (Nat.le_of_ble_eq_true rfl) hl.1 (Nat.le_of_ble_eq_true rfl) dX0_asksSeen_49 (fun H locs h => ?_)
        obtain ⟨q_4, hc, hf⟩ := bd_k (K := bl (X_asksSeen_B38 τ σ v1) n38) rfl hf
        refine cX_isPiece C h hc (Nat.le_of_ble_eq_true rfl) hl.1 (Nat.le_of_ble_eq_true rfl) dX0_asksSeen_52 (fun H locs h => ?_)
        refine lv_if_eq (tgt := 89) C.x C.b dX0_asksSeen_55 (by decide) (fun c9 => ?_) (fun c9 => ?_)
        · have hf := if_t (K := bl (X_asksSeen_B38 τ σ v1) n38) c9 hf
          have hf := bl_upK (K := fun x => x) hf
          exact j89 σ _ _ _ h (lv_sub hl [] rfl) hf
        · have hf := if_f (K := bl (X_asksSeen_B38 τ σ v1) n38) c9 hf
          refine lv_aload_n C.x C.b dX0_asksSeen_58 rfl (lv_at hl 0 rfl) ?_
          refine lv_aload_n C.x C.b dX0_asksSeen_59 rfl (lv_at hl 2 rfl) ?_
          refine lv_iload_n C.x C.b dX0_asksSeen_60 rfl (lv_at hl 3 rfl) ?_
          refine lv_iconst (v := 1) C.x C.b dX0_asksSeen_61 (by decide) ?_
          refine lv_iadd C.x C.b dX0_asksSeen_62 ?_
          obtain ⟨q_5, hc, hf⟩ := bd_k (K := bl (X_asksSeen_B38 τ σ v1) n38) rfl hf
          refine cS_at C h hc (Nat.le_of_ble_eq_true rfl) hl.1 (Nat.le_of_ble_eq_true rfl) dX0_asksSeen_63 (fun H locs h => ?_)
          obtain ⟨q_6, hc, hf⟩ := bd_k (K := bl (X_asksSeen_B38 τ σ v1) n38) rfl hf
          refine cX_isStep C h hc (Nat.le_of_ble_eq_true rfl) hl.1 (Nat.le_of_ble_eq_true rfl) dX0_asksSeen_66 (fun H locs h => ?_)
          refine lv_if_eq (tgt := 89) C.x C.b dX0_asksSeen_69 (by decide) (fun c9 => ?_) (fun c9 => ?_)
          · have hf := if_t (K := bl (X_asksSeen_B38 τ σ v1) n38) c9 hf
            have hf := bl_upK (K := fun x => x) hf
            exact j89 σ _ _ _ h (lv_sub hl [] rfl) hf
          · have hf := if_f (K := bl (X_asksSeen_B38 τ σ v1) n38) c9 hf
            refine lv_aload_n C.x C.b dX0_asksSeen_72 rfl (lv_at hl 2 rfl) ?_
            refine lv_iload_n C.x C.b dX0_asksSeen_73 rfl (lv_at hl 3 rfl) ?_
            refine lv_iconst (v := 2) C.x C.b dX0_asksSeen_74 (by decide) ?_
            refine lv_iadd C.x C.b dX0_asksSeen_75 ?_
            obtain ⟨q_7, hc, hf⟩ := bd_k (K := bl (X_asksSeen_B38 τ σ v1) n38) rfl hf
            refine cS_at C h hc (Nat.le_of_ble_eq_true rfl) hl.1 (Nat.le_of_ble_eq_true rfl) dX0_asksSeen_76 (fun H locs h => ?_)
            refine lv_lconst (v := 0) C.x C.b dX0_asksSeen_79 (by decide) ?_
            refine lv_ldc2 (v := 100000) C.x C.b C.own (C.ts _ q1197) dX0_asksSeen_80 ?_
            obtain ⟨q_8, hc, hf⟩ := bd_k (K := bl (X_asksSeen_B38 τ σ v1) n38) rfl hf
            refine cX_isIn C h hc (Nat.le_of_ble_eq_true rfl) hl.1 (Nat.le_of_ble_eq_true rfl) dX0_asksSeen_83 (fun H locs h => ?_)
            refine lv_if_ne (tgt := 92) C.x C.b dX0_asksSeen_86 (by decide) (fun c9 => ?_) (fun c9 => ?_)
            · have hf := if_f (K := bl (X_asksSeen_B38 τ σ v1) n38) c9 hf
              obtain ⟨v3_9, e9, hf⟩ := nm_k (K := bl (X_asksSeen_B38 τ σ v1) n38) hf
              refine lv_iinc (v := v3_9) (lv' := [(3, .int v3_9), (0, .ref o), (1, .int v1), (2, .ref (ad (50 + v1.toNatClampNeg)))]) C.x C.b dX0_asksSeen_92 hl (k := 3) rfl (iinc_e (k := 3) (by decide) e9) (by decide) rfl (fun ls hl => ?_)
              refine lv_goto (tgt := 38) C.x C.b dX0_asksSeen_95 (by decide) ?_
              exact ih38 v3_9 _ _ _ h (lv_sub hl [1, 2, 3, 0] rfl) hf
            · have hf := if_t (K := bl (X_asksSeen_B38 τ σ v1) n38) c9 hf
              have hf := bl_upK (K := fun x => x) hf
              exact j89 σ _ _ _ h (lv_sub hl [] rfl) hf
  have j14 : ∀ (σ : PS) (H : Heap) (locs : List Loc) (ls : Array Slot), Hw D A s H locs (wX ty o ad σ ++ (wS ty ad τ ++ rs)) → lv_has ls 4 [] → X_asksSeen_j14 τ σ = some (r, σ') → W p l e R s m args below meth c H locs 0 0 Q (F0 m 14 ls []) := by
    intro σ H locs ls h hl hf
    unfold X_asksSeen_j14 at hf
    refine lv_bipush (v := (-2)) C.x C.b dX0_asksSeen_14 (by decide) ?_
    exact hR _ _ (some_k hf) _ _ _ _ h rfl dX0_asksSeen_16
  intro H locs ls h hl
  have hl : lv_has ls 4 [(0, .ref o), (1, .int v1)] := hl
  unfold X_asksSeen at hf
  refine lv_iload_n C.x C.b dX0_asksSeen_0 rfl (lv_at hl 1 rfl) ?_
  obtain ⟨q_10, hc, hf⟩ := bd_k (K := fun x => x) rfl hf
  refine cX_isSlot C h hc (Nat.le_of_ble_eq_true rfl) hl.1 (Nat.le_of_ble_eq_true rfl) dX0_asksSeen_1 (fun H locs h => ?_)
  refine lv_if_eq (tgt := 14) C.x C.b dX0_asksSeen_4 (by decide) (fun c9 => ?_) (fun c9 => ?_)
  · have hf := if_t (K := fun x => x) c9 hf
    exact j14 σ _ _ _ h (lv_sub hl [] rfl) hf
  · have hf := if_f (K := fun x => x) c9 hf
    refine lv_aload_n C.x C.b dX0_asksSeen_7 rfl (lv_at hl 0 rfl) ?_
    obtain ⟨q_11, hc, hf⟩ := bd_k (K := fun x => x) rfl hf
    refine cX_isLehr C h hc (Nat.le_of_ble_eq_true rfl) hl.1 (Nat.le_of_ble_eq_true rfl) dX0_asksSeen_8 (fun H locs h => ?_)
    refine lv_if_ne (tgt := 17) C.x C.b dX0_asksSeen_11 (by decide) (fun c9 => ?_) (fun c9 => ?_)
    · have hf := if_f (K := fun x => x) c9 hf
      refine lv_aload_n C.x C.b dX0_asksSeen_17 rfl (lv_at hl 0 rfl) ?_
      refine x_g30 C h dX0_asksSeen_18 ?_
      refine lv_iload_n C.x C.b dX0_asksSeen_21 rfl (lv_at hl 1 rfl) ?_
      obtain ⟨hi, hf⟩ := ix_k (K := fun x => x) rfl hf
      refine x_a30 C h hi dX0_asksSeen_22 ?_
      refine lv_astore_n (lv' := [(2, .ref (ad (50 + v1.toNatClampNeg))), (0, .ref o), (1, .int v1)]) C.x C.b dX0_asksSeen_23 rfl hl (by decide) rfl (fun ls hl => ?_)
      refine lv_aload_n C.x C.b dX0_asksSeen_24 rfl (lv_at hl 0 rfl) ?_
      obtain ⟨q_12, hc, hf⟩ := bd_k (K := fun x => x) rfl hf
      refine cS_size C h hc (Nat.le_of_ble_eq_true rfl) hl.1 (Nat.le_of_ble_eq_true rfl) dX0_asksSeen_25 (fun H locs h => ?_)
      refine lv_iconst (v := 3) C.x C.b dX0_asksSeen_28 (by decide) ?_
      refine lv_irem C.x C.b dX0_asksSeen_29 (by decide) ?_
      refine lv_if_eq (tgt := 36) C.x C.b dX0_asksSeen_30 (by decide) (fun c9 => ?_) (fun c9 => ?_)
      · have hf := if_t (K := fun x => x) c9 hf
        refine lv_iconst (v := 0) C.x C.b dX0_asksSeen_36 (by decide) ?_
        refine lv_istore_n (lv' := [(3, .int 0), (2, .ref (ad (50 + v1.toNatClampNeg))), (0, .ref o), (1, .int v1)]) C.x C.b dX0_asksSeen_37 rfl hl (by decide) rfl (fun ls hl => ?_)
        exact l38 σ fu 0 _ _ _ h (lv_sub hl [2, 3, 1, 0] rfl) hf
      · have hf := if_f (K := fun x => x) c9 hf
        refine lv_bipush (v := (-2)) C.x C.b dX0_asksSeen_33 (by decide) ?_
        exact hR _ _ (some_k hf) _ _ _ _ h rfl dX0_asksSeen_35
    · have hf := if_t (K := fun x => x) c9 hf
      exact j14 σ _ _ _ h (lv_sub hl [] rfl) hf
theorem tX_asksSeen : GoodIn lw_all (wsV RX0 374 RX0 yX0_asksSeen (wsW_ yX0_asksSeen cX0_asksSeen 4 (some .int) [(17, 35, 104, 369), (36, 91, 104, 369), (92, 103, 104, 369)])) := lw_VW q1150 q1152 qs55 q137 q1153
theorem cX_asksSeen {p : Program} {l : Launch} {e : Env} {R : Room} {s : State} {m : MethodId} {args : Array Value} {below : List Frame} {meth : Method} {c : Code} {H : Heap} {locs : List Loc} {Q : State → Prop} {cc : ByteArray} {pc : Nat} {ls : Array Slot} {st : List Value} {nL d : Nat} {D : va_G} {ty : Nat → ClassId} {A : Nat → Prop} {o : Nat} {ad : Nat → Nat} {rs : va_W} {σ : PS} {τ : PS} {v1 : Int32} {q : (Int32 × PS)} (C : Cx p R s m args c cc nL RX0 D ty A d) (h : Hw D A s H locs (wX ty o ad σ ++ (wS ty ad τ ++ rs))) (hc : X_asksSeen τ σ v1 = some q) (hd : 2 + 1 ≤ d) (hls : ls.size = nL) (hcat : (st.map fun v => v.category).sum ≤ 8) (dec : decode cc pc = .ok (.invokevirtual 374, 3)) (kk : ∀ (H : Heap) (locs : List Loc), Hw D A s H locs (wX ty o ad q.2 ++ (wS ty ad τ ++ rs)) → W p l e R s m args below meth c H locs 0 0 Q (F0 m (pc + 3) ls (.int (q.1) :: st))) : W p l e R s m args below meth c H locs 0 0 Q (F0 m pc ls (.int v1 :: .ref o :: st)) := KIh.callV (As := [.int v1]) C (kX_asksSeen l hc) tX_asksSeen ⟨rfl, by decide, by decide, by show _ = some 1; decide +kernel⟩ 0 0 rfl rfl rfl hd (by decide) (Nat.zero_le _) (Nat.zero_le _) h hls rfl hcat dec kk
def X_number (τ : PS) (σ : PS) (v1 : Int32) (v2 : Int32) : Option Int32 := ix v1 4 (bd (S_at τ v1 v2) (fun q_1 => some q_1.toInt32))
set_option maxHeartbeats 4000000 in
theorem kX_number (l : Launch) {D : va_G} {ty : Nat → ClassId} {A : Nat → Prop} {o : Nat} {ad : Nat → Nat} {rs : va_W} {σ : PS} {τ : PS} {v1 : Int32} {v2 : Int32} {r : Int32} (hf : X_number τ σ v1 v2 = some r) : KI l yX0_number cX0_number 3 .int 1 D ty A (wX ty o ad σ ++ (wS ty ad τ ++ rs)) (wX ty o ad σ ++ (wS ty ad τ ++ rs)) [.ref o, .int v1, .int v2] r := by
  refine KI.of (by decide) (Nat.le_of_ble_eq_true rfl) ?_
  intro p e R s m args below meth c Q C hR
  have C : Cx p R s m args c cX0_number 3 RX0 D ty A 1 := C
  have hR : ∀ (v : Int32), v = r → ∀ (H : Heap) (locs : List Loc) (pc : Nat) (ls : Array Slot), Hw D A s H locs (wX ty o ad σ ++ (wS ty ad τ ++ rs)) → narrow .int (.int v) = .int v → decode cX0_number pc = .ok (.ireturn, 1) → W p l e R s m args below meth c H locs 0 0 Q (F0 m pc ls [.int v]) := by intro v e9; cases e9; exact hR
  intro H locs ls h hl
  have hl : lv_has ls 3 [(0, .ref o), (1, .int v1), (2, .int v2)] := hl
  unfold X_number at hf
  refine lv_aload_n C.x C.b dX0_number_0 rfl (lv_at hl 0 rfl) ?_
  refine x_g30 C h dX0_number_1 ?_
  refine lv_iload_n C.x C.b dX0_number_4 rfl (lv_at hl 1 rfl) ?_
  obtain ⟨hi, hf⟩ := ix_k (K := fun x => x) rfl hf
  refine x_a30 C h hi dX0_number_5 ?_
  refine lv_iload_n C.x C.b dX0_number_6 rfl (lv_at hl 2 rfl) ?_
  obtain ⟨q_1, hc, hf⟩ := bd_k (K := fun x => x) rfl hf
  refine cS_at C h hc (Nat.le_of_ble_eq_true rfl) hl.1 (Nat.le_of_ble_eq_true rfl) dX0_number_7 (fun H locs h => ?_)
  refine lv_l2i C.x C.b dX0_number_10 rfl ?_
  exact hR _ (some_k hf) _ _ _ _ h rfl dX0_number_11
theorem tX_number : GoodIn lw_all (wsV RX0 371 RX0 yX0_number (ws_ yX0_number cX0_number 3 (some .int))) := lw_V q1202 q1204 qs57 q137 q1205
theorem cX_number {p : Program} {l : Launch} {e : Env} {R : Room} {s : State} {m : MethodId} {args : Array Value} {below : List Frame} {meth : Method} {c : Code} {H : Heap} {locs : List Loc} {Q : State → Prop} {cc : ByteArray} {pc : Nat} {ls : Array Slot} {st : List Value} {nL d : Nat} {D : va_G} {ty : Nat → ClassId} {A : Nat → Prop} {o : Nat} {ad : Nat → Nat} {rs : va_W} {σ : PS} {τ : PS} {v1 : Int32} {v2 : Int32} {q : Int32} (C : Cx p R s m args c cc nL RX0 D ty A d) (h : Hw D A s H locs (wX ty o ad σ ++ (wS ty ad τ ++ rs))) (hc : X_number τ σ v1 v2 = some q) (hd : 1 + 1 ≤ d) (hls : ls.size = nL) (hcat : (st.map fun v => v.category).sum ≤ 8) (dec : decode cc pc = .ok (.invokevirtual 371, 3)) (kk : ∀ (H : Heap) (locs : List Loc), Hw D A s H locs (wX ty o ad σ ++ (wS ty ad τ ++ rs)) → W p l e R s m args below meth c H locs 0 0 Q (F0 m (pc + 3) ls (.int q :: st))) : W p l e R s m args below meth c H locs 0 0 Q (F0 m pc ls (.int v2 :: .int v1 :: .ref o :: st)) := KI.callV (As := [.int v1, .int v2]) C (kX_number l hc) tX_number ⟨rfl, by decide, by decide, by show _ = some 2; decide +kernel⟩ 0 0 rfl rfl rfl hd (by decide) (Nat.zero_le _) (Nat.zero_le _) h hls rfl hcat dec kk
def X_count_j170 (τ : PS) (σ : PS) (v2 : Int32) : Option Int32 := some v2
def X_count_j162 (τ : PS) (σ : PS) (v3 : Int32) (x0 : Int32) (x1 : Int32) : Option ((Int32 × Int32) ⊕ Int32) := nm (x1 + x0) (fun v2_1 => nm (v3 + 1) (fun v3_2 => some (.inl (v2_1, v3_2))))
def X_count_l139 (τ : PS) (σ : PS) (v2 : Int32) (v3 : Int32) : Option ((Int32 × Int32) ⊕ Int32) := if 4 ≤ v3 then up (X_count_j170 τ σ v2) else ix v3 4 (if (S_none τ v3 = true) then X_count_j162 τ σ v3 0 v2 else X_count_j162 τ σ v3 1 v2)
def X_count_B139 (τ : PS) (σ : PS) : (Int32 × Int32) → Option ((Int32 × Int32) ⊕ Int32) := fun t => X_count_l139 τ σ t.1 t.2
def X_count (τ : PS) (σ : PS) (v1 : Int32) : Option Int32 := if v1 = 0 then some (gI σ 100) else (if v1 = 1 then some (gI σ 101) else (if v1 = 2 then some (gI σ 102) else (if v1 = 3 then some (gI σ 103) else (if v1 = 4 then some (gI σ 104) else (if v1 = 5 then some (gI σ 106) else (if v1 = 6 then some (gI σ 107) else (if v1 = 7 then some (gI σ 108) else (if v1 = 8 then some (gI σ 105) else (if v1 = 9 then some (gI σ 2) else (if v1 = 10 then loop (X_count_B139 τ σ) fu (0, 0) else (some ((-1)))))))))))))
set_option maxHeartbeats 4000000 in
theorem kX_count (l : Launch) {D : va_G} {ty : Nat → ClassId} {A : Nat → Prop} {o : Nat} {ad : Nat → Nat} {rs : va_W} {σ : PS} {τ : PS} {v1 : Int32} {r : Int32} (hf : X_count τ σ v1 = some r) : KI l yX0_count cX0_count 4 .int 0 D ty A (wX ty o ad σ ++ (wS ty ad τ ++ rs)) (wX ty o ad σ ++ (wS ty ad τ ++ rs)) [.ref o, .int v1] r := by
  refine KI.of (by decide) (Nat.le_of_ble_eq_true rfl) ?_
  intro p e R s m args below meth c Q C hR
  have C : Cx p R s m args c cX0_count 4 RX0 D ty A 0 := C
  have hR : ∀ (v : Int32), v = r → ∀ (H : Heap) (locs : List Loc) (pc : Nat) (ls : Array Slot), Hw D A s H locs (wX ty o ad σ ++ (wS ty ad τ ++ rs)) → narrow .int (.int v) = .int v → decode cX0_count pc = .ok (.ireturn, 1) → W p l e R s m args below meth c H locs 0 0 Q (F0 m pc ls [.int v]) := by intro v e9; cases e9; exact hR
  have j170 : ∀ (v2 : Int32) (H : Heap) (locs : List Loc) (ls : Array Slot), Hw D A s H locs (wX ty o ad σ ++ (wS ty ad τ ++ rs)) → lv_has ls 4 [(2, .int v2)] → X_count_j170 τ σ v2 = some r → W p l e R s m args below meth c H locs 0 0 Q (F0 m 170 ls []) := by
    intro v2 H locs ls h hl hf
    unfold X_count_j170 at hf
    refine lv_iload_n C.x C.b dX0_count_170 rfl (lv_at hl 0 rfl) ?_
    exact hR _ (some_k hf) _ _ _ _ h rfl dX0_count_171
  have l139 : ∀ (n139 : Nat) (v2 : Int32) (v3 : Int32) (H : Heap) (locs : List Loc) (ls : Array Slot), Hw D A s H locs (wX ty o ad σ ++ (wS ty ad τ ++ rs)) → lv_has ls 4 [(0, .ref o), (2, .int v2), (3, .int v3)] → loop (X_count_B139 τ σ) n139 (v2, v3) = some r → W p l e R s m args below meth c H locs 0 0 Q (F0 m 139 ls []) := by
    intro n139
    induction n139 with
    | zero => intro v2 v3 H locs ls h hl hf; exact (none_k hf).elim
    | succ n139 ih139 =>
      have j162 : ∀ (v3 : Int32) (x0 : Int32) (x1 : Int32) (H : Heap) (locs : List Loc) (ls : Array Slot), Hw D A s H locs (wX ty o ad σ ++ (wS ty ad τ ++ rs)) → lv_has ls 4 [(0, .ref o), (3, .int v3)] → bl (X_count_B139 τ σ) n139 (X_count_j162 τ σ v3 x0 x1) = some r → W p l e R s m args below meth c H locs 0 0 Q (F0 m 162 ls [.int x0, .int x1]) := by
        intro v3 x0 x1 H locs ls h hl hf
        unfold X_count_j162 at hf
        refine lv_iadd C.x C.b dX0_count_162 ?_
        obtain ⟨v2_1, e9, hf⟩ := nm_k (K := bl (X_count_B139 τ σ) n139) hf
        refine lv_topI e9 ?_
        refine lv_istore_n (lv' := [(2, .int v2_1), (0, .ref o), (3, .int v3)]) C.x C.b dX0_count_163 rfl hl (by decide) rfl (fun ls hl => ?_)
        obtain ⟨v3_2, e9, hf⟩ := nm_k (K := bl (X_count_B139 τ σ) n139) hf
        refine lv_iinc (v := v3_2) (lv' := [(3, .int v3_2), (2, .int v2_1), (0, .ref o)]) C.x C.b dX0_count_164 hl (k := 2) rfl (iinc_e (k := 1) (by decide) e9) (by decide) rfl (fun ls hl => ?_)
        refine lv_goto (tgt := 139) C.x C.b dX0_count_167 (by decide) ?_
        exact ih139 v2_1 v3_2 _ _ _ h (lv_sub hl [2, 1, 0] rfl) hf
      intro v2 v3 H locs ls h hl hf
      have hf : bl (X_count_B139 τ σ) n139 (X_count_l139 τ σ v2 v3) = some r := hf
      unfold X_count_l139 at hf
      refine lv_iload_n C.x C.b dX0_count_139 rfl (lv_at hl 2 rfl) ?_
      refine lv_iconst (v := 4) C.x C.b dX0_count_140 (by decide) ?_
      refine lv_icmp_ge (tgt := 170) C.x C.b dX0_count_141 (by decide) (fun c9 => ?_) (fun c9 => ?_)
      · have hf := if_t (K := bl (X_count_B139 τ σ) n139) c9 hf
        have hf := bl_upK (K := fun x => x) hf
        exact j170 v2 _ _ _ h (lv_sub hl [1] rfl) hf
      · have hf := if_f (K := bl (X_count_B139 τ σ) n139) c9 hf
        refine lv_iload_n C.x C.b dX0_count_144 rfl (lv_at hl 1 rfl) ?_
        refine lv_aload_n C.x C.b dX0_count_145 rfl (lv_at hl 0 rfl) ?_
        refine x_g30 C h dX0_count_146 ?_
        refine lv_iload_n C.x C.b dX0_count_149 rfl (lv_at hl 2 rfl) ?_
        obtain ⟨hi, hf⟩ := ix_k (K := bl (X_count_B139 τ σ) n139) rfl hf
        refine x_a30 C h hi dX0_count_150 ?_
        refine x_row C h hi dX0_count_151 (fun c9 => ?_) (fun a c9 => ?_)
        · have hf := if_t (K := bl (X_count_B139 τ σ) n139) c9 hf
          refine lv_ifnonnullN C.x C.b dX0_count_154 ?_
          refine lv_iconst (v := 0) C.x C.b dX0_count_157 (by decide) ?_
          refine lv_goto (tgt := 162) C.x C.b dX0_count_158 (by decide) ?_
          exact j162 v3 0 v2 _ _ _ h (lv_sub hl [0, 2] rfl) hf
        · have hf := if_f (K := bl (X_count_B139 τ σ) n139) c9 hf
          refine lv_ifnonnull (tgt := 161) C.x C.b dX0_count_154 (by decide) ?_
          refine lv_iconst (v := 1) C.x C.b dX0_count_161 (by decide) ?_
          exact j162 v3 1 v2 _ _ _ h (lv_sub hl [0, 2] rfl) hf
  intro H locs ls h hl
  have hl : lv_has ls 4 [(0, .ref o), (1, .int v1)] := hl
  unfold X_count at hf
  refine lv_iconst (v := 0) C.x C.b dX0_count_0 (by decide) ?_
  refine lv_istore_n (lv' := [(2, .int 0), (0, .ref o), (1, .int v1)]) C.x C.b dX0_count_1 rfl hl (by decide) rfl (fun ls hl => ?_)
  refine lv_iload_n C.x C.b dX0_count_2 rfl (lv_at hl 2 rfl) ?_
  by_cases c9_0 : v1 = 0
  · have hf := if_t (K := fun x => x) c9_0 hf
    refine lv_tableIn (tgt := 60) C.x C.b dX0_count_3 (by rw [c9_0]; decide) (by rw [c9_0]; decide) (off := 57) (by rw [c9_0]; rfl) (by decide) ?_
    refine lv_aload_n C.x C.b dX0_count_60 rfl (lv_at hl 1 rfl) ?_
    refine x_g0 C h dX0_count_61 ?_
    refine x_g100 C h dX0_count_64 ?_
    exact hR _ (some_k hf) _ _ _ _ h rfl dX0_count_67
  · have hf := if_f (K := fun x => x) c9_0 hf
    by_cases c9_1 : v1 = 1
    · have hf := if_t (K := fun x => x) c9_1 hf
      refine lv_tableIn (tgt := 68) C.x C.b dX0_count_3 (by rw [c9_1]; decide) (by rw [c9_1]; decide) (off := 65) (by rw [c9_1]; rfl) (by decide) ?_
      refine lv_aload_n C.x C.b dX0_count_68 rfl (lv_at hl 1 rfl) ?_
      refine x_g0 C h dX0_count_69 ?_
      refine x_g101 C h dX0_count_72 ?_
      exact hR _ (some_k hf) _ _ _ _ h rfl dX0_count_75
    · have hf := if_f (K := fun x => x) c9_1 hf
      by_cases c9_2 : v1 = 2
      · have hf := if_t (K := fun x => x) c9_2 hf
        refine lv_tableIn (tgt := 76) C.x C.b dX0_count_3 (by rw [c9_2]; decide) (by rw [c9_2]; decide) (off := 73) (by rw [c9_2]; rfl) (by decide) ?_
        refine lv_aload_n C.x C.b dX0_count_76 rfl (lv_at hl 1 rfl) ?_
        refine x_g0 C h dX0_count_77 ?_
        refine x_g102 C h dX0_count_80 ?_
        exact hR _ (some_k hf) _ _ _ _ h rfl dX0_count_83
      · have hf := if_f (K := fun x => x) c9_2 hf
        by_cases c9_3 : v1 = 3
        · have hf := if_t (K := fun x => x) c9_3 hf
          refine lv_tableIn (tgt := 84) C.x C.b dX0_count_3 (by rw [c9_3]; decide) (by rw [c9_3]; decide) (off := 81) (by rw [c9_3]; rfl) (by decide) ?_
          refine lv_aload_n C.x C.b dX0_count_84 rfl (lv_at hl 1 rfl) ?_
          refine x_g0 C h dX0_count_85 ?_
          refine x_g103 C h dX0_count_88 ?_
          exact hR _ (some_k hf) _ _ _ _ h rfl dX0_count_91
        · have hf := if_f (K := fun x => x) c9_3 hf
          by_cases c9_4 : v1 = 4
          · have hf := if_t (K := fun x => x) c9_4 hf
            refine lv_tableIn (tgt := 92) C.x C.b dX0_count_3 (by rw [c9_4]; decide) (by rw [c9_4]; decide) (off := 89) (by rw [c9_4]; rfl) (by decide) ?_
            refine lv_aload_n C.x C.b dX0_count_92 rfl (lv_at hl 1 rfl) ?_
            refine x_g0 C h dX0_count_93 ?_
            refine x_g104 C h dX0_count_96 ?_
            exact hR _ (some_k hf) _ _ _ _ h rfl dX0_count_99
          · have hf := if_f (K := fun x => x) c9_4 hf
            by_cases c9_5 : v1 = 5
            · have hf := if_t (K := fun x => x) c9_5 hf
              refine lv_tableIn (tgt := 100) C.x C.b dX0_count_3 (by rw [c9_5]; decide) (by rw [c9_5]; decide) (off := 97) (by rw [c9_5]; rfl) (by decide) ?_
              refine lv_aload_n C.x C.b dX0_count_100 rfl (lv_at hl 1 rfl) ?_
              refine x_g0 C h dX0_count_101 ?_
              refine x_g106 C h dX0_count_104 ?_
              exact hR _ (some_k hf) _ _ _ _ h rfl dX0_count_107
            · have hf := if_f (K := fun x => x) c9_5 hf
              by_cases c9_6 : v1 = 6
              · have hf := if_t (K := fun x => x) c9_6 hf
                refine lv_tableIn (tgt := 108) C.x C.b dX0_count_3 (by rw [c9_6]; decide) (by rw [c9_6]; decide) (off := 105) (by rw [c9_6]; rfl) (by decide) ?_
                refine lv_aload_n C.x C.b dX0_count_108 rfl (lv_at hl 1 rfl) ?_
                refine x_g0 C h dX0_count_109 ?_
                refine x_g107 C h dX0_count_112 ?_
                exact hR _ (some_k hf) _ _ _ _ h rfl dX0_count_115
              · have hf := if_f (K := fun x => x) c9_6 hf
                by_cases c9_7 : v1 = 7
                · have hf := if_t (K := fun x => x) c9_7 hf
                  refine lv_tableIn (tgt := 116) C.x C.b dX0_count_3 (by rw [c9_7]; decide) (by rw [c9_7]; decide) (off := 113) (by rw [c9_7]; rfl) (by decide) ?_
                  refine lv_aload_n C.x C.b dX0_count_116 rfl (lv_at hl 1 rfl) ?_
                  refine x_g0 C h dX0_count_117 ?_
                  refine x_g108 C h dX0_count_120 ?_
                  exact hR _ (some_k hf) _ _ _ _ h rfl dX0_count_123
                · have hf := if_f (K := fun x => x) c9_7 hf
                  by_cases c9_8 : v1 = 8
                  · have hf := if_t (K := fun x => x) c9_8 hf
                    refine lv_tableIn (tgt := 124) C.x C.b dX0_count_3 (by rw [c9_8]; decide) (by rw [c9_8]; decide) (off := 121) (by rw [c9_8]; rfl) (by decide) ?_
                    refine lv_aload_n C.x C.b dX0_count_124 rfl (lv_at hl 1 rfl) ?_
                    refine x_g0 C h dX0_count_125 ?_
                    refine x_g105 C h dX0_count_128 ?_
                    exact hR _ (some_k hf) _ _ _ _ h rfl dX0_count_131
                  · have hf := if_f (K := fun x => x) c9_8 hf
                    by_cases c9_9 : v1 = 9
                    · have hf := if_t (K := fun x => x) c9_9 hf
                      refine lv_tableIn (tgt := 132) C.x C.b dX0_count_3 (by rw [c9_9]; decide) (by rw [c9_9]; decide) (off := 129) (by rw [c9_9]; rfl) (by decide) ?_
                      refine lv_aload_n C.x C.b dX0_count_132 rfl (lv_at hl 1 rfl) ?_
                      refine x_g2 C h dX0_count_133 ?_
                      exact hR _ (some_k hf) _ _ _ _ h rfl dX0_count_136
                    · have hf := if_f (K := fun x => x) c9_9 hf
                      by_cases c9_10 : v1 = 10
                      · have hf := if_t (K := fun x => x) c9_10 hf
                        refine lv_tableIn (tgt := 137) C.x C.b dX0_count_3 (by rw [c9_10]; decide) (by rw [c9_10]; decide) (off := 134) (by rw [c9_10]; rfl) (by decide) ?_
                        refine lv_iconst (v := 0) C.x C.b dX0_count_137 (by decide) ?_
                        refine lv_istore_n (lv' := [(3, .int 0), (2, .int 0), (0, .ref o), (1, .int v1)]) C.x C.b dX0_count_138 rfl hl (by decide) rfl (fun ls hl => ?_)
                        exact l139  fu 0 0 _ _ _ h (lv_sub hl [2, 1, 0] rfl) hf
                      · have hf := if_f (K := fun x => x) c9_10 hf
                        refine lv_tableOut (tgt := 172) C.x C.b dX0_count_3 (by have := lv_neT c9_0 (a := 0) (by decide); have := lv_neT c9_1 (a := 1) (by decide); have := lv_neT c9_2 (a := 2) (by decide); have := lv_neT c9_3 (a := 3) (by decide); have := lv_neT c9_4 (a := 4) (by decide); have := lv_neT c9_5 (a := 5) (by decide); have := lv_neT c9_6 (a := 6) (by decide); have := lv_neT c9_7 (a := 7) (by decide); have := lv_neT c9_8 (a := 8) (by decide); have := lv_neT c9_9 (a := 9) (by decide); have := lv_neT c9_10 (a := 10) (by decide); omega) (by decide) ?_
                        refine lv_iconst (v := (-1)) C.x C.b dX0_count_172 (by decide) ?_
                        exact hR _ (some_k hf) _ _ _ _ h rfl dX0_count_173
def X_isSo_j56 (τ : PS) (σ : PS) : Option (Int32 × PS) := some (1, σ)
def X_isSo_j48 (τ : PS) (σ : PS) : Option (Int32 × PS) := some (0, σ)
def X_isSo_l6 (τ : PS) (σ : PS) (v1 : Int32) (v2 : Int32) : Option ((Int32) ⊕ (Int32 × PS)) := ix v1 4 (bd (S_size τ v1) (fun q_1 => if q_1 ≤ v2 then up (X_isSo_j56 τ σ) else bd (X_number τ σ v1 v2) (fun q_2 => bd (X_number τ σ v1 (v2 + 1)) (fun q_3 => bd (X_skinOf σ q_2 q_3) (fun q_4 => bd (X_number τ σ v1 (v2 + 2)) (fun q_5 => if q_4 = q_5 then nm (v2 + 3) (fun v2_6 => some (.inl (v2_6))) else up (X_isSo_j48 τ σ)))))))
def X_isSo_B6 (τ : PS) (σ : PS) (v1 : Int32) : (Int32) → Option ((Int32) ⊕ (Int32 × PS)) := fun t => X_isSo_l6 τ σ v1 t
def X_isSo (τ : PS) (σ : PS) (v1 : Int32) : Option (Int32 × PS) := bd (X_lays σ) (fun q_7 => loop (X_isSo_B6 τ q_7 v1) fu (0))
set_option maxHeartbeats 4000000 in
theorem kX_isSo (l : Launch) {D : va_G} {ty : Nat → ClassId} {A : Nat → Prop} {o : Nat} {ad : Nat → Nat} {rs : va_W} {σ : PS} {τ : PS} {σ' : PS} {v1 : Int32} {r : Int32} (hf : X_isSo τ σ v1 = some (r, σ')) : KI l yX0_isSo cX0_isSo 3 .boolean 7 D ty A (wX ty o ad σ ++ (wS ty ad τ ++ rs)) (wX ty o ad σ' ++ (wS ty ad τ ++ rs)) [.ref o, .int v1] r := by
  refine KI.of (by decide) (Nat.le_of_ble_eq_true rfl) ?_
  intro p e R s m args below meth c Q C hR
  have C : Cx p R s m args c cX0_isSo 3 RX0 D ty A 7 := C
  have hR : ∀ (v : Int32) (σ2 : PS), (v, σ2) = (r, σ') → ∀ (H : Heap) (locs : List Loc) (pc : Nat) (ls : Array Slot), Hw D A s H locs (wX ty o ad σ2 ++ (wS ty ad τ ++ rs)) → narrow .boolean (.int v) = .int v → decode cX0_isSo pc = .ok (.ireturn, 1) → W p l e R s m args below meth c H locs 0 0 Q (F0 m pc ls [.int v]) := by intro v σ2 e9; cases e9; exact hR
  have j56 : ∀ (σ : PS) (H : Heap) (locs : List Loc) (ls : Array Slot), Hw D A s H locs (wX ty o ad σ ++ (wS ty ad τ ++ rs)) → lv_has ls 3 [] → X_isSo_j56 τ σ = some (r, σ') → W p l e R s m args below meth c H locs 0 0 Q (F0 m 56 ls []) := by
    intro σ H locs ls h hl hf
    unfold X_isSo_j56 at hf
    refine lv_iconst (v := 1) C.x C.b dX0_isSo_56 (by decide) ?_
    exact hR _ _ (some_k hf) _ _ _ _ h (by decide) dX0_isSo_57
  have j48 : ∀ (σ : PS) (H : Heap) (locs : List Loc) (ls : Array Slot), Hw D A s H locs (wX ty o ad σ ++ (wS ty ad τ ++ rs)) → lv_has ls 3 [] → X_isSo_j48 τ σ = some (r, σ') → W p l e R s m args below meth c H locs 0 0 Q (F0 m 48 ls []) := by
    intro σ H locs ls h hl hf
    unfold X_isSo_j48 at hf
    refine lv_iconst (v := 0) C.x C.b dX0_isSo_48 (by decide) ?_
    exact hR _ _ (some_k hf) _ _ _ _ h (by decide) dX0_isSo_49
  have l6 : ∀ (σ : PS) (n6 : Nat) (v2 : Int32) (H : Heap) (locs : List Loc) (ls : Array Slot), Hw D A s H locs (wX ty o ad σ ++ (wS ty ad τ ++ rs)) → lv_has ls 3 [(0, .ref o), (1, .int v1), (2, .int v2)] → loop (X_isSo_B6 τ σ v1) n6 (v2) = some (r, σ') → W p l e R s m args below meth c H locs 0 0 Q (F0 m 6 ls []) := by
    intro σ n6
    induction n6 with
    | zero => intro v2 H locs ls h hl hf; exact (none_k hf).elim
    | succ n6 ih6 =>
      intro v2 H locs ls h hl hf
      have hf : bl (X_isSo_B6 τ σ v1) n6 (X_isSo_l6 τ σ v1 v2) = some (r, σ') := hf
      unfold X_isSo_l6 at hf
      refine lv_iload_n C.x C.b dX0_isSo_6 rfl (lv_at hl 2 rfl) ?_
      refine lv_aload_n C.x C.b dX0_isSo_7 rfl (lv_at hl 0 rfl) ?_
      refine x_g30 C h dX0_isSo_8 ?_
      refine lv_iload_n C.x C.b dX0_isSo_11 rfl (lv_at hl 1 rfl) ?_
      obtain ⟨hi, hf⟩ := ix_k (K := bl (X_isSo_B6 τ σ v1) n6) rfl hf
      refine x_a30 C h hi dX0_isSo_12 ?_
      obtain ⟨q_1, hc, hf⟩ := bd_k (K := bl (X_isSo_B6 τ σ v1) n6) rfl hf
      refine cS_size C h hc (Nat.le_of_ble_eq_true rfl) hl.1 (Nat.le_of_ble_eq_true rfl) dX0_isSo_13 (fun H locs h => ?_)
      refine lv_icmp_ge (tgt := 56) C.x C.b dX0_isSo_16 (by decide) (fun c9 => ?_) (fun c9 => ?_)
      · have hf := if_t (K := bl (X_isSo_B6 τ σ v1) n6) c9 hf
        have hf := bl_upK (K := fun x => x) hf
        exact j56 σ _ _ _ h (lv_sub hl [] rfl) hf
      · have hf := if_f (K := bl (X_isSo_B6 τ σ v1) n6) c9 hf
        refine lv_aload_n C.x C.b dX0_isSo_19 rfl (lv_at hl 0 rfl) ?_
        refine lv_aload_n C.x C.b dX0_isSo_20 rfl (lv_at hl 0 rfl) ?_
        refine lv_iload_n C.x C.b dX0_isSo_21 rfl (lv_at hl 1 rfl) ?_
        refine lv_iload_n C.x C.b dX0_isSo_22 rfl (lv_at hl 2 rfl) ?_
        obtain ⟨q_2, hc, hf⟩ := bd_k (K := bl (X_isSo_B6 τ σ v1) n6) rfl hf
        refine cX_number C h hc (Nat.le_of_ble_eq_true rfl) hl.1 (Nat.le_of_ble_eq_true rfl) dX0_isSo_23 (fun H locs h => ?_)
        refine lv_aload_n C.x C.b dX0_isSo_26 rfl (lv_at hl 0 rfl) ?_
        refine lv_iload_n C.x C.b dX0_isSo_27 rfl (lv_at hl 1 rfl) ?_
        refine lv_iload_n C.x C.b dX0_isSo_28 rfl (lv_at hl 2 rfl) ?_
        refine lv_iconst (v := 1) C.x C.b dX0_isSo_29 (by decide) ?_
        refine lv_iadd C.x C.b dX0_isSo_30 ?_
        obtain ⟨q_3, hc, hf⟩ := bd_k (K := bl (X_isSo_B6 τ σ v1) n6) rfl hf
        refine cX_number C h hc (Nat.le_of_ble_eq_true rfl) hl.1 (Nat.le_of_ble_eq_true rfl) dX0_isSo_31 (fun H locs h => ?_)
        obtain ⟨q_4, hc, hf⟩ := bd_k (K := bl (X_isSo_B6 τ σ v1) n6) rfl hf
        refine cX_skinOf C h hc (Nat.le_of_ble_eq_true rfl) hl.1 (Nat.le_of_ble_eq_true rfl) dX0_isSo_34 (fun H locs h => ?_)
        refine lv_aload_n C.x C.b dX0_isSo_37 rfl (lv_at hl 0 rfl) ?_
        refine lv_iload_n C.x C.b dX0_isSo_38 rfl (lv_at hl 1 rfl) ?_
        refine lv_iload_n C.x C.b dX0_isSo_39 rfl (lv_at hl 2 rfl) ?_
        refine lv_iconst (v := 2) C.x C.b dX0_isSo_40 (by decide) ?_
        refine lv_iadd C.x C.b dX0_isSo_41 ?_
        obtain ⟨q_5, hc, hf⟩ := bd_k (K := bl (X_isSo_B6 τ σ v1) n6) rfl hf
        refine cX_number C h hc (Nat.le_of_ble_eq_true rfl) hl.1 (Nat.le_of_ble_eq_true rfl) dX0_isSo_42 (fun H locs h => ?_)
        refine lv_icmp_eq (tgt := 50) C.x C.b dX0_isSo_45 (by decide) (fun c9 => ?_) (fun c9 => ?_)
        · have hf := if_t (K := bl (X_isSo_B6 τ σ v1) n6) c9 hf
          obtain ⟨v2_6, e9, hf⟩ := nm_k (K := bl (X_isSo_B6 τ σ v1) n6) hf
          refine lv_iinc (v := v2_6) (lv' := [(2, .int v2_6), (0, .ref o), (1, .int v1)]) C.x C.b dX0_isSo_50 hl (k := 2) rfl (iinc_e (k := 3) (by decide) e9) (by decide) rfl (fun ls hl => ?_)
          refine lv_goto (tgt := 6) C.x C.b dX0_isSo_53 (by decide) ?_
          exact ih6 v2_6 _ _ _ h (lv_sub hl [1, 2, 0] rfl) hf
        · have hf := if_f (K := bl (X_isSo_B6 τ σ v1) n6) c9 hf
          have hf := bl_upK (K := fun x => x) hf
          exact j48 σ _ _ _ h (lv_sub hl [] rfl) hf
  intro H locs ls h hl
  have hl : lv_has ls 3 [(0, .ref o), (1, .int v1)] := hl
  unfold X_isSo at hf
  refine lv_aload_n C.x C.b dX0_isSo_0 rfl (lv_at hl 0 rfl) ?_
  obtain ⟨q_7, hc, hf⟩ := bd_k (K := fun x => x) rfl hf
  refine cX_lays C h hc (Nat.le_of_ble_eq_true rfl) hl.1 (Nat.le_of_ble_eq_true rfl) dX0_isSo_1 (fun H locs h => ?_)
  refine lv_iconst (v := 0) C.x C.b dX0_isSo_4 (by decide) ?_
  refine lv_istore_n (lv' := [(2, .int 0), (0, .ref o), (1, .int v1)]) C.x C.b dX0_isSo_5 rfl hl (by decide) rfl (fun ls hl => ?_)
  exact l6 q_7 fu 0 _ _ _ h (lv_sub hl [1, 2, 0] rfl) hf
theorem tX_isSo : GoodIn lw_all (wsV RX0 380 RX0 yX0_isSo (ws_ yX0_isSo cX0_isSo 3 (some .boolean))) := lw_V q1198 q1200 qs56 q137 q1201
theorem cX_isSo {p : Program} {l : Launch} {e : Env} {R : Room} {s : State} {m : MethodId} {args : Array Value} {below : List Frame} {meth : Method} {c : Code} {H : Heap} {locs : List Loc} {Q : State → Prop} {cc : ByteArray} {pc : Nat} {ls : Array Slot} {st : List Value} {nL d : Nat} {D : va_G} {ty : Nat → ClassId} {A : Nat → Prop} {o : Nat} {ad : Nat → Nat} {rs : va_W} {σ : PS} {τ : PS} {v1 : Int32} {q : (Int32 × PS)} (C : Cx p R s m args c cc nL RX0 D ty A d) (h : Hw D A s H locs (wX ty o ad σ ++ (wS ty ad τ ++ rs))) (hc : X_isSo τ σ v1 = some q) (hd : 7 + 1 ≤ d) (hls : ls.size = nL) (hcat : (st.map fun v => v.category).sum ≤ 8) (dec : decode cc pc = .ok (.invokevirtual 380, 3)) (kk : ∀ (H : Heap) (locs : List Loc), Hw D A s H locs (wX ty o ad q.2 ++ (wS ty ad τ ++ rs)) → W p l e R s m args below meth c H locs 0 0 Q (F0 m (pc + 3) ls (.int (q.1) :: st))) : W p l e R s m args below meth c H locs 0 0 Q (F0 m pc ls (.int v1 :: .ref o :: st)) := KI.callV (As := [.int v1]) C (kX_isSo l hc) tX_isSo ⟨rfl, by decide, by decide, by show _ = some 1; decide +kernel⟩ 0 0 rfl rfl rfl hd (by decide) (Nat.zero_le _) (Nat.zero_le _) h hls rfl hcat dec kk
def X_thicks_j72 (τ : PS) (σ : PS) (v4 : Int32) : Option (Int32 × PS) := some (v4, σ)
def X_thicks_j63 (τ : PS) (σ : PS) (v1 : Int32) (v2 : Int32) (v5 : Int32) (x0 : Int32) (x1 : Int32) : Option ((Int32 × Int32 × PS) ⊕ (Int32 × PS)) := nm (x1 ||| x0) (fun v4_1 => nm (v5 + 1) (fun v5_2 => some (.inl (v4_1, v5_2, σ))))
def X_thicks_l30 (τ : PS) (v1 : Int32) (v2 : Int32) (v4 : Int32) (v5 : Int32) (σ : PS) : Option ((Int32 × Int32 × PS) ⊕ (Int32 × PS)) := if 9 < v5 then up (X_thicks_j72 τ σ v4) else ix v2 6 (nm (wA σ 8 v2 v5) (fun σ_3 => bd (X_isSo τ σ_3 v1) (fun q_4 => if q_4.1 = 0 then X_thicks_j63 τ q_4.2 v1 v2 v5 0 v4 else X_thicks_j63 τ q_4.2 v1 v2 v5 (1 <<< (v5 &&& 31)) v4)))
def X_thicks_B30 (τ : PS) (v1 : Int32) (v2 : Int32) : (Int32 × Int32 × PS) → Option ((Int32 × Int32 × PS) ⊕ (Int32 × PS)) := fun t => X_thicks_l30 τ v1 v2 t.1 t.2.1 t.2.2
def X_thicks (τ : PS) (σ : PS) (v1 : Int32) (v2 : Int32) : Option (Int32 × PS) := bd (X_isPiece σ v2.toInt64) (fun q_5 => if q_5 = 0 then some ((-2), σ) else bd (X_asksSeen τ σ v1) (fun q_6 => nm (q_6.1) (fun v3_7 => if 0 ≤ v3_7 then loop (X_thicks_B30 τ v1 v2) fu (0, 1, q_6.2) else some (v3_7, q_6.2))))
set_option maxHeartbeats 4000000 in
theorem kX_thicks (l : Launch) {D : va_G} {ty : Nat → ClassId} {A : Nat → Prop} {o : Nat} {ad : Nat → Nat} {rs : va_W} {σ : PS} {τ : PS} {σ' : PS} {v1 : Int32} {v2 : Int32} {r : Int32} (hf : X_thicks τ σ v1 v2 = some (r, σ')) : KI l yX0_thicks cX0_thicks 6 .int 8 D ty A (wX ty o ad σ ++ (wS ty ad τ ++ rs)) (wX ty o ad σ' ++ (wS ty ad τ ++ rs)) [.ref o, .int v1, .int v2] r := by
  refine KI.of (by decide) (Nat.le_of_ble_eq_true rfl) ?_
  intro p e R s m args below meth c Q C hR
  have C : Cx p R s m args c cX0_thicks 6 RX0 D ty A 8 := C
  have hR : ∀ (v : Int32) (σ2 : PS), (v, σ2) = (r, σ') → ∀ (H : Heap) (locs : List Loc) (pc : Nat) (ls : Array Slot), Hw D A s H locs (wX ty o ad σ2 ++ (wS ty ad τ ++ rs)) → narrow .int (.int v) = .int v → decode cX0_thicks pc = .ok (.ireturn, 1) → W p l e R s m args below meth c H locs 0 0 Q (F0 m pc ls [.int v]) := by intro v σ2 e9; cases e9; exact hR
  have j72 : ∀ (σ : PS) (v4 : Int32) (H : Heap) (locs : List Loc) (ls : Array Slot), Hw D A s H locs (wX ty o ad σ ++ (wS ty ad τ ++ rs)) → lv_has ls 6 [(4, .int v4)] → X_thicks_j72 τ σ v4 = some (r, σ') → W p l e R s m args below meth c H locs 0 0 Q (F0 m 72 ls []) := by
    intro σ v4 H locs ls h hl hf
    unfold X_thicks_j72 at hf
    refine lv_iload C.x C.b dX0_thicks_72 (lv_at hl 0 rfl) ?_
    exact hR _ _ (some_k hf) _ _ _ _ h rfl dX0_thicks_74
  have l30 : ∀ (n30 : Nat) (v4 : Int32) (v5 : Int32) (σ : PS) (H : Heap) (locs : List Loc) (ls : Array Slot), Hw D A s H locs (wX ty o ad σ ++ (wS ty ad τ ++ rs)) → lv_has ls 6 [(0, .ref o), (1, .int v1), (2, .int v2), (4, .int v4), (5, .int v5)] → loop (X_thicks_B30 τ v1 v2) n30 (v4, v5, σ) = some (r, σ') → W p l e R s m args below meth c H locs 0 0 Q (F0 m 30 ls []) := by
    intro n30
    induction n30 with
    | zero => intro v4 v5 σ H locs ls h hl hf; exact (none_k hf).elim
    | succ n30 ih30 =>
      have j63 : ∀ (σ : PS) (v5 : Int32) (x0 : Int32) (x1 : Int32) (H : Heap) (locs : List Loc) (ls : Array Slot), Hw D A s H locs (wX ty o ad σ ++ (wS ty ad τ ++ rs)) → lv_has ls 6 [(0, .ref o), (1, .int v1), (2, .int v2), (5, .int v5)] → bl (X_thicks_B30 τ v1 v2) n30 (X_thicks_j63 τ σ v1 v2 v5 x0 x1) = some (r, σ') → W p l e R s m args below meth c H locs 0 0 Q (F0 m 63 ls [.int x0, .int x1]) := by
        intro σ v5 x0 x1 H locs ls h hl hf
        unfold X_thicks_j63 at hf
        refine lv_ior C.x C.b dX0_thicks_63 ?_
        obtain ⟨v4_1, e9, hf⟩ := nm_k (K := bl (X_thicks_B30 τ v1 v2) n30) hf
        refine lv_topI e9 ?_
        refine lv_istore (lv' := [(4, .int v4_1), (0, .ref o), (1, .int v1), (2, .int v2), (5, .int v5)]) C.x C.b dX0_thicks_64 hl (by decide) rfl (fun ls hl => ?_)
        obtain ⟨v5_2, e9, hf⟩ := nm_k (K := bl (X_thicks_B30 τ v1 v2) n30) hf
        refine lv_iinc (v := v5_2) (lv' := [(5, .int v5_2), (4, .int v4_1), (0, .ref o), (1, .int v1), (2, .int v2)]) C.x C.b dX0_thicks_66 hl (k := 4) rfl (iinc_e (k := 1) (by decide) e9) (by decide) rfl (fun ls hl => ?_)
        refine lv_goto (tgt := 30) C.x C.b dX0_thicks_69 (by decide) ?_
        exact ih30 v4_1 v5_2 σ _ _ _ h (lv_sub hl [2, 3, 4, 1, 0] rfl) hf
      intro v4 v5 σ H locs ls h hl hf
      have hf : bl (X_thicks_B30 τ v1 v2) n30 (X_thicks_l30 τ v1 v2 v4 v5 σ) = some (r, σ') := hf
      unfold X_thicks_l30 at hf
      refine lv_iload C.x C.b dX0_thicks_30 (lv_at hl 4 rfl) ?_
      refine lv_bipush (v := 9) C.x C.b dX0_thicks_32 (by decide) ?_
      refine lv_icmp_gt (tgt := 72) C.x C.b dX0_thicks_34 (by decide) (fun c9 => ?_) (fun c9 => ?_)
      · have hf := if_t (K := bl (X_thicks_B30 τ v1 v2) n30) c9 hf
        have hf := bl_upK (K := fun x => x) hf
        exact j72 σ v4 _ _ _ h (lv_sub hl [3] rfl) hf
      · have hf := if_f (K := bl (X_thicks_B30 τ v1 v2) n30) c9 hf
        refine lv_aload_n C.x C.b dX0_thicks_37 rfl (lv_at hl 0 rfl) ?_
        refine x_g8 C h dX0_thicks_38 ?_
        refine lv_iload_n C.x C.b dX0_thicks_41 rfl (lv_at hl 2 rfl) ?_
        refine lv_iload C.x C.b dX0_thicks_42 (lv_at hl 4 rfl) ?_
        obtain ⟨hi, hf⟩ := ix_k (K := bl (X_thicks_B30 τ v1 v2) n30) rfl hf
        obtain ⟨σ_3, e9, hf⟩ := nm_k (K := bl (X_thicks_B30 τ v1 v2) n30) hf
        refine x_w8 C h hi e9 dX0_thicks_44 (fun H locs h => ?_)
        refine lv_iload C.x C.b dX0_thicks_45 (lv_at hl 3 rfl) ?_
        refine lv_aload_n C.x C.b dX0_thicks_47 rfl (lv_at hl 0 rfl) ?_
        refine lv_iload_n C.x C.b dX0_thicks_48 rfl (lv_at hl 1 rfl) ?_
        obtain ⟨q_4, hc, hf⟩ := bd_k (K := bl (X_thicks_B30 τ v1 v2) n30) rfl hf
        refine cX_isSo C h hc (Nat.le_of_ble_eq_true rfl) hl.1 (Nat.le_of_ble_eq_true rfl) dX0_thicks_49 (fun H locs h => ?_)
        refine lv_if_eq (tgt := 62) C.x C.b dX0_thicks_52 (by decide) (fun c9 => ?_) (fun c9 => ?_)
        · have hf := if_t (K := bl (X_thicks_B30 τ v1 v2) n30) c9 hf
          refine lv_iconst (v := 0) C.x C.b dX0_thicks_62 (by decide) ?_
          exact j63 q_4.2 v5 0 v4 _ _ _ h (lv_sub hl [0, 1, 2, 4] rfl) hf
        · have hf := if_f (K := bl (X_thicks_B30 τ v1 v2) n30) c9 hf
          refine lv_iconst (v := 1) C.x C.b dX0_thicks_55 (by decide) ?_
          refine lv_iload C.x C.b dX0_thicks_56 (lv_at hl 4 rfl) ?_
          refine lv_ishl C.x C.b dX0_thicks_58 ?_
          refine lv_goto (tgt := 63) C.x C.b dX0_thicks_59 (by decide) ?_
          exact j63 q_4.2 v5 (1 <<< (v5 &&& 31)) v4 _ _ _ h (lv_sub hl [0, 1, 2, 4] rfl) hf
  intro H locs ls h hl
  have hl : lv_has ls 6 [(0, .ref o), (1, .int v1), (2, .int v2)] := hl
  unfold X_thicks at hf
  refine lv_aload_n C.x C.b dX0_thicks_0 rfl (lv_at hl 0 rfl) ?_
  refine lv_iload_n C.x C.b dX0_thicks_1 rfl (lv_at hl 2 rfl) ?_
  refine lv_i2l C.x C.b dX0_thicks_2 rfl ?_
  obtain ⟨q_5, hc, hf⟩ := bd_k (K := fun x => x) rfl hf
  refine cX_isPiece C h hc (Nat.le_of_ble_eq_true rfl) hl.1 (Nat.le_of_ble_eq_true rfl) dX0_thicks_3 (fun H locs h => ?_)
  refine lv_if_ne (tgt := 12) C.x C.b dX0_thicks_6 (by decide) (fun c9 => ?_) (fun c9 => ?_)
  · have hf := if_f (K := fun x => x) c9 hf
    refine lv_aload_n C.x C.b dX0_thicks_12 rfl (lv_at hl 0 rfl) ?_
    refine lv_iload_n C.x C.b dX0_thicks_13 rfl (lv_at hl 1 rfl) ?_
    obtain ⟨q_6, hc, hf⟩ := bd_k (K := fun x => x) rfl hf
    refine cX_asksSeen C h hc (Nat.le_of_ble_eq_true rfl) hl.1 (Nat.le_of_ble_eq_true rfl) dX0_thicks_14 (fun H locs h => ?_)
    obtain ⟨v3_7, e9, hf⟩ := nm_k (K := fun x => x) hf
    refine lv_topI e9 ?_
    refine lv_istore_n (lv' := [(3, .int v3_7), (0, .ref o), (1, .int v1), (2, .int v2)]) C.x C.b dX0_thicks_17 rfl hl (by decide) rfl (fun ls hl => ?_)
    refine lv_iload_n C.x C.b dX0_thicks_18 rfl (lv_at hl 0 rfl) ?_
    refine lv_if_ge (tgt := 24) C.x C.b dX0_thicks_19 (by decide) (fun c9 => ?_) (fun c9 => ?_)
    · have hf := if_t (K := fun x => x) c9 hf
      refine lv_iconst (v := 0) C.x C.b dX0_thicks_24 (by decide) ?_
      refine lv_istore (lv' := [(4, .int 0), (3, .int v3_7), (0, .ref o), (1, .int v1), (2, .int v2)]) C.x C.b dX0_thicks_25 hl (by decide) rfl (fun ls hl => ?_)
      refine lv_iconst (v := 1) C.x C.b dX0_thicks_27 (by decide) ?_
      refine lv_istore (lv' := [(5, .int 1), (4, .int 0), (3, .int v3_7), (0, .ref o), (1, .int v1), (2, .int v2)]) C.x C.b dX0_thicks_28 hl (by decide) rfl (fun ls hl => ?_)
      exact l30  fu 0 1 q_6.2 _ _ _ h (lv_sub hl [3, 4, 5, 1, 0] rfl) hf
    · have hf := if_f (K := fun x => x) c9 hf
      refine lv_iload_n C.x C.b dX0_thicks_22 rfl (lv_at hl 0 rfl) ?_
      exact hR _ _ (some_k hf) _ _ _ _ h rfl dX0_thicks_23
  · have hf := if_t (K := fun x => x) c9 hf
    refine lv_bipush (v := (-2)) C.x C.b dX0_thicks_9 (by decide) ?_
    exact hR _ _ (some_k hf) _ _ _ _ h rfl dX0_thicks_11
def X_laws_j59 (τ : PS) (σ : PS) (v3 : Int32) : Option (Int32 × PS) := some (v3, σ)
def X_laws_j51 (τ : PS) (σ : PS) (v1 : Int32) (v4 : Int32) (x0 : Int32) (x1 : Int32) : Option ((Int32 × Int32 × PS) ⊕ (Int32 × PS)) := nm (x1 ||| x0) (fun v3_1 => nm (v4 + 1) (fun v4_2 => some (.inl (v3_1, v4_2, σ))))
def X_laws_l17 (τ : PS) (v1 : Int32) (v3 : Int32) (v4 : Int32) (σ : PS) : Option ((Int32 × Int32 × PS) ⊕ (Int32 × PS)) := if 4 ≤ v4 then up (X_laws_j59 τ σ v3) else ix v4 4 (nm (sI σ 13 v4) (fun σ_3 => bd (X_isSo τ σ_3 v1) (fun q_4 => if q_4.1 = 0 then X_laws_j51 τ q_4.2 v1 v4 0 v3 else X_laws_j51 τ q_4.2 v1 v4 (1 <<< (v4 &&& 31)) v3)))
def X_laws_B17 (τ : PS) (v1 : Int32) : (Int32 × Int32 × PS) → Option ((Int32 × Int32 × PS) ⊕ (Int32 × PS)) := fun t => X_laws_l17 τ v1 t.1 t.2.1 t.2.2
def X_laws (τ : PS) (σ : PS) (v1 : Int32) : Option (Int32 × PS) := bd (X_asksSeen τ σ v1) (fun q_5 => nm (q_5.1) (fun v2_6 => if 0 ≤ v2_6 then loop (X_laws_B17 τ v1) fu (0, 0, q_5.2) else some (v2_6, q_5.2)))
set_option maxHeartbeats 4000000 in
theorem kX_laws (l : Launch) {D : va_G} {ty : Nat → ClassId} {A : Nat → Prop} {o : Nat} {ad : Nat → Nat} {rs : va_W} {σ : PS} {τ : PS} {σ' : PS} {v1 : Int32} {r : Int32} (hf : X_laws τ σ v1 = some (r, σ')) : KI l yX0_laws cX0_laws 5 .int 8 D ty A (wX ty o ad σ ++ (wS ty ad τ ++ rs)) (wX ty o ad σ' ++ (wS ty ad τ ++ rs)) [.ref o, .int v1] r := by
  refine KI.of (by decide) (Nat.le_of_ble_eq_true rfl) ?_
  intro p e R s m args below meth c Q C hR
  have C : Cx p R s m args c cX0_laws 5 RX0 D ty A 8 := C
  have hR : ∀ (v : Int32) (σ2 : PS), (v, σ2) = (r, σ') → ∀ (H : Heap) (locs : List Loc) (pc : Nat) (ls : Array Slot), Hw D A s H locs (wX ty o ad σ2 ++ (wS ty ad τ ++ rs)) → narrow .int (.int v) = .int v → decode cX0_laws pc = .ok (.ireturn, 1) → W p l e R s m args below meth c H locs 0 0 Q (F0 m pc ls [.int v]) := by intro v σ2 e9; cases e9; exact hR
  have j59 : ∀ (σ : PS) (v3 : Int32) (H : Heap) (locs : List Loc) (ls : Array Slot), Hw D A s H locs (wX ty o ad σ ++ (wS ty ad τ ++ rs)) → lv_has ls 5 [(3, .int v3)] → X_laws_j59 τ σ v3 = some (r, σ') → W p l e R s m args below meth c H locs 0 0 Q (F0 m 59 ls []) := by
    intro σ v3 H locs ls h hl hf
    unfold X_laws_j59 at hf
    refine lv_iload_n C.x C.b dX0_laws_59 rfl (lv_at hl 0 rfl) ?_
    exact hR _ _ (some_k hf) _ _ _ _ h rfl dX0_laws_60
  have l17 : ∀ (n17 : Nat) (v3 : Int32) (v4 : Int32) (σ : PS) (H : Heap) (locs : List Loc) (ls : Array Slot), Hw D A s H locs (wX ty o ad σ ++ (wS ty ad τ ++ rs)) → lv_has ls 5 [(0, .ref o), (1, .int v1), (3, .int v3), (4, .int v4)] → loop (X_laws_B17 τ v1) n17 (v3, v4, σ) = some (r, σ') → W p l e R s m args below meth c H locs 0 0 Q (F0 m 17 ls []) := by
    intro n17
    induction n17 with
    | zero => intro v3 v4 σ H locs ls h hl hf; exact (none_k hf).elim
    | succ n17 ih17 =>
      have j51 : ∀ (σ : PS) (v4 : Int32) (x0 : Int32) (x1 : Int32) (H : Heap) (locs : List Loc) (ls : Array Slot), Hw D A s H locs (wX ty o ad σ ++ (wS ty ad τ ++ rs)) → lv_has ls 5 [(0, .ref o), (1, .int v1), (4, .int v4)] → bl (X_laws_B17 τ v1) n17 (X_laws_j51 τ σ v1 v4 x0 x1) = some (r, σ') → W p l e R s m args below meth c H locs 0 0 Q (F0 m 51 ls [.int x0, .int x1]) := by
        intro σ v4 x0 x1 H locs ls h hl hf
        unfold X_laws_j51 at hf
        refine lv_ior C.x C.b dX0_laws_51 ?_
        obtain ⟨v3_1, e9, hf⟩ := nm_k (K := bl (X_laws_B17 τ v1) n17) hf
        refine lv_topI e9 ?_
        refine lv_istore_n (lv' := [(3, .int v3_1), (0, .ref o), (1, .int v1), (4, .int v4)]) C.x C.b dX0_laws_52 rfl hl (by decide) rfl (fun ls hl => ?_)
        obtain ⟨v4_2, e9, hf⟩ := nm_k (K := bl (X_laws_B17 τ v1) n17) hf
        refine lv_iinc (v := v4_2) (lv' := [(4, .int v4_2), (3, .int v3_1), (0, .ref o), (1, .int v1)]) C.x C.b dX0_laws_53 hl (k := 3) rfl (iinc_e (k := 1) (by decide) e9) (by decide) rfl (fun ls hl => ?_)
        refine lv_goto (tgt := 17) C.x C.b dX0_laws_56 (by decide) ?_
        exact ih17 v3_1 v4_2 σ _ _ _ h (lv_sub hl [2, 3, 1, 0] rfl) hf
      intro v3 v4 σ H locs ls h hl hf
      have hf : bl (X_laws_B17 τ v1) n17 (X_laws_l17 τ v1 v3 v4 σ) = some (r, σ') := hf
      unfold X_laws_l17 at hf
      refine lv_iload C.x C.b dX0_laws_17 (lv_at hl 3 rfl) ?_
      refine lv_iconst (v := 4) C.x C.b dX0_laws_19 (by decide) ?_
      refine lv_icmp_ge (tgt := 59) C.x C.b dX0_laws_20 (by decide) (fun c9 => ?_) (fun c9 => ?_)
      · have hf := if_t (K := bl (X_laws_B17 τ v1) n17) c9 hf
        have hf := bl_upK (K := fun x => x) hf
        exact j59 σ v3 _ _ _ h (lv_sub hl [2] rfl) hf
      · have hf := if_f (K := bl (X_laws_B17 τ v1) n17) c9 hf
        refine lv_aload_n C.x C.b dX0_laws_23 rfl (lv_at hl 0 rfl) ?_
        refine lv_aload_n C.x C.b dX0_laws_24 rfl (lv_at hl 0 rfl) ?_
        refine x_g17 C h dX0_laws_25 ?_
        refine lv_iload C.x C.b dX0_laws_28 (lv_at hl 3 rfl) ?_
        obtain ⟨hi, hf⟩ := ix_k (K := bl (X_laws_B17 τ v1) n17) rfl hf
        refine x_a17 C h hi dX0_laws_30 ?_
        obtain ⟨σ_3, e9, hf⟩ := nm_k (K := bl (X_laws_B17 τ v1) n17) hf
        refine x_p13 C h hi e9 dX0_laws_31 (fun H locs h => ?_)
        refine lv_iload_n C.x C.b dX0_laws_34 rfl (lv_at hl 2 rfl) ?_
        refine lv_aload_n C.x C.b dX0_laws_35 rfl (lv_at hl 0 rfl) ?_
        refine lv_iload_n C.x C.b dX0_laws_36 rfl (lv_at hl 1 rfl) ?_
        obtain ⟨q_4, hc, hf⟩ := bd_k (K := bl (X_laws_B17 τ v1) n17) rfl hf
        refine cX_isSo C h hc (Nat.le_of_ble_eq_true rfl) hl.1 (Nat.le_of_ble_eq_true rfl) dX0_laws_37 (fun H locs h => ?_)
        refine lv_if_eq (tgt := 50) C.x C.b dX0_laws_40 (by decide) (fun c9 => ?_) (fun c9 => ?_)
        · have hf := if_t (K := bl (X_laws_B17 τ v1) n17) c9 hf
          refine lv_iconst (v := 0) C.x C.b dX0_laws_50 (by decide) ?_
          exact j51 q_4.2 v4 0 v3 _ _ _ h (lv_sub hl [0, 1, 3] rfl) hf
        · have hf := if_f (K := bl (X_laws_B17 τ v1) n17) c9 hf
          refine lv_iconst (v := 1) C.x C.b dX0_laws_43 (by decide) ?_
          refine lv_iload C.x C.b dX0_laws_44 (lv_at hl 3 rfl) ?_
          refine lv_ishl C.x C.b dX0_laws_46 ?_
          refine lv_goto (tgt := 51) C.x C.b dX0_laws_47 (by decide) ?_
          exact j51 q_4.2 v4 (1 <<< (v4 &&& 31)) v3 _ _ _ h (lv_sub hl [0, 1, 3] rfl) hf
  intro H locs ls h hl
  have hl : lv_has ls 5 [(0, .ref o), (1, .int v1)] := hl
  unfold X_laws at hf
  refine lv_aload_n C.x C.b dX0_laws_0 rfl (lv_at hl 0 rfl) ?_
  refine lv_iload_n C.x C.b dX0_laws_1 rfl (lv_at hl 1 rfl) ?_
  obtain ⟨q_5, hc, hf⟩ := bd_k (K := fun x => x) rfl hf
  refine cX_asksSeen C h hc (Nat.le_of_ble_eq_true rfl) hl.1 (Nat.le_of_ble_eq_true rfl) dX0_laws_2 (fun H locs h => ?_)
  obtain ⟨v2_6, e9, hf⟩ := nm_k (K := fun x => x) hf
  refine lv_topI e9 ?_
  refine lv_istore_n (lv' := [(2, .int v2_6), (0, .ref o), (1, .int v1)]) C.x C.b dX0_laws_5 rfl hl (by decide) rfl (fun ls hl => ?_)
  refine lv_iload_n C.x C.b dX0_laws_6 rfl (lv_at hl 0 rfl) ?_
  refine lv_if_ge (tgt := 12) C.x C.b dX0_laws_7 (by decide) (fun c9 => ?_) (fun c9 => ?_)
  · have hf := if_t (K := fun x => x) c9 hf
    refine lv_iconst (v := 0) C.x C.b dX0_laws_12 (by decide) ?_
    refine lv_istore_n (lv' := [(3, .int 0), (2, .int v2_6), (0, .ref o), (1, .int v1)]) C.x C.b dX0_laws_13 rfl hl (by decide) rfl (fun ls hl => ?_)
    refine lv_iconst (v := 0) C.x C.b dX0_laws_14 (by decide) ?_
    refine lv_istore (lv' := [(4, .int 0), (3, .int 0), (2, .int v2_6), (0, .ref o), (1, .int v1)]) C.x C.b dX0_laws_15 hl (by decide) rfl (fun ls hl => ?_)
    exact l17  fu 0 0 q_5.2 _ _ _ h (lv_sub hl [3, 4, 1, 0] rfl) hf
  · have hf := if_f (K := fun x => x) c9 hf
    refine lv_iload_n C.x C.b dX0_laws_10 rfl (lv_at hl 0 rfl) ?_
    exact hR _ _ (some_k hf) _ _ _ _ h rfl dX0_laws_11
def X_laysFits_j79 (τ : PS) (σ : PS) : Option (Int32 × PS) := some (0, σ)
def X_laysFits_j73 (τ : PS) (σ : PS) (v1 : Int32) (v2 : Int32) (v4 : Int32) : Option ((Int32 × PS) ⊕ (Int32 × PS)) := nm (v4 + 1) (fun v4_1 => some (.inl (v4_1, σ)))
def X_laysFits_l31 (τ : PS) (v1 : Int32) (v2 : Int32) (v4 : Int32) (σ : PS) : Option ((Int32 × PS) ⊕ (Int32 × PS)) := if 600 < v4 then up (X_laysFits_j79 τ σ) else ix v2 7 (nm (wA σ 5 v2 v4) (fun σ_2 => bd (X_isSo τ σ_2 v1) (fun q_3 => if q_3.1 = 0 then X_laysFits_j73 τ q_3.2 v1 v2 v4 else nm (sI q_3.2 25 ((gI q_3.2 25) + 1)) (fun σ_4 => ix (gI q_3.2 25) 601 (nm (wA σ_4 24 (gI q_3.2 25) v4) (fun σ_5 => X_laysFits_j73 τ σ_5 v1 v2 v4))))))
def X_laysFits_B31 (τ : PS) (v1 : Int32) (v2 : Int32) : (Int32 × PS) → Option ((Int32 × PS) ⊕ (Int32 × PS)) := fun t => X_laysFits_l31 τ v1 v2 t.1 t.2
def X_laysFits (τ : PS) (σ : PS) (v1 : Int32) (v2 : Int32) : Option (Int32 × PS) := bd (X_isZone σ v2) (fun q_6 => if q_6 = 0 then some ((-2), σ) else bd (X_asksSeen τ σ v1) (fun q_7 => nm (q_7.1) (fun v3_8 => if 0 ≤ v3_8 then nm (sI q_7.2 25 0) (fun σ_9 => loop (X_laysFits_B31 τ v1 v2) fu (0, σ_9)) else some (v3_8, q_7.2))))
set_option maxHeartbeats 4000000 in
theorem kX_laysFits (l : Launch) {D : va_G} {ty : Nat → ClassId} {A : Nat → Prop} {o : Nat} {ad : Nat → Nat} {rs : va_W} {σ : PS} {τ : PS} {σ' : PS} {v1 : Int32} {v2 : Int32} {r : Int32} (hf : X_laysFits τ σ v1 v2 = some (r, σ')) : KI l yX0_laysFits cX0_laysFits 5 .int 8 D ty A (wX ty o ad σ ++ (wS ty ad τ ++ rs)) (wX ty o ad σ' ++ (wS ty ad τ ++ rs)) [.ref o, .int v1, .int v2] r := by
  refine KI.of (by decide) (Nat.le_of_ble_eq_true rfl) ?_
  intro p e R s m args below meth c Q C hR
  have C : Cx p R s m args c cX0_laysFits 5 RX0 D ty A 8 := C
  have hR : ∀ (v : Int32) (σ2 : PS), (v, σ2) = (r, σ') → ∀ (H : Heap) (locs : List Loc) (pc : Nat) (ls : Array Slot), Hw D A s H locs (wX ty o ad σ2 ++ (wS ty ad τ ++ rs)) → narrow .int (.int v) = .int v → decode cX0_laysFits pc = .ok (.ireturn, 1) → W p l e R s m args below meth c H locs 0 0 Q (F0 m pc ls [.int v]) := by intro v σ2 e9; cases e9; exact hR
  have j79 : ∀ (σ : PS) (H : Heap) (locs : List Loc) (ls : Array Slot), Hw D A s H locs (wX ty o ad σ ++ (wS ty ad τ ++ rs)) → lv_has ls 5 [] → X_laysFits_j79 τ σ = some (r, σ') → W p l e R s m args below meth c H locs 0 0 Q (F0 m 79 ls []) := by
    intro σ H locs ls h hl hf
    unfold X_laysFits_j79 at hf
    refine lv_iconst (v := 0) C.x C.b dX0_laysFits_79 (by decide) ?_
    exact hR _ _ (some_k hf) _ _ _ _ h rfl dX0_laysFits_80
  have l31 : ∀ (n31 : Nat) (v4 : Int32) (σ : PS) (H : Heap) (locs : List Loc) (ls : Array Slot), Hw D A s H locs (wX ty o ad σ ++ (wS ty ad τ ++ rs)) → lv_has ls 5 [(0, .ref o), (1, .int v1), (2, .int v2), (4, .int v4)] → loop (X_laysFits_B31 τ v1 v2) n31 (v4, σ) = some (r, σ') → W p l e R s m args below meth c H locs 0 0 Q (F0 m 31 ls []) := by
    intro n31
    induction n31 with
    | zero => intro v4 σ H locs ls h hl hf; exact (none_k hf).elim
    | succ n31 ih31 =>
      have j73 : ∀ (σ : PS) (v4 : Int32) (H : Heap) (locs : List Loc) (ls : Array Slot), Hw D A s H locs (wX ty o ad σ ++ (wS ty ad τ ++ rs)) → lv_has ls 5 [(0, .ref o), (1, .int v1), (2, .int v2), (4, .int v4)] → bl (X_laysFits_B31 τ v1 v2) n31 (X_laysFits_j73 τ σ v1 v2 v4) = some (r, σ') → W p l e R s m args below meth c H locs 0 0 Q (F0 m 73 ls []) := by
        intro σ v4 H locs ls h hl hf
        unfold X_laysFits_j73 at hf
        obtain ⟨v4_1, e9, hf⟩ := nm_k (K := bl (X_laysFits_B31 τ v1 v2) n31) hf
        refine lv_iinc (v := v4_1) (lv' := [(4, .int v4_1), (0, .ref o), (1, .int v1), (2, .int v2)]) C.x C.b dX0_laysFits_73 hl (k := 3) rfl (iinc_e (k := 1) (by decide) e9) (by decide) rfl (fun ls hl => ?_)
        refine lv_goto (tgt := 31) C.x C.b dX0_laysFits_76 (by decide) ?_
        exact ih31 v4_1 σ _ _ _ h (lv_sub hl [1, 2, 3, 0] rfl) hf
      intro v4 σ H locs ls h hl hf
      have hf : bl (X_laysFits_B31 τ v1 v2) n31 (X_laysFits_l31 τ v1 v2 v4 σ) = some (r, σ') := hf
      unfold X_laysFits_l31 at hf
      refine lv_iload C.x C.b dX0_laysFits_31 (lv_at hl 3 rfl) ?_
      refine lv_sipush (v := 600) C.x C.b dX0_laysFits_33 (by decide) ?_
      refine lv_icmp_gt (tgt := 79) C.x C.b dX0_laysFits_36 (by decide) (fun c9 => ?_) (fun c9 => ?_)
      · have hf := if_t (K := bl (X_laysFits_B31 τ v1 v2) n31) c9 hf
        have hf := bl_upK (K := fun x => x) hf
        exact j79 σ _ _ _ h (lv_sub hl [] rfl) hf
      · have hf := if_f (K := bl (X_laysFits_B31 τ v1 v2) n31) c9 hf
        refine lv_aload_n C.x C.b dX0_laysFits_39 rfl (lv_at hl 0 rfl) ?_
        refine x_g5 C h dX0_laysFits_40 ?_
        refine lv_iload_n C.x C.b dX0_laysFits_43 rfl (lv_at hl 2 rfl) ?_
        refine lv_iload C.x C.b dX0_laysFits_44 (lv_at hl 3 rfl) ?_
        obtain ⟨hi, hf⟩ := ix_k (K := bl (X_laysFits_B31 τ v1 v2) n31) rfl hf
        obtain ⟨σ_2, e9, hf⟩ := nm_k (K := bl (X_laysFits_B31 τ v1 v2) n31) hf
        refine x_w5 C h hi e9 dX0_laysFits_46 (fun H locs h => ?_)
        refine lv_aload_n C.x C.b dX0_laysFits_47 rfl (lv_at hl 0 rfl) ?_
        refine lv_iload_n C.x C.b dX0_laysFits_48 rfl (lv_at hl 1 rfl) ?_
        obtain ⟨q_3, hc, hf⟩ := bd_k (K := bl (X_laysFits_B31 τ v1 v2) n31) rfl hf
        refine cX_isSo C h hc (Nat.le_of_ble_eq_true rfl) hl.1 (Nat.le_of_ble_eq_true rfl) dX0_laysFits_49 (fun H locs h => ?_)
        refine lv_if_eq (tgt := 73) C.x C.b dX0_laysFits_52 (by decide) (fun c9 => ?_) (fun c9 => ?_)
        · have hf := if_t (K := bl (X_laysFits_B31 τ v1 v2) n31) c9 hf
          exact j73 q_3.2 v4 _ _ _ h (lv_sub hl [0, 1, 2, 3] rfl) hf
        · have hf := if_f (K := bl (X_laysFits_B31 τ v1 v2) n31) c9 hf
          refine lv_aload_n C.x C.b dX0_laysFits_55 rfl (lv_at hl 0 rfl) ?_
          refine x_g24 C h dX0_laysFits_56 ?_
          refine lv_aload_n C.x C.b dX0_laysFits_59 rfl (lv_at hl 0 rfl) ?_
          refine lv_dup C.x C.b dX0_laysFits_60 rfl ?_
          refine x_g25 C h dX0_laysFits_61 ?_
          refine lv_dup_x1 C.x C.b dX0_laysFits_64 rfl rfl ?_
          refine lv_iconst (v := 1) C.x C.b dX0_laysFits_65 (by decide) ?_
          refine lv_iadd C.x C.b dX0_laysFits_66 ?_
          obtain ⟨σ_4, e9, hf⟩ := nm_k (K := bl (X_laysFits_B31 τ v1 v2) n31) hf
          refine x_p25 C h e9 dX0_laysFits_67 (fun H locs h => ?_)
          refine lv_iload C.x C.b dX0_laysFits_70 (lv_at hl 3 rfl) ?_
          obtain ⟨hi, hf⟩ := ix_k (K := bl (X_laysFits_B31 τ v1 v2) n31) rfl hf
          obtain ⟨σ_5, e9, hf⟩ := nm_k (K := bl (X_laysFits_B31 τ v1 v2) n31) hf
          refine x_w24 C h hi e9 dX0_laysFits_72 (fun H locs h => ?_)
          exact j73 σ_5 v4 _ _ _ h (lv_sub hl [0, 1, 2, 3] rfl) hf
  intro H locs ls h hl
  have hl : lv_has ls 5 [(0, .ref o), (1, .int v1), (2, .int v2)] := hl
  unfold X_laysFits at hf
  refine lv_aload_n C.x C.b dX0_laysFits_0 rfl (lv_at hl 0 rfl) ?_
  refine lv_iload_n C.x C.b dX0_laysFits_1 rfl (lv_at hl 2 rfl) ?_
  obtain ⟨q_6, hc, hf⟩ := bd_k (K := fun x => x) rfl hf
  refine cX_isZone C h hc (Nat.le_of_ble_eq_true rfl) hl.1 (Nat.le_of_ble_eq_true rfl) dX0_laysFits_2 (fun H locs h => ?_)
  refine lv_if_ne (tgt := 11) C.x C.b dX0_laysFits_5 (by decide) (fun c9 => ?_) (fun c9 => ?_)
  · have hf := if_f (K := fun x => x) c9 hf
    refine lv_aload_n C.x C.b dX0_laysFits_11 rfl (lv_at hl 0 rfl) ?_
    refine lv_iload_n C.x C.b dX0_laysFits_12 rfl (lv_at hl 1 rfl) ?_
    obtain ⟨q_7, hc, hf⟩ := bd_k (K := fun x => x) rfl hf
    refine cX_asksSeen C h hc (Nat.le_of_ble_eq_true rfl) hl.1 (Nat.le_of_ble_eq_true rfl) dX0_laysFits_13 (fun H locs h => ?_)
    obtain ⟨v3_8, e9, hf⟩ := nm_k (K := fun x => x) hf
    refine lv_topI e9 ?_
    refine lv_istore_n (lv' := [(3, .int v3_8), (0, .ref o), (1, .int v1), (2, .int v2)]) C.x C.b dX0_laysFits_16 rfl hl (by decide) rfl (fun ls hl => ?_)
    refine lv_iload_n C.x C.b dX0_laysFits_17 rfl (lv_at hl 0 rfl) ?_
    refine lv_if_ge (tgt := 23) C.x C.b dX0_laysFits_18 (by decide) (fun c9 => ?_) (fun c9 => ?_)
    · have hf := if_t (K := fun x => x) c9 hf
      refine lv_aload_n C.x C.b dX0_laysFits_23 rfl (lv_at hl 1 rfl) ?_
      refine lv_iconst (v := 0) C.x C.b dX0_laysFits_24 (by decide) ?_
      obtain ⟨σ_9, e9, hf⟩ := nm_k (K := fun x => x) hf
      refine x_p25 C h e9 dX0_laysFits_25 (fun H locs h => ?_)
      refine lv_iconst (v := 0) C.x C.b dX0_laysFits_28 (by decide) ?_
      refine lv_istore (lv' := [(4, .int 0), (3, .int v3_8), (0, .ref o), (1, .int v1), (2, .int v2)]) C.x C.b dX0_laysFits_29 hl (by decide) rfl (fun ls hl => ?_)
      exact l31  fu 0 σ_9 _ _ _ h (lv_sub hl [2, 3, 4, 0] rfl) hf
    · have hf := if_f (K := fun x => x) c9 hf
      refine lv_iload_n C.x C.b dX0_laysFits_21 rfl (lv_at hl 0 rfl) ?_
      exact hR _ _ (some_k hf) _ _ _ _ h rfl dX0_laysFits_22
  · have hf := if_t (K := fun x => x) c9 hf
    refine lv_bipush (v := (-2)) C.x C.b dX0_laysFits_8 (by decide) ?_
    exact hR _ _ (some_k hf) _ _ _ _ h rfl dX0_laysFits_10
theorem tX_laysFits : GoodIn lw_all (wsV RX0 383 RX0 yX0_laysFits (ws_ yX0_laysFits cX0_laysFits 5 (some .int))) := lw_V q1146 q1148 qs54 q137 q1149
theorem cX_laysFits {p : Program} {l : Launch} {e : Env} {R : Room} {s : State} {m : MethodId} {args : Array Value} {below : List Frame} {meth : Method} {c : Code} {H : Heap} {locs : List Loc} {Q : State → Prop} {cc : ByteArray} {pc : Nat} {ls : Array Slot} {st : List Value} {nL d : Nat} {D : va_G} {ty : Nat → ClassId} {A : Nat → Prop} {o : Nat} {ad : Nat → Nat} {rs : va_W} {σ : PS} {τ : PS} {v1 : Int32} {v2 : Int32} {q : (Int32 × PS)} (C : Cx p R s m args c cc nL RX0 D ty A d) (h : Hw D A s H locs (wX ty o ad σ ++ (wS ty ad τ ++ rs))) (hc : X_laysFits τ σ v1 v2 = some q) (hd : 8 + 1 ≤ d) (hls : ls.size = nL) (hcat : (st.map fun v => v.category).sum ≤ 8) (dec : decode cc pc = .ok (.invokevirtual 383, 3)) (kk : ∀ (H : Heap) (locs : List Loc), Hw D A s H locs (wX ty o ad q.2 ++ (wS ty ad τ ++ rs)) → W p l e R s m args below meth c H locs 0 0 Q (F0 m (pc + 3) ls (.int (q.1) :: st))) : W p l e R s m args below meth c H locs 0 0 Q (F0 m pc ls (.int v2 :: .int v1 :: .ref o :: st)) := KI.callV (As := [.int v1, .int v2]) C (kX_laysFits l hc) tX_laysFits ⟨rfl, by decide, by decide, by show _ = some 2; decide +kernel⟩ 0 0 rfl rfl rfl hd (by decide) (Nat.zero_le _) (Nat.zero_le _) h hls rfl hcat dec kk
def X_low_j32 (τ : PS) (σ : PS) (x0 : Int32) : Option (Int32 × PS) := some (x0, σ)
def X_low (τ : PS) (σ : PS) (v1 : Int32) (v2 : Int32) : Option (Int32 × PS) := bd (X_laysFits τ σ v1 v2) (fun q_1 => nm (q_1.1) (fun v3_2 => if 0 ≤ v3_2 then if (gI q_1.2 25) = 0 then X_low_j32 τ q_1.2 ((-1)) else ix 0 601 (X_low_j32 τ q_1.2 (rA q_1.2 24 0)) else X_low_j32 τ q_1.2 v3_2))
set_option maxHeartbeats 4000000 in
theorem kX_low (l : Launch) {D : va_G} {ty : Nat → ClassId} {A : Nat → Prop} {o : Nat} {ad : Nat → Nat} {rs : va_W} {σ : PS} {τ : PS} {σ' : PS} {v1 : Int32} {v2 : Int32} {r : Int32} (hf : X_low τ σ v1 v2 = some (r, σ')) : KI l yX0_low cX0_low 4 .int 9 D ty A (wX ty o ad σ ++ (wS ty ad τ ++ rs)) (wX ty o ad σ' ++ (wS ty ad τ ++ rs)) [.ref o, .int v1, .int v2] r := by
  refine KI.of (by decide) (Nat.le_of_ble_eq_true rfl) ?_
  intro p e R s m args below meth c Q C hR
  have C : Cx p R s m args c cX0_low 4 RX0 D ty A 9 := C
  have hR : ∀ (v : Int32) (σ2 : PS), (v, σ2) = (r, σ') → ∀ (H : Heap) (locs : List Loc) (pc : Nat) (ls : Array Slot), Hw D A s H locs (wX ty o ad σ2 ++ (wS ty ad τ ++ rs)) → narrow .int (.int v) = .int v → decode cX0_low pc = .ok (.ireturn, 1) → W p l e R s m args below meth c H locs 0 0 Q (F0 m pc ls [.int v]) := by intro v σ2 e9; cases e9; exact hR
  have j32 : ∀ (σ : PS) (x0 : Int32) (H : Heap) (locs : List Loc) (ls : Array Slot), Hw D A s H locs (wX ty o ad σ ++ (wS ty ad τ ++ rs)) → lv_has ls 4 [] → X_low_j32 τ σ x0 = some (r, σ') → W p l e R s m args below meth c H locs 0 0 Q (F0 m 32 ls [.int x0]) := by
    intro σ x0 H locs ls h hl hf
    unfold X_low_j32 at hf
    exact hR _ _ (some_k hf) _ _ _ _ h rfl dX0_low_32
  intro H locs ls h hl
  have hl : lv_has ls 4 [(0, .ref o), (1, .int v1), (2, .int v2)] := hl
  unfold X_low at hf
  refine lv_aload_n C.x C.b dX0_low_0 rfl (lv_at hl 0 rfl) ?_
  refine lv_iload_n C.x C.b dX0_low_1 rfl (lv_at hl 1 rfl) ?_
  refine lv_iload_n C.x C.b dX0_low_2 rfl (lv_at hl 2 rfl) ?_
  obtain ⟨q_1, hc, hf⟩ := bd_k (K := fun x => x) rfl hf
  refine cX_laysFits C h hc (Nat.le_of_ble_eq_true rfl) hl.1 (Nat.le_of_ble_eq_true rfl) dX0_low_3 (fun H locs h => ?_)
  obtain ⟨v3_2, e9, hf⟩ := nm_k (K := fun x => x) hf
  refine lv_topI e9 ?_
  refine lv_istore_n (lv' := [(3, .int v3_2), (0, .ref o), (1, .int v1), (2, .int v2)]) C.x C.b dX0_low_6 rfl hl (by decide) rfl (fun ls hl => ?_)
  refine lv_iload_n C.x C.b dX0_low_7 rfl (lv_at hl 0 rfl) ?_
  refine lv_if_ge (tgt := 15) C.x C.b dX0_low_8 (by decide) (fun c9 => ?_) (fun c9 => ?_)
  · have hf := if_t (K := fun x => x) c9 hf
    refine lv_aload_n C.x C.b dX0_low_15 rfl (lv_at hl 1 rfl) ?_
    refine x_g25 C h dX0_low_16 ?_
    refine lv_if_ne (tgt := 26) C.x C.b dX0_low_19 (by decide) (fun c9 => ?_) (fun c9 => ?_)
    · have hf := if_f (K := fun x => x) c9 hf
      refine lv_aload_n C.x C.b dX0_low_26 rfl (lv_at hl 1 rfl) ?_
      refine x_g24 C h dX0_low_27 ?_
      refine lv_iconst (v := 0) C.x C.b dX0_low_30 (by decide) ?_
      obtain ⟨hi, hf⟩ := ix_k (K := fun x => x) rfl hf
      refine x_a24 C h hi dX0_low_31 ?_
      exact j32 q_1.2 (rA q_1.2 24 0) _ _ _ h (lv_sub hl [] rfl) hf
    · have hf := if_t (K := fun x => x) c9 hf
      refine lv_iconst (v := (-1)) C.x C.b dX0_low_22 (by decide) ?_
      refine lv_goto (tgt := 32) C.x C.b dX0_low_23 (by decide) ?_
      exact j32 q_1.2 ((-1)) _ _ _ h (lv_sub hl [] rfl) hf
  · have hf := if_f (K := fun x => x) c9 hf
    refine lv_iload_n C.x C.b dX0_low_11 rfl (lv_at hl 0 rfl) ?_
    refine lv_goto (tgt := 32) C.x C.b dX0_low_12 (by decide) ?_
    exact j32 q_1.2 v3_2 _ _ _ h (lv_sub hl [] rfl) hf
def X_high_j37 (τ : PS) (σ : PS) (x0 : Int32) : Option (Int32 × PS) := some (x0, σ)
def X_high (τ : PS) (σ : PS) (v1 : Int32) (v2 : Int32) : Option (Int32 × PS) := bd (X_laysFits τ σ v1 v2) (fun q_1 => nm (q_1.1) (fun v3_2 => if 0 ≤ v3_2 then if (gI q_1.2 25) = 0 then X_high_j37 τ q_1.2 ((-1)) else ix ((gI q_1.2 25) - 1) 601 (X_high_j37 τ q_1.2 (rA q_1.2 24 ((gI q_1.2 25) - 1))) else X_high_j37 τ q_1.2 v3_2))
set_option maxHeartbeats 4000000 in
theorem kX_high (l : Launch) {D : va_G} {ty : Nat → ClassId} {A : Nat → Prop} {o : Nat} {ad : Nat → Nat} {rs : va_W} {σ : PS} {τ : PS} {σ' : PS} {v1 : Int32} {v2 : Int32} {r : Int32} (hf : X_high τ σ v1 v2 = some (r, σ')) : KI l yX0_high cX0_high 4 .int 9 D ty A (wX ty o ad σ ++ (wS ty ad τ ++ rs)) (wX ty o ad σ' ++ (wS ty ad τ ++ rs)) [.ref o, .int v1, .int v2] r := by
  refine KI.of (by decide) (Nat.le_of_ble_eq_true rfl) ?_
  intro p e R s m args below meth c Q C hR
  have C : Cx p R s m args c cX0_high 4 RX0 D ty A 9 := C
  have hR : ∀ (v : Int32) (σ2 : PS), (v, σ2) = (r, σ') → ∀ (H : Heap) (locs : List Loc) (pc : Nat) (ls : Array Slot), Hw D A s H locs (wX ty o ad σ2 ++ (wS ty ad τ ++ rs)) → narrow .int (.int v) = .int v → decode cX0_high pc = .ok (.ireturn, 1) → W p l e R s m args below meth c H locs 0 0 Q (F0 m pc ls [.int v]) := by intro v σ2 e9; cases e9; exact hR
  have j37 : ∀ (σ : PS) (x0 : Int32) (H : Heap) (locs : List Loc) (ls : Array Slot), Hw D A s H locs (wX ty o ad σ ++ (wS ty ad τ ++ rs)) → lv_has ls 4 [] → X_high_j37 τ σ x0 = some (r, σ') → W p l e R s m args below meth c H locs 0 0 Q (F0 m 37 ls [.int x0]) := by
    intro σ x0 H locs ls h hl hf
    unfold X_high_j37 at hf
    exact hR _ _ (some_k hf) _ _ _ _ h rfl dX0_high_37
  intro H locs ls h hl
  have hl : lv_has ls 4 [(0, .ref o), (1, .int v1), (2, .int v2)] := hl
  unfold X_high at hf
  refine lv_aload_n C.x C.b dX0_high_0 rfl (lv_at hl 0 rfl) ?_
  refine lv_iload_n C.x C.b dX0_high_1 rfl (lv_at hl 1 rfl) ?_
  refine lv_iload_n C.x C.b dX0_high_2 rfl (lv_at hl 2 rfl) ?_
  obtain ⟨q_1, hc, hf⟩ := bd_k (K := fun x => x) rfl hf
  refine cX_laysFits C h hc (Nat.le_of_ble_eq_true rfl) hl.1 (Nat.le_of_ble_eq_true rfl) dX0_high_3 (fun H locs h => ?_)
  obtain ⟨v3_2, e9, hf⟩ := nm_k (K := fun x => x) hf
  refine lv_topI e9 ?_
  refine lv_istore_n (lv' := [(3, .int v3_2), (0, .ref o), (1, .int v1), (2, .int v2)]) C.x C.b dX0_high_6 rfl hl (by decide) rfl (fun ls hl => ?_)
  refine lv_iload_n C.x C.b dX0_high_7 rfl (lv_at hl 0 rfl) ?_
  refine lv_if_ge (tgt := 15) C.x C.b dX0_high_8 (by decide) (fun c9 => ?_) (fun c9 => ?_)
  · have hf := if_t (K := fun x => x) c9 hf
    refine lv_aload_n C.x C.b dX0_high_15 rfl (lv_at hl 1 rfl) ?_
    refine x_g25 C h dX0_high_16 ?_
    refine lv_if_ne (tgt := 26) C.x C.b dX0_high_19 (by decide) (fun c9 => ?_) (fun c9 => ?_)
    · have hf := if_f (K := fun x => x) c9 hf
      refine lv_aload_n C.x C.b dX0_high_26 rfl (lv_at hl 1 rfl) ?_
      refine x_g24 C h dX0_high_27 ?_
      refine lv_aload_n C.x C.b dX0_high_30 rfl (lv_at hl 1 rfl) ?_
      refine x_g25 C h dX0_high_31 ?_
      refine lv_iconst (v := 1) C.x C.b dX0_high_34 (by decide) ?_
      refine lv_isub C.x C.b dX0_high_35 ?_
      obtain ⟨hi, hf⟩ := ix_k (K := fun x => x) rfl hf
      refine x_a24 C h hi dX0_high_36 ?_
      exact j37 q_1.2 (rA q_1.2 24 ((gI q_1.2 25) - 1)) _ _ _ h (lv_sub hl [] rfl) hf
    · have hf := if_t (K := fun x => x) c9 hf
      refine lv_iconst (v := (-1)) C.x C.b dX0_high_22 (by decide) ?_
      refine lv_goto (tgt := 37) C.x C.b dX0_high_23 (by decide) ?_
      exact j37 q_1.2 ((-1)) _ _ _ h (lv_sub hl [] rfl) hf
  · have hf := if_f (K := fun x => x) c9 hf
    refine lv_iload_n C.x C.b dX0_high_11 rfl (lv_at hl 0 rfl) ?_
    refine lv_goto (tgt := 37) C.x C.b dX0_high_12 (by decide) ?_
    exact j37 q_1.2 v3_2 _ _ _ h (lv_sub hl [] rfl) hf
def X_airs_j19 (τ : PS) (σ : PS) (x0 : Int32) : Option (Int32 × PS) := some (x0, σ)
def X_airs (τ : PS) (σ : PS) (v1 : Int32) (v2 : Int32) : Option (Int32 × PS) := bd (X_laysFits τ σ v1 v2) (fun q_1 => nm (q_1.1) (fun v3_2 => if 0 ≤ v3_2 then X_airs_j19 τ q_1.2 (gI q_1.2 25) else X_airs_j19 τ q_1.2 v3_2))
set_option maxHeartbeats 4000000 in
theorem kX_airs (l : Launch) {D : va_G} {ty : Nat → ClassId} {A : Nat → Prop} {o : Nat} {ad : Nat → Nat} {rs : va_W} {σ : PS} {τ : PS} {σ' : PS} {v1 : Int32} {v2 : Int32} {r : Int32} (hf : X_airs τ σ v1 v2 = some (r, σ')) : KI l yX0_airs cX0_airs 4 .int 9 D ty A (wX ty o ad σ ++ (wS ty ad τ ++ rs)) (wX ty o ad σ' ++ (wS ty ad τ ++ rs)) [.ref o, .int v1, .int v2] r := by
  refine KI.of (by decide) (Nat.le_of_ble_eq_true rfl) ?_
  intro p e R s m args below meth c Q C hR
  have C : Cx p R s m args c cX0_airs 4 RX0 D ty A 9 := C
  have hR : ∀ (v : Int32) (σ2 : PS), (v, σ2) = (r, σ') → ∀ (H : Heap) (locs : List Loc) (pc : Nat) (ls : Array Slot), Hw D A s H locs (wX ty o ad σ2 ++ (wS ty ad τ ++ rs)) → narrow .int (.int v) = .int v → decode cX0_airs pc = .ok (.ireturn, 1) → W p l e R s m args below meth c H locs 0 0 Q (F0 m pc ls [.int v]) := by intro v σ2 e9; cases e9; exact hR
  have j19 : ∀ (σ : PS) (x0 : Int32) (H : Heap) (locs : List Loc) (ls : Array Slot), Hw D A s H locs (wX ty o ad σ ++ (wS ty ad τ ++ rs)) → lv_has ls 4 [] → X_airs_j19 τ σ x0 = some (r, σ') → W p l e R s m args below meth c H locs 0 0 Q (F0 m 19 ls [.int x0]) := by
    intro σ x0 H locs ls h hl hf
    unfold X_airs_j19 at hf
    exact hR _ _ (some_k hf) _ _ _ _ h rfl dX0_airs_19
  intro H locs ls h hl
  have hl : lv_has ls 4 [(0, .ref o), (1, .int v1), (2, .int v2)] := hl
  unfold X_airs at hf
  refine lv_aload_n C.x C.b dX0_airs_0 rfl (lv_at hl 0 rfl) ?_
  refine lv_iload_n C.x C.b dX0_airs_1 rfl (lv_at hl 1 rfl) ?_
  refine lv_iload_n C.x C.b dX0_airs_2 rfl (lv_at hl 2 rfl) ?_
  obtain ⟨q_1, hc, hf⟩ := bd_k (K := fun x => x) rfl hf
  refine cX_laysFits C h hc (Nat.le_of_ble_eq_true rfl) hl.1 (Nat.le_of_ble_eq_true rfl) dX0_airs_3 (fun H locs h => ?_)
  obtain ⟨v3_2, e9, hf⟩ := nm_k (K := fun x => x) hf
  refine lv_topI e9 ?_
  refine lv_istore_n (lv' := [(3, .int v3_2), (0, .ref o), (1, .int v1), (2, .int v2)]) C.x C.b dX0_airs_6 rfl hl (by decide) rfl (fun ls hl => ?_)
  refine lv_iload_n C.x C.b dX0_airs_7 rfl (lv_at hl 0 rfl) ?_
  refine lv_if_ge (tgt := 15) C.x C.b dX0_airs_8 (by decide) (fun c9 => ?_) (fun c9 => ?_)
  · have hf := if_t (K := fun x => x) c9 hf
    refine lv_aload_n C.x C.b dX0_airs_15 rfl (lv_at hl 1 rfl) ?_
    refine x_g25 C h dX0_airs_16 ?_
    exact j19 q_1.2 (gI q_1.2 25) _ _ _ h (lv_sub hl [] rfl) hf
  · have hf := if_f (K := fun x => x) c9 hf
    refine lv_iload_n C.x C.b dX0_airs_11 rfl (lv_at hl 0 rfl) ?_
    refine lv_goto (tgt := 19) C.x C.b dX0_airs_12 (by decide) ?_
    exact j19 q_1.2 v3_2 _ _ _ h (lv_sub hl [] rfl) hf
