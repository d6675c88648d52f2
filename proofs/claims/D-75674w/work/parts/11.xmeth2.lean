set_option maxRecDepth 100000
def X_cools_j123 (σ : PS) : Option PS := some σ
def X_cools_j28 (σ : PS) : Option PS := some σ
def X_cools (σ : PS) (v1 : Int32) (v2 : Int32) : Option PS := bd (X_placeOf σ v1 v2) (fun q_1 => if q_1 = ((-1)) then X_cools_j28 σ else if q_1 = 10 then X_cools_j28 σ else ix v1 6 (if (rA σ 20 v1) = ((-1)) then ix v1 6 (lgd (gI σ 13) (lgd (gI σ 13) (bd (X_goal σ v1 q_1 v2) (fun q_4 => ix v1 6 (bd (X_goes σ (q_4 - (rA σ 14 v1))) (fun q_5 => ix v1 6 (nm (wA σ 14 v1 ((rA σ 14 v1) + q_5)) (fun σ_6 => ix v1 6 (nm (rA σ_6 15 v1) (fun v4_7 => ix v1 6 (ix v1 6 (ix v1 6 (nz (rA σ_6 8 v1) (ix v1 6 (nm (wA σ_6 15 v1 ((rA σ_6 15 v1) + (((rA σ_6 14 v1) - v4_7) / (rA σ_6 8 v1)))) (fun σ_8 => if v4_7 < (gI σ_8 104) then X_cools_j123 σ_8 else ix v1 6 (if (rA σ_8 15 v1) < (gI σ_8 104) then bd (X_strainNow σ_8 v1) (fun q_9 => ix v1 6 (nm (wA σ_8 22 v1 q_9) (fun σ_10 => ix v1 6 (nm (wA σ_10 23 v1 (v2 + 1)) (fun σ_11 => some σ_11))))) else X_cools_j123 σ_8))))))))))))))))) else X_cools_j28 σ))
set_option maxHeartbeats 4000000 in
theorem kX_cools (l : Launch) {D : va_G} {ty : Nat → ClassId} {A : Nat → Prop} {o : Nat} {ad : Nat → Nat} {rs : va_W} {σ : PS} {σ' : PS} {v1 : Int32} {v2 : Int32} (hf : X_cools σ v1 v2 = some σ') : KV l yX0_cools cX0_cools 5 5 D ty A (wX ty o ad σ ++ rs) (wX ty o ad σ' ++ rs) [.ref o, .int v1, .int v2] := by
  refine KV.of (by decide) (Nat.le_of_ble_eq_true rfl) ?_
  intro p e R s m args below meth c Q C hR
  have C : Cx p R s m args c cX0_cools 5 RX0 D ty A 5 := C
  have hR : ∀ (σ2 : PS), σ2 = σ' → ∀ (H : Heap) (locs : List Loc) (pc : Nat) (ls : Array Slot), Hw D A s H locs (wX ty o ad σ2 ++ rs) → decode cX0_cools pc = .ok (.return_, 1) → W p l e R s m args below meth c H locs 0 0 Q (F0 m pc ls []) := by intro σ2 e9; cases e9; exact hR
  have j123 : ∀ (σ : PS) (H : Heap) (locs : List Loc) (ls : Array Slot), Hw D A s H locs (wX ty o ad σ ++ rs) → lv_has ls 5 [] → X_cools_j123 σ = some σ' → W p l e R s m args below meth c H locs 0 0 Q (F0 m 123 ls []) := by
    intro σ H locs ls h hl hf
    unfold X_cools_j123 at hf
    exact hR _ (some_k hf) _ _ _ _ h dX0_cools_123
  have j28 : ∀ (σ : PS) (H : Heap) (locs : List Loc) (ls : Array Slot), Hw D A s H locs (wX ty o ad σ ++ rs) → lv_has ls 5 [] → X_cools_j28 σ = some σ' → W p l e R s m args below meth c H locs 0 0 Q (F0 m 28 ls []) := by
    intro σ H locs ls h hl hf
    unfold X_cools_j28 at hf
    exact hR _ (some_k hf) _ _ _ _ h dX0_cools_28
  intro H locs ls h hl
  have hl : lv_has ls 5 [(0, .ref o), (1, .int v1), (2, .int v2)] := hl
  unfold X_cools at hf
  refine lv_aload_n C.x C.b dX0_cools_0 rfl (lv_at hl 0 rfl) ?_
  refine lv_iload_n C.x C.b dX0_cools_1 rfl (lv_at hl 1 rfl) ?_
  refine lv_iload_n C.x C.b dX0_cools_2 rfl (lv_at hl 2 rfl) ?_
  obtain ⟨q_1, hc, hf⟩ := bd_k (K := fun x => x) rfl hf
  refine cX_placeOf C h hc (Nat.le_of_ble_eq_true rfl) hl.1 (Nat.le_of_ble_eq_true rfl) dX0_cools_3 (fun H locs h => ?_)
  refine lv_istore_n (lv' := [(3, .int q_1), (0, .ref o), (1, .int v1), (2, .int v2)]) C.x C.b dX0_cools_6 rfl hl (by decide) rfl (fun ls hl => ?_)
  refine lv_iload_n C.x C.b dX0_cools_7 rfl (lv_at hl 0 rfl) ?_
  refine lv_iconst (v := (-1)) C.x C.b dX0_cools_8 (by decide) ?_
  refine lv_icmp_eq (tgt := 28) C.x C.b dX0_cools_9 (by decide) (fun c9 => ?_) (fun c9 => ?_)
  · have hf := if_t (K := fun x => x) c9 hf
    exact j28 σ _ _ _ h (lv_sub hl [] rfl) hf
  · have hf := if_f (K := fun x => x) c9 hf
    refine lv_iload_n C.x C.b dX0_cools_12 rfl (lv_at hl 0 rfl) ?_
    refine lv_bipush (v := 10) C.x C.b dX0_cools_13 (by decide) ?_
    refine lv_icmp_eq (tgt := 28) C.x C.b dX0_cools_15 (by decide) (fun c9 => ?_) (fun c9 => ?_)
    · have hf := if_t (K := fun x => x) c9 hf
      exact j28 σ _ _ _ h (lv_sub hl [] rfl) hf
    · have hf := if_f (K := fun x => x) c9 hf
      refine lv_aload_n C.x C.b dX0_cools_18 rfl (lv_at hl 1 rfl) ?_
      refine x_g20 C h dX0_cools_19 ?_
      refine lv_iload_n C.x C.b dX0_cools_22 rfl (lv_at hl 2 rfl) ?_
      obtain ⟨hi, hf⟩ := ix_k (K := fun x => x) rfl hf
      refine x_a20 C h hi dX0_cools_23 ?_
      refine lv_iconst (v := (-1)) C.x C.b dX0_cools_24 (by decide) ?_
      refine lv_icmp_eq (tgt := 29) C.x C.b dX0_cools_25 (by decide) (fun c9 => ?_) (fun c9 => ?_)
      · have hf := if_t (K := fun x => x) c9 hf
        refine lv_aload_n C.x C.b dX0_cools_29 rfl (lv_at hl 1 rfl) ?_
        refine x_g14 C h dX0_cools_30 ?_
        refine lv_iload_n C.x C.b dX0_cools_33 rfl (lv_at hl 2 rfl) ?_
        refine lv_dup2_11 C.x C.b dX0_cools_34 rfl rfl ?_
        obtain ⟨hi, hf⟩ := ix_k (K := fun x => x) rfl hf
        refine x_a14 C h hi dX0_cools_35 ?_
        refine lv_aload_n C.x C.b dX0_cools_36 rfl (lv_at hl 1 rfl) ?_
        obtain ⟨hg, hf⟩ := lgd_k (K := fun x => x) rfl hf
        obtain ⟨la_2, hla_2⟩ := law_some (ad := ad) hg
        refine x_g13 C h hla_2 dX0_cools_37 ?_
        refine lv_aload_n C.x C.b dX0_cools_40 rfl (lv_at hl 1 rfl) ?_
        obtain ⟨hg, hf⟩ := lgd_k (K := fun x => x) rfl hf
        obtain ⟨la_3, hla_3⟩ := law_some (ad := ad) hg
        refine x_g13 C h hla_3 dX0_cools_41 ?_
        refine lv_iload_n C.x C.b dX0_cools_44 rfl (lv_at hl 2 rfl) ?_
        refine lv_iload_n C.x C.b dX0_cools_45 rfl (lv_at hl 0 rfl) ?_
        refine lv_iload_n C.x C.b dX0_cools_46 rfl (lv_at hl 3 rfl) ?_
        obtain ⟨q_4, hc, hf⟩ := bd_k (K := fun x => x) rfl hf
        refine cX_goal (hla := hla_3) C h hc (Nat.le_of_ble_eq_true rfl) hl.1 (Nat.le_of_ble_eq_true rfl) dX0_cools_47 (fun H locs h => ?_)
        refine lv_aload_n C.x C.b dX0_cools_50 rfl (lv_at hl 1 rfl) ?_
        refine x_g14 C h dX0_cools_51 ?_
        refine lv_iload_n C.x C.b dX0_cools_54 rfl (lv_at hl 2 rfl) ?_
        obtain ⟨hi, hf⟩ := ix_k (K := fun x => x) rfl hf
        refine x_a14 C h hi dX0_cools_55 ?_
        refine lv_isub C.x C.b dX0_cools_56 ?_
        obtain ⟨q_5, hc, hf⟩ := bd_k (K := fun x => x) rfl hf
        refine cX_goes (hla := hla_2) C h hc (Nat.le_of_ble_eq_true rfl) hl.1 (Nat.le_of_ble_eq_true rfl) dX0_cools_57 (fun H locs h => ?_)
        refine lv_iadd C.x C.b dX0_cools_60 ?_
        obtain ⟨hi, hf⟩ := ix_k (K := fun x => x) rfl hf
        obtain ⟨σ_6, e9, hf⟩ := nm_k (K := fun x => x) hf
        refine x_w14 C h hi e9 dX0_cools_61 (fun H locs h => ?_)
        refine lv_aload_n C.x C.b dX0_cools_62 rfl (lv_at hl 1 rfl) ?_
        refine x_g15 C h dX0_cools_63 ?_
        refine lv_iload_n C.x C.b dX0_cools_66 rfl (lv_at hl 2 rfl) ?_
        obtain ⟨hi, hf⟩ := ix_k (K := fun x => x) rfl hf
        refine x_a15 C h hi dX0_cools_67 ?_
        obtain ⟨v4_7, e9, hf⟩ := nm_k (K := fun x => x) hf
        refine lv_topI e9 ?_
        refine lv_istore (lv' := [(4, .int v4_7), (3, .int q_1), (0, .ref o), (1, .int v1), (2, .int v2)]) C.x C.b dX0_cools_68 hl (by decide) rfl (fun ls hl => ?_)
        refine lv_aload_n C.x C.b dX0_cools_70 rfl (lv_at hl 2 rfl) ?_
        refine x_g15 C h dX0_cools_71 ?_
        refine lv_iload_n C.x C.b dX0_cools_74 rfl (lv_at hl 3 rfl) ?_
        refine lv_dup2_11 C.x C.b dX0_cools_75 rfl rfl ?_
        obtain ⟨hi, hf⟩ := ix_k (K := fun x => x) rfl hf
        refine x_a15 C h hi dX0_cools_76 ?_
        refine lv_aload_n C.x C.b dX0_cools_77 rfl (lv_at hl 2 rfl) ?_
        refine x_g14 C h dX0_cools_78 ?_
        refine lv_iload_n C.x C.b dX0_cools_81 rfl (lv_at hl 3 rfl) ?_
        obtain ⟨hi, hf⟩ := ix_k (K := fun x => x) rfl hf
        refine x_a14 C h hi dX0_cools_82 ?_
        refine lv_iload C.x C.b dX0_cools_83 (lv_at hl 0 rfl) ?_
        refine lv_isub C.x C.b dX0_cools_85 ?_
        refine lv_aload_n C.x C.b dX0_cools_86 rfl (lv_at hl 2 rfl) ?_
        refine x_g8 C h dX0_cools_87 ?_
        refine lv_iload_n C.x C.b dX0_cools_90 rfl (lv_at hl 3 rfl) ?_
        obtain ⟨hi, hf⟩ := ix_k (K := fun x => x) rfl hf
        refine x_a8 C h hi dX0_cools_91 ?_
        obtain ⟨hz, hf⟩ := nz_k (K := fun x => x) rfl hf
        refine lv_idiv C.x C.b dX0_cools_92 hz ?_
        refine lv_iadd C.x C.b dX0_cools_93 ?_
        obtain ⟨hi, hf⟩ := ix_k (K := fun x => x) rfl hf
        obtain ⟨σ_8, e9, hf⟩ := nm_k (K := fun x => x) hf
        refine x_w15 C h hi e9 dX0_cools_94 (fun H locs h => ?_)
        refine lv_iload C.x C.b dX0_cools_95 (lv_at hl 0 rfl) ?_
        refine lv_aload_n C.x C.b dX0_cools_97 rfl (lv_at hl 2 rfl) ?_
        refine x_g0 C h dX0_cools_98 ?_
        refine x_g104 C h dX0_cools_101 ?_
        refine lv_icmp_lt (tgt := 123) C.x C.b dX0_cools_104 (by decide) (fun c9 => ?_) (fun c9 => ?_)
        · have hf := if_t (K := fun x => x) c9 hf
          exact j123 σ_8 _ _ _ h (lv_sub hl [] rfl) hf
        · have hf := if_f (K := fun x => x) c9 hf
          refine lv_aload_n C.x C.b dX0_cools_107 rfl (lv_at hl 2 rfl) ?_
          refine x_g15 C h dX0_cools_108 ?_
          refine lv_iload_n C.x C.b dX0_cools_111 rfl (lv_at hl 3 rfl) ?_
          obtain ⟨hi, hf⟩ := ix_k (K := fun x => x) rfl hf
          refine x_a15 C h hi dX0_cools_112 ?_
          refine lv_aload_n C.x C.b dX0_cools_113 rfl (lv_at hl 2 rfl) ?_
          refine x_g0 C h dX0_cools_114 ?_
          refine x_g104 C h dX0_cools_117 ?_
          refine lv_icmp_lt (tgt := 124) C.x C.b dX0_cools_120 (by decide) (fun c9 => ?_) (fun c9 => ?_)
          · have hf := if_t (K := fun x => x) c9 hf
            refine lv_aload_n C.x C.b dX0_cools_124 rfl (lv_at hl 2 rfl) ?_
            refine x_g22 C h dX0_cools_125 ?_
            refine lv_iload_n C.x C.b dX0_cools_128 rfl (lv_at hl 3 rfl) ?_
            refine lv_aload_n C.x C.b dX0_cools_129 rfl (lv_at hl 2 rfl) ?_
            refine lv_iload_n C.x C.b dX0_cools_130 rfl (lv_at hl 3 rfl) ?_
            obtain ⟨q_9, hc, hf⟩ := bd_k (K := fun x => x) rfl hf
            refine cX_strainNow C h hc (Nat.le_of_ble_eq_true rfl) hl.1 (Nat.le_of_ble_eq_true rfl) dX0_cools_131 (fun H locs h => ?_)
            obtain ⟨hi, hf⟩ := ix_k (K := fun x => x) rfl hf
            obtain ⟨σ_10, e9, hf⟩ := nm_k (K := fun x => x) hf
            refine x_w22 C h hi e9 dX0_cools_134 (fun H locs h => ?_)
            refine lv_aload_n C.x C.b dX0_cools_135 rfl (lv_at hl 2 rfl) ?_
            refine x_g23 C h dX0_cools_136 ?_
            refine lv_iload_n C.x C.b dX0_cools_139 rfl (lv_at hl 3 rfl) ?_
            refine lv_iload_n C.x C.b dX0_cools_140 rfl (lv_at hl 4 rfl) ?_
            refine lv_iconst (v := 1) C.x C.b dX0_cools_141 (by decide) ?_
            refine lv_iadd C.x C.b dX0_cools_142 ?_
            obtain ⟨hi, hf⟩ := ix_k (K := fun x => x) rfl hf
            obtain ⟨σ_11, e9, hf⟩ := nm_k (K := fun x => x) hf
            refine x_w23 C h hi e9 dX0_cools_143 (fun H locs h => ?_)
            exact hR _ (some_k hf) _ _ _ _ h dX0_cools_144
          · have hf := if_f (K := fun x => x) c9 hf
            exact j123 σ_8 _ _ _ h (lv_sub hl [] rfl) hf
      · have hf := if_f (K := fun x => x) c9 hf
        exact j28 σ _ _ _ h (lv_sub hl [] rfl) hf
theorem tX_cools : GoodIn lw_all (wsV RX0 251 RX0 yX0_cools (ws_ yX0_cools cX0_cools 5 none)) := lw_V q774 q776 qs26 q137 q777
theorem cX_cools {p : Program} {l : Launch} {e : Env} {R : Room} {s : State} {m : MethodId} {args : Array Value} {below : List Frame} {meth : Method} {c : Code} {H : Heap} {locs : List Loc} {Q : State → Prop} {cc : ByteArray} {pc : Nat} {ls : Array Slot} {st : List Value} {nL d : Nat} {D : va_G} {ty : Nat → ClassId} {A : Nat → Prop} {o : Nat} {ad : Nat → Nat} {rs : va_W} {σ : PS} {v1 : Int32} {v2 : Int32} {q : PS} (C : Cx p R s m args c cc nL RX0 D ty A d) (h : Hw D A s H locs (wX ty o ad σ ++ rs)) (hc : X_cools σ v1 v2 = some q) (hd : 5 + 1 ≤ d) (hls : ls.size = nL) (hcat : (st.map fun v => v.category).sum ≤ 8) (dec : decode cc pc = .ok (.invokevirtual 251, 3)) (kk : ∀ (H : Heap) (locs : List Loc), Hw D A s H locs (wX ty o ad q ++ rs) → W p l e R s m args below meth c H locs 0 0 Q (F0 m (pc + 3) ls (st))) : W p l e R s m args below meth c H locs 0 0 Q (F0 m pc ls (.int v2 :: .int v1 :: .ref o :: st)) := KV.callV (As := [.int v1, .int v2]) C (kX_cools l hc) tX_cools ⟨rfl, by decide, by decide, by show _ = some 2; decide +kernel⟩ 0 0 rfl rfl rfl hd (by decide) (Nat.zero_le _) (Nat.zero_le _) h hls rfl hcat dec kk
def X_lays_j136 (σ : PS) : Option PS := bd (X_laysStep σ (gI σ 100)) (fun q_1 => some q_1)
def X_lays_j130 (σ : PS) (v1 : Int32) : Option ((Int32 × PS) ⊕ PS) := nm (v1 + 1) (fun v1_2 => some (.inl (v1_2, σ)))
def X_lays_l107 (v1 : Int32) (v2 : Int32) (σ : PS) : Option ((Int32 × PS) ⊕ ((Int32 × PS) ⊕ PS)) := if (gI σ 107) ≤ v2 then up (X_lays_j130 σ v1) else bd (X_cools σ v2 v1) (fun q_3 => nm (v2 + 1) (fun v2_4 => some (.inl (v2_4, q_3))))
def X_lays_B107 (v1 : Int32) : (Int32 × PS) → Option ((Int32 × PS) ⊕ ((Int32 × PS) ⊕ PS)) := fun t => X_lays_l107 v1 t.1 t.2
def X_lays_l74 (v1 : Int32) (σ : PS) : Option ((Int32 × PS) ⊕ PS) := if (gI σ 100) ≤ v1 then up (X_lays_j136 σ) else bd (X_laysStep σ v1) (fun q_5 => cpg 0 6 0 6 6 (nm (cpA q_5 14 0 16 0 6) (fun σ_6 => loop (X_lays_B107 v1) fu (0, σ_6))))
def X_lays_B74 : (Int32 × PS) → Option ((Int32 × PS) ⊕ PS) := fun t => X_lays_l74 t.1 t.2
def X_lays_j72 (σ : PS) : Option PS := loop (X_lays_B74) fu (0, σ)
def X_lays_l2 (v1 : Int32) (σ : PS) : Option ((Int32 × PS) ⊕ PS) := if 6 ≤ v1 then up (X_lays_j72 σ) else ix v1 6 (ix v1 6 (nm (wA σ 14 v1 (rA σ 110 v1)) (fun σ_7 => ix v1 6 (ix v1 6 (nm (wA σ_7 15 v1 (rA σ_7 110 v1)) (fun σ_8 => ix v1 6 (nm (wA σ_8 20 v1 ((-1))) (fun σ_9 => ix v1 6 (nm (wA σ_9 21 v1 0) (fun σ_10 => ix v1 6 (nm (wA σ_10 22 v1 ((-1))) (fun σ_11 => ix v1 6 (nm (wA σ_11 23 v1 ((-1))) (fun σ_12 => nm (v1 + 1) (fun v1_13 => some (.inl (v1_13, σ_12)))))))))))))))))
def X_lays_B2 : (Int32 × PS) → Option ((Int32 × PS) ⊕ PS) := fun t => X_lays_l2 t.1 t.2
def X_lays (σ : PS) : Option PS := loop (X_lays_B2) fu (0, σ)
set_option maxHeartbeats 4000000 in
theorem kX_lays (l : Launch) {D : va_G} {ty : Nat → ClassId} {A : Nat → Prop} {o : Nat} {ad : Nat → Nat} {rs : va_W} {σ : PS} {σ' : PS} (hf : X_lays σ = some σ') : KV l yX0_lays cX0_lays 3 6 D ty A (wX ty o ad σ ++ rs) (wX ty o ad σ' ++ rs) [.ref o] := by
  refine KV.of (by decide) (Nat.le_of_ble_eq_true rfl) ?_
  intro p e R s m args below meth c Q C hR
  have C : Cx p R s m args c cX0_lays 3 RX0 D ty A 6 := C
  have hR : ∀ (σ2 : PS), σ2 = σ' → ∀ (H : Heap) (locs : List Loc) (pc : Nat) (ls : Array Slot), Hw D A s H locs (wX ty o ad σ2 ++ rs) → decode cX0_lays pc = .ok (.return_, 1) → W p l e R s m args below meth c H locs 0 0 Q (F0 m pc ls []) := by intro σ2 e9; cases e9; exact hR
  have j136 : ∀ (σ : PS) (H : Heap) (locs : List Loc) (ls : Array Slot), Hw D A s H locs (wX ty o ad σ ++ rs) → lv_has ls 3 [(0, .ref o)] → X_lays_j136 σ = some σ' → W p l e R s m args below meth c H locs 0 0 Q (F0 m 136 ls []) := by
    intro σ H locs ls h hl hf
    unfold X_lays_j136 at hf
    refine lv_aload_n C.x C.b dX0_lays_136 rfl (lv_at hl 0 rfl) ?_
    refine lv_aload_n C.x C.b dX0_lays_137 rfl (lv_at hl 0 rfl) ?_
    refine x_g0 C h dX0_lays_138 ?_
    refine x_g100 C h dX0_lays_141 ?_
    obtain ⟨q_1, hc, hf⟩ := bd_k (K := fun x => x) rfl hf
    refine cX_laysStep C h hc (Nat.le_of_ble_eq_true rfl) hl.1 (Nat.le_of_ble_eq_true rfl) dX0_lays_144 (fun H locs h => ?_)
    exact hR _ (some_k hf) _ _ _ _ h dX0_lays_147
  have l74 : ∀ (n74 : Nat) (v1 : Int32) (σ : PS) (H : Heap) (locs : List Loc) (ls : Array Slot), Hw D A s H locs (wX ty o ad σ ++ rs) → lv_has ls 3 [(0, .ref o), (1, .int v1)] → loop (X_lays_B74) n74 (v1, σ) = some σ' → W p l e R s m args below meth c H locs 0 0 Q (F0 m 74 ls []) := by
    intro n74
    induction n74 with
    | zero => intro v1 σ H locs ls h hl hf; exact (none_k hf).elim
    | succ n74 ih74 =>
      have j130 : ∀ (σ : PS) (v1 : Int32) (H : Heap) (locs : List Loc) (ls : Array Slot), Hw D A s H locs (wX ty o ad σ ++ rs) → lv_has ls 3 [(0, .ref o), (1, .int v1)] → bl (X_lays_B74) n74 (X_lays_j130 σ v1) = some σ' → W p l e R s m args below meth c H locs 0 0 Q (F0 m 130 ls []) := by
        intro σ v1 H locs ls h hl hf
        unfold X_lays_j130 at hf
        obtain ⟨v1_2, e9, hf⟩ := nm_k (K := bl (X_lays_B74) n74) hf
        refine lv_iinc (v := v1_2) (lv' := [(1, .int v1_2), (0, .ref o)]) C.x C.b dX0_lays_130 hl (k := 1) rfl (iinc_e (k := 1) (by decide) e9) (by decide) rfl (fun ls hl => ?_)
        refine lv_goto (tgt := 74) C.x C.b dX0_lays_133 (by decide) ?_
        exact ih74 v1_2 σ _ _ _ h (lv_sub hl [1, 0] rfl) hf
      have l107 : ∀ (v1 : Int32) (n107 : Nat) (v2 : Int32) (σ : PS) (H : Heap) (locs : List Loc) (ls : Array Slot), Hw D A s H locs (wX ty o ad σ ++ rs) → lv_has ls 3 [(0, .ref o), (1, .int v1), (2, .int v2)] → bl (X_lays_B74) n74 (loop (X_lays_B107 v1) n107 (v2, σ)) = some σ' → W p l e R s m args below meth c H locs 0 0 Q (F0 m 107 ls []) := by
        intro v1 n107
        induction n107 with
        | zero => intro v2 σ H locs ls h hl hf; exact (none_k hf).elim
        | succ n107 ih107 =>
          intro v2 σ H locs ls h hl hf
          have hf : bl (X_lays_B74) n74 (bl (X_lays_B107 v1) n107 (X_lays_l107 v1 v2 σ)) = some σ' := hf
          unfold X_lays_l107 at hf
          refine lv_iload_n C.x C.b dX0_lays_107 rfl (lv_at hl 2 rfl) ?_
          refine lv_aload_n C.x C.b dX0_lays_108 rfl (lv_at hl 0 rfl) ?_
          refine x_g0 C h dX0_lays_109 ?_
          refine x_g107 C h dX0_lays_112 ?_
          refine lv_icmp_ge (tgt := 130) C.x C.b dX0_lays_115 (by decide) (fun c9 => ?_) (fun c9 => ?_)
          · have hf := if_t (K := fun x => bl (X_lays_B74) n74 (bl (X_lays_B107 v1) n107 x)) c9 hf
            have hf := bl_upK (K := bl (X_lays_B74) n74) hf
            exact j130 σ v1 _ _ _ h (lv_sub hl [0, 1] rfl) hf
          · have hf := if_f (K := fun x => bl (X_lays_B74) n74 (bl (X_lays_B107 v1) n107 x)) c9 hf
            refine lv_aload_n C.x C.b dX0_lays_118 rfl (lv_at hl 0 rfl) ?_
            refine lv_iload_n C.x C.b dX0_lays_119 rfl (lv_at hl 2 rfl) ?_
            refine lv_iload_n C.x C.b dX0_lays_120 rfl (lv_at hl 1 rfl) ?_
            obtain ⟨q_3, hc, hf⟩ := bd_k (K := fun x => bl (X_lays_B74) n74 (bl (X_lays_B107 v1) n107 x)) rfl hf
            refine cX_cools C h hc (Nat.le_of_ble_eq_true rfl) hl.1 (Nat.le_of_ble_eq_true rfl) dX0_lays_121 (fun H locs h => ?_)
            obtain ⟨v2_4, e9, hf⟩ := nm_k (K := fun x => bl (X_lays_B74) n74 (bl (X_lays_B107 v1) n107 x)) hf
            refine lv_iinc (v := v2_4) (lv' := [(2, .int v2_4), (0, .ref o), (1, .int v1)]) C.x C.b dX0_lays_124 hl (k := 2) rfl (iinc_e (k := 1) (by decide) e9) (by decide) rfl (fun ls hl => ?_)
            refine lv_goto (tgt := 107) C.x C.b dX0_lays_127 (by decide) ?_
            exact ih107 v2_4 q_3 _ _ _ h (lv_sub hl [1, 2, 0] rfl) hf
      intro v1 σ H locs ls h hl hf
      have hf : bl (X_lays_B74) n74 (X_lays_l74 v1 σ) = some σ' := hf
      unfold X_lays_l74 at hf
      refine lv_iload_n C.x C.b dX0_lays_74 rfl (lv_at hl 1 rfl) ?_
      refine lv_aload_n C.x C.b dX0_lays_75 rfl (lv_at hl 0 rfl) ?_
      refine x_g0 C h dX0_lays_76 ?_
      refine x_g100 C h dX0_lays_79 ?_
      refine lv_icmp_ge (tgt := 136) C.x C.b dX0_lays_82 (by decide) (fun c9 => ?_) (fun c9 => ?_)
      · have hf := if_t (K := bl (X_lays_B74) n74) c9 hf
        have hf := bl_upK (K := fun x => x) hf
        exact j136 σ _ _ _ h (lv_sub hl [0] rfl) hf
      · have hf := if_f (K := bl (X_lays_B74) n74) c9 hf
        refine lv_aload_n C.x C.b dX0_lays_85 rfl (lv_at hl 0 rfl) ?_
        refine lv_iload_n C.x C.b dX0_lays_86 rfl (lv_at hl 1 rfl) ?_
        obtain ⟨q_5, hc, hf⟩ := bd_k (K := bl (X_lays_B74) n74) rfl hf
        refine cX_laysStep C h hc (Nat.le_of_ble_eq_true rfl) hl.1 (Nat.le_of_ble_eq_true rfl) dX0_lays_87 (fun H locs h => ?_)
        refine lv_aload_n C.x C.b dX0_lays_90 rfl (lv_at hl 0 rfl) ?_
        refine x_g14 C h dX0_lays_91 ?_
        refine lv_iconst (v := 0) C.x C.b dX0_lays_94 (by decide) ?_
        refine lv_aload_n C.x C.b dX0_lays_95 rfl (lv_at hl 0 rfl) ?_
        refine x_g16 C h dX0_lays_96 ?_
        refine lv_iconst (v := 0) C.x C.b dX0_lays_99 (by decide) ?_
        refine lv_bipush (v := 6) C.x C.b dX0_lays_100 (by decide) ?_
        obtain ⟨hg, hf⟩ := cpg_k (K := bl (X_lays_B74) n74) rfl hf
        obtain ⟨σ_6, e9, hf⟩ := nm_k (K := bl (X_lays_B74) n74) hf
        refine x_cp14_16 C h hg e9 hl.1 (by decide) (Nat.le_of_ble_eq_true rfl) dX0_lays_102 (fun H locs h => ?_)
        refine lv_iconst (v := 0) C.x C.b dX0_lays_105 (by decide) ?_
        refine lv_istore_n (lv' := [(2, .int 0), (0, .ref o), (1, .int v1)]) C.x C.b dX0_lays_106 rfl hl (by decide) rfl (fun ls hl => ?_)
        exact l107 v1 fu 0 σ_6 _ _ _ h (lv_sub hl [1, 2, 0] rfl) hf
  have j72 : ∀ (σ : PS) (H : Heap) (locs : List Loc) (ls : Array Slot), Hw D A s H locs (wX ty o ad σ ++ rs) → lv_has ls 3 [(0, .ref o)] → X_lays_j72 σ = some σ' → W p l e R s m args below meth c H locs 0 0 Q (F0 m 72 ls []) := by
    intro σ H locs ls h hl hf
    unfold X_lays_j72 at hf
    refine lv_iconst (v := 0) C.x C.b dX0_lays_72 (by decide) ?_
    refine lv_istore_n (lv' := [(1, .int 0), (0, .ref o)]) C.x C.b dX0_lays_73 rfl hl (by decide) rfl (fun ls hl => ?_)
    exact l74  fu 0 σ _ _ _ h (lv_sub hl [1, 0] rfl) hf
  have l2 : ∀ (n2 : Nat) (v1 : Int32) (σ : PS) (H : Heap) (locs : List Loc) (ls : Array Slot), Hw D A s H locs (wX ty o ad σ ++ rs) → lv_has ls 3 [(0, .ref o), (1, .int v1)] → loop (X_lays_B2) n2 (v1, σ) = some σ' → W p l e R s m args below meth c H locs 0 0 Q (F0 m 2 ls []) := by
    intro n2
    induction n2 with
    | zero => intro v1 σ H locs ls h hl hf; exact (none_k hf).elim
    | succ n2 ih2 =>
      intro v1 σ H locs ls h hl hf
      have hf : bl (X_lays_B2) n2 (X_lays_l2 v1 σ) = some σ' := hf
      unfold X_lays_l2 at hf
      refine lv_iload_n C.x C.b dX0_lays_2 rfl (lv_at hl 1 rfl) ?_
      refine lv_bipush (v := 6) C.x C.b dX0_lays_3 (by decide) ?_
      refine lv_icmp_ge (tgt := 72) C.x C.b dX0_lays_5 (by decide) (fun c9 => ?_) (fun c9 => ?_)
      · have hf := if_t (K := bl (X_lays_B2) n2) c9 hf
        have hf := bl_upK (K := fun x => x) hf
        exact j72 σ _ _ _ h (lv_sub hl [0] rfl) hf
      · have hf := if_f (K := bl (X_lays_B2) n2) c9 hf
        refine lv_aload_n C.x C.b dX0_lays_8 rfl (lv_at hl 0 rfl) ?_
        refine x_g14 C h dX0_lays_9 ?_
        refine lv_iload_n C.x C.b dX0_lays_12 rfl (lv_at hl 1 rfl) ?_
        refine lv_aload_n C.x C.b dX0_lays_13 rfl (lv_at hl 0 rfl) ?_
        refine x_g0 C h dX0_lays_14 ?_
        refine x_g110 C h dX0_lays_17 ?_
        refine lv_iload_n C.x C.b dX0_lays_20 rfl (lv_at hl 1 rfl) ?_
        obtain ⟨hi, hf⟩ := ix_k (K := bl (X_lays_B2) n2) rfl hf
        refine x_a110 C h hi dX0_lays_21 ?_
        obtain ⟨hi, hf⟩ := ix_k (K := bl (X_lays_B2) n2) rfl hf
        obtain ⟨σ_7, e9, hf⟩ := nm_k (K := bl (X_lays_B2) n2) hf
        refine x_w14 C h hi e9 dX0_lays_22 (fun H locs h => ?_)
        refine lv_aload_n C.x C.b dX0_lays_23 rfl (lv_at hl 0 rfl) ?_
        refine x_g15 C h dX0_lays_24 ?_
        refine lv_iload_n C.x C.b dX0_lays_27 rfl (lv_at hl 1 rfl) ?_
        refine lv_aload_n C.x C.b dX0_lays_28 rfl (lv_at hl 0 rfl) ?_
        refine x_g0 C h dX0_lays_29 ?_
        refine x_g110 C h dX0_lays_32 ?_
        refine lv_iload_n C.x C.b dX0_lays_35 rfl (lv_at hl 1 rfl) ?_
        obtain ⟨hi, hf⟩ := ix_k (K := bl (X_lays_B2) n2) rfl hf
        refine x_a110 C h hi dX0_lays_36 ?_
        obtain ⟨hi, hf⟩ := ix_k (K := bl (X_lays_B2) n2) rfl hf
        obtain ⟨σ_8, e9, hf⟩ := nm_k (K := bl (X_lays_B2) n2) hf
        refine x_w15 C h hi e9 dX0_lays_37 (fun H locs h => ?_)
        refine lv_aload_n C.x C.b dX0_lays_38 rfl (lv_at hl 0 rfl) ?_
        refine x_g20 C h dX0_lays_39 ?_
        refine lv_iload_n C.x C.b dX0_lays_42 rfl (lv_at hl 1 rfl) ?_
        refine lv_iconst (v := (-1)) C.x C.b dX0_lays_43 (by decide) ?_
        obtain ⟨hi, hf⟩ := ix_k (K := bl (X_lays_B2) n2) rfl hf
        obtain ⟨σ_9, e9, hf⟩ := nm_k (K := bl (X_lays_B2) n2) hf
        refine x_w20 C h hi e9 dX0_lays_44 (fun H locs h => ?_)
        refine lv_aload_n C.x C.b dX0_lays_45 rfl (lv_at hl 0 rfl) ?_
        refine x_g21 C h dX0_lays_46 ?_
        refine lv_iload_n C.x C.b dX0_lays_49 rfl (lv_at hl 1 rfl) ?_
        refine lv_iconst (v := 0) C.x C.b dX0_lays_50 (by decide) ?_
        obtain ⟨hi, hf⟩ := ix_k (K := bl (X_lays_B2) n2) rfl hf
        obtain ⟨σ_10, e9, hf⟩ := nm_k (K := bl (X_lays_B2) n2) hf
        refine x_w21 C h hi e9 dX0_lays_51 (fun H locs h => ?_)
        refine lv_aload_n C.x C.b dX0_lays_52 rfl (lv_at hl 0 rfl) ?_
        refine x_g22 C h dX0_lays_53 ?_
        refine lv_iload_n C.x C.b dX0_lays_56 rfl (lv_at hl 1 rfl) ?_
        refine lv_iconst (v := (-1)) C.x C.b dX0_lays_57 (by decide) ?_
        obtain ⟨hi, hf⟩ := ix_k (K := bl (X_lays_B2) n2) rfl hf
        obtain ⟨σ_11, e9, hf⟩ := nm_k (K := bl (X_lays_B2) n2) hf
        refine x_w22 C h hi e9 dX0_lays_58 (fun H locs h => ?_)
        refine lv_aload_n C.x C.b dX0_lays_59 rfl (lv_at hl 0 rfl) ?_
        refine x_g23 C h dX0_lays_60 ?_
        refine lv_iload_n C.x C.b dX0_lays_63 rfl (lv_at hl 1 rfl) ?_
        refine lv_iconst (v := (-1)) C.x C.b dX0_lays_64 (by decide) ?_
        obtain ⟨hi, hf⟩ := ix_k (K := bl (X_lays_B2) n2) rfl hf
        obtain ⟨σ_12, e9, hf⟩ := nm_k (K := bl (X_lays_B2) n2) hf
        refine x_w23 C h hi e9 dX0_lays_65 (fun H locs h => ?_)
        obtain ⟨v1_13, e9, hf⟩ := nm_k (K := bl (X_lays_B2) n2) hf
        refine lv_iinc (v := v1_13) (lv' := [(1, .int v1_13), (0, .ref o)]) C.x C.b dX0_lays_66 hl (k := 1) rfl (iinc_e (k := 1) (by decide) e9) (by decide) rfl (fun ls hl => ?_)
        refine lv_goto (tgt := 2) C.x C.b dX0_lays_69 (by decide) ?_
        exact ih2 v1_13 σ_12 _ _ _ h (lv_sub hl [1, 0] rfl) hf
  intro H locs ls h hl
  have hl : lv_has ls 3 [(0, .ref o)] := hl
  unfold X_lays at hf
  refine lv_iconst (v := 0) C.x C.b dX0_lays_0 (by decide) ?_
  refine lv_istore_n (lv' := [(1, .int 0), (0, .ref o)]) C.x C.b dX0_lays_1 rfl hl (by decide) rfl (fun ls hl => ?_)
  exact l2  fu 0 σ _ _ _ h (lv_sub hl [1, 0] rfl) hf
theorem tX_lays : GoodIn lw_all (wsV RX0 257 RX0 yX0_lays (ws_ yX0_lays cX0_lays 3 none)) := lw_V q748 q750 qs21 q137 q751
theorem cX_lays {p : Program} {l : Launch} {e : Env} {R : Room} {s : State} {m : MethodId} {args : Array Value} {below : List Frame} {meth : Method} {c : Code} {H : Heap} {locs : List Loc} {Q : State → Prop} {cc : ByteArray} {pc : Nat} {ls : Array Slot} {st : List Value} {nL d : Nat} {D : va_G} {ty : Nat → ClassId} {A : Nat → Prop} {o : Nat} {ad : Nat → Nat} {rs : va_W} {σ : PS} {q : PS} (C : Cx p R s m args c cc nL RX0 D ty A d) (h : Hw D A s H locs (wX ty o ad σ ++ rs)) (hc : X_lays σ = some q) (hd : 6 + 1 ≤ d) (hls : ls.size = nL) (hcat : (st.map fun v => v.category).sum ≤ 8) (dec : decode cc pc = .ok (.invokevirtual 257, 3)) (kk : ∀ (H : Heap) (locs : List Loc), Hw D A s H locs (wX ty o ad q ++ rs) → W p l e R s m args below meth c H locs 0 0 Q (F0 m (pc + 3) ls (st))) : W p l e R s m args below meth c H locs 0 0 Q (F0 m pc ls (.ref o :: st)) := KV.callV (As := []) C (kX_lays l hc) tX_lays ⟨rfl, by decide, by decide, by show _ = some 0; decide +kernel⟩ 0 0 rfl rfl rfl hd (by decide) (Nat.zero_le _) (Nat.zero_le _) h hls rfl hcat dec kk
def X_isSoundBy (σ : PS) (v1 : Int32) : Option (Int32 × PS) := bd (X_lays σ) (fun q_1 => bd (X_isSound q_1 v1) (fun q_2 => tz q_2 (some (q_2, q_1))))
set_option maxHeartbeats 4000000 in
theorem kX_isSoundBy (l : Launch) {D : va_G} {ty : Nat → ClassId} {A : Nat → Prop} {o : Nat} {ad : Nat → Nat} {rs : va_W} {σ : PS} {σ' : PS} {v1 : Int32} {r : Int32} (hf : X_isSoundBy σ v1 = some (r, σ')) : KI l yX0_isSoundBy cX0_isSoundBy 2 .boolean 7 D ty A (wX ty o ad σ ++ rs) (wX ty o ad σ' ++ rs) [.ref o, .int v1] r := by
  refine KI.of (by decide) (Nat.le_of_ble_eq_true rfl) ?_
  intro p e R s m args below meth c Q C hR
  have C : Cx p R s m args c cX0_isSoundBy 2 RX0 D ty A 7 := C
  have hR : ∀ (v : Int32) (σ2 : PS), (v, σ2) = (r, σ') → ∀ (H : Heap) (locs : List Loc) (pc : Nat) (ls : Array Slot), Hw D A s H locs (wX ty o ad σ2 ++ rs) → narrow .boolean (.int v) = .int v → decode cX0_isSoundBy pc = .ok (.ireturn, 1) → W p l e R s m args below meth c H locs 0 0 Q (F0 m pc ls [.int v]) := by intro v σ2 e9; cases e9; exact hR
  intro H locs ls h hl
  have hl : lv_has ls 2 [(0, .ref o), (1, .int v1)] := hl
  unfold X_isSoundBy at hf
  refine lv_aload_n C.x C.b dX0_isSoundBy_0 rfl (lv_at hl 0 rfl) ?_
  obtain ⟨q_1, hc, hf⟩ := bd_k (K := fun x => x) rfl hf
  refine cX_lays C h hc (Nat.le_of_ble_eq_true rfl) hl.1 (Nat.le_of_ble_eq_true rfl) dX0_isSoundBy_1 (fun H locs h => ?_)
  refine lv_aload_n C.x C.b dX0_isSoundBy_4 rfl (lv_at hl 0 rfl) ?_
  refine lv_iload_n C.x C.b dX0_isSoundBy_5 rfl (lv_at hl 1 rfl) ?_
  obtain ⟨q_2, hc, hf⟩ := bd_k (K := fun x => x) rfl hf
  refine cX_isSound C h hc (Nat.le_of_ble_eq_true rfl) hl.1 (Nat.le_of_ble_eq_true rfl) dX0_isSoundBy_6 (fun H locs h => ?_)
  obtain ⟨hz, hf⟩ := tz_k (K := fun x => x) rfl hf
  exact hR _ _ (some_k hf) _ _ _ _ h hz dX0_isSoundBy_9
theorem tX_isSoundBy : GoodIn lw_all (wsV RX0 336 RX0 yX0_isSoundBy (ws_ yX0_isSoundBy cX0_isSoundBy 2 (some .boolean))) := lw_V q1086 q1088 qs48 q137 q1089
theorem cX_isSoundBy {p : Program} {l : Launch} {e : Env} {R : Room} {s : State} {m : MethodId} {args : Array Value} {below : List Frame} {meth : Method} {c : Code} {H : Heap} {locs : List Loc} {Q : State → Prop} {cc : ByteArray} {pc : Nat} {ls : Array Slot} {st : List Value} {nL d : Nat} {D : va_G} {ty : Nat → ClassId} {A : Nat → Prop} {o : Nat} {ad : Nat → Nat} {rs : va_W} {σ : PS} {v1 : Int32} {q : (Int32 × PS)} (C : Cx p R s m args c cc nL RX0 D ty A d) (h : Hw D A s H locs (wX ty o ad σ ++ rs)) (hc : X_isSoundBy σ v1 = some q) (hd : 7 + 1 ≤ d) (hls : ls.size = nL) (hcat : (st.map fun v => v.category).sum ≤ 8) (dec : decode cc pc = .ok (.invokevirtual 336, 3)) (kk : ∀ (H : Heap) (locs : List Loc), Hw D A s H locs (wX ty o ad q.2 ++ rs) → W p l e R s m args below meth c H locs 0 0 Q (F0 m (pc + 3) ls (.int (q.1) :: st))) : W p l e R s m args below meth c H locs 0 0 Q (F0 m pc ls (.int v1 :: .ref o :: st)) := KI.callV (As := [.int v1]) C (kX_isSoundBy l hc) tX_isSoundBy ⟨rfl, by decide, by decide, by show _ = some 1; decide +kernel⟩ 0 0 rfl rfl rfl hd (by decide) (Nat.zero_le _) (Nat.zero_le _) h hls rfl hcat dec kk
def X_soundBy (σ : PS) (v1 : Int32) : Option (Int32 × PS) := nm (sI σ 11 v1) (fun σ_1 => bd (X_lays σ_1) (fun q_2 => bd (X_soundMany q_2) (fun q_3 => some (q_3, q_2))))
set_option maxHeartbeats 4000000 in
theorem kX_soundBy (l : Launch) {D : va_G} {ty : Nat → ClassId} {A : Nat → Prop} {o : Nat} {ad : Nat → Nat} {rs : va_W} {σ : PS} {σ' : PS} {v1 : Int32} {r : Int32} (hf : X_soundBy σ v1 = some (r, σ')) : KI l yX0_soundBy cX0_soundBy 2 .int 7 D ty A (wX ty o ad σ ++ rs) (wX ty o ad σ' ++ rs) [.ref o, .int v1] r := by
  refine KI.of (by decide) (Nat.le_of_ble_eq_true rfl) ?_
  intro p e R s m args below meth c Q C hR
  have C : Cx p R s m args c cX0_soundBy 2 RX0 D ty A 7 := C
  have hR : ∀ (v : Int32) (σ2 : PS), (v, σ2) = (r, σ') → ∀ (H : Heap) (locs : List Loc) (pc : Nat) (ls : Array Slot), Hw D A s H locs (wX ty o ad σ2 ++ rs) → narrow .int (.int v) = .int v → decode cX0_soundBy pc = .ok (.ireturn, 1) → W p l e R s m args below meth c H locs 0 0 Q (F0 m pc ls [.int v]) := by intro v σ2 e9; cases e9; exact hR
  intro H locs ls h hl
  have hl : lv_has ls 2 [(0, .ref o), (1, .int v1)] := hl
  unfold X_soundBy at hf
  refine lv_aload_n C.x C.b dX0_soundBy_0 rfl (lv_at hl 0 rfl) ?_
  refine lv_iload_n C.x C.b dX0_soundBy_1 rfl (lv_at hl 1 rfl) ?_
  obtain ⟨σ_1, e9, hf⟩ := nm_k (K := fun x => x) hf
  refine x_p11 C h e9 dX0_soundBy_2 (fun H locs h => ?_)
  refine lv_aload_n C.x C.b dX0_soundBy_5 rfl (lv_at hl 0 rfl) ?_
  obtain ⟨q_2, hc, hf⟩ := bd_k (K := fun x => x) rfl hf
  refine cX_lays C h hc (Nat.le_of_ble_eq_true rfl) hl.1 (Nat.le_of_ble_eq_true rfl) dX0_soundBy_6 (fun H locs h => ?_)
  refine lv_aload_n C.x C.b dX0_soundBy_9 rfl (lv_at hl 0 rfl) ?_
  obtain ⟨q_3, hc, hf⟩ := bd_k (K := fun x => x) rfl hf
  refine cX_soundMany C h hc (Nat.le_of_ble_eq_true rfl) hl.1 (Nat.le_of_ble_eq_true rfl) dX0_soundBy_10 (fun H locs h => ?_)
  exact hR _ _ (some_k hf) _ _ _ _ h rfl dX0_soundBy_13
theorem tX_soundBy : GoodIn lw_all (wsV RX0 345 RX0 yX0_soundBy (ws_ yX0_soundBy cX0_soundBy 2 (some .int))) := lw_V q1106 q1108 qs50 q137 q1109
theorem cX_soundBy {p : Program} {l : Launch} {e : Env} {R : Room} {s : State} {m : MethodId} {args : Array Value} {below : List Frame} {meth : Method} {c : Code} {H : Heap} {locs : List Loc} {Q : State → Prop} {cc : ByteArray} {pc : Nat} {ls : Array Slot} {st : List Value} {nL d : Nat} {D : va_G} {ty : Nat → ClassId} {A : Nat → Prop} {o : Nat} {ad : Nat → Nat} {rs : va_W} {σ : PS} {v1 : Int32} {q : (Int32 × PS)} (C : Cx p R s m args c cc nL RX0 D ty A d) (h : Hw D A s H locs (wX ty o ad σ ++ rs)) (hc : X_soundBy σ v1 = some q) (hd : 7 + 1 ≤ d) (hls : ls.size = nL) (hcat : (st.map fun v => v.category).sum ≤ 8) (dec : decode cc pc = .ok (.invokevirtual 345, 3)) (kk : ∀ (H : Heap) (locs : List Loc), Hw D A s H locs (wX ty o ad q.2 ++ rs) → W p l e R s m args below meth c H locs 0 0 Q (F0 m (pc + 3) ls (.int (q.1) :: st))) : W p l e R s m args below meth c H locs 0 0 Q (F0 m pc ls (.int v1 :: .ref o :: st)) := KI.callV (As := [.int v1]) C (kX_soundBy l hc) tX_soundBy ⟨rfl, by decide, by decide, by show _ = some 1; decide +kernel⟩ 0 0 rfl rfl rfl hd (by decide) (Nat.zero_le _) (Nat.zero_le _) h hls rfl hcat dec kk
def X_raiseOf_j54 (σ : PS) (x0 : Int32) : Option (Int32 × PS) := some (x0, σ)
def X_raiseOf_j33 (σ : PS) (v1 : Int32) (v3 : Int32) : Option (Int32 × PS) := ix v1 7 (nm (wA σ 6 v1 0) (fun σ_1 => if v3 ≤ 200 then X_raiseOf_j54 σ_1 v3 else X_raiseOf_j54 σ_1 1000000000))
def X_raiseOf_j24 (σ : PS) (v1 : Int32) (v3 : Int32) : Option (Int32 × PS) := X_raiseOf_j33 σ v1 v3
def X_raiseOf_l2 (v1 : Int32) (v2 : Int32) (v3 : Int32) (σ : PS) : Option ((Int32 × PS) ⊕ (Int32 × PS)) := if 200 < v3 then up (X_raiseOf_j33 σ v1 v3) else ix v1 7 (nm (wA σ 6 v1 v3) (fun σ_2 => bd (X_isSoundBy σ_2 v2) (fun q_3 => if q_3.1 = 0 then nm (v3 + 1) (fun v3_4 => some (.inl (v3_4, q_3.2))) else up (X_raiseOf_j24 q_3.2 v1 v3))))
def X_raiseOf_B2 (v1 : Int32) (v2 : Int32) : (Int32 × PS) → Option ((Int32 × PS) ⊕ (Int32 × PS)) := fun t => X_raiseOf_l2 v1 v2 t.1 t.2
def X_raiseOf (σ : PS) (v1 : Int32) (v2 : Int32) : Option (Int32 × PS) := loop (X_raiseOf_B2 v1 v2) fu (0, σ)
set_option maxHeartbeats 4000000 in
theorem kX_raiseOf (l : Launch) {D : va_G} {ty : Nat → ClassId} {A : Nat → Prop} {o : Nat} {ad : Nat → Nat} {rs : va_W} {σ : PS} {σ' : PS} {v1 : Int32} {v2 : Int32} {r : Int32} (hf : X_raiseOf σ v1 v2 = some (r, σ')) : KI l yX0_raiseOf cX0_raiseOf 4 .int 8 D ty A (wX ty o ad σ ++ rs) (wX ty o ad σ' ++ rs) [.ref o, .int v1, .int v2] r := by
  refine KI.of (by decide) (Nat.le_of_ble_eq_true rfl) ?_
  intro p e R s m args below meth c Q C hR
  have C : Cx p R s m args c cX0_raiseOf 4 RX0 D ty A 8 := C
  have hR : ∀ (v : Int32) (σ2 : PS), (v, σ2) = (r, σ') → ∀ (H : Heap) (locs : List Loc) (pc : Nat) (ls : Array Slot), Hw D A s H locs (wX ty o ad σ2 ++ rs) → narrow .int (.int v) = .int v → decode cX0_raiseOf pc = .ok (.ireturn, 1) → W p l e R s m args below meth c H locs 0 0 Q (F0 m pc ls [.int v]) := by intro v σ2 e9; cases e9; exact hR
  have j54 : ∀ (σ : PS) (x0 : Int32) (H : Heap) (locs : List Loc) (ls : Array Slot), Hw D A s H locs (wX ty o ad σ ++ rs) → lv_has ls 4 [] → X_raiseOf_j54 σ x0 = some (r, σ') → W p l e R s m args below meth c H locs 0 0 Q (F0 m 54 ls [.int x0]) := by
    intro σ x0 H locs ls h hl hf
    unfold X_raiseOf_j54 at hf
    exact hR _ _ (some_k hf) _ _ _ _ h rfl dX0_raiseOf_54
  have j33 : ∀ (σ : PS) (v3 : Int32) (H : Heap) (locs : List Loc) (ls : Array Slot), Hw D A s H locs (wX ty o ad σ ++ rs) → lv_has ls 4 [(0, .ref o), (1, .int v1), (3, .int v3)] → X_raiseOf_j33 σ v1 v3 = some (r, σ') → W p l e R s m args below meth c H locs 0 0 Q (F0 m 33 ls []) := by
    intro σ v3 H locs ls h hl hf
    unfold X_raiseOf_j33 at hf
    refine lv_aload_n C.x C.b dX0_raiseOf_33 rfl (lv_at hl 0 rfl) ?_
    refine x_g6 C h dX0_raiseOf_34 ?_
    refine lv_iload_n C.x C.b dX0_raiseOf_37 rfl (lv_at hl 1 rfl) ?_
    refine lv_iconst (v := 0) C.x C.b dX0_raiseOf_38 (by decide) ?_
    obtain ⟨hi, hf⟩ := ix_k (K := fun x => x) rfl hf
    obtain ⟨σ_1, e9, hf⟩ := nm_k (K := fun x => x) hf
    refine x_w6 C h hi e9 dX0_raiseOf_39 (fun H locs h => ?_)
    refine lv_iload_n C.x C.b dX0_raiseOf_40 rfl (lv_at hl 2 rfl) ?_
    refine lv_sipush (v := 200) C.x C.b dX0_raiseOf_41 (by decide) ?_
    refine lv_icmp_le (tgt := 53) C.x C.b dX0_raiseOf_44 (by decide) (fun c9 => ?_) (fun c9 => ?_)
    · have hf := if_t (K := fun x => x) c9 hf
      refine lv_iload_n C.x C.b dX0_raiseOf_53 rfl (lv_at hl 2 rfl) ?_
      exact j54 σ_1 v3 _ _ _ h (lv_sub hl [] rfl) hf
    · have hf := if_f (K := fun x => x) c9 hf
      refine lv_ldcw (v := 1000000000) C.x C.b C.own (C.ts _ q1012) dX0_raiseOf_47 ?_
      refine lv_goto (tgt := 54) C.x C.b dX0_raiseOf_50 (by decide) ?_
      exact j54 σ_1 1000000000 _ _ _ h (lv_sub hl [] rfl) hf
  have j24 : ∀ (σ : PS) (v3 : Int32) (H : Heap) (locs : List Loc) (ls : Array Slot), Hw D A s H locs (wX ty o ad σ ++ rs) → lv_has ls 4 [(0, .ref o), (1, .int v1), (3, .int v3)] → X_raiseOf_j24 σ v1 v3 = some (r, σ') → W p l e R s m args below meth c H locs 0 0 Q (F0 m 24 ls []) := by
    intro σ v3 H locs ls h hl hf
    unfold X_raiseOf_j24 at hf
    refine lv_goto (tgt := 33) C.x C.b dX0_raiseOf_24 (by decide) ?_
    exact j33 σ v3 _ _ _ h (lv_sub hl [0, 1, 2] rfl) hf
  have l2 : ∀ (n2 : Nat) (v3 : Int32) (σ : PS) (H : Heap) (locs : List Loc) (ls : Array Slot), Hw D A s H locs (wX ty o ad σ ++ rs) → lv_has ls 4 [(0, .ref o), (1, .int v1), (2, .int v2), (3, .int v3)] → loop (X_raiseOf_B2 v1 v2) n2 (v3, σ) = some (r, σ') → W p l e R s m args below meth c H locs 0 0 Q (F0 m 2 ls []) := by
    intro n2
    induction n2 with
    | zero => intro v3 σ H locs ls h hl hf; exact (none_k hf).elim
    | succ n2 ih2 =>
      intro v3 σ H locs ls h hl hf
      have hf : bl (X_raiseOf_B2 v1 v2) n2 (X_raiseOf_l2 v1 v2 v3 σ) = some (r, σ') := hf
      unfold X_raiseOf_l2 at hf
      refine lv_iload_n C.x C.b dX0_raiseOf_2 rfl (lv_at hl 3 rfl) ?_
      refine lv_sipush (v := 200) C.x C.b dX0_raiseOf_3 (by decide) ?_
      refine lv_icmp_gt (tgt := 33) C.x C.b dX0_raiseOf_6 (by decide) (fun c9 => ?_) (fun c9 => ?_)
      · have hf := if_t (K := bl (X_raiseOf_B2 v1 v2) n2) c9 hf
        have hf := bl_upK (K := fun x => x) hf
        exact j33 σ v3 _ _ _ h (lv_sub hl [0, 1, 3] rfl) hf
      · have hf := if_f (K := bl (X_raiseOf_B2 v1 v2) n2) c9 hf
        refine lv_aload_n C.x C.b dX0_raiseOf_9 rfl (lv_at hl 0 rfl) ?_
        refine x_g6 C h dX0_raiseOf_10 ?_
        refine lv_iload_n C.x C.b dX0_raiseOf_13 rfl (lv_at hl 1 rfl) ?_
        refine lv_iload_n C.x C.b dX0_raiseOf_14 rfl (lv_at hl 3 rfl) ?_
        obtain ⟨hi, hf⟩ := ix_k (K := bl (X_raiseOf_B2 v1 v2) n2) rfl hf
        obtain ⟨σ_2, e9, hf⟩ := nm_k (K := bl (X_raiseOf_B2 v1 v2) n2) hf
        refine x_w6 C h hi e9 dX0_raiseOf_15 (fun H locs h => ?_)
        refine lv_aload_n C.x C.b dX0_raiseOf_16 rfl (lv_at hl 0 rfl) ?_
        refine lv_iload_n C.x C.b dX0_raiseOf_17 rfl (lv_at hl 2 rfl) ?_
        obtain ⟨q_3, hc, hf⟩ := bd_k (K := bl (X_raiseOf_B2 v1 v2) n2) rfl hf
        refine cX_isSoundBy C h hc (Nat.le_of_ble_eq_true rfl) hl.1 (Nat.le_of_ble_eq_true rfl) dX0_raiseOf_18 (fun H locs h => ?_)
        refine lv_if_eq (tgt := 27) C.x C.b dX0_raiseOf_21 (by decide) (fun c9 => ?_) (fun c9 => ?_)
        · have hf := if_t (K := bl (X_raiseOf_B2 v1 v2) n2) c9 hf
          obtain ⟨v3_4, e9, hf⟩ := nm_k (K := bl (X_raiseOf_B2 v1 v2) n2) hf
          refine lv_iinc (v := v3_4) (lv' := [(3, .int v3_4), (0, .ref o), (1, .int v1), (2, .int v2)]) C.x C.b dX0_raiseOf_27 hl (k := 3) rfl (iinc_e (k := 1) (by decide) e9) (by decide) rfl (fun ls hl => ?_)
          refine lv_goto (tgt := 2) C.x C.b dX0_raiseOf_30 (by decide) ?_
          exact ih2 v3_4 q_3.2 _ _ _ h (lv_sub hl [1, 2, 3, 0] rfl) hf
        · have hf := if_f (K := bl (X_raiseOf_B2 v1 v2) n2) c9 hf
          have hf := bl_upK (K := fun x => x) hf
          exact j24 q_3.2 v3 _ _ _ h (lv_sub hl [0, 1, 3] rfl) hf
  intro H locs ls h hl
  have hl : lv_has ls 4 [(0, .ref o), (1, .int v1), (2, .int v2)] := hl
  unfold X_raiseOf at hf
  refine lv_iconst (v := 0) C.x C.b dX0_raiseOf_0 (by decide) ?_
  refine lv_istore_n (lv' := [(3, .int 0), (0, .ref o), (1, .int v1), (2, .int v2)]) C.x C.b dX0_raiseOf_1 rfl hl (by decide) rfl (fun ls hl => ?_)
  exact l2  fu 0 σ _ _ _ h (lv_sub hl [1, 2, 3, 0] rfl) hf
theorem tX_raiseOf : GoodIn lw_all (wsV RX0 351 RX0 yX0_raiseOf (ws_ yX0_raiseOf cX0_raiseOf 4 (some .int))) := lw_V q1122 q1124 qs52 q137 q1125
theorem cX_raiseOf {p : Program} {l : Launch} {e : Env} {R : Room} {s : State} {m : MethodId} {args : Array Value} {below : List Frame} {meth : Method} {c : Code} {H : Heap} {locs : List Loc} {Q : State → Prop} {cc : ByteArray} {pc : Nat} {ls : Array Slot} {st : List Value} {nL d : Nat} {D : va_G} {ty : Nat → ClassId} {A : Nat → Prop} {o : Nat} {ad : Nat → Nat} {rs : va_W} {σ : PS} {v1 : Int32} {v2 : Int32} {q : (Int32 × PS)} (C : Cx p R s m args c cc nL RX0 D ty A d) (h : Hw D A s H locs (wX ty o ad σ ++ rs)) (hc : X_raiseOf σ v1 v2 = some q) (hd : 8 + 1 ≤ d) (hls : ls.size = nL) (hcat : (st.map fun v => v.category).sum ≤ 8) (dec : decode cc pc = .ok (.invokevirtual 351, 3)) (kk : ∀ (H : Heap) (locs : List Loc), Hw D A s H locs (wX ty o ad q.2 ++ rs) → W p l e R s m args below meth c H locs 0 0 Q (F0 m (pc + 3) ls (.int (q.1) :: st))) : W p l e R s m args below meth c H locs 0 0 Q (F0 m pc ls (.int v2 :: .int v1 :: .ref o :: st)) := KI.callV (As := [.int v1, .int v2]) C (kX_raiseOf l hc) tX_raiseOf ⟨rfl, by decide, by decide, by show _ = some 2; decide +kernel⟩ 0 0 rfl rfl rfl hd (by decide) (Nat.zero_le _) (Nat.zero_le _) h hls rfl hcat dec kk
def X_soundByLaw (σ : PS) (v1 : Int32) : Option (Int32 × PS) := ix v1 4 (nm (sI σ 13 v1) (fun σ_1 => bd (X_lays σ_1) (fun q_2 => bd (X_soundNow q_2) (fun q_3 => some (q_3, q_2)))))
set_option maxHeartbeats 4000000 in
theorem kX_soundByLaw (l : Launch) {D : va_G} {ty : Nat → ClassId} {A : Nat → Prop} {o : Nat} {ad : Nat → Nat} {rs : va_W} {σ : PS} {σ' : PS} {v1 : Int32} {r : Int32} (hf : X_soundByLaw σ v1 = some (r, σ')) : KI l yX0_soundByLaw cX0_soundByLaw 2 .int 7 D ty A (wX ty o ad σ ++ rs) (wX ty o ad σ' ++ rs) [.ref o, .int v1] r := by
  refine KI.of (by decide) (Nat.le_of_ble_eq_true rfl) ?_
  intro p e R s m args below meth c Q C hR
  have C : Cx p R s m args c cX0_soundByLaw 2 RX0 D ty A 7 := C
  have hR : ∀ (v : Int32) (σ2 : PS), (v, σ2) = (r, σ') → ∀ (H : Heap) (locs : List Loc) (pc : Nat) (ls : Array Slot), Hw D A s H locs (wX ty o ad σ2 ++ rs) → narrow .int (.int v) = .int v → decode cX0_soundByLaw pc = .ok (.ireturn, 1) → W p l e R s m args below meth c H locs 0 0 Q (F0 m pc ls [.int v]) := by intro v σ2 e9; cases e9; exact hR
  intro H locs ls h hl
  have hl : lv_has ls 2 [(0, .ref o), (1, .int v1)] := hl
  unfold X_soundByLaw at hf
  refine lv_aload_n C.x C.b dX0_soundByLaw_0 rfl (lv_at hl 0 rfl) ?_
  refine lv_aload_n C.x C.b dX0_soundByLaw_1 rfl (lv_at hl 0 rfl) ?_
  refine x_g17 C h dX0_soundByLaw_2 ?_
  refine lv_iload_n C.x C.b dX0_soundByLaw_5 rfl (lv_at hl 1 rfl) ?_
  obtain ⟨hi, hf⟩ := ix_k (K := fun x => x) rfl hf
  refine x_a17 C h hi dX0_soundByLaw_6 ?_
  obtain ⟨σ_1, e9, hf⟩ := nm_k (K := fun x => x) hf
  refine x_p13 C h hi e9 dX0_soundByLaw_7 (fun H locs h => ?_)
  refine lv_aload_n C.x C.b dX0_soundByLaw_10 rfl (lv_at hl 0 rfl) ?_
  obtain ⟨q_2, hc, hf⟩ := bd_k (K := fun x => x) rfl hf
  refine cX_lays C h hc (Nat.le_of_ble_eq_true rfl) hl.1 (Nat.le_of_ble_eq_true rfl) dX0_soundByLaw_11 (fun H locs h => ?_)
  refine lv_aload_n C.x C.b dX0_soundByLaw_14 rfl (lv_at hl 0 rfl) ?_
  obtain ⟨q_3, hc, hf⟩ := bd_k (K := fun x => x) rfl hf
  refine cX_soundNow C h hc (Nat.le_of_ble_eq_true rfl) hl.1 (Nat.le_of_ble_eq_true rfl) dX0_soundByLaw_15 (fun H locs h => ?_)
  exact hR _ _ (some_k hf) _ _ _ _ h rfl dX0_soundByLaw_18
theorem tX_soundByLaw : GoodIn lw_all (wsV RX0 389 RX0 yX0_soundByLaw (ws_ yX0_soundByLaw cX0_soundByLaw 2 (some .int))) := lw_V q1229 q1231 qs58 q137 q1232
theorem cX_soundByLaw {p : Program} {l : Launch} {e : Env} {R : Room} {s : State} {m : MethodId} {args : Array Value} {below : List Frame} {meth : Method} {c : Code} {H : Heap} {locs : List Loc} {Q : State → Prop} {cc : ByteArray} {pc : Nat} {ls : Array Slot} {st : List Value} {nL d : Nat} {D : va_G} {ty : Nat → ClassId} {A : Nat → Prop} {o : Nat} {ad : Nat → Nat} {rs : va_W} {σ : PS} {v1 : Int32} {q : (Int32 × PS)} (C : Cx p R s m args c cc nL RX0 D ty A d) (h : Hw D A s H locs (wX ty o ad σ ++ rs)) (hc : X_soundByLaw σ v1 = some q) (hd : 7 + 1 ≤ d) (hls : ls.size = nL) (hcat : (st.map fun v => v.category).sum ≤ 8) (dec : decode cc pc = .ok (.invokevirtual 389, 3)) (kk : ∀ (H : Heap) (locs : List Loc), Hw D A s H locs (wX ty o ad q.2 ++ rs) → W p l e R s m args below meth c H locs 0 0 Q (F0 m (pc + 3) ls (.int (q.1) :: st))) : W p l e R s m args below meth c H locs 0 0 Q (F0 m pc ls (.int v1 :: .ref o :: st)) := KI.callV (As := [.int v1]) C (kX_soundByLaw l hc) tX_soundByLaw ⟨rfl, by decide, by decide, by show _ = some 1; decide +kernel⟩ 0 0 rfl rfl rfl hd (by decide) (Nat.zero_le _) (Nat.zero_le _) h hls rfl hcat dec kk
def X_worthOf_j46 (σ : PS) : Option (Int32 × PS) := bd (X_lays σ) (fun q_1 => bd (X_soundMany q_1) (fun q_2 => some (q_2, q_1)))
def X_worthOf_j39 (σ : PS) (v1 : Int32) (v2 : Int32) (x0 : Int32) (x1 : Int32) : Option ((Int32 × PS) ⊕ (Int32 × PS)) := ix x1 7 (nm (wA σ 5 x1 x0) (fun σ_3 => nm (v2 + 1) (fun v2_4 => some (.inl (v2_4, σ_3)))))
def X_worthOf_l2 (v1 : Int32) (v2 : Int32) (σ : PS) : Option ((Int32 × PS) ⊕ (Int32 × PS)) := if (gI σ 106) ≤ v2 then up (X_worthOf_j46 σ) else bd (X_isOf v1 v2) (fun q_5 => if q_5 = 0 then X_worthOf_j39 σ v1 v2 0 v2 else ix v2 7 (X_worthOf_j39 σ v1 v2 (rA σ 109 v2) v2))
def X_worthOf_B2 (v1 : Int32) : (Int32 × PS) → Option ((Int32 × PS) ⊕ (Int32 × PS)) := fun t => X_worthOf_l2 v1 t.1 t.2
def X_worthOf (σ : PS) (v1 : Int32) : Option (Int32 × PS) := loop (X_worthOf_B2 v1) fu (0, σ)
set_option maxHeartbeats 4000000 in
theorem kX_worthOf (l : Launch) {D : va_G} {ty : Nat → ClassId} {A : Nat → Prop} {o : Nat} {ad : Nat → Nat} {rs : va_W} {σ : PS} {σ' : PS} {v1 : Int32} {r : Int32} (hf : X_worthOf σ v1 = some (r, σ')) : KI l yX0_worthOf cX0_worthOf 3 .int 7 D ty A (wX ty o ad σ ++ rs) (wX ty o ad σ' ++ rs) [.ref o, .int v1] r := by
  refine KI.of (by decide) (Nat.le_of_ble_eq_true rfl) ?_
  intro p e R s m args below meth c Q C hR
  have C : Cx p R s m args c cX0_worthOf 3 RX0 D ty A 7 := C
  have hR : ∀ (v : Int32) (σ2 : PS), (v, σ2) = (r, σ') → ∀ (H : Heap) (locs : List Loc) (pc : Nat) (ls : Array Slot), Hw D A s H locs (wX ty o ad σ2 ++ rs) → narrow .int (.int v) = .int v → decode cX0_worthOf pc = .ok (.ireturn, 1) → W p l e R s m args below meth c H locs 0 0 Q (F0 m pc ls [.int v]) := by intro v σ2 e9; cases e9; exact hR
  have j46 : ∀ (σ : PS) (H : Heap) (locs : List Loc) (ls : Array Slot), Hw D A s H locs (wX ty o ad σ ++ rs) → lv_has ls 3 [(0, .ref o)] → X_worthOf_j46 σ = some (r, σ') → W p l e R s m args below meth c H locs 0 0 Q (F0 m 46 ls []) := by
    intro σ H locs ls h hl hf
    unfold X_worthOf_j46 at hf
    refine lv_aload_n C.x C.b dX0_worthOf_46 rfl (lv_at hl 0 rfl) ?_
    obtain ⟨q_1, hc, hf⟩ := bd_k (K := fun x => x) rfl hf
    refine cX_lays C h hc (Nat.le_of_ble_eq_true rfl) hl.1 (Nat.le_of_ble_eq_true rfl) dX0_worthOf_47 (fun H locs h => ?_)
    refine lv_aload_n C.x C.b dX0_worthOf_50 rfl (lv_at hl 0 rfl) ?_
    obtain ⟨q_2, hc, hf⟩ := bd_k (K := fun x => x) rfl hf
    refine cX_soundMany C h hc (Nat.le_of_ble_eq_true rfl) hl.1 (Nat.le_of_ble_eq_true rfl) dX0_worthOf_51 (fun H locs h => ?_)
    exact hR _ _ (some_k hf) _ _ _ _ h rfl dX0_worthOf_54
  have l2 : ∀ (n2 : Nat) (v2 : Int32) (σ : PS) (H : Heap) (locs : List Loc) (ls : Array Slot), Hw D A s H locs (wX ty o ad σ ++ rs) → lv_has ls 3 [(0, .ref o), (1, .int v1), (2, .int v2)] → loop (X_worthOf_B2 v1) n2 (v2, σ) = some (r, σ') → W p l e R s m args below meth c H locs 0 0 Q (F0 m 2 ls []) := by
    intro n2
    induction n2 with
    | zero => intro v2 σ H locs ls h hl hf; exact (none_k hf).elim
    | succ n2 ih2 =>
      have j39 : ∀ (σ : PS) (v2 : Int32) (x0 : Int32) (x1 : Int32) (H : Heap) (locs : List Loc) (ls : Array Slot), Hw D A s H locs (wX ty o ad σ ++ rs) → lv_has ls 3 [(0, .ref o), (1, .int v1), (2, .int v2)] → bl (X_worthOf_B2 v1) n2 (X_worthOf_j39 σ v1 v2 x0 x1) = some (r, σ') → W p l e R s m args below meth c H locs 0 0 Q (F0 m 39 ls [.int x0, .int x1, .ref (ad 5)]) := by
        intro σ v2 x0 x1 H locs ls h hl hf
        unfold X_worthOf_j39 at hf
        obtain ⟨hi, hf⟩ := ix_k (K := bl (X_worthOf_B2 v1) n2) rfl hf
        obtain ⟨σ_3, e9, hf⟩ := nm_k (K := bl (X_worthOf_B2 v1) n2) hf
        refine x_w5 C h hi e9 dX0_worthOf_39 (fun H locs h => ?_)
        obtain ⟨v2_4, e9, hf⟩ := nm_k (K := bl (X_worthOf_B2 v1) n2) hf
        refine lv_iinc (v := v2_4) (lv' := [(2, .int v2_4), (0, .ref o), (1, .int v1)]) C.x C.b dX0_worthOf_40 hl (k := 2) rfl (iinc_e (k := 1) (by decide) e9) (by decide) rfl (fun ls hl => ?_)
        refine lv_goto (tgt := 2) C.x C.b dX0_worthOf_43 (by decide) ?_
        exact ih2 v2_4 σ_3 _ _ _ h (lv_sub hl [1, 2, 0] rfl) hf
      intro v2 σ H locs ls h hl hf
      have hf : bl (X_worthOf_B2 v1) n2 (X_worthOf_l2 v1 v2 σ) = some (r, σ') := hf
      unfold X_worthOf_l2 at hf
      refine lv_iload_n C.x C.b dX0_worthOf_2 rfl (lv_at hl 2 rfl) ?_
      refine lv_aload_n C.x C.b dX0_worthOf_3 rfl (lv_at hl 0 rfl) ?_
      refine x_g0 C h dX0_worthOf_4 ?_
      refine x_g106 C h dX0_worthOf_7 ?_
      refine lv_icmp_ge (tgt := 46) C.x C.b dX0_worthOf_10 (by decide) (fun c9 => ?_) (fun c9 => ?_)
      · have hf := if_t (K := bl (X_worthOf_B2 v1) n2) c9 hf
        have hf := bl_upK (K := fun x => x) hf
        exact j46 σ _ _ _ h (lv_sub hl [0] rfl) hf
      · have hf := if_f (K := bl (X_worthOf_B2 v1) n2) c9 hf
        refine lv_aload_n C.x C.b dX0_worthOf_13 rfl (lv_at hl 0 rfl) ?_
        refine x_g5 C h dX0_worthOf_14 ?_
        refine lv_iload_n C.x C.b dX0_worthOf_17 rfl (lv_at hl 2 rfl) ?_
        refine lv_iload_n C.x C.b dX0_worthOf_18 rfl (lv_at hl 1 rfl) ?_
        refine lv_iload_n C.x C.b dX0_worthOf_19 rfl (lv_at hl 2 rfl) ?_
        obtain ⟨q_5, hc, hf⟩ := bd_k (K := bl (X_worthOf_B2 v1) n2) rfl hf
        refine cX_isOf C h hc (Nat.le_of_ble_eq_true rfl) hl.1 (Nat.le_of_ble_eq_true rfl) dX0_worthOf_20 (fun H locs h => ?_)
        refine lv_if_eq (tgt := 38) C.x C.b dX0_worthOf_23 (by decide) (fun c9 => ?_) (fun c9 => ?_)
        · have hf := if_t (K := bl (X_worthOf_B2 v1) n2) c9 hf
          refine lv_iconst (v := 0) C.x C.b dX0_worthOf_38 (by decide) ?_
          exact j39 σ v2 0 v2 _ _ _ h (lv_sub hl [0, 1, 2] rfl) hf
        · have hf := if_f (K := bl (X_worthOf_B2 v1) n2) c9 hf
          refine lv_aload_n C.x C.b dX0_worthOf_26 rfl (lv_at hl 0 rfl) ?_
          refine x_g0 C h dX0_worthOf_27 ?_
          refine x_g109 C h dX0_worthOf_30 ?_
          refine lv_iload_n C.x C.b dX0_worthOf_33 rfl (lv_at hl 2 rfl) ?_
          obtain ⟨hi, hf⟩ := ix_k (K := bl (X_worthOf_B2 v1) n2) rfl hf
          refine x_a109 C h hi dX0_worthOf_34 ?_
          refine lv_goto (tgt := 39) C.x C.b dX0_worthOf_35 (by decide) ?_
          exact j39 σ v2 (rA σ 109 v2) v2 _ _ _ h (lv_sub hl [0, 1, 2] rfl) hf
  intro H locs ls h hl
  have hl : lv_has ls 3 [(0, .ref o), (1, .int v1)] := hl
  unfold X_worthOf at hf
  refine lv_iconst (v := 0) C.x C.b dX0_worthOf_0 (by decide) ?_
  refine lv_istore_n (lv' := [(2, .int 0), (0, .ref o), (1, .int v1)]) C.x C.b dX0_worthOf_1 rfl hl (by decide) rfl (fun ls hl => ?_)
  exact l2  fu 0 σ _ _ _ h (lv_sub hl [1, 2, 0] rfl) hf
theorem tX_worthOf : GoodIn lw_all (wsV RX0 402 RX0 yX0_worthOf (ws_ yX0_worthOf cX0_worthOf 3 (some .int))) := lw_V q1245 q1247 qs60 q137 q1248
theorem cX_worthOf {p : Program} {l : Launch} {e : Env} {R : Room} {s : State} {m : MethodId} {args : Array Value} {below : List Frame} {meth : Method} {c : Code} {H : Heap} {locs : List Loc} {Q : State → Prop} {cc : ByteArray} {pc : Nat} {ls : Array Slot} {st : List Value} {nL d : Nat} {D : va_G} {ty : Nat → ClassId} {A : Nat → Prop} {o : Nat} {ad : Nat → Nat} {rs : va_W} {σ : PS} {v1 : Int32} {q : (Int32 × PS)} (C : Cx p R s m args c cc nL RX0 D ty A d) (h : Hw D A s H locs (wX ty o ad σ ++ rs)) (hc : X_worthOf σ v1 = some q) (hd : 7 + 1 ≤ d) (hls : ls.size = nL) (hcat : (st.map fun v => v.category).sum ≤ 8) (dec : decode cc pc = .ok (.invokevirtual 402, 3)) (kk : ∀ (H : Heap) (locs : List Loc), Hw D A s H locs (wX ty o ad q.2 ++ rs) → W p l e R s m args below meth c H locs 0 0 Q (F0 m (pc + 3) ls (.int (q.1) :: st))) : W p l e R s m args below meth c H locs 0 0 Q (F0 m pc ls (.int v1 :: .ref o :: st)) := KI.callV (As := [.int v1]) C (kX_worthOf l hc) tX_worthOf ⟨rfl, by decide, by decide, by show _ = some 1; decide +kernel⟩ 0 0 rfl rfl rfl hd (by decide) (Nat.zero_le _) (Nat.zero_le _) h hls rfl hcat dec kk
def X_share_j132 (σ : PS) (v2 : Int32) (v3 : Int64) : Option (Int32 × PS) := bd (X_factorial (gI σ 106)) (fun q_1 => bd (X_part v3 q_1 v2) (fun q_2 => some (q_2.toInt32, σ)))
def X_share_j126 (σ : PS) (v1 : Int32) (v2 : Int32) (v3 : Int64) (v5 : Int32) : Option ((Int64 × Int32) ⊕ (Int32 × PS)) := nm (v5 + 1) (fun v5_3 => some (.inl (v3, v5_3)))
def X_share_l56 (σ : PS) (v1 : Int32) (v2 : Int32) (v3 : Int64) (v5 : Int32) : Option ((Int64 × Int32) ⊕ (Int32 × PS)) := bd (X_everyZone σ) (fun q_4 => if q_4 < v5 then up (X_share_j132 σ v2 v3) else bd (J_bitCount v5) (fun q_5 => bd (X_isOf v5 v1) (fun q_6 => if q_6 = 0 then bd (X_factorial q_5) (fun q_7 => bd (X_factorial (((gI σ 106) - 1) - q_5)) (fun q_8 => ix (v5 ||| (1 <<< (v1 &&& 31))) 128 (ix v5 128 (nm (v3 + ((q_7 * q_8) * (((rA σ 26 (v5 ||| (1 <<< (v1 &&& 31)))) - (rA σ 26 v5)).toInt64))) (fun v3_9 => X_share_j126 σ v1 v2 v3_9 v5))))) else X_share_j126 σ v1 v2 v3 v5)))
def X_share_B56 (σ : PS) (v1 : Int32) (v2 : Int32) : (Int64 × Int32) → Option ((Int64 × Int32) ⊕ (Int32 × PS)) := fun t => X_share_l56 σ v1 v2 t.1 t.2
def X_share_j51 (σ : PS) (v1 : Int32) (v2 : Int32) : Option (Int32 × PS) := loop (X_share_B56 σ v1 v2) fu (0, 0)
def X_share_l26 (v1 : Int32) (v2 : Int32) (v3 : Int32) (σ : PS) : Option ((Int32 × PS) ⊕ (Int32 × PS)) := bd (X_everyZone σ) (fun q_10 => if q_10 < v3 then up (X_share_j51 σ v1 v2) else bd (X_worthOf σ v3) (fun q_11 => ix v3 128 (nm (wA q_11.2 26 v3 q_11.1) (fun σ_12 => nm (v3 + 1) (fun v3_13 => some (.inl (v3_13, σ_12)))))))
def X_share_B26 (v1 : Int32) (v2 : Int32) : (Int32 × PS) → Option ((Int32 × PS) ⊕ (Int32 × PS)) := fun t => X_share_l26 v1 v2 t.1 t.2
def X_share_j16 (σ : PS) : Option (Int32 × PS) := some ((-1000000), σ)
def X_share (σ : PS) (v1 : Int32) (v2 : Int32) : Option (Int32 × PS) := bd (X_isZone σ v1) (fun q_14 => if q_14 = 0 then X_share_j16 σ else bd (X_isOneOf v2 2) (fun q_15 => if q_15 = 0 then X_share_j16 σ else bd (X_asItIs σ) (fun q_16 => loop (X_share_B26 v1 v2) fu (0, q_16))))
set_option maxHeartbeats 4000000 in
theorem kX_share (l : Launch) {D : va_G} {ty : Nat → ClassId} {A : Nat → Prop} {o : Nat} {ad : Nat → Nat} {rs : va_W} {σ : PS} {σ' : PS} {v1 : Int32} {v2 : Int32} {r : Int32} (hf : X_share σ v1 v2 = some (r, σ')) : KI l yX0_share cX0_share 7 .int 8 D ty A (wX ty o ad σ ++ rs) (wX ty o ad σ' ++ rs) [.ref o, .int v1, .int v2] r := by
  refine KI.of (by decide) (Nat.le_of_ble_eq_true rfl) ?_
  intro p e R s m args below meth c Q C hR
  have C : Cx p R s m args c cX0_share 7 RX0 D ty A 8 := C
  have hR : ∀ (v : Int32) (σ2 : PS), (v, σ2) = (r, σ') → ∀ (H : Heap) (locs : List Loc) (pc : Nat) (ls : Array Slot), Hw D A s H locs (wX ty o ad σ2 ++ rs) → narrow .int (.int v) = .int v → decode cX0_share pc = .ok (.ireturn, 1) → W p l e R s m args below meth c H locs 0 0 Q (F0 m pc ls [.int v]) := by intro v σ2 e9; cases e9; exact hR
  have j132 : ∀ (σ : PS) (v3 : Int64) (H : Heap) (locs : List Loc) (ls : Array Slot), Hw D A s H locs (wX ty o ad σ ++ rs) → lv_has ls 7 [(0, .ref o), (2, .int v2), (3, .long v3)] → X_share_j132 σ v2 v3 = some (r, σ') → W p l e R s m args below meth c H locs 0 0 Q (F0 m 132 ls []) := by
    intro σ v3 H locs ls h hl hf
    unfold X_share_j132 at hf
    refine lv_lload_n C.x C.b dX0_share_132 rfl (lv_at hl 2 rfl) ?_
    refine lv_aload_n C.x C.b dX0_share_133 rfl (lv_at hl 0 rfl) ?_
    refine x_g0 C h dX0_share_134 ?_
    refine x_g106 C h dX0_share_137 ?_
    obtain ⟨q_1, hc, hf⟩ := bd_k (K := fun x => x) rfl hf
    refine cX_factorial C h hc (Nat.le_of_ble_eq_true rfl) hl.1 (Nat.le_of_ble_eq_true rfl) dX0_share_140 (fun H locs h => ?_)
    refine lv_iload_n C.x C.b dX0_share_143 rfl (lv_at hl 1 rfl) ?_
    obtain ⟨q_2, hc, hf⟩ := bd_k (K := fun x => x) rfl hf
    refine cX_part C h hc (Nat.le_of_ble_eq_true rfl) hl.1 (Nat.le_of_ble_eq_true rfl) dX0_share_144 (fun H locs h => ?_)
    refine lv_l2i C.x C.b dX0_share_147 rfl ?_
    exact hR _ _ (some_k hf) _ _ _ _ h rfl dX0_share_148
  have l56 : ∀ (σ : PS) (n56 : Nat) (v3 : Int64) (v5 : Int32) (H : Heap) (locs : List Loc) (ls : Array Slot), Hw D A s H locs (wX ty o ad σ ++ rs) → lv_has ls 7 [(0, .ref o), (1, .int v1), (2, .int v2), (3, .long v3), (5, .int v5)] → loop (X_share_B56 σ v1 v2) n56 (v3, v5) = some (r, σ') → W p l e R s m args below meth c H locs 0 0 Q (F0 m 56 ls []) := by
    intro σ n56
    induction n56 with
    | zero => intro v3 v5 H locs ls h hl hf; exact (none_k hf).elim
    | succ n56 ih56 =>
      have j126 : ∀ (v3 : Int64) (v5 : Int32) (H : Heap) (locs : List Loc) (ls : Array Slot), Hw D A s H locs (wX ty o ad σ ++ rs) → lv_has ls 7 [(0, .ref o), (1, .int v1), (2, .int v2), (3, .long v3), (5, .int v5)] → bl (X_share_B56 σ v1 v2) n56 (X_share_j126 σ v1 v2 v3 v5) = some (r, σ') → W p l e R s m args below meth c H locs 0 0 Q (F0 m 126 ls []) := by
        intro v3 v5 H locs ls h hl hf
        unfold X_share_j126 at hf
        obtain ⟨v5_3, e9, hf⟩ := nm_k (K := bl (X_share_B56 σ v1 v2) n56) hf
        refine lv_iinc (v := v5_3) (lv' := [(5, .int v5_3), (0, .ref o), (1, .int v1), (2, .int v2), (3, .long v3)]) C.x C.b dX0_share_126 hl (k := 4) rfl (iinc_e (k := 1) (by decide) e9) (by decide) rfl (fun ls hl => ?_)
        refine lv_goto (tgt := 56) C.x C.b dX0_share_129 (by decide) ?_
        exact ih56 v3 v5_3 _ _ _ h (lv_sub hl [1, 2, 3, 4, 0] rfl) hf
      intro v3 v5 H locs ls h hl hf
      have hf : bl (X_share_B56 σ v1 v2) n56 (X_share_l56 σ v1 v2 v3 v5) = some (r, σ') := hf
      unfold X_share_l56 at hf
      refine lv_iload C.x C.b dX0_share_56 (lv_at hl 4 rfl) ?_
      refine lv_aload_n C.x C.b dX0_share_58 rfl (lv_at hl 0 rfl) ?_
      obtain ⟨q_4, hc, hf⟩ := bd_k (K := bl (X_share_B56 σ v1 v2) n56) rfl hf
      refine cX_everyZone C h hc (Nat.le_of_ble_eq_true rfl) hl.1 (Nat.le_of_ble_eq_true rfl) dX0_share_59 (fun H locs h => ?_)
      refine lv_icmp_gt (tgt := 132) C.x C.b dX0_share_62 (by decide) (fun c9 => ?_) (fun c9 => ?_)
      · have hf := if_t (K := bl (X_share_B56 σ v1 v2) n56) c9 hf
        have hf := bl_upK (K := fun x => x) hf
        exact j132 σ v3 _ _ _ h (lv_sub hl [0, 2, 3] rfl) hf
      · have hf := if_f (K := bl (X_share_B56 σ v1 v2) n56) c9 hf
        refine lv_iload C.x C.b dX0_share_65 (lv_at hl 4 rfl) ?_
        obtain ⟨q_5, hc, hf⟩ := bd_k (K := bl (X_share_B56 σ v1 v2) n56) rfl hf
        refine cJ_bitCount_RX0 C h hc (Nat.le_of_ble_eq_true rfl) hl.1 (Nat.le_of_ble_eq_true rfl) dX0_share_67 (fun H locs h => ?_)
        refine lv_istore (lv' := [(6, .int q_5), (0, .ref o), (1, .int v1), (2, .int v2), (3, .long v3), (5, .int v5)]) C.x C.b dX0_share_70 hl (by decide) rfl (fun ls hl => ?_)
        refine lv_iload C.x C.b dX0_share_72 (lv_at hl 5 rfl) ?_
        refine lv_iload_n C.x C.b dX0_share_74 rfl (lv_at hl 2 rfl) ?_
        obtain ⟨q_6, hc, hf⟩ := bd_k (K := bl (X_share_B56 σ v1 v2) n56) rfl hf
        refine cX_isOf C h hc (Nat.le_of_ble_eq_true rfl) hl.1 (Nat.le_of_ble_eq_true rfl) dX0_share_75 (fun H locs h => ?_)
        refine lv_if_ne (tgt := 126) C.x C.b dX0_share_78 (by decide) (fun c9 => ?_) (fun c9 => ?_)
        · have hf := if_f (K := bl (X_share_B56 σ v1 v2) n56) c9 hf
          exact j126 v3 v5 _ _ _ h (lv_sub hl [1, 2, 3, 4, 5] rfl) hf
        · have hf := if_t (K := bl (X_share_B56 σ v1 v2) n56) c9 hf
          refine lv_lload_n C.x C.b dX0_share_81 rfl (lv_at hl 4 rfl) ?_
          refine lv_iload C.x C.b dX0_share_82 (lv_at hl 0 rfl) ?_
          obtain ⟨q_7, hc, hf⟩ := bd_k (K := bl (X_share_B56 σ v1 v2) n56) rfl hf
          refine cX_factorial C h hc (Nat.le_of_ble_eq_true rfl) hl.1 (Nat.le_of_ble_eq_true rfl) dX0_share_84 (fun H locs h => ?_)
          refine lv_aload_n C.x C.b dX0_share_87 rfl (lv_at hl 1 rfl) ?_
          refine x_g0 C h dX0_share_88 ?_
          refine x_g106 C h dX0_share_91 ?_
          refine lv_iconst (v := 1) C.x C.b dX0_share_94 (by decide) ?_
          refine lv_isub C.x C.b dX0_share_95 ?_
          refine lv_iload C.x C.b dX0_share_96 (lv_at hl 0 rfl) ?_
          refine lv_isub C.x C.b dX0_share_98 ?_
          obtain ⟨q_8, hc, hf⟩ := bd_k (K := bl (X_share_B56 σ v1 v2) n56) rfl hf
          refine cX_factorial C h hc (Nat.le_of_ble_eq_true rfl) hl.1 (Nat.le_of_ble_eq_true rfl) dX0_share_99 (fun H locs h => ?_)
          refine lv_lmul C.x C.b dX0_share_102 ?_
          refine lv_aload_n C.x C.b dX0_share_103 rfl (lv_at hl 1 rfl) ?_
          refine x_g26 C h dX0_share_104 ?_
          refine lv_iload C.x C.b dX0_share_107 (lv_at hl 5 rfl) ?_
          refine lv_iconst (v := 1) C.x C.b dX0_share_109 (by decide) ?_
          refine lv_iload_n C.x C.b dX0_share_110 rfl (lv_at hl 2 rfl) ?_
          refine lv_ishl C.x C.b dX0_share_111 ?_
          refine lv_ior C.x C.b dX0_share_112 ?_
          obtain ⟨hi, hf⟩ := ix_k (K := bl (X_share_B56 σ v1 v2) n56) rfl hf
          refine x_a26 C h hi dX0_share_113 ?_
          refine lv_aload_n C.x C.b dX0_share_114 rfl (lv_at hl 1 rfl) ?_
          refine x_g26 C h dX0_share_115 ?_
          refine lv_iload C.x C.b dX0_share_118 (lv_at hl 5 rfl) ?_
          obtain ⟨hi, hf⟩ := ix_k (K := bl (X_share_B56 σ v1 v2) n56) rfl hf
          refine x_a26 C h hi dX0_share_120 ?_
          refine lv_isub C.x C.b dX0_share_121 ?_
          refine lv_i2l C.x C.b dX0_share_122 rfl ?_
          refine lv_lmul C.x C.b dX0_share_123 ?_
          refine lv_ladd C.x C.b dX0_share_124 ?_
          obtain ⟨v3_9, e9, hf⟩ := nm_k (K := bl (X_share_B56 σ v1 v2) n56) hf
          refine lv_topL e9 ?_
          refine lv_lstore_n (lv' := [(3, .long v3_9), (6, .int q_5), (0, .ref o), (1, .int v1), (2, .int v2), (5, .int v5)]) C.x C.b dX0_share_125 rfl hl (by decide) rfl (fun ls hl => ?_)
          exact j126 v3_9 v5 _ _ _ h (lv_sub hl [2, 3, 4, 0, 5] rfl) hf
  have j51 : ∀ (σ : PS) (H : Heap) (locs : List Loc) (ls : Array Slot), Hw D A s H locs (wX ty o ad σ ++ rs) → lv_has ls 7 [(0, .ref o), (1, .int v1), (2, .int v2)] → X_share_j51 σ v1 v2 = some (r, σ') → W p l e R s m args below meth c H locs 0 0 Q (F0 m 51 ls []) := by
    intro σ H locs ls h hl hf
    unfold X_share_j51 at hf
    refine lv_lconst (v := 0) C.x C.b dX0_share_51 (by decide) ?_
    refine lv_lstore_n (lv' := [(3, .long 0), (0, .ref o), (1, .int v1), (2, .int v2)]) C.x C.b dX0_share_52 rfl hl (by decide) rfl (fun ls hl => ?_)
    refine lv_iconst (v := 0) C.x C.b dX0_share_53 (by decide) ?_
    refine lv_istore (lv' := [(5, .int 0), (3, .long 0), (0, .ref o), (1, .int v1), (2, .int v2)]) C.x C.b dX0_share_54 hl (by decide) rfl (fun ls hl => ?_)
    exact l56 σ fu 0 0 _ _ _ h (lv_sub hl [2, 3, 4, 1, 0] rfl) hf
  have l26 : ∀ (n26 : Nat) (v3 : Int32) (σ : PS) (H : Heap) (locs : List Loc) (ls : Array Slot), Hw D A s H locs (wX ty o ad σ ++ rs) → lv_has ls 7 [(0, .ref o), (1, .int v1), (2, .int v2), (3, .int v3)] → loop (X_share_B26 v1 v2) n26 (v3, σ) = some (r, σ') → W p l e R s m args below meth c H locs 0 0 Q (F0 m 26 ls []) := by
    intro n26
    induction n26 with
    | zero => intro v3 σ H locs ls h hl hf; exact (none_k hf).elim
    | succ n26 ih26 =>
      intro v3 σ H locs ls h hl hf
      have hf : bl (X_share_B26 v1 v2) n26 (X_share_l26 v1 v2 v3 σ) = some (r, σ') := hf
      unfold X_share_l26 at hf
      refine lv_iload_n C.x C.b dX0_share_26 rfl (lv_at hl 3 rfl) ?_
      refine lv_aload_n C.x C.b dX0_share_27 rfl (lv_at hl 0 rfl) ?_
      obtain ⟨q_10, hc, hf⟩ := bd_k (K := bl (X_share_B26 v1 v2) n26) rfl hf
      refine cX_everyZone C h hc (Nat.le_of_ble_eq_true rfl) hl.1 (Nat.le_of_ble_eq_true rfl) dX0_share_28 (fun H locs h => ?_)
      refine lv_icmp_gt (tgt := 51) C.x C.b dX0_share_31 (by decide) (fun c9 => ?_) (fun c9 => ?_)
      · have hf := if_t (K := bl (X_share_B26 v1 v2) n26) c9 hf
        have hf := bl_upK (K := fun x => x) hf
        exact j51 σ _ _ _ h (lv_sub hl [0, 1, 2] rfl) hf
      · have hf := if_f (K := bl (X_share_B26 v1 v2) n26) c9 hf
        refine lv_aload_n C.x C.b dX0_share_34 rfl (lv_at hl 0 rfl) ?_
        refine x_g26 C h dX0_share_35 ?_
        refine lv_iload_n C.x C.b dX0_share_38 rfl (lv_at hl 3 rfl) ?_
        refine lv_aload_n C.x C.b dX0_share_39 rfl (lv_at hl 0 rfl) ?_
        refine lv_iload_n C.x C.b dX0_share_40 rfl (lv_at hl 3 rfl) ?_
        obtain ⟨q_11, hc, hf⟩ := bd_k (K := bl (X_share_B26 v1 v2) n26) rfl hf
        refine cX_worthOf C h hc (Nat.le_of_ble_eq_true rfl) hl.1 (Nat.le_of_ble_eq_true rfl) dX0_share_41 (fun H locs h => ?_)
        obtain ⟨hi, hf⟩ := ix_k (K := bl (X_share_B26 v1 v2) n26) rfl hf
        obtain ⟨σ_12, e9, hf⟩ := nm_k (K := bl (X_share_B26 v1 v2) n26) hf
        refine x_w26 C h hi e9 dX0_share_44 (fun H locs h => ?_)
        obtain ⟨v3_13, e9, hf⟩ := nm_k (K := bl (X_share_B26 v1 v2) n26) hf
        refine lv_iinc (v := v3_13) (lv' := [(3, .int v3_13), (0, .ref o), (1, .int v1), (2, .int v2)]) C.x C.b dX0_share_45 hl (k := 3) rfl (iinc_e (k := 1) (by decide) e9) (by decide) rfl (fun ls hl => ?_)
        refine lv_goto (tgt := 26) C.x C.b dX0_share_48 (by decide) ?_
        exact ih26 v3_13 σ_12 _ _ _ h (lv_sub hl [1, 2, 3, 0] rfl) hf
  have j16 : ∀ (σ : PS) (H : Heap) (locs : List Loc) (ls : Array Slot), Hw D A s H locs (wX ty o ad σ ++ rs) → lv_has ls 7 [] → X_share_j16 σ = some (r, σ') → W p l e R s m args below meth c H locs 0 0 Q (F0 m 16 ls []) := by
    intro σ H locs ls h hl hf
    unfold X_share_j16 at hf
    refine lv_ldcw (v := (-1000000)) C.x C.b C.own (C.ts _ q1253) dX0_share_16 ?_
    exact hR _ _ (some_k hf) _ _ _ _ h rfl dX0_share_19
  intro H locs ls h hl
  have hl : lv_has ls 7 [(0, .ref o), (1, .int v1), (2, .int v2)] := hl
  unfold X_share at hf
  refine lv_aload_n C.x C.b dX0_share_0 rfl (lv_at hl 0 rfl) ?_
  refine lv_iload_n C.x C.b dX0_share_1 rfl (lv_at hl 1 rfl) ?_
  obtain ⟨q_14, hc, hf⟩ := bd_k (K := fun x => x) rfl hf
  refine cX_isZone C h hc (Nat.le_of_ble_eq_true rfl) hl.1 (Nat.le_of_ble_eq_true rfl) dX0_share_2 (fun H locs h => ?_)
  refine lv_if_eq (tgt := 16) C.x C.b dX0_share_5 (by decide) (fun c9 => ?_) (fun c9 => ?_)
  · have hf := if_t (K := fun x => x) c9 hf
    exact j16 σ _ _ _ h (lv_sub hl [] rfl) hf
  · have hf := if_f (K := fun x => x) c9 hf
    refine lv_iload_n C.x C.b dX0_share_8 rfl (lv_at hl 2 rfl) ?_
    refine lv_iconst (v := 2) C.x C.b dX0_share_9 (by decide) ?_
    obtain ⟨q_15, hc, hf⟩ := bd_k (K := fun x => x) rfl hf
    refine cX_isOneOf C h hc (Nat.le_of_ble_eq_true rfl) hl.1 (Nat.le_of_ble_eq_true rfl) dX0_share_10 (fun H locs h => ?_)
    refine lv_if_ne (tgt := 20) C.x C.b dX0_share_13 (by decide) (fun c9 => ?_) (fun c9 => ?_)
    · have hf := if_f (K := fun x => x) c9 hf
      refine lv_aload_n C.x C.b dX0_share_20 rfl (lv_at hl 0 rfl) ?_
      obtain ⟨q_16, hc, hf⟩ := bd_k (K := fun x => x) rfl hf
      refine cX_asItIs C h hc (Nat.le_of_ble_eq_true rfl) hl.1 (Nat.le_of_ble_eq_true rfl) dX0_share_21 (fun H locs h => ?_)
      refine lv_iconst (v := 0) C.x C.b dX0_share_24 (by decide) ?_
      refine lv_istore_n (lv' := [(3, .int 0), (0, .ref o), (1, .int v1), (2, .int v2)]) C.x C.b dX0_share_25 rfl hl (by decide) rfl (fun ls hl => ?_)
      exact l26  fu 0 q_16 _ _ _ h (lv_sub hl [1, 2, 3, 0] rfl) hf
    · have hf := if_t (K := fun x => x) c9 hf
      exact j16 σ _ _ _ h (lv_sub hl [] rfl) hf
def X_getsOf_j76 (σ : PS) (x0 : Int32) (x1 : Int32) : Option (Int32 × PS) := some (x1 - x0, σ)
def X_getsOf_j57 (σ : PS) (v3 : Int32) (v4 : Int32) (x0 : Int32) (x1 : Int32) (x2 : Int32) : Option (Int32 × PS) := bd (J_bitCount (x1 &&& x0)) (fun q_1 => bd (X_isOf v3 v4) (fun q_2 => if q_2 = 0 then X_getsOf_j76 σ 0 (x2 * q_1) else X_getsOf_j76 σ 2 (x2 * q_1)))
def X_getsOf_j36 (σ : PS) (v3 : Int32) (v4 : Int32) : Option (Int32 × PS) := bd (X_lays σ) (fun q_3 => bd (X_soundNow q_3) (fun q_4 => if v4 = 0 then X_getsOf_j57 q_3 v3 v4 21 q_4 3 else X_getsOf_j57 q_3 v3 v4 42 q_4 3))
def X_getsOf_j20 (σ : PS) (v2 : Int32) (v3 : Int32) (v4 : Int32) : Option (Int32 × PS) := bd (X_isOf v3 1) (fun q_5 => if q_5 = 0 then X_getsOf_j36 σ v3 v4 else ix v2 7 (nm (wA σ 6 v2 50) (fun σ_6 => X_getsOf_j36 σ_6 v3 v4)))
def X_getsOf (σ : PS) (v1 : Int32) (v2 : Int32) (v3 : Int32) (v4 : Int32) : Option (Int32 × PS) := bd (X_asItIs σ) (fun q_7 => bd (X_isOf v3 0) (fun q_8 => if q_8 = 0 then X_getsOf_j20 q_7 v2 v3 v4 else ix v1 7 (nm (wA q_7 6 v1 50) (fun σ_9 => X_getsOf_j20 σ_9 v2 v3 v4))))
set_option maxHeartbeats 4000000 in
theorem kX_getsOf (l : Launch) {D : va_G} {ty : Nat → ClassId} {A : Nat → Prop} {o : Nat} {ad : Nat → Nat} {rs : va_W} {σ : PS} {σ' : PS} {v1 : Int32} {v2 : Int32} {v3 : Int32} {v4 : Int32} {r : Int32} (hf : X_getsOf σ v1 v2 v3 v4 = some (r, σ')) : KI l yX0_getsOf cX0_getsOf 5 .int 7 D ty A (wX ty o ad σ ++ rs) (wX ty o ad σ' ++ rs) [.ref o, .int v1, .int v2, .int v3, .int v4] r := by
  refine KI.of (by decide) (Nat.le_of_ble_eq_true rfl) ?_
  intro p e R s m args below meth c Q C hR
  have C : Cx p R s m args c cX0_getsOf 5 RX0 D ty A 7 := C
  have hR : ∀ (v : Int32) (σ2 : PS), (v, σ2) = (r, σ') → ∀ (H : Heap) (locs : List Loc) (pc : Nat) (ls : Array Slot), Hw D A s H locs (wX ty o ad σ2 ++ rs) → narrow .int (.int v) = .int v → decode cX0_getsOf pc = .ok (.ireturn, 1) → W p l e R s m args below meth c H locs 0 0 Q (F0 m pc ls [.int v]) := by intro v σ2 e9; cases e9; exact hR
  have j76 : ∀ (σ : PS) (x0 : Int32) (x1 : Int32) (H : Heap) (locs : List Loc) (ls : Array Slot), Hw D A s H locs (wX ty o ad σ ++ rs) → lv_has ls 5 [] → X_getsOf_j76 σ x0 x1 = some (r, σ') → W p l e R s m args below meth c H locs 0 0 Q (F0 m 76 ls [.int x0, .int x1]) := by
    intro σ x0 x1 H locs ls h hl hf
    unfold X_getsOf_j76 at hf
    refine lv_isub C.x C.b dX0_getsOf_76 ?_
    exact hR _ _ (some_k hf) _ _ _ _ h rfl dX0_getsOf_77
  have j57 : ∀ (σ : PS) (x0 : Int32) (x1 : Int32) (x2 : Int32) (H : Heap) (locs : List Loc) (ls : Array Slot), Hw D A s H locs (wX ty o ad σ ++ rs) → lv_has ls 5 [(3, .int v3), (4, .int v4)] → X_getsOf_j57 σ v3 v4 x0 x1 x2 = some (r, σ') → W p l e R s m args below meth c H locs 0 0 Q (F0 m 57 ls [.int x0, .int x1, .int x2]) := by
    intro σ x0 x1 x2 H locs ls h hl hf
    unfold X_getsOf_j57 at hf
    refine lv_iand C.x C.b dX0_getsOf_57 ?_
    obtain ⟨q_1, hc, hf⟩ := bd_k (K := fun x => x) rfl hf
    refine cJ_bitCount_RX0 C h hc (Nat.le_of_ble_eq_true rfl) hl.1 (Nat.le_of_ble_eq_true rfl) dX0_getsOf_58 (fun H locs h => ?_)
    refine lv_imul C.x C.b dX0_getsOf_61 ?_
    refine lv_iload_n C.x C.b dX0_getsOf_62 rfl (lv_at hl 0 rfl) ?_
    refine lv_iload C.x C.b dX0_getsOf_63 (lv_at hl 1 rfl) ?_
    obtain ⟨q_2, hc, hf⟩ := bd_k (K := fun x => x) rfl hf
    refine cX_isOf C h hc (Nat.le_of_ble_eq_true rfl) hl.1 (Nat.le_of_ble_eq_true rfl) dX0_getsOf_65 (fun H locs h => ?_)
    refine lv_if_eq (tgt := 75) C.x C.b dX0_getsOf_68 (by decide) (fun c9 => ?_) (fun c9 => ?_)
    · have hf := if_t (K := fun x => x) c9 hf
      refine lv_iconst (v := 0) C.x C.b dX0_getsOf_75 (by decide) ?_
      exact j76 σ 0 (x2 * q_1) _ _ _ h (lv_sub hl [] rfl) hf
    · have hf := if_f (K := fun x => x) c9 hf
      refine lv_iconst (v := 2) C.x C.b dX0_getsOf_71 (by decide) ?_
      refine lv_goto (tgt := 76) C.x C.b dX0_getsOf_72 (by decide) ?_
      exact j76 σ 2 (x2 * q_1) _ _ _ h (lv_sub hl [] rfl) hf
  have j36 : ∀ (σ : PS) (H : Heap) (locs : List Loc) (ls : Array Slot), Hw D A s H locs (wX ty o ad σ ++ rs) → lv_has ls 5 [(0, .ref o), (3, .int v3), (4, .int v4)] → X_getsOf_j36 σ v3 v4 = some (r, σ') → W p l e R s m args below meth c H locs 0 0 Q (F0 m 36 ls []) := by
    intro σ H locs ls h hl hf
    unfold X_getsOf_j36 at hf
    refine lv_aload_n C.x C.b dX0_getsOf_36 rfl (lv_at hl 0 rfl) ?_
    obtain ⟨q_3, hc, hf⟩ := bd_k (K := fun x => x) rfl hf
    refine cX_lays C h hc (Nat.le_of_ble_eq_true rfl) hl.1 (Nat.le_of_ble_eq_true rfl) dX0_getsOf_37 (fun H locs h => ?_)
    refine lv_iconst (v := 3) C.x C.b dX0_getsOf_40 (by decide) ?_
    refine lv_aload_n C.x C.b dX0_getsOf_41 rfl (lv_at hl 0 rfl) ?_
    obtain ⟨q_4, hc, hf⟩ := bd_k (K := fun x => x) rfl hf
    refine cX_soundNow C h hc (Nat.le_of_ble_eq_true rfl) hl.1 (Nat.le_of_ble_eq_true rfl) dX0_getsOf_42 (fun H locs h => ?_)
    refine lv_iload C.x C.b dX0_getsOf_45 (lv_at hl 2 rfl) ?_
    refine lv_if_ne (tgt := 55) C.x C.b dX0_getsOf_47 (by decide) (fun c9 => ?_) (fun c9 => ?_)
    · have hf := if_f (K := fun x => x) c9 hf
      refine lv_bipush (v := 42) C.x C.b dX0_getsOf_55 (by decide) ?_
      exact j57 q_3 42 q_4 3 _ _ _ h (lv_sub hl [1, 2] rfl) hf
    · have hf := if_t (K := fun x => x) c9 hf
      refine lv_bipush (v := 21) C.x C.b dX0_getsOf_50 (by decide) ?_
      refine lv_goto (tgt := 57) C.x C.b dX0_getsOf_52 (by decide) ?_
      exact j57 q_3 21 q_4 3 _ _ _ h (lv_sub hl [1, 2] rfl) hf
  have j20 : ∀ (σ : PS) (H : Heap) (locs : List Loc) (ls : Array Slot), Hw D A s H locs (wX ty o ad σ ++ rs) → lv_has ls 5 [(0, .ref o), (2, .int v2), (3, .int v3), (4, .int v4)] → X_getsOf_j20 σ v2 v3 v4 = some (r, σ') → W p l e R s m args below meth c H locs 0 0 Q (F0 m 20 ls []) := by
    intro σ H locs ls h hl hf
    unfold X_getsOf_j20 at hf
    refine lv_iload_n C.x C.b dX0_getsOf_20 rfl (lv_at hl 2 rfl) ?_
    refine lv_iconst (v := 1) C.x C.b dX0_getsOf_21 (by decide) ?_
    obtain ⟨q_5, hc, hf⟩ := bd_k (K := fun x => x) rfl hf
    refine cX_isOf C h hc (Nat.le_of_ble_eq_true rfl) hl.1 (Nat.le_of_ble_eq_true rfl) dX0_getsOf_22 (fun H locs h => ?_)
    refine lv_if_eq (tgt := 36) C.x C.b dX0_getsOf_25 (by decide) (fun c9 => ?_) (fun c9 => ?_)
    · have hf := if_t (K := fun x => x) c9 hf
      exact j36 σ _ _ _ h (lv_sub hl [0, 2, 3] rfl) hf
    · have hf := if_f (K := fun x => x) c9 hf
      refine lv_aload_n C.x C.b dX0_getsOf_28 rfl (lv_at hl 0 rfl) ?_
      refine x_g6 C h dX0_getsOf_29 ?_
      refine lv_iload_n C.x C.b dX0_getsOf_32 rfl (lv_at hl 1 rfl) ?_
      refine lv_bipush (v := 50) C.x C.b dX0_getsOf_33 (by decide) ?_
      obtain ⟨hi, hf⟩ := ix_k (K := fun x => x) rfl hf
      obtain ⟨σ_6, e9, hf⟩ := nm_k (K := fun x => x) hf
      refine x_w6 C h hi e9 dX0_getsOf_35 (fun H locs h => ?_)
      exact j36 σ_6 _ _ _ h (lv_sub hl [0, 2, 3] rfl) hf
  intro H locs ls h hl
  have hl : lv_has ls 5 [(0, .ref o), (1, .int v1), (2, .int v2), (3, .int v3), (4, .int v4)] := hl
  unfold X_getsOf at hf
  refine lv_aload_n C.x C.b dX0_getsOf_0 rfl (lv_at hl 0 rfl) ?_
  obtain ⟨q_7, hc, hf⟩ := bd_k (K := fun x => x) rfl hf
  refine cX_asItIs C h hc (Nat.le_of_ble_eq_true rfl) hl.1 (Nat.le_of_ble_eq_true rfl) dX0_getsOf_1 (fun H locs h => ?_)
  refine lv_iload_n C.x C.b dX0_getsOf_4 rfl (lv_at hl 3 rfl) ?_
  refine lv_iconst (v := 0) C.x C.b dX0_getsOf_5 (by decide) ?_
  obtain ⟨q_8, hc, hf⟩ := bd_k (K := fun x => x) rfl hf
  refine cX_isOf C h hc (Nat.le_of_ble_eq_true rfl) hl.1 (Nat.le_of_ble_eq_true rfl) dX0_getsOf_6 (fun H locs h => ?_)
  refine lv_if_eq (tgt := 20) C.x C.b dX0_getsOf_9 (by decide) (fun c9 => ?_) (fun c9 => ?_)
  · have hf := if_t (K := fun x => x) c9 hf
    exact j20 q_7 _ _ _ h (lv_sub hl [0, 2, 3, 4] rfl) hf
  · have hf := if_f (K := fun x => x) c9 hf
    refine lv_aload_n C.x C.b dX0_getsOf_12 rfl (lv_at hl 0 rfl) ?_
    refine x_g6 C h dX0_getsOf_13 ?_
    refine lv_iload_n C.x C.b dX0_getsOf_16 rfl (lv_at hl 1 rfl) ?_
    refine lv_bipush (v := 50) C.x C.b dX0_getsOf_17 (by decide) ?_
    obtain ⟨hi, hf⟩ := ix_k (K := fun x => x) rfl hf
    obtain ⟨σ_9, e9, hf⟩ := nm_k (K := fun x => x) hf
    refine x_w6 C h hi e9 dX0_getsOf_19 (fun H locs h => ?_)
    exact j20 σ_9 _ _ _ h (lv_sub hl [0, 2, 3, 4] rfl) hf
theorem tX_getsOf : GoodIn lw_all (wsV RX0 416 RX0 yX0_getsOf (ws_ yX0_getsOf cX0_getsOf 5 (some .int))) := lw_V q1274 q1276 qs62 q137 q1277
theorem cX_getsOf {p : Program} {l : Launch} {e : Env} {R : Room} {s : State} {m : MethodId} {args : Array Value} {below : List Frame} {meth : Method} {c : Code} {H : Heap} {locs : List Loc} {Q : State → Prop} {cc : ByteArray} {pc : Nat} {ls : Array Slot} {st : List Value} {nL d : Nat} {D : va_G} {ty : Nat → ClassId} {A : Nat → Prop} {o : Nat} {ad : Nat → Nat} {rs : va_W} {σ : PS} {v1 : Int32} {v2 : Int32} {v3 : Int32} {v4 : Int32} {q : (Int32 × PS)} (C : Cx p R s m args c cc nL RX0 D ty A d) (h : Hw D A s H locs (wX ty o ad σ ++ rs)) (hc : X_getsOf σ v1 v2 v3 v4 = some q) (hd : 7 + 1 ≤ d) (hls : ls.size = nL) (hcat : (st.map fun v => v.category).sum ≤ 8) (dec : decode cc pc = .ok (.invokevirtual 416, 3)) (kk : ∀ (H : Heap) (locs : List Loc), Hw D A s H locs (wX ty o ad q.2 ++ rs) → W p l e R s m args below meth c H locs 0 0 Q (F0 m (pc + 3) ls (.int (q.1) :: st))) : W p l e R s m args below meth c H locs 0 0 Q (F0 m pc ls (.int v4 :: .int v3 :: .int v2 :: .int v1 :: .ref o :: st)) := KI.callV (As := [.int v1, .int v2, .int v3, .int v4]) C (kX_getsOf l hc) tX_getsOf ⟨rfl, by decide, by decide, by show _ = some 4; decide +kernel⟩ 0 0 rfl rfl rfl hd (by decide) (Nat.zero_le _) (Nat.zero_le _) h hls rfl hcat dec kk
def X_gets_j35 (σ : PS) : Option (Int32 × PS) := some ((-1000), σ)
def X_gets (σ : PS) (v1 : Int32) (v2 : Int32) (v3 : Int32) (v4 : Int32) (v5 : Int32) : Option (Int32 × PS) := bd (X_areTwo σ v1 v2) (fun q_1 => if q_1 = 0 then X_gets_j35 σ else bd (X_isOneOf v3 2) (fun q_2 => if q_2 = 0 then X_gets_j35 σ else bd (X_isOneOf v4 2) (fun q_3 => if q_3 = 0 then X_gets_j35 σ else bd (X_isOneOf v5 2) (fun q_4 => if q_4 = 0 then X_gets_j35 σ else bd (X_getsOf σ v1 v2 (v3 + (2 * v4)) v5) (fun q_5 => some (q_5.1, q_5.2))))))
set_option maxHeartbeats 4000000 in
theorem kX_gets (l : Launch) {D : va_G} {ty : Nat → ClassId} {A : Nat → Prop} {o : Nat} {ad : Nat → Nat} {rs : va_W} {σ : PS} {σ' : PS} {v1 : Int32} {v2 : Int32} {v3 : Int32} {v4 : Int32} {v5 : Int32} {r : Int32} (hf : X_gets σ v1 v2 v3 v4 v5 = some (r, σ')) : KI l yX0_gets cX0_gets 6 .int 8 D ty A (wX ty o ad σ ++ rs) (wX ty o ad σ' ++ rs) [.ref o, .int v1, .int v2, .int v3, .int v4, .int v5] r := by
  refine KI.of (by decide) (Nat.le_of_ble_eq_true rfl) ?_
  intro p e R s m args below meth c Q C hR
  have C : Cx p R s m args c cX0_gets 6 RX0 D ty A 8 := C
  have hR : ∀ (v : Int32) (σ2 : PS), (v, σ2) = (r, σ') → ∀ (H : Heap) (locs : List Loc) (pc : Nat) (ls : Array Slot), Hw D A s H locs (wX ty o ad σ2 ++ rs) → narrow .int (.int v) = .int v → decode cX0_gets pc = .ok (.ireturn, 1) → W p l e R s m args below meth c H locs 0 0 Q (F0 m pc ls [.int v]) := by intro v σ2 e9; cases e9; exact hR
  have j35 : ∀ (σ : PS) (H : Heap) (locs : List Loc) (ls : Array Slot), Hw D A s H locs (wX ty o ad σ ++ rs) → lv_has ls 6 [] → X_gets_j35 σ = some (r, σ') → W p l e R s m args below meth c H locs 0 0 Q (F0 m 35 ls []) := by
    intro σ H locs ls h hl hf
    unfold X_gets_j35 at hf
    refine lv_sipush (v := (-1000)) C.x C.b dX0_gets_35 (by decide) ?_
    exact hR _ _ (some_k hf) _ _ _ _ h rfl dX0_gets_38
  intro H locs ls h hl
  have hl : lv_has ls 6 [(0, .ref o), (1, .int v1), (2, .int v2), (3, .int v3), (4, .int v4), (5, .int v5)] := hl
  unfold X_gets at hf
  refine lv_aload_n C.x C.b dX0_gets_0 rfl (lv_at hl 0 rfl) ?_
  refine lv_iload_n C.x C.b dX0_gets_1 rfl (lv_at hl 1 rfl) ?_
  refine lv_iload_n C.x C.b dX0_gets_2 rfl (lv_at hl 2 rfl) ?_
  obtain ⟨q_1, hc, hf⟩ := bd_k (K := fun x => x) rfl hf
  refine cX_areTwo C h hc (Nat.le_of_ble_eq_true rfl) hl.1 (Nat.le_of_ble_eq_true rfl) dX0_gets_3 (fun H locs h => ?_)
  refine lv_if_eq (tgt := 35) C.x C.b dX0_gets_6 (by decide) (fun c9 => ?_) (fun c9 => ?_)
  · have hf := if_t (K := fun x => x) c9 hf
    exact j35 σ _ _ _ h (lv_sub hl [] rfl) hf
  · have hf := if_f (K := fun x => x) c9 hf
    refine lv_iload_n C.x C.b dX0_gets_9 rfl (lv_at hl 3 rfl) ?_
    refine lv_iconst (v := 2) C.x C.b dX0_gets_10 (by decide) ?_
    obtain ⟨q_2, hc, hf⟩ := bd_k (K := fun x => x) rfl hf
    refine cX_isOneOf C h hc (Nat.le_of_ble_eq_true rfl) hl.1 (Nat.le_of_ble_eq_true rfl) dX0_gets_11 (fun H locs h => ?_)
    refine lv_if_eq (tgt := 35) C.x C.b dX0_gets_14 (by decide) (fun c9 => ?_) (fun c9 => ?_)
    · have hf := if_t (K := fun x => x) c9 hf
      exact j35 σ _ _ _ h (lv_sub hl [] rfl) hf
    · have hf := if_f (K := fun x => x) c9 hf
      refine lv_iload C.x C.b dX0_gets_17 (lv_at hl 4 rfl) ?_
      refine lv_iconst (v := 2) C.x C.b dX0_gets_19 (by decide) ?_
      obtain ⟨q_3, hc, hf⟩ := bd_k (K := fun x => x) rfl hf
      refine cX_isOneOf C h hc (Nat.le_of_ble_eq_true rfl) hl.1 (Nat.le_of_ble_eq_true rfl) dX0_gets_20 (fun H locs h => ?_)
      refine lv_if_eq (tgt := 35) C.x C.b dX0_gets_23 (by decide) (fun c9 => ?_) (fun c9 => ?_)
      · have hf := if_t (K := fun x => x) c9 hf
        exact j35 σ _ _ _ h (lv_sub hl [] rfl) hf
      · have hf := if_f (K := fun x => x) c9 hf
        refine lv_iload C.x C.b dX0_gets_26 (lv_at hl 5 rfl) ?_
        refine lv_iconst (v := 2) C.x C.b dX0_gets_28 (by decide) ?_
        obtain ⟨q_4, hc, hf⟩ := bd_k (K := fun x => x) rfl hf
        refine cX_isOneOf C h hc (Nat.le_of_ble_eq_true rfl) hl.1 (Nat.le_of_ble_eq_true rfl) dX0_gets_29 (fun H locs h => ?_)
        refine lv_if_ne (tgt := 39) C.x C.b dX0_gets_32 (by decide) (fun c9 => ?_) (fun c9 => ?_)
        · have hf := if_f (K := fun x => x) c9 hf
          refine lv_aload_n C.x C.b dX0_gets_39 rfl (lv_at hl 0 rfl) ?_
          refine lv_iload_n C.x C.b dX0_gets_40 rfl (lv_at hl 1 rfl) ?_
          refine lv_iload_n C.x C.b dX0_gets_41 rfl (lv_at hl 2 rfl) ?_
          refine lv_iload_n C.x C.b dX0_gets_42 rfl (lv_at hl 3 rfl) ?_
          refine lv_iconst (v := 2) C.x C.b dX0_gets_43 (by decide) ?_
          refine lv_iload C.x C.b dX0_gets_44 (lv_at hl 4 rfl) ?_
          refine lv_imul C.x C.b dX0_gets_46 ?_
          refine lv_iadd C.x C.b dX0_gets_47 ?_
          refine lv_iload C.x C.b dX0_gets_48 (lv_at hl 5 rfl) ?_
          obtain ⟨q_5, hc, hf⟩ := bd_k (K := fun x => x) rfl hf
          refine cX_getsOf C h hc (Nat.le_of_ble_eq_true rfl) hl.1 (Nat.le_of_ble_eq_true rfl) dX0_gets_50 (fun H locs h => ?_)
          exact hR _ _ (some_k hf) _ _ _ _ h rfl dX0_gets_53
        · have hf := if_t (K := fun x => x) c9 hf
          exact j35 σ _ _ _ h (lv_sub hl [] rfl) hf
def X_laysChance_j196 (σ : PS) : Option PS := some σ
def X_laysChance_j165 (σ : PS) (v1 : Int32) (v2 : Int32) (v3 : Int64) (v5 : Int32) (x0 : Int64) (x1 : Int64) : Option ((PS) ⊕ PS) := nm (sL σ 28 (x1 + x0)) (fun σ_1 => nm (sL σ_1 29 ((gL σ_1 29) + (v3 * v5.toInt64))) (fun σ_2 => nm (sI σ_2 12 ((gI σ_2 12) + 1)) (fun σ_3 => some (.inl (σ_3)))))
def X_laysChance_j136 (σ : PS) (v1 : Int32) (v2 : Int32) (v3 : Int64) (v5 : Int32) : Option ((PS) ⊕ PS) := nm (sL σ 27 ((gL σ 27) + v3)) (fun σ_4 => bd (X_isWhole σ_4 v1 v2) (fun q_5 => if q_5 = 0 then X_laysChance_j165 σ_4 v1 v2 v3 v5 0 (gL σ_4 28) else X_laysChance_j165 σ_4 v1 v2 v3 v5 v3 (gL σ_4 28)))
def X_laysChance_j127 (σ : PS) (v1 : Int32) (v2 : Int32) (v3 : Int64) (v6 : Int32) (x0 : Int32) (x1 : Int32) : Option ((Int32 × Int32) ⊕ ((PS) ⊕ PS)) := nm (x1 + x0) (fun v5_6 => nm (v6 + 1) (fun v6_7 => some (.inl (v5_6, v6_7))))
def X_laysChance_l98 (σ : PS) (v1 : Int32) (v2 : Int32) (v3 : Int64) (v5 : Int32) (v6 : Int32) : Option ((Int32 × Int32) ⊕ ((PS) ⊕ PS)) := if (gI σ 107) ≤ v6 then up (X_laysChance_j136 σ v1 v2 v3 v5) else bd (X_isWhole σ v6 v2) (fun q_8 => if q_8 = 0 then X_laysChance_j127 σ v1 v2 v3 v6 0 v5 else X_laysChance_j127 σ v1 v2 v3 v6 1 v5)
def X_laysChance_B98 (σ : PS) (v1 : Int32) (v2 : Int32) (v3 : Int64) : (Int32 × Int32) → Option ((Int32 × Int32) ⊕ ((PS) ⊕ PS)) := fun t => X_laysChance_l98 σ v1 v2 v3 t.1 t.2
def X_laysChance_j88 (σ : PS) (v1 : Int32) (v2 : Int32) (v3 : Int64) : Option ((PS) ⊕ PS) := bd (X_lays σ) (fun q_9 => loop (X_laysChance_B98 q_9 v1 v2 v3) fu (0, 0))
def X_laysChance_j80 (σ : PS) (v1 : Int32) (v2 : Int32) (v5 : Int32) (x0 : Int64) (x1 : Int64) : Option ((Int64 × Int32) ⊕ ((PS) ⊕ PS)) := nm (x1 * x0) (fun v3_10 => nm (v5 + 1) (fun v5_11 => some (.inl (v3_10, v5_11))))
def X_laysChance_l39 (σ : PS) (v1 : Int32) (v2 : Int32) (v3 : Int64) (v5 : Int32) : Option ((Int64 × Int32) ⊕ ((PS) ⊕ PS)) := if v2 ≤ v5 then up (X_laysChance_j88 σ v1 v2 v3) else bd (X_isOf (gI σ 12) v5) (fun q_12 => if q_12 = 0 then X_laysChance_j80 σ v1 v2 v5 ((10 - (gI σ 102)).toInt64) v3 else X_laysChance_j80 σ v1 v2 v5 ((gI σ 102).toInt64) v3)
def X_laysChance_B39 (σ : PS) (v1 : Int32) (v2 : Int32) : (Int64 × Int32) → Option ((Int64 × Int32) ⊕ ((PS) ⊕ PS)) := fun t => X_laysChance_l39 σ v1 v2 t.1 t.2
def X_laysChance_l24 (v1 : Int32) (v2 : Int32) (σ : PS) : Option ((PS) ⊕ PS) := if (1 <<< (v2 &&& 31)) ≤ (gI σ 12) then up (X_laysChance_j196 σ) else loop (X_laysChance_B39 σ v1 v2) fu (1, 0)
def X_laysChance_B24 (v1 : Int32) (v2 : Int32) : (PS) → Option ((PS) ⊕ PS) := fun t => X_laysChance_l24 v1 v2 t
def X_laysChance (σ : PS) (v1 : Int32) (v2 : Int32) : Option PS := nm (sL σ 27 0) (fun σ_13 => nm (sL σ_13 28 0) (fun σ_14 => nm (sL σ_14 29 0) (fun σ_15 => bd (X_asItIs σ_15) (fun q_16 => nm (sI q_16 12 0) (fun σ_17 => loop (X_laysChance_B24 v1 v2) fu (σ_17))))))
set_option maxHeartbeats 4000000 in
theorem kX_laysChance (l : Launch) {D : va_G} {ty : Nat → ClassId} {A : Nat → Prop} {o : Nat} {ad : Nat → Nat} {rs : va_W} {σ : PS} {σ' : PS} {v1 : Int32} {v2 : Int32} (hf : X_laysChance σ v1 v2 = some σ') : KV l yX0_laysChance cX0_laysChance 7 7 D ty A (wX ty o ad σ ++ rs) (wX ty o ad σ' ++ rs) [.ref o, .int v1, .int v2] := by
  refine KV.of (by decide) (Nat.le_of_ble_eq_true rfl) ?_
  intro p e R s m args below meth c Q C hR
  have C : Cx p R s m args c cX0_laysChance 7 RX0 D ty A 7 := C
  have hR : ∀ (σ2 : PS), σ2 = σ' → ∀ (H : Heap) (locs : List Loc) (pc : Nat) (ls : Array Slot), Hw D A s H locs (wX ty o ad σ2 ++ rs) → decode cX0_laysChance pc = .ok (.return_, 1) → W p l e R s m args below meth c H locs 0 0 Q (F0 m pc ls []) := by intro σ2 e9; cases e9; exact hR
  have j196 : ∀ (σ : PS) (H : Heap) (locs : List Loc) (ls : Array Slot), Hw D A s H locs (wX ty o ad σ ++ rs) → lv_has ls 7 [] → X_laysChance_j196 σ = some σ' → W p l e R s m args below meth c H locs 0 0 Q (F0 m 196 ls []) := by
    intro σ H locs ls h hl hf
    unfold X_laysChance_j196 at hf
    exact hR _ (some_k hf) _ _ _ _ h dX0_laysChance_196
  have l24 : ∀ (n24 : Nat) (σ : PS) (H : Heap) (locs : List Loc) (ls : Array Slot), Hw D A s H locs (wX ty o ad σ ++ rs) → lv_has ls 7 [(0, .ref o), (1, .int v1), (2, .int v2)] → loop (X_laysChance_B24 v1 v2) n24 (σ) = some σ' → W p l e R s m args below meth c H locs 0 0 Q (F0 m 24 ls []) := by
    intro n24
    induction n24 with
    | zero => intro σ H locs ls h hl hf; exact (none_k hf).elim
    | succ n24 ih24 =>
      have j165 : ∀ (σ : PS) (v3 : Int64) (v5 : Int32) (x0 : Int64) (x1 : Int64) (H : Heap) (locs : List Loc) (ls : Array Slot), Hw D A s H locs (wX ty o ad σ ++ rs) → lv_has ls 7 [(0, .ref o), (1, .int v1), (2, .int v2), (3, .long v3), (5, .int v5)] → bl (X_laysChance_B24 v1 v2) n24 (X_laysChance_j165 σ v1 v2 v3 v5 x0 x1) = some σ' → W p l e R s m args below meth c H locs 0 0 Q (F0 m 165 ls [.long x0, .long x1, .ref o]) := by
        intro σ v3 v5 x0 x1 H locs ls h hl hf
        unfold X_laysChance_j165 at hf
        refine lv_ladd C.x C.b dX0_laysChance_165 ?_
        obtain ⟨σ_1, e9, hf⟩ := nm_k (K := bl (X_laysChance_B24 v1 v2) n24) hf
        refine x_p28 C h e9 dX0_laysChance_166 (fun H locs h => ?_)
        refine lv_aload_n C.x C.b dX0_laysChance_169 rfl (lv_at hl 0 rfl) ?_
        refine lv_dup C.x C.b dX0_laysChance_170 rfl ?_
        refine x_g29 C h dX0_laysChance_171 ?_
        refine lv_lload_n C.x C.b dX0_laysChance_174 rfl (lv_at hl 3 rfl) ?_
        refine lv_iload C.x C.b dX0_laysChance_175 (lv_at hl 4 rfl) ?_
        refine lv_i2l C.x C.b dX0_laysChance_177 rfl ?_
        refine lv_lmul C.x C.b dX0_laysChance_178 ?_
        refine lv_ladd C.x C.b dX0_laysChance_179 ?_
        obtain ⟨σ_2, e9, hf⟩ := nm_k (K := bl (X_laysChance_B24 v1 v2) n24) hf
        refine x_p29 C h e9 dX0_laysChance_180 (fun H locs h => ?_)
        refine lv_aload_n C.x C.b dX0_laysChance_183 rfl (lv_at hl 0 rfl) ?_
        refine lv_dup C.x C.b dX0_laysChance_184 rfl ?_
        refine x_g12 C h dX0_laysChance_185 ?_
        refine lv_iconst (v := 1) C.x C.b dX0_laysChance_188 (by decide) ?_
        refine lv_iadd C.x C.b dX0_laysChance_189 ?_
        obtain ⟨σ_3, e9, hf⟩ := nm_k (K := bl (X_laysChance_B24 v1 v2) n24) hf
        refine x_p12 C h e9 dX0_laysChance_190 (fun H locs h => ?_)
        refine lv_goto (tgt := 24) C.x C.b dX0_laysChance_193 (by decide) ?_
        exact ih24 σ_3 _ _ _ h (lv_sub hl [0, 1, 2] rfl) hf
      have j136 : ∀ (σ : PS) (v3 : Int64) (v5 : Int32) (H : Heap) (locs : List Loc) (ls : Array Slot), Hw D A s H locs (wX ty o ad σ ++ rs) → lv_has ls 7 [(0, .ref o), (1, .int v1), (2, .int v2), (3, .long v3), (5, .int v5)] → bl (X_laysChance_B24 v1 v2) n24 (X_laysChance_j136 σ v1 v2 v3 v5) = some σ' → W p l e R s m args below meth c H locs 0 0 Q (F0 m 136 ls []) := by
        intro σ v3 v5 H locs ls h hl hf
        unfold X_laysChance_j136 at hf
        refine lv_aload_n C.x C.b dX0_laysChance_136 rfl (lv_at hl 0 rfl) ?_
        refine lv_dup C.x C.b dX0_laysChance_137 rfl ?_
        refine x_g27 C h dX0_laysChance_138 ?_
        refine lv_lload_n C.x C.b dX0_laysChance_141 rfl (lv_at hl 3 rfl) ?_
        refine lv_ladd C.x C.b dX0_laysChance_142 ?_
        obtain ⟨σ_4, e9, hf⟩ := nm_k (K := bl (X_laysChance_B24 v1 v2) n24) hf
        refine x_p27 C h e9 dX0_laysChance_143 (fun H locs h => ?_)
        refine lv_aload_n C.x C.b dX0_laysChance_146 rfl (lv_at hl 0 rfl) ?_
        refine lv_dup C.x C.b dX0_laysChance_147 rfl ?_
        refine x_g28 C h dX0_laysChance_148 ?_
        refine lv_aload_n C.x C.b dX0_laysChance_151 rfl (lv_at hl 0 rfl) ?_
        refine lv_iload_n C.x C.b dX0_laysChance_152 rfl (lv_at hl 1 rfl) ?_
        refine lv_iload_n C.x C.b dX0_laysChance_153 rfl (lv_at hl 2 rfl) ?_
        obtain ⟨q_5, hc, hf⟩ := bd_k (K := bl (X_laysChance_B24 v1 v2) n24) rfl hf
        refine cX_isWhole C h hc (Nat.le_of_ble_eq_true rfl) hl.1 (Nat.le_of_ble_eq_true rfl) dX0_laysChance_154 (fun H locs h => ?_)
        refine lv_if_eq (tgt := 164) C.x C.b dX0_laysChance_157 (by decide) (fun c9 => ?_) (fun c9 => ?_)
        · have hf := if_t (K := bl (X_laysChance_B24 v1 v2) n24) c9 hf
          refine lv_lconst (v := 0) C.x C.b dX0_laysChance_164 (by decide) ?_
          exact j165 σ_4 v3 v5 0 (gL σ_4 28) _ _ _ h (lv_sub hl [0, 1, 2, 3, 4] rfl) hf
        · have hf := if_f (K := bl (X_laysChance_B24 v1 v2) n24) c9 hf
          refine lv_lload_n C.x C.b dX0_laysChance_160 rfl (lv_at hl 3 rfl) ?_
          refine lv_goto (tgt := 165) C.x C.b dX0_laysChance_161 (by decide) ?_
          exact j165 σ_4 v3 v5 v3 (gL σ_4 28) _ _ _ h (lv_sub hl [0, 1, 2, 3, 4] rfl) hf
      have l98 : ∀ (σ : PS) (v3 : Int64) (n98 : Nat) (v5 : Int32) (v6 : Int32) (H : Heap) (locs : List Loc) (ls : Array Slot), Hw D A s H locs (wX ty o ad σ ++ rs) → lv_has ls 7 [(0, .ref o), (1, .int v1), (2, .int v2), (3, .long v3), (5, .int v5), (6, .int v6)] → bl (X_laysChance_B24 v1 v2) n24 (loop (X_laysChance_B98 σ v1 v2 v3) n98 (v5, v6)) = some σ' → W p l e R s m args below meth c H locs 0 0 Q (F0 m 98 ls []) := by
        intro σ v3 n98
        induction n98 with
        | zero => intro v5 v6 H locs ls h hl hf; exact (none_k hf).elim
        | succ n98 ih98 =>
          have j127 : ∀ (v6 : Int32) (x0 : Int32) (x1 : Int32) (H : Heap) (locs : List Loc) (ls : Array Slot), Hw D A s H locs (wX ty o ad σ ++ rs) → lv_has ls 7 [(0, .ref o), (1, .int v1), (2, .int v2), (3, .long v3), (6, .int v6)] → bl (X_laysChance_B24 v1 v2) n24 (bl (X_laysChance_B98 σ v1 v2 v3) n98 (X_laysChance_j127 σ v1 v2 v3 v6 x0 x1)) = some σ' → W p l e R s m args below meth c H locs 0 0 Q (F0 m 127 ls [.int x0, .int x1]) := by
            intro v6 x0 x1 H locs ls h hl hf
            unfold X_laysChance_j127 at hf
            refine lv_iadd C.x C.b dX0_laysChance_127 ?_
            obtain ⟨v5_6, e9, hf⟩ := nm_k (K := fun x => bl (X_laysChance_B24 v1 v2) n24 (bl (X_laysChance_B98 σ v1 v2 v3) n98 x)) hf
            refine lv_topI e9 ?_
            refine lv_istore (lv' := [(5, .int v5_6), (0, .ref o), (1, .int v1), (2, .int v2), (3, .long v3), (6, .int v6)]) C.x C.b dX0_laysChance_128 hl (by decide) rfl (fun ls hl => ?_)
            obtain ⟨v6_7, e9, hf⟩ := nm_k (K := fun x => bl (X_laysChance_B24 v1 v2) n24 (bl (X_laysChance_B98 σ v1 v2 v3) n98 x)) hf
            refine lv_iinc (v := v6_7) (lv' := [(6, .int v6_7), (5, .int v5_6), (0, .ref o), (1, .int v1), (2, .int v2), (3, .long v3)]) C.x C.b dX0_laysChance_130 hl (k := 5) rfl (iinc_e (k := 1) (by decide) e9) (by decide) rfl (fun ls hl => ?_)
            refine lv_goto (tgt := 98) C.x C.b dX0_laysChance_133 (by decide) ?_
            exact ih98 v5_6 v6_7 _ _ _ h (lv_sub hl [2, 3, 4, 5, 1, 0] rfl) hf
          intro v5 v6 H locs ls h hl hf
          have hf : bl (X_laysChance_B24 v1 v2) n24 (bl (X_laysChance_B98 σ v1 v2 v3) n98 (X_laysChance_l98 σ v1 v2 v3 v5 v6)) = some σ' := hf
          unfold X_laysChance_l98 at hf
          refine lv_iload C.x C.b dX0_laysChance_98 (lv_at hl 5 rfl) ?_
          refine lv_aload_n C.x C.b dX0_laysChance_100 rfl (lv_at hl 0 rfl) ?_
          refine x_g0 C h dX0_laysChance_101 ?_
          refine x_g107 C h dX0_laysChance_104 ?_
          refine lv_icmp_ge (tgt := 136) C.x C.b dX0_laysChance_107 (by decide) (fun c9 => ?_) (fun c9 => ?_)
          · have hf := if_t (K := fun x => bl (X_laysChance_B24 v1 v2) n24 (bl (X_laysChance_B98 σ v1 v2 v3) n98 x)) c9 hf
            have hf := bl_upK (K := bl (X_laysChance_B24 v1 v2) n24) hf
            exact j136 σ v3 v5 _ _ _ h (lv_sub hl [0, 1, 2, 3, 4] rfl) hf
          · have hf := if_f (K := fun x => bl (X_laysChance_B24 v1 v2) n24 (bl (X_laysChance_B98 σ v1 v2 v3) n98 x)) c9 hf
            refine lv_iload C.x C.b dX0_laysChance_110 (lv_at hl 4 rfl) ?_
            refine lv_aload_n C.x C.b dX0_laysChance_112 rfl (lv_at hl 0 rfl) ?_
            refine lv_iload C.x C.b dX0_laysChance_113 (lv_at hl 5 rfl) ?_
            refine lv_iload_n C.x C.b dX0_laysChance_115 rfl (lv_at hl 2 rfl) ?_
            obtain ⟨q_8, hc, hf⟩ := bd_k (K := fun x => bl (X_laysChance_B24 v1 v2) n24 (bl (X_laysChance_B98 σ v1 v2 v3) n98 x)) rfl hf
            refine cX_isWhole C h hc (Nat.le_of_ble_eq_true rfl) hl.1 (Nat.le_of_ble_eq_true rfl) dX0_laysChance_116 (fun H locs h => ?_)
            refine lv_if_eq (tgt := 126) C.x C.b dX0_laysChance_119 (by decide) (fun c9 => ?_) (fun c9 => ?_)
            · have hf := if_t (K := fun x => bl (X_laysChance_B24 v1 v2) n24 (bl (X_laysChance_B98 σ v1 v2 v3) n98 x)) c9 hf
              refine lv_iconst (v := 0) C.x C.b dX0_laysChance_126 (by decide) ?_
              exact j127 v6 0 v5 _ _ _ h (lv_sub hl [0, 1, 2, 3, 5] rfl) hf
            · have hf := if_f (K := fun x => bl (X_laysChance_B24 v1 v2) n24 (bl (X_laysChance_B98 σ v1 v2 v3) n98 x)) c9 hf
              refine lv_iconst (v := 1) C.x C.b dX0_laysChance_122 (by decide) ?_
              refine lv_goto (tgt := 127) C.x C.b dX0_laysChance_123 (by decide) ?_
              exact j127 v6 1 v5 _ _ _ h (lv_sub hl [0, 1, 2, 3, 5] rfl) hf
      have j88 : ∀ (σ : PS) (v3 : Int64) (H : Heap) (locs : List Loc) (ls : Array Slot), Hw D A s H locs (wX ty o ad σ ++ rs) → lv_has ls 7 [(0, .ref o), (1, .int v1), (2, .int v2), (3, .long v3)] → bl (X_laysChance_B24 v1 v2) n24 (X_laysChance_j88 σ v1 v2 v3) = some σ' → W p l e R s m args below meth c H locs 0 0 Q (F0 m 88 ls []) := by
        intro σ v3 H locs ls h hl hf
        unfold X_laysChance_j88 at hf
        refine lv_aload_n C.x C.b dX0_laysChance_88 rfl (lv_at hl 0 rfl) ?_
        obtain ⟨q_9, hc, hf⟩ := bd_k (K := bl (X_laysChance_B24 v1 v2) n24) rfl hf
        refine cX_lays C h hc (Nat.le_of_ble_eq_true rfl) hl.1 (Nat.le_of_ble_eq_true rfl) dX0_laysChance_89 (fun H locs h => ?_)
        refine lv_iconst (v := 0) C.x C.b dX0_laysChance_92 (by decide) ?_
        refine lv_istore (lv' := [(5, .int 0), (0, .ref o), (1, .int v1), (2, .int v2), (3, .long v3)]) C.x C.b dX0_laysChance_93 hl (by decide) rfl (fun ls hl => ?_)
        refine lv_iconst (v := 0) C.x C.b dX0_laysChance_95 (by decide) ?_
        refine lv_istore (lv' := [(6, .int 0), (5, .int 0), (0, .ref o), (1, .int v1), (2, .int v2), (3, .long v3)]) C.x C.b dX0_laysChance_96 hl (by decide) rfl (fun ls hl => ?_)
        exact l98 q_9 v3 fu 0 0 _ _ _ h (lv_sub hl [2, 3, 4, 5, 1, 0] rfl) hf
      have l39 : ∀ (σ : PS) (n39 : Nat) (v3 : Int64) (v5 : Int32) (H : Heap) (locs : List Loc) (ls : Array Slot), Hw D A s H locs (wX ty o ad σ ++ rs) → lv_has ls 7 [(0, .ref o), (1, .int v1), (2, .int v2), (3, .long v3), (5, .int v5)] → bl (X_laysChance_B24 v1 v2) n24 (loop (X_laysChance_B39 σ v1 v2) n39 (v3, v5)) = some σ' → W p l e R s m args below meth c H locs 0 0 Q (F0 m 39 ls []) := by
        intro σ n39
        induction n39 with
        | zero => intro v3 v5 H locs ls h hl hf; exact (none_k hf).elim
        | succ n39 ih39 =>
          have j80 : ∀ (v5 : Int32) (x0 : Int64) (x1 : Int64) (H : Heap) (locs : List Loc) (ls : Array Slot), Hw D A s H locs (wX ty o ad σ ++ rs) → lv_has ls 7 [(0, .ref o), (1, .int v1), (2, .int v2), (5, .int v5)] → bl (X_laysChance_B24 v1 v2) n24 (bl (X_laysChance_B39 σ v1 v2) n39 (X_laysChance_j80 σ v1 v2 v5 x0 x1)) = some σ' → W p l e R s m args below meth c H locs 0 0 Q (F0 m 80 ls [.long x0, .long x1]) := by
            intro v5 x0 x1 H locs ls h hl hf
            unfold X_laysChance_j80 at hf
            refine lv_lmul C.x C.b dX0_laysChance_80 ?_
            obtain ⟨v3_10, e9, hf⟩ := nm_k (K := fun x => bl (X_laysChance_B24 v1 v2) n24 (bl (X_laysChance_B39 σ v1 v2) n39 x)) hf
            refine lv_topL e9 ?_
            refine lv_lstore_n (lv' := [(3, .long v3_10), (0, .ref o), (1, .int v1), (2, .int v2), (5, .int v5)]) C.x C.b dX0_laysChance_81 rfl hl (by decide) rfl (fun ls hl => ?_)
            obtain ⟨v5_11, e9, hf⟩ := nm_k (K := fun x => bl (X_laysChance_B24 v1 v2) n24 (bl (X_laysChance_B39 σ v1 v2) n39 x)) hf
            refine lv_iinc (v := v5_11) (lv' := [(5, .int v5_11), (3, .long v3_10), (0, .ref o), (1, .int v1), (2, .int v2)]) C.x C.b dX0_laysChance_82 hl (k := 4) rfl (iinc_e (k := 1) (by decide) e9) (by decide) rfl (fun ls hl => ?_)
            refine lv_goto (tgt := 39) C.x C.b dX0_laysChance_85 (by decide) ?_
            exact ih39 v3_10 v5_11 _ _ _ h (lv_sub hl [2, 3, 4, 1, 0] rfl) hf
          intro v3 v5 H locs ls h hl hf
          have hf : bl (X_laysChance_B24 v1 v2) n24 (bl (X_laysChance_B39 σ v1 v2) n39 (X_laysChance_l39 σ v1 v2 v3 v5)) = some σ' := hf
          unfold X_laysChance_l39 at hf
          refine lv_iload C.x C.b dX0_laysChance_39 (lv_at hl 4 rfl) ?_
          refine lv_iload_n C.x C.b dX0_laysChance_41 rfl (lv_at hl 2 rfl) ?_
          refine lv_icmp_ge (tgt := 88) C.x C.b dX0_laysChance_42 (by decide) (fun c9 => ?_) (fun c9 => ?_)
          · have hf := if_t (K := fun x => bl (X_laysChance_B24 v1 v2) n24 (bl (X_laysChance_B39 σ v1 v2) n39 x)) c9 hf
            have hf := bl_upK (K := bl (X_laysChance_B24 v1 v2) n24) hf
            exact j88 σ v3 _ _ _ h (lv_sub hl [0, 1, 2, 3] rfl) hf
          · have hf := if_f (K := fun x => bl (X_laysChance_B24 v1 v2) n24 (bl (X_laysChance_B39 σ v1 v2) n39 x)) c9 hf
            refine lv_lload_n C.x C.b dX0_laysChance_45 rfl (lv_at hl 3 rfl) ?_
            refine lv_aload_n C.x C.b dX0_laysChance_46 rfl (lv_at hl 0 rfl) ?_
            refine x_g12 C h dX0_laysChance_47 ?_
            refine lv_iload C.x C.b dX0_laysChance_50 (lv_at hl 4 rfl) ?_
            obtain ⟨q_12, hc, hf⟩ := bd_k (K := fun x => bl (X_laysChance_B24 v1 v2) n24 (bl (X_laysChance_B39 σ v1 v2) n39 x)) rfl hf
            refine cX_isOf C h hc (Nat.le_of_ble_eq_true rfl) hl.1 (Nat.le_of_ble_eq_true rfl) dX0_laysChance_52 (fun H locs h => ?_)
            refine lv_if_eq (tgt := 69) C.x C.b dX0_laysChance_55 (by decide) (fun c9 => ?_) (fun c9 => ?_)
            · have hf := if_t (K := fun x => bl (X_laysChance_B24 v1 v2) n24 (bl (X_laysChance_B39 σ v1 v2) n39 x)) c9 hf
              refine lv_bipush (v := 10) C.x C.b dX0_laysChance_69 (by decide) ?_
              refine lv_aload_n C.x C.b dX0_laysChance_71 rfl (lv_at hl 0 rfl) ?_
              refine x_g0 C h dX0_laysChance_72 ?_
              refine x_g102 C h dX0_laysChance_75 ?_
              refine lv_isub C.x C.b dX0_laysChance_78 ?_
              refine lv_i2l C.x C.b dX0_laysChance_79 rfl ?_
              exact j80 v5 ((10 - (gI σ 102)).toInt64) v3 _ _ _ h (lv_sub hl [0, 1, 2, 4] rfl) hf
            · have hf := if_f (K := fun x => bl (X_laysChance_B24 v1 v2) n24 (bl (X_laysChance_B39 σ v1 v2) n39 x)) c9 hf
              refine lv_aload_n C.x C.b dX0_laysChance_58 rfl (lv_at hl 0 rfl) ?_
              refine x_g0 C h dX0_laysChance_59 ?_
              refine x_g102 C h dX0_laysChance_62 ?_
              refine lv_i2l C.x C.b dX0_laysChance_65 rfl ?_
              refine lv_goto (tgt := 80) C.x C.b dX0_laysChance_66 (by decide) ?_
              exact j80 v5 ((gI σ 102).toInt64) v3 _ _ _ h (lv_sub hl [0, 1, 2, 4] rfl) hf
      intro σ H locs ls h hl hf
      have hf : bl (X_laysChance_B24 v1 v2) n24 (X_laysChance_l24 v1 v2 σ) = some σ' := hf
      unfold X_laysChance_l24 at hf
      refine lv_aload_n C.x C.b dX0_laysChance_24 rfl (lv_at hl 0 rfl) ?_
      refine x_g12 C h dX0_laysChance_25 ?_
      refine lv_iconst (v := 1) C.x C.b dX0_laysChance_28 (by decide) ?_
      refine lv_iload_n C.x C.b dX0_laysChance_29 rfl (lv_at hl 2 rfl) ?_
      refine lv_ishl C.x C.b dX0_laysChance_30 ?_
      refine lv_icmp_ge (tgt := 196) C.x C.b dX0_laysChance_31 (by decide) (fun c9 => ?_) (fun c9 => ?_)
      · have hf := if_t (K := bl (X_laysChance_B24 v1 v2) n24) c9 hf
        have hf := bl_upK (K := fun x => x) hf
        exact j196 σ _ _ _ h (lv_sub hl [] rfl) hf
      · have hf := if_f (K := bl (X_laysChance_B24 v1 v2) n24) c9 hf
        refine lv_lconst (v := 1) C.x C.b dX0_laysChance_34 (by decide) ?_
        refine lv_lstore_n (lv' := [(3, .long 1), (0, .ref o), (1, .int v1), (2, .int v2)]) C.x C.b dX0_laysChance_35 rfl hl (by decide) rfl (fun ls hl => ?_)
        refine lv_iconst (v := 0) C.x C.b dX0_laysChance_36 (by decide) ?_
        refine lv_istore (lv' := [(5, .int 0), (3, .long 1), (0, .ref o), (1, .int v1), (2, .int v2)]) C.x C.b dX0_laysChance_37 hl (by decide) rfl (fun ls hl => ?_)
        exact l39 σ fu 1 0 _ _ _ h (lv_sub hl [2, 3, 4, 1, 0] rfl) hf
  intro H locs ls h hl
  have hl : lv_has ls 7 [(0, .ref o), (1, .int v1), (2, .int v2)] := hl
  unfold X_laysChance at hf
  refine lv_aload_n C.x C.b dX0_laysChance_0 rfl (lv_at hl 0 rfl) ?_
  refine lv_lconst (v := 0) C.x C.b dX0_laysChance_1 (by decide) ?_
  obtain ⟨σ_13, e9, hf⟩ := nm_k (K := fun x => x) hf
  refine x_p27 C h e9 dX0_laysChance_2 (fun H locs h => ?_)
  refine lv_aload_n C.x C.b dX0_laysChance_5 rfl (lv_at hl 0 rfl) ?_
  refine lv_lconst (v := 0) C.x C.b dX0_laysChance_6 (by decide) ?_
  obtain ⟨σ_14, e9, hf⟩ := nm_k (K := fun x => x) hf
  refine x_p28 C h e9 dX0_laysChance_7 (fun H locs h => ?_)
  refine lv_aload_n C.x C.b dX0_laysChance_10 rfl (lv_at hl 0 rfl) ?_
  refine lv_lconst (v := 0) C.x C.b dX0_laysChance_11 (by decide) ?_
  obtain ⟨σ_15, e9, hf⟩ := nm_k (K := fun x => x) hf
  refine x_p29 C h e9 dX0_laysChance_12 (fun H locs h => ?_)
  refine lv_aload_n C.x C.b dX0_laysChance_15 rfl (lv_at hl 0 rfl) ?_
  obtain ⟨q_16, hc, hf⟩ := bd_k (K := fun x => x) rfl hf
  refine cX_asItIs C h hc (Nat.le_of_ble_eq_true rfl) hl.1 (Nat.le_of_ble_eq_true rfl) dX0_laysChance_16 (fun H locs h => ?_)
  refine lv_aload_n C.x C.b dX0_laysChance_19 rfl (lv_at hl 0 rfl) ?_
  refine lv_iconst (v := 0) C.x C.b dX0_laysChance_20 (by decide) ?_
  obtain ⟨σ_17, e9, hf⟩ := nm_k (K := fun x => x) hf
  refine x_p12 C h e9 dX0_laysChance_21 (fun H locs h => ?_)
  exact l24  fu σ_17 _ _ _ h (lv_sub hl [0, 1, 2] rfl) hf
theorem tX_laysChance : GoodIn lw_all (wsV RX0 438 RX0 yX0_laysChance (ws_ yX0_laysChance cX0_laysChance 7 none)) := lw_V q1291 q1293 qs64 q137 q1294
theorem cX_laysChance {p : Program} {l : Launch} {e : Env} {R : Room} {s : State} {m : MethodId} {args : Array Value} {below : List Frame} {meth : Method} {c : Code} {H : Heap} {locs : List Loc} {Q : State → Prop} {cc : ByteArray} {pc : Nat} {ls : Array Slot} {st : List Value} {nL d : Nat} {D : va_G} {ty : Nat → ClassId} {A : Nat → Prop} {o : Nat} {ad : Nat → Nat} {rs : va_W} {σ : PS} {v1 : Int32} {v2 : Int32} {q : PS} (C : Cx p R s m args c cc nL RX0 D ty A d) (h : Hw D A s H locs (wX ty o ad σ ++ rs)) (hc : X_laysChance σ v1 v2 = some q) (hd : 7 + 1 ≤ d) (hls : ls.size = nL) (hcat : (st.map fun v => v.category).sum ≤ 8) (dec : decode cc pc = .ok (.invokevirtual 438, 3)) (kk : ∀ (H : Heap) (locs : List Loc), Hw D A s H locs (wX ty o ad q ++ rs) → W p l e R s m args below meth c H locs 0 0 Q (F0 m (pc + 3) ls (st))) : W p l e R s m args below meth c H locs 0 0 Q (F0 m pc ls (.int v2 :: .int v1 :: .ref o :: st)) := KV.callV (As := [.int v1, .int v2]) C (kX_laysChance l hc) tX_laysChance ⟨rfl, by decide, by decide, by show _ = some 2; decide +kernel⟩ 0 0 rfl rfl rfl hd (by decide) (Nat.zero_le _) (Nat.zero_le _) h hls rfl hcat dec kk
def X_mean_j16 (σ : PS) : Option (Int64 × PS) := some ((-2), σ)
def X_mean (σ : PS) (v1 : Int32) (v2 : Int32) : Option (Int64 × PS) := bd (X_isChance σ v1) (fun q_1 => if q_1 = 0 then X_mean_j16 σ else bd (X_isOneOf v2 2) (fun q_2 => if q_2 = 0 then X_mean_j16 σ else bd (X_laysChance σ 0 v1) (fun q_3 => bd (X_part (gL q_3 29) (gL q_3 27) v2) (fun q_4 => some (q_4, q_3)))))
set_option maxHeartbeats 4000000 in
theorem kX_mean (l : Launch) {D : va_G} {ty : Nat → ClassId} {A : Nat → Prop} {o : Nat} {ad : Nat → Nat} {rs : va_W} {σ : PS} {σ' : PS} {v1 : Int32} {v2 : Int32} {r : Int64} (hf : X_mean σ v1 v2 = some (r, σ')) : KL l yX0_mean cX0_mean 3 8 D ty A (wX ty o ad σ ++ rs) (wX ty o ad σ' ++ rs) [.ref o, .int v1, .int v2] r := by
  refine KL.of (by decide) (Nat.le_of_ble_eq_true rfl) ?_
  intro p e R s m args below meth c Q C hR
  have C : Cx p R s m args c cX0_mean 3 RX0 D ty A 8 := C
  have hR : ∀ (v : Int64) (σ2 : PS), (v, σ2) = (r, σ') → ∀ (H : Heap) (locs : List Loc) (pc : Nat) (ls : Array Slot), Hw D A s H locs (wX ty o ad σ2 ++ rs) → decode cX0_mean pc = .ok (.lreturn, 1) → W p l e R s m args below meth c H locs 0 0 Q (F0 m pc ls [.long v]) := by intro v σ2 e9; cases e9; exact hR
  have j16 : ∀ (σ : PS) (H : Heap) (locs : List Loc) (ls : Array Slot), Hw D A s H locs (wX ty o ad σ ++ rs) → lv_has ls 3 [] → X_mean_j16 σ = some (r, σ') → W p l e R s m args below meth c H locs 0 0 Q (F0 m 16 ls []) := by
    intro σ H locs ls h hl hf
    unfold X_mean_j16 at hf
    refine lv_ldc2 (v := (-2)) C.x C.b C.own (C.ts _ q1299) dX0_mean_16 ?_
    exact hR _ _ (some_k hf) _ _ _ _ h dX0_mean_19
  intro H locs ls h hl
  have hl : lv_has ls 3 [(0, .ref o), (1, .int v1), (2, .int v2)] := hl
  unfold X_mean at hf
  refine lv_aload_n C.x C.b dX0_mean_0 rfl (lv_at hl 0 rfl) ?_
  refine lv_iload_n C.x C.b dX0_mean_1 rfl (lv_at hl 1 rfl) ?_
  obtain ⟨q_1, hc, hf⟩ := bd_k (K := fun x => x) rfl hf
  refine cX_isChance C h hc (Nat.le_of_ble_eq_true rfl) hl.1 (Nat.le_of_ble_eq_true rfl) dX0_mean_2 (fun H locs h => ?_)
  refine lv_if_eq (tgt := 16) C.x C.b dX0_mean_5 (by decide) (fun c9 => ?_) (fun c9 => ?_)
  · have hf := if_t (K := fun x => x) c9 hf
    exact j16 σ _ _ _ h (lv_sub hl [] rfl) hf
  · have hf := if_f (K := fun x => x) c9 hf
    refine lv_iload_n C.x C.b dX0_mean_8 rfl (lv_at hl 2 rfl) ?_
    refine lv_iconst (v := 2) C.x C.b dX0_mean_9 (by decide) ?_
    obtain ⟨q_2, hc, hf⟩ := bd_k (K := fun x => x) rfl hf
    refine cX_isOneOf C h hc (Nat.le_of_ble_eq_true rfl) hl.1 (Nat.le_of_ble_eq_true rfl) dX0_mean_10 (fun H locs h => ?_)
    refine lv_if_ne (tgt := 20) C.x C.b dX0_mean_13 (by decide) (fun c9 => ?_) (fun c9 => ?_)
    · have hf := if_f (K := fun x => x) c9 hf
      refine lv_aload_n C.x C.b dX0_mean_20 rfl (lv_at hl 0 rfl) ?_
      refine lv_iconst (v := 0) C.x C.b dX0_mean_21 (by decide) ?_
      refine lv_iload_n C.x C.b dX0_mean_22 rfl (lv_at hl 1 rfl) ?_
      obtain ⟨q_3, hc, hf⟩ := bd_k (K := fun x => x) rfl hf
      refine cX_laysChance C h hc (Nat.le_of_ble_eq_true rfl) hl.1 (Nat.le_of_ble_eq_true rfl) dX0_mean_23 (fun H locs h => ?_)
      refine lv_aload_n C.x C.b dX0_mean_26 rfl (lv_at hl 0 rfl) ?_
      refine x_g29 C h dX0_mean_27 ?_
      refine lv_aload_n C.x C.b dX0_mean_30 rfl (lv_at hl 0 rfl) ?_
      refine x_g27 C h dX0_mean_31 ?_
      refine lv_iload_n C.x C.b dX0_mean_34 rfl (lv_at hl 2 rfl) ?_
      obtain ⟨q_4, hc, hf⟩ := bd_k (K := fun x => x) rfl hf
      refine cX_part C h hc (Nat.le_of_ble_eq_true rfl) hl.1 (Nat.le_of_ble_eq_true rfl) dX0_mean_35 (fun H locs h => ?_)
      exact hR _ _ (some_k hf) _ _ _ _ h dX0_mean_38
    · have hf := if_t (K := fun x => x) c9 hf
      exact j16 σ _ _ _ h (lv_sub hl [] rfl) hf
def X_draws_j79 (σ : PS) : Option PS := bd (X_lays σ) (fun q_1 => some q_1)
def X_draws_j69 (σ : PS) (v3 : Int64) (v5 : Int32) (x0 : Int32) (x1 : Int32) : Option ((Int64 × Int32 × PS) ⊕ PS) := nm (sI σ 12 (x1 ||| x0)) (fun σ_2 => nm (v5 + 1) (fun v5_3 => some (.inl (v3, v5_3, σ_2))))
def X_draws_l9 (v3 : Int64) (v5 : Int32) (σ : PS) : Option ((Int64 × Int32 × PS) ⊕ PS) := if (gI σ 100) ≤ v5 then up (X_draws_j79 σ) else nm (((1103515245 * v3) + 12345) - ((1103515245 * v3) + 12345) / 2147483648 * 2147483648) (fun v3_4 => if 0 ≤ (lg_cmp ((v3_4 / 65536) - (v3_4 / 65536) / 10 * 10) ((gI σ 102).toInt64)) then X_draws_j69 σ v3_4 v5 0 (gI σ 12) else X_draws_j69 σ v3_4 v5 (1 <<< (v5 &&& 31)) (gI σ 12))
def X_draws_B9 : (Int64 × Int32 × PS) → Option ((Int64 × Int32 × PS) ⊕ PS) := fun t => X_draws_l9 t.1 t.2.1 t.2.2
def X_draws (σ : PS) (v1 : Int64) : Option PS := bd (X_asItIs σ) (fun q_5 => loop (X_draws_B9) fu (v1, 0, q_5))
set_option maxHeartbeats 4000000 in
theorem kX_draws (l : Launch) {D : va_G} {ty : Nat → ClassId} {A : Nat → Prop} {o : Nat} {ad : Nat → Nat} {rs : va_W} {σ : PS} {σ' : PS} {v1 : Int64} (hf : X_draws σ v1 = some σ') : KV l yX0_draws cX0_draws 6 7 D ty A (wX ty o ad σ ++ rs) (wX ty o ad σ' ++ rs) [.ref o, .long v1] := by
  refine KV.of (by decide) (Nat.le_of_ble_eq_true rfl) ?_
  intro p e R s m args below meth c Q C hR
  have C : Cx p R s m args c cX0_draws 6 RX0 D ty A 7 := C
  have hR : ∀ (σ2 : PS), σ2 = σ' → ∀ (H : Heap) (locs : List Loc) (pc : Nat) (ls : Array Slot), Hw D A s H locs (wX ty o ad σ2 ++ rs) → decode cX0_draws pc = .ok (.return_, 1) → W p l e R s m args below meth c H locs 0 0 Q (F0 m pc ls []) := by intro σ2 e9; cases e9; exact hR
  have j79 : ∀ (σ : PS) (H : Heap) (locs : List Loc) (ls : Array Slot), Hw D A s H locs (wX ty o ad σ ++ rs) → lv_has ls 6 [(0, .ref o)] → X_draws_j79 σ = some σ' → W p l e R s m args below meth c H locs 0 0 Q (F0 m 79 ls []) := by
    intro σ H locs ls h hl hf
    unfold X_draws_j79 at hf
    refine lv_aload_n C.x C.b dX0_draws_79 rfl (lv_at hl 0 rfl) ?_
    obtain ⟨q_1, hc, hf⟩ := bd_k (K := fun x => x) rfl hf
    refine cX_lays C h hc (Nat.le_of_ble_eq_true rfl) hl.1 (Nat.le_of_ble_eq_true rfl) dX0_draws_80 (fun H locs h => ?_)
    exact hR _ (some_k hf) _ _ _ _ h dX0_draws_83
  have l9 : ∀ (n9 : Nat) (v3 : Int64) (v5 : Int32) (σ : PS) (H : Heap) (locs : List Loc) (ls : Array Slot), Hw D A s H locs (wX ty o ad σ ++ rs) → lv_has ls 6 [(0, .ref o), (3, .long v3), (5, .int v5)] → loop (X_draws_B9) n9 (v3, v5, σ) = some σ' → W p l e R s m args below meth c H locs 0 0 Q (F0 m 9 ls []) := by
    intro n9
    induction n9 with
    | zero => intro v3 v5 σ H locs ls h hl hf; exact (none_k hf).elim
    | succ n9 ih9 =>
      have j69 : ∀ (σ : PS) (v3 : Int64) (v5 : Int32) (x0 : Int32) (x1 : Int32) (H : Heap) (locs : List Loc) (ls : Array Slot), Hw D A s H locs (wX ty o ad σ ++ rs) → lv_has ls 6 [(0, .ref o), (3, .long v3), (5, .int v5)] → bl (X_draws_B9) n9 (X_draws_j69 σ v3 v5 x0 x1) = some σ' → W p l e R s m args below meth c H locs 0 0 Q (F0 m 69 ls [.int x0, .int x1, .ref o]) := by
        intro σ v3 v5 x0 x1 H locs ls h hl hf
        unfold X_draws_j69 at hf
        refine lv_ior C.x C.b dX0_draws_69 ?_
        obtain ⟨σ_2, e9, hf⟩ := nm_k (K := bl (X_draws_B9) n9) hf
        refine x_p12 C h e9 dX0_draws_70 (fun H locs h => ?_)
        obtain ⟨v5_3, e9, hf⟩ := nm_k (K := bl (X_draws_B9) n9) hf
        refine lv_iinc (v := v5_3) (lv' := [(5, .int v5_3), (0, .ref o), (3, .long v3)]) C.x C.b dX0_draws_73 hl (k := 2) rfl (iinc_e (k := 1) (by decide) e9) (by decide) rfl (fun ls hl => ?_)
        refine lv_goto (tgt := 9) C.x C.b dX0_draws_76 (by decide) ?_
        exact ih9 v3 v5_3 σ_2 _ _ _ h (lv_sub hl [1, 2, 0] rfl) hf
      intro v3 v5 σ H locs ls h hl hf
      have hf : bl (X_draws_B9) n9 (X_draws_l9 v3 v5 σ) = some σ' := hf
      unfold X_draws_l9 at hf
      refine lv_iload C.x C.b dX0_draws_9 (lv_at hl 2 rfl) ?_
      refine lv_aload_n C.x C.b dX0_draws_11 rfl (lv_at hl 0 rfl) ?_
      refine x_g0 C h dX0_draws_12 ?_
      refine x_g100 C h dX0_draws_15 ?_
      refine lv_icmp_ge (tgt := 79) C.x C.b dX0_draws_18 (by decide) (fun c9 => ?_) (fun c9 => ?_)
      · have hf := if_t (K := bl (X_draws_B9) n9) c9 hf
        have hf := bl_upK (K := fun x => x) hf
        exact j79 σ _ _ _ h (lv_sub hl [0] rfl) hf
      · have hf := if_f (K := bl (X_draws_B9) n9) c9 hf
        refine lv_ldc2 (v := 1103515245) C.x C.b C.own (C.ts _ q1312) dX0_draws_21 ?_
        refine lv_lload_n C.x C.b dX0_draws_24 rfl (lv_at hl 1 rfl) ?_
        refine lv_lmul C.x C.b dX0_draws_25 ?_
        refine lv_ldc2 (v := 12345) C.x C.b C.own (C.ts _ q1313) dX0_draws_26 ?_
        refine lv_ladd C.x C.b dX0_draws_29 ?_
        refine lv_ldc2 (v := 2147483648) C.x C.b C.own (C.ts _ q1314) dX0_draws_30 ?_
        refine lv_lrem C.x C.b dX0_draws_33 (by decide) ?_
        obtain ⟨v3_4, e9, hf⟩ := nm_k (K := bl (X_draws_B9) n9) hf
        refine lv_topL e9 ?_
        refine lv_lstore_n (lv' := [(3, .long v3_4), (0, .ref o), (5, .int v5)]) C.x C.b dX0_draws_34 rfl hl (by decide) rfl (fun ls hl => ?_)
        refine lv_aload_n C.x C.b dX0_draws_35 rfl (lv_at hl 1 rfl) ?_
        refine lv_dup C.x C.b dX0_draws_36 rfl ?_
        refine x_g12 C h dX0_draws_37 ?_
        refine lv_lload_n C.x C.b dX0_draws_40 rfl (lv_at hl 0 rfl) ?_
        refine lv_ldc2 (v := 65536) C.x C.b C.own (C.ts _ q1315) dX0_draws_41 ?_
        refine lv_ldiv C.x C.b dX0_draws_44 (by decide) ?_
        refine lv_ldc2 (v := 10) C.x C.b C.own (C.ts _ q1316) dX0_draws_45 ?_
        refine lv_lrem C.x C.b dX0_draws_48 (by decide) ?_
        refine lv_aload_n C.x C.b dX0_draws_49 rfl (lv_at hl 1 rfl) ?_
        refine x_g0 C h dX0_draws_50 ?_
        refine x_g102 C h dX0_draws_53 ?_
        refine lv_i2l C.x C.b dX0_draws_56 rfl ?_
        refine W.lcmp C.x C.b dX0_draws_57 ?_
        refine lv_if_ge (tgt := 68) C.x C.b dX0_draws_58 (by decide) (fun c9 => ?_) (fun c9 => ?_)
        · have hf := if_t (K := bl (X_draws_B9) n9) c9 hf
          refine lv_iconst (v := 0) C.x C.b dX0_draws_68 (by decide) ?_
          exact j69 σ v3_4 v5 0 (gI σ 12) _ _ _ h (lv_sub hl [1, 0, 2] rfl) hf
        · have hf := if_f (K := bl (X_draws_B9) n9) c9 hf
          refine lv_iconst (v := 1) C.x C.b dX0_draws_61 (by decide) ?_
          refine lv_iload C.x C.b dX0_draws_62 (lv_at hl 2 rfl) ?_
          refine lv_ishl C.x C.b dX0_draws_64 ?_
          refine lv_goto (tgt := 69) C.x C.b dX0_draws_65 (by decide) ?_
          exact j69 σ v3_4 v5 (1 <<< (v5 &&& 31)) (gI σ 12) _ _ _ h (lv_sub hl [1, 0, 2] rfl) hf
  intro H locs ls h hl
  have hl : lv_has ls 6 [(0, .ref o), (1, .long v1)] := hl
  unfold X_draws at hf
  refine lv_aload_n C.x C.b dX0_draws_0 rfl (lv_at hl 0 rfl) ?_
  obtain ⟨q_5, hc, hf⟩ := bd_k (K := fun x => x) rfl hf
  refine cX_asItIs C h hc (Nat.le_of_ble_eq_true rfl) hl.1 (Nat.le_of_ble_eq_true rfl) dX0_draws_1 (fun H locs h => ?_)
  refine lv_lload_n C.x C.b dX0_draws_4 rfl (lv_at hl 1 rfl) ?_
  refine lv_lstore_n (lv' := [(3, .long v1), (0, .ref o), (1, .long v1)]) C.x C.b dX0_draws_5 rfl hl (by decide) rfl (fun ls hl => ?_)
  refine lv_iconst (v := 0) C.x C.b dX0_draws_6 (by decide) ?_
  refine lv_istore (lv' := [(5, .int 0), (3, .long v1), (0, .ref o), (1, .long v1)]) C.x C.b dX0_draws_7 hl (by decide) rfl (fun ls hl => ?_)
  exact l9  fu v1 0 q_5 _ _ _ h (lv_sub hl [2, 1, 0] rfl) hf
theorem tX_draws : GoodIn lw_all (wsV RX0 456 RX0 yX0_draws (ws_ yX0_draws cX0_draws 6 none)) := lw_V q1308 q1310 qs65 q137 q1311
theorem cX_draws {p : Program} {l : Launch} {e : Env} {R : Room} {s : State} {m : MethodId} {args : Array Value} {below : List Frame} {meth : Method} {c : Code} {H : Heap} {locs : List Loc} {Q : State → Prop} {cc : ByteArray} {pc : Nat} {ls : Array Slot} {st : List Value} {nL d : Nat} {D : va_G} {ty : Nat → ClassId} {A : Nat → Prop} {o : Nat} {ad : Nat → Nat} {rs : va_W} {σ : PS} {v1 : Int64} {q : PS} (C : Cx p R s m args c cc nL RX0 D ty A d) (h : Hw D A s H locs (wX ty o ad σ ++ rs)) (hc : X_draws σ v1 = some q) (hd : 7 + 1 ≤ d) (hls : ls.size = nL) (hcat : (st.map fun v => v.category).sum ≤ 8) (dec : decode cc pc = .ok (.invokevirtual 456, 3)) (kk : ∀ (H : Heap) (locs : List Loc), Hw D A s H locs (wX ty o ad q ++ rs) → W p l e R s m args below meth c H locs 0 0 Q (F0 m (pc + 3) ls (st))) : W p l e R s m args below meth c H locs 0 0 Q (F0 m pc ls (.long v1 :: .ref o :: st)) := KV.callV (As := [.long v1]) C (kX_draws l hc) tX_draws ⟨rfl, by decide, by decide, by show _ = some 1; decide +kernel⟩ 0 0 rfl rfl rfl hd (by decide) (Nat.zero_le _) (Nat.zero_le _) h hls rfl hcat dec kk
def X_luck_j77 (σ : PS) (v4 : Int32) : Option (Int32 × PS) := some (v4, σ)
def X_luck_j68 (σ : PS) (v1 : Int32) (v2 : Int32) (v3 : Int32) (v5 : Int32) (x0 : Int32) (x1 : Int32) : Option ((Int32 × Int32 × PS) ⊕ (Int32 × PS)) := nm (x1 + x0) (fun v4_1 => nm (v5 + 1) (fun v5_2 => some (.inl (v4_1, v5_2, σ))))
def X_luck_l37 (v1 : Int32) (v2 : Int32) (v3 : Int32) (v4 : Int32) (v5 : Int32) (σ : PS) : Option ((Int32 × Int32 × PS) ⊕ (Int32 × PS)) := if v2 ≤ v5 then up (X_luck_j77 σ v4) else bd (X_draws σ (v1.toInt64 + v5.toInt64)) (fun q_3 => bd (X_isSound q_3 v3) (fun q_4 => if q_4 = 0 then X_luck_j68 q_3 v1 v2 v3 v5 0 v4 else X_luck_j68 q_3 v1 v2 v3 v5 1 v4))
def X_luck_B37 (v1 : Int32) (v2 : Int32) (v3 : Int32) : (Int32 × Int32 × PS) → Option ((Int32 × Int32 × PS) ⊕ (Int32 × PS)) := fun t => X_luck_l37 v1 v2 v3 t.1 t.2.1 t.2.2
def X_luck_j28 (σ : PS) : Option (Int32 × PS) := some ((-2), σ)
def X_luck (σ : PS) (v1 : Int32) (v2 : Int32) (v3 : Int32) : Option (Int32 × PS) := bd (X_isSeed v1) (fun q_5 => if q_5 = 0 then X_luck_j28 σ else bd (X_isIn v2.toInt64 1 20) (fun q_6 => if q_6 = 0 then X_luck_j28 σ else bd (X_isPiece σ v3.toInt64) (fun q_7 => if q_7 = 0 then X_luck_j28 σ else loop (X_luck_B37 v1 v2 v3) fu (0, 0, σ))))
set_option maxHeartbeats 4000000 in
theorem kX_luck (l : Launch) {D : va_G} {ty : Nat → ClassId} {A : Nat → Prop} {o : Nat} {ad : Nat → Nat} {rs : va_W} {σ : PS} {σ' : PS} {v1 : Int32} {v2 : Int32} {v3 : Int32} {r : Int32} (hf : X_luck σ v1 v2 v3 = some (r, σ')) : KI l yX0_luck cX0_luck 6 .int 8 D ty A (wX ty o ad σ ++ rs) (wX ty o ad σ' ++ rs) [.ref o, .int v1, .int v2, .int v3] r := by
  refine KI.of (by decide) (Nat.le_of_ble_eq_true rfl) ?_
  intro p e R s m args below meth c Q C hR
  have C : Cx p R s m args c cX0_luck 6 RX0 D ty A 8 := C
  have hR : ∀ (v : Int32) (σ2 : PS), (v, σ2) = (r, σ') → ∀ (H : Heap) (locs : List Loc) (pc : Nat) (ls : Array Slot), Hw D A s H locs (wX ty o ad σ2 ++ rs) → narrow .int (.int v) = .int v → decode cX0_luck pc = .ok (.ireturn, 1) → W p l e R s m args below meth c H locs 0 0 Q (F0 m pc ls [.int v]) := by intro v σ2 e9; cases e9; exact hR
  have j77 : ∀ (σ : PS) (v4 : Int32) (H : Heap) (locs : List Loc) (ls : Array Slot), Hw D A s H locs (wX ty o ad σ ++ rs) → lv_has ls 6 [(4, .int v4)] → X_luck_j77 σ v4 = some (r, σ') → W p l e R s m args below meth c H locs 0 0 Q (F0 m 77 ls []) := by
    intro σ v4 H locs ls h hl hf
    unfold X_luck_j77 at hf
    refine lv_iload C.x C.b dX0_luck_77 (lv_at hl 0 rfl) ?_
    exact hR _ _ (some_k hf) _ _ _ _ h rfl dX0_luck_79
  have l37 : ∀ (n37 : Nat) (v4 : Int32) (v5 : Int32) (σ : PS) (H : Heap) (locs : List Loc) (ls : Array Slot), Hw D A s H locs (wX ty o ad σ ++ rs) → lv_has ls 6 [(0, .ref o), (1, .int v1), (2, .int v2), (3, .int v3), (4, .int v4), (5, .int v5)] → loop (X_luck_B37 v1 v2 v3) n37 (v4, v5, σ) = some (r, σ') → W p l e R s m args below meth c H locs 0 0 Q (F0 m 37 ls []) := by
    intro n37
    induction n37 with
    | zero => intro v4 v5 σ H locs ls h hl hf; exact (none_k hf).elim
    | succ n37 ih37 =>
      have j68 : ∀ (σ : PS) (v5 : Int32) (x0 : Int32) (x1 : Int32) (H : Heap) (locs : List Loc) (ls : Array Slot), Hw D A s H locs (wX ty o ad σ ++ rs) → lv_has ls 6 [(0, .ref o), (1, .int v1), (2, .int v2), (3, .int v3), (5, .int v5)] → bl (X_luck_B37 v1 v2 v3) n37 (X_luck_j68 σ v1 v2 v3 v5 x0 x1) = some (r, σ') → W p l e R s m args below meth c H locs 0 0 Q (F0 m 68 ls [.int x0, .int x1]) := by
        intro σ v5 x0 x1 H locs ls h hl hf
        unfold X_luck_j68 at hf
        refine lv_iadd C.x C.b dX0_luck_68 ?_
        obtain ⟨v4_1, e9, hf⟩ := nm_k (K := bl (X_luck_B37 v1 v2 v3) n37) hf
        refine lv_topI e9 ?_
        refine lv_istore (lv' := [(4, .int v4_1), (0, .ref o), (1, .int v1), (2, .int v2), (3, .int v3), (5, .int v5)]) C.x C.b dX0_luck_69 hl (by decide) rfl (fun ls hl => ?_)
        obtain ⟨v5_2, e9, hf⟩ := nm_k (K := bl (X_luck_B37 v1 v2 v3) n37) hf
        refine lv_iinc (v := v5_2) (lv' := [(5, .int v5_2), (4, .int v4_1), (0, .ref o), (1, .int v1), (2, .int v2), (3, .int v3)]) C.x C.b dX0_luck_71 hl (k := 5) rfl (iinc_e (k := 1) (by decide) e9) (by decide) rfl (fun ls hl => ?_)
        refine lv_goto (tgt := 37) C.x C.b dX0_luck_74 (by decide) ?_
        exact ih37 v4_1 v5_2 σ _ _ _ h (lv_sub hl [2, 3, 4, 5, 1, 0] rfl) hf
      intro v4 v5 σ H locs ls h hl hf
      have hf : bl (X_luck_B37 v1 v2 v3) n37 (X_luck_l37 v1 v2 v3 v4 v5 σ) = some (r, σ') := hf
      unfold X_luck_l37 at hf
      refine lv_iload C.x C.b dX0_luck_37 (lv_at hl 5 rfl) ?_
      refine lv_iload_n C.x C.b dX0_luck_39 rfl (lv_at hl 2 rfl) ?_
      refine lv_icmp_ge (tgt := 77) C.x C.b dX0_luck_40 (by decide) (fun c9 => ?_) (fun c9 => ?_)
      · have hf := if_t (K := bl (X_luck_B37 v1 v2 v3) n37) c9 hf
        have hf := bl_upK (K := fun x => x) hf
        exact j77 σ v4 _ _ _ h (lv_sub hl [4] rfl) hf
      · have hf := if_f (K := bl (X_luck_B37 v1 v2 v3) n37) c9 hf
        refine lv_aload_n C.x C.b dX0_luck_43 rfl (lv_at hl 0 rfl) ?_
        refine lv_iload_n C.x C.b dX0_luck_44 rfl (lv_at hl 1 rfl) ?_
        refine lv_i2l C.x C.b dX0_luck_45 rfl ?_
        refine lv_iload C.x C.b dX0_luck_46 (lv_at hl 5 rfl) ?_
        refine lv_i2l C.x C.b dX0_luck_48 rfl ?_
        refine lv_ladd C.x C.b dX0_luck_49 ?_
        obtain ⟨q_3, hc, hf⟩ := bd_k (K := bl (X_luck_B37 v1 v2 v3) n37) rfl hf
        refine cX_draws C h hc (Nat.le_of_ble_eq_true rfl) hl.1 (Nat.le_of_ble_eq_true rfl) dX0_luck_50 (fun H locs h => ?_)
        refine lv_iload C.x C.b dX0_luck_53 (lv_at hl 4 rfl) ?_
        refine lv_aload_n C.x C.b dX0_luck_55 rfl (lv_at hl 0 rfl) ?_
        refine lv_iload_n C.x C.b dX0_luck_56 rfl (lv_at hl 3 rfl) ?_
        obtain ⟨q_4, hc, hf⟩ := bd_k (K := bl (X_luck_B37 v1 v2 v3) n37) rfl hf
        refine cX_isSound C h hc (Nat.le_of_ble_eq_true rfl) hl.1 (Nat.le_of_ble_eq_true rfl) dX0_luck_57 (fun H locs h => ?_)
        refine lv_if_eq (tgt := 67) C.x C.b dX0_luck_60 (by decide) (fun c9 => ?_) (fun c9 => ?_)
        · have hf := if_t (K := bl (X_luck_B37 v1 v2 v3) n37) c9 hf
          refine lv_iconst (v := 0) C.x C.b dX0_luck_67 (by decide) ?_
          exact j68 q_3 v5 0 v4 _ _ _ h (lv_sub hl [0, 1, 2, 3, 5] rfl) hf
        · have hf := if_f (K := bl (X_luck_B37 v1 v2 v3) n37) c9 hf
          refine lv_iconst (v := 1) C.x C.b dX0_luck_63 (by decide) ?_
          refine lv_goto (tgt := 68) C.x C.b dX0_luck_64 (by decide) ?_
          exact j68 q_3 v5 1 v4 _ _ _ h (lv_sub hl [0, 1, 2, 3, 5] rfl) hf
  have j28 : ∀ (σ : PS) (H : Heap) (locs : List Loc) (ls : Array Slot), Hw D A s H locs (wX ty o ad σ ++ rs) → lv_has ls 6 [] → X_luck_j28 σ = some (r, σ') → W p l e R s m args below meth c H locs 0 0 Q (F0 m 28 ls []) := by
    intro σ H locs ls h hl hf
    unfold X_luck_j28 at hf
    refine lv_bipush (v := (-2)) C.x C.b dX0_luck_28 (by decide) ?_
    exact hR _ _ (some_k hf) _ _ _ _ h rfl dX0_luck_30
  intro H locs ls h hl
  have hl : lv_has ls 6 [(0, .ref o), (1, .int v1), (2, .int v2), (3, .int v3)] := hl
  unfold X_luck at hf
  refine lv_iload_n C.x C.b dX0_luck_0 rfl (lv_at hl 1 rfl) ?_
  obtain ⟨q_5, hc, hf⟩ := bd_k (K := fun x => x) rfl hf
  refine cX_isSeed C h hc (Nat.le_of_ble_eq_true rfl) hl.1 (Nat.le_of_ble_eq_true rfl) dX0_luck_1 (fun H locs h => ?_)
  refine lv_if_eq (tgt := 28) C.x C.b dX0_luck_4 (by decide) (fun c9 => ?_) (fun c9 => ?_)
  · have hf := if_t (K := fun x => x) c9 hf
    exact j28 σ _ _ _ h (lv_sub hl [] rfl) hf
  · have hf := if_f (K := fun x => x) c9 hf
    refine lv_iload_n C.x C.b dX0_luck_7 rfl (lv_at hl 2 rfl) ?_
    refine lv_i2l C.x C.b dX0_luck_8 rfl ?_
    refine lv_lconst (v := 1) C.x C.b dX0_luck_9 (by decide) ?_
    refine lv_ldc2 (v := 20) C.x C.b C.own (C.ts _ q1321) dX0_luck_10 ?_
    obtain ⟨q_6, hc, hf⟩ := bd_k (K := fun x => x) rfl hf
    refine cX_isIn C h hc (Nat.le_of_ble_eq_true rfl) hl.1 (Nat.le_of_ble_eq_true rfl) dX0_luck_13 (fun H locs h => ?_)
    refine lv_if_eq (tgt := 28) C.x C.b dX0_luck_16 (by decide) (fun c9 => ?_) (fun c9 => ?_)
    · have hf := if_t (K := fun x => x) c9 hf
      exact j28 σ _ _ _ h (lv_sub hl [] rfl) hf
    · have hf := if_f (K := fun x => x) c9 hf
      refine lv_aload_n C.x C.b dX0_luck_19 rfl (lv_at hl 0 rfl) ?_
      refine lv_iload_n C.x C.b dX0_luck_20 rfl (lv_at hl 3 rfl) ?_
      refine lv_i2l C.x C.b dX0_luck_21 rfl ?_
      obtain ⟨q_7, hc, hf⟩ := bd_k (K := fun x => x) rfl hf
      refine cX_isPiece C h hc (Nat.le_of_ble_eq_true rfl) hl.1 (Nat.le_of_ble_eq_true rfl) dX0_luck_22 (fun H locs h => ?_)
      refine lv_if_ne (tgt := 31) C.x C.b dX0_luck_25 (by decide) (fun c9 => ?_) (fun c9 => ?_)
      · have hf := if_f (K := fun x => x) c9 hf
        refine lv_iconst (v := 0) C.x C.b dX0_luck_31 (by decide) ?_
        refine lv_istore (lv' := [(4, .int 0), (0, .ref o), (1, .int v1), (2, .int v2), (3, .int v3)]) C.x C.b dX0_luck_32 hl (by decide) rfl (fun ls hl => ?_)
        refine lv_iconst (v := 0) C.x C.b dX0_luck_34 (by decide) ?_
        refine lv_istore (lv' := [(5, .int 0), (4, .int 0), (0, .ref o), (1, .int v1), (2, .int v2), (3, .int v3)]) C.x C.b dX0_luck_35 hl (by decide) rfl (fun ls hl => ?_)
        exact l37  fu 0 0 σ _ _ _ h (lv_sub hl [2, 3, 4, 5, 1, 0] rfl) hf
      · have hf := if_t (K := fun x => x) c9 hf
        exact j28 σ _ _ _ h (lv_sub hl [] rfl) hf
def X_asksLehr (σ : PS) : Option (Int32 × PS) := bd (X_asItIs σ) (fun q_1 => bd (X_lays q_1) (fun q_2 => bd (X_isLehr q_2) (fun q_3 => tz q_3 (some (q_3, q_2)))))
set_option maxHeartbeats 4000000 in
theorem kX_asksLehr (l : Launch) {D : va_G} {ty : Nat → ClassId} {A : Nat → Prop} {o : Nat} {ad : Nat → Nat} {rs : va_W} {σ : PS} {σ' : PS} {r : Int32} (hf : X_asksLehr σ = some (r, σ')) : KI l yX0_asksLehr cX0_asksLehr 1 .boolean 7 D ty A (wX ty o ad σ ++ rs) (wX ty o ad σ' ++ rs) [.ref o] r := by
  refine KI.of (by decide) (Nat.le_of_ble_eq_true rfl) ?_
  intro p e R s m args below meth c Q C hR
  have C : Cx p R s m args c cX0_asksLehr 1 RX0 D ty A 7 := C
  have hR : ∀ (v : Int32) (σ2 : PS), (v, σ2) = (r, σ') → ∀ (H : Heap) (locs : List Loc) (pc : Nat) (ls : Array Slot), Hw D A s H locs (wX ty o ad σ2 ++ rs) → narrow .boolean (.int v) = .int v → decode cX0_asksLehr pc = .ok (.ireturn, 1) → W p l e R s m args below meth c H locs 0 0 Q (F0 m pc ls [.int v]) := by intro v σ2 e9; cases e9; exact hR
  intro H locs ls h hl
  have hl : lv_has ls 1 [(0, .ref o)] := hl
  unfold X_asksLehr at hf
  refine lv_aload_n C.x C.b dX0_asksLehr_0 rfl (lv_at hl 0 rfl) ?_
  obtain ⟨q_1, hc, hf⟩ := bd_k (K := fun x => x) rfl hf
  refine cX_asItIs C h hc (Nat.le_of_ble_eq_true rfl) hl.1 (Nat.le_of_ble_eq_true rfl) dX0_asksLehr_1 (fun H locs h => ?_)
  refine lv_aload_n C.x C.b dX0_asksLehr_4 rfl (lv_at hl 0 rfl) ?_
  obtain ⟨q_2, hc, hf⟩ := bd_k (K := fun x => x) rfl hf
  refine cX_lays C h hc (Nat.le_of_ble_eq_true rfl) hl.1 (Nat.le_of_ble_eq_true rfl) dX0_asksLehr_5 (fun H locs h => ?_)
  refine lv_aload_n C.x C.b dX0_asksLehr_8 rfl (lv_at hl 0 rfl) ?_
  obtain ⟨q_3, hc, hf⟩ := bd_k (K := fun x => x) rfl hf
  refine cX_isLehr C h hc (Nat.le_of_ble_eq_true rfl) hl.1 (Nat.le_of_ble_eq_true rfl) dX0_asksLehr_9 (fun H locs h => ?_)
  obtain ⟨hz, hf⟩ := tz_k (K := fun x => x) rfl hf
  exact hR _ _ (some_k hf) _ _ _ _ h hz dX0_asksLehr_12
theorem tX_asksLehr : GoodIn lw_all (wsV RX0 260 RX0 yX0_asksLehr (ws_ yX0_asksLehr cX0_asksLehr 1 (some .boolean))) := lw_V q737 q739 qs19 q137 q740
theorem cX_asksLehr {p : Program} {l : Launch} {e : Env} {R : Room} {s : State} {m : MethodId} {args : Array Value} {below : List Frame} {meth : Method} {c : Code} {H : Heap} {locs : List Loc} {Q : State → Prop} {cc : ByteArray} {pc : Nat} {ls : Array Slot} {st : List Value} {nL d : Nat} {D : va_G} {ty : Nat → ClassId} {A : Nat → Prop} {o : Nat} {ad : Nat → Nat} {rs : va_W} {σ : PS} {q : (Int32 × PS)} (C : Cx p R s m args c cc nL RX0 D ty A d) (h : Hw D A s H locs (wX ty o ad σ ++ rs)) (hc : X_asksLehr σ = some q) (hd : 7 + 1 ≤ d) (hls : ls.size = nL) (hcat : (st.map fun v => v.category).sum ≤ 8) (dec : decode cc pc = .ok (.invokevirtual 260, 3)) (kk : ∀ (H : Heap) (locs : List Loc), Hw D A s H locs (wX ty o ad q.2 ++ rs) → W p l e R s m args below meth c H locs 0 0 Q (F0 m (pc + 3) ls (.int (q.1) :: st))) : W p l e R s m args below meth c H locs 0 0 Q (F0 m pc ls (.ref o :: st)) := KI.callV (As := []) C (kX_asksLehr l hc) tX_asksLehr ⟨rfl, by decide, by decide, by show _ = some 0; decide +kernel⟩ 0 0 rfl rfl rfl hd (by decide) (Nat.zero_le _) (Nat.zero_le _) h hls rfl hcat dec kk
def X_asksPiece_j21 (σ : PS) (x0 : Int32) : Option (Int32 × PS) := tz x0 (some (x0, σ))
def X_asksPiece_j20 (σ : PS) : Option (Int32 × PS) := X_asksPiece_j21 σ 0
def X_asksPiece (σ : PS) (v1 : Int32) : Option (Int32 × PS) := bd (X_asksLehr σ) (fun q_1 => if q_1.1 = 0 then X_asksPiece_j20 q_1.2 else bd (X_isPiece q_1.2 v1.toInt64) (fun q_2 => if q_2 = 0 then X_asksPiece_j20 q_1.2 else X_asksPiece_j21 q_1.2 1))
set_option maxHeartbeats 4000000 in
theorem kX_asksPiece (l : Launch) {D : va_G} {ty : Nat → ClassId} {A : Nat → Prop} {o : Nat} {ad : Nat → Nat} {rs : va_W} {σ : PS} {σ' : PS} {v1 : Int32} {r : Int32} (hf : X_asksPiece σ v1 = some (r, σ')) : KI l yX0_asksPiece cX0_asksPiece 2 .boolean 8 D ty A (wX ty o ad σ ++ rs) (wX ty o ad σ' ++ rs) [.ref o, .int v1] r := by
  refine KI.of (by decide) (Nat.le_of_ble_eq_true rfl) ?_
  intro p e R s m args below meth c Q C hR
  have C : Cx p R s m args c cX0_asksPiece 2 RX0 D ty A 8 := C
  have hR : ∀ (v : Int32) (σ2 : PS), (v, σ2) = (r, σ') → ∀ (H : Heap) (locs : List Loc) (pc : Nat) (ls : Array Slot), Hw D A s H locs (wX ty o ad σ2 ++ rs) → narrow .boolean (.int v) = .int v → decode cX0_asksPiece pc = .ok (.ireturn, 1) → W p l e R s m args below meth c H locs 0 0 Q (F0 m pc ls [.int v]) := by intro v σ2 e9; cases e9; exact hR
  have j21 : ∀ (σ : PS) (x0 : Int32) (H : Heap) (locs : List Loc) (ls : Array Slot), Hw D A s H locs (wX ty o ad σ ++ rs) → lv_has ls 2 [] → X_asksPiece_j21 σ x0 = some (r, σ') → W p l e R s m args below meth c H locs 0 0 Q (F0 m 21 ls [.int x0]) := by
    intro σ x0 H locs ls h hl hf
    unfold X_asksPiece_j21 at hf
    obtain ⟨hz, hf⟩ := tz_k (K := fun x => x) rfl hf
    exact hR _ _ (some_k hf) _ _ _ _ h hz dX0_asksPiece_21
  have j20 : ∀ (σ : PS) (H : Heap) (locs : List Loc) (ls : Array Slot), Hw D A s H locs (wX ty o ad σ ++ rs) → lv_has ls 2 [] → X_asksPiece_j20 σ = some (r, σ') → W p l e R s m args below meth c H locs 0 0 Q (F0 m 20 ls []) := by
    intro σ H locs ls h hl hf
    unfold X_asksPiece_j20 at hf
    refine lv_iconst (v := 0) C.x C.b dX0_asksPiece_20 (by decide) ?_
    exact j21 σ 0 _ _ _ h (lv_sub hl [] rfl) hf
  intro H locs ls h hl
  have hl : lv_has ls 2 [(0, .ref o), (1, .int v1)] := hl
  unfold X_asksPiece at hf
  refine lv_aload_n C.x C.b dX0_asksPiece_0 rfl (lv_at hl 0 rfl) ?_
  obtain ⟨q_1, hc, hf⟩ := bd_k (K := fun x => x) rfl hf
  refine cX_asksLehr C h hc (Nat.le_of_ble_eq_true rfl) hl.1 (Nat.le_of_ble_eq_true rfl) dX0_asksPiece_1 (fun H locs h => ?_)
  refine lv_if_eq (tgt := 20) C.x C.b dX0_asksPiece_4 (by decide) (fun c9 => ?_) (fun c9 => ?_)
  · have hf := if_t (K := fun x => x) c9 hf
    exact j20 q_1.2 _ _ _ h (lv_sub hl [] rfl) hf
  · have hf := if_f (K := fun x => x) c9 hf
    refine lv_aload_n C.x C.b dX0_asksPiece_7 rfl (lv_at hl 0 rfl) ?_
    refine lv_iload_n C.x C.b dX0_asksPiece_8 rfl (lv_at hl 1 rfl) ?_
    refine lv_i2l C.x C.b dX0_asksPiece_9 rfl ?_
    obtain ⟨q_2, hc, hf⟩ := bd_k (K := fun x => x) rfl hf
    refine cX_isPiece C h hc (Nat.le_of_ble_eq_true rfl) hl.1 (Nat.le_of_ble_eq_true rfl) dX0_asksPiece_10 (fun H locs h => ?_)
    refine lv_if_eq (tgt := 20) C.x C.b dX0_asksPiece_13 (by decide) (fun c9 => ?_) (fun c9 => ?_)
    · have hf := if_t (K := fun x => x) c9 hf
      exact j20 q_1.2 _ _ _ h (lv_sub hl [] rfl) hf
    · have hf := if_f (K := fun x => x) c9 hf
      refine lv_iconst (v := 1) C.x C.b dX0_asksPiece_16 (by decide) ?_
      refine lv_goto (tgt := 21) C.x C.b dX0_asksPiece_17 (by decide) ?_
      exact j21 q_1.2 1 _ _ _ h (lv_sub hl [] rfl) hf
theorem tX_asksPiece : GoodIn lw_all (wsV RX0 293 RX0 yX0_asksPiece (ws_ yX0_asksPiece cX0_asksPiece 2 (some .boolean))) := lw_V q849 q851 qs32 q137 q852
theorem cX_asksPiece {p : Program} {l : Launch} {e : Env} {R : Room} {s : State} {m : MethodId} {args : Array Value} {below : List Frame} {meth : Method} {c : Code} {H : Heap} {locs : List Loc} {Q : State → Prop} {cc : ByteArray} {pc : Nat} {ls : Array Slot} {st : List Value} {nL d : Nat} {D : va_G} {ty : Nat → ClassId} {A : Nat → Prop} {o : Nat} {ad : Nat → Nat} {rs : va_W} {σ : PS} {v1 : Int32} {q : (Int32 × PS)} (C : Cx p R s m args c cc nL RX0 D ty A d) (h : Hw D A s H locs (wX ty o ad σ ++ rs)) (hc : X_asksPiece σ v1 = some q) (hd : 8 + 1 ≤ d) (hls : ls.size = nL) (hcat : (st.map fun v => v.category).sum ≤ 8) (dec : decode cc pc = .ok (.invokevirtual 293, 3)) (kk : ∀ (H : Heap) (locs : List Loc), Hw D A s H locs (wX ty o ad q.2 ++ rs) → W p l e R s m args below meth c H locs 0 0 Q (F0 m (pc + 3) ls (.int (q.1) :: st))) : W p l e R s m args below meth c H locs 0 0 Q (F0 m pc ls (.int v1 :: .ref o :: st)) := KI.callV (As := [.int v1]) C (kX_asksPiece l hc) tX_asksPiece ⟨rfl, by decide, by decide, by show _ = some 1; decide +kernel⟩ 0 0 rfl rfl rfl hd (by decide) (Nat.zero_le _) (Nat.zero_le _) h hls rfl hcat dec kk
def X_peak_j23 (σ : PS) (x0 : Int32) : Option (Int32 × PS) := some (x0, σ)
def X_peak (σ : PS) (v1 : Int32) : Option (Int32 × PS) := bd (X_asksPiece σ v1) (fun q_1 => if q_1.1 = 0 then X_peak_j23 q_1.2 ((-2)) else bd (X_whenOf q_1.2 v1) (fun q_2 => bd (X_strainOf q_1.2 v1 q_2) (fun q_3 => X_peak_j23 q_1.2 q_3)))
set_option maxHeartbeats 4000000 in
theorem kX_peak (l : Launch) {D : va_G} {ty : Nat → ClassId} {A : Nat → Prop} {o : Nat} {ad : Nat → Nat} {rs : va_W} {σ : PS} {σ' : PS} {v1 : Int32} {r : Int32} (hf : X_peak σ v1 = some (r, σ')) : KI l yX0_peak cX0_peak 2 .int 9 D ty A (wX ty o ad σ ++ rs) (wX ty o ad σ' ++ rs) [.ref o, .int v1] r := by
  refine KI.of (by decide) (Nat.le_of_ble_eq_true rfl) ?_
  intro p e R s m args below meth c Q C hR
  have C : Cx p R s m args c cX0_peak 2 RX0 D ty A 9 := C
  have hR : ∀ (v : Int32) (σ2 : PS), (v, σ2) = (r, σ') → ∀ (H : Heap) (locs : List Loc) (pc : Nat) (ls : Array Slot), Hw D A s H locs (wX ty o ad σ2 ++ rs) → narrow .int (.int v) = .int v → decode cX0_peak pc = .ok (.ireturn, 1) → W p l e R s m args below meth c H locs 0 0 Q (F0 m pc ls [.int v]) := by intro v σ2 e9; cases e9; exact hR
  have j23 : ∀ (σ : PS) (x0 : Int32) (H : Heap) (locs : List Loc) (ls : Array Slot), Hw D A s H locs (wX ty o ad σ ++ rs) → lv_has ls 2 [] → X_peak_j23 σ x0 = some (r, σ') → W p l e R s m args below meth c H locs 0 0 Q (F0 m 23 ls [.int x0]) := by
    intro σ x0 H locs ls h hl hf
    unfold X_peak_j23 at hf
    exact hR _ _ (some_k hf) _ _ _ _ h rfl dX0_peak_23
  intro H locs ls h hl
  have hl : lv_has ls 2 [(0, .ref o), (1, .int v1)] := hl
  unfold X_peak at hf
  refine lv_aload_n C.x C.b dX0_peak_0 rfl (lv_at hl 0 rfl) ?_
  refine lv_iload_n C.x C.b dX0_peak_1 rfl (lv_at hl 1 rfl) ?_
  obtain ⟨q_1, hc, hf⟩ := bd_k (K := fun x => x) rfl hf
  refine cX_asksPiece C h hc (Nat.le_of_ble_eq_true rfl) hl.1 (Nat.le_of_ble_eq_true rfl) dX0_peak_2 (fun H locs h => ?_)
  refine lv_if_eq (tgt := 21) C.x C.b dX0_peak_5 (by decide) (fun c9 => ?_) (fun c9 => ?_)
  · have hf := if_t (K := fun x => x) c9 hf
    refine lv_bipush (v := (-2)) C.x C.b dX0_peak_21 (by decide) ?_
    exact j23 q_1.2 ((-2)) _ _ _ h (lv_sub hl [] rfl) hf
  · have hf := if_f (K := fun x => x) c9 hf
    refine lv_aload_n C.x C.b dX0_peak_8 rfl (lv_at hl 0 rfl) ?_
    refine lv_iload_n C.x C.b dX0_peak_9 rfl (lv_at hl 1 rfl) ?_
    refine lv_aload_n C.x C.b dX0_peak_10 rfl (lv_at hl 0 rfl) ?_
    refine lv_iload_n C.x C.b dX0_peak_11 rfl (lv_at hl 1 rfl) ?_
    obtain ⟨q_2, hc, hf⟩ := bd_k (K := fun x => x) rfl hf
    refine cX_whenOf C h hc (Nat.le_of_ble_eq_true rfl) hl.1 (Nat.le_of_ble_eq_true rfl) dX0_peak_12 (fun H locs h => ?_)
    obtain ⟨q_3, hc, hf⟩ := bd_k (K := fun x => x) rfl hf
    refine cX_strainOf C h hc (Nat.le_of_ble_eq_true rfl) hl.1 (Nat.le_of_ble_eq_true rfl) dX0_peak_15 (fun H locs h => ?_)
    refine lv_goto (tgt := 23) C.x C.b dX0_peak_18 (by decide) ?_
    exact j23 q_1.2 q_3 _ _ _ h (lv_sub hl [] rfl) hf
def X_when_j18 (σ : PS) (x0 : Int32) : Option (Int32 × PS) := some (x0, σ)
def X_when (σ : PS) (v1 : Int32) : Option (Int32 × PS) := bd (X_asksPiece σ v1) (fun q_1 => if q_1.1 = 0 then X_when_j18 q_1.2 ((-2)) else bd (X_whenOf q_1.2 v1) (fun q_2 => X_when_j18 q_1.2 q_2))
set_option maxHeartbeats 4000000 in
theorem kX_when (l : Launch) {D : va_G} {ty : Nat → ClassId} {A : Nat → Prop} {o : Nat} {ad : Nat → Nat} {rs : va_W} {σ : PS} {σ' : PS} {v1 : Int32} {r : Int32} (hf : X_when σ v1 = some (r, σ')) : KI l yX0_when cX0_when 2 .int 9 D ty A (wX ty o ad σ ++ rs) (wX ty o ad σ' ++ rs) [.ref o, .int v1] r := by
  refine KI.of (by decide) (Nat.le_of_ble_eq_true rfl) ?_
  intro p e R s m args below meth c Q C hR
  have C : Cx p R s m args c cX0_when 2 RX0 D ty A 9 := C
  have hR : ∀ (v : Int32) (σ2 : PS), (v, σ2) = (r, σ') → ∀ (H : Heap) (locs : List Loc) (pc : Nat) (ls : Array Slot), Hw D A s H locs (wX ty o ad σ2 ++ rs) → narrow .int (.int v) = .int v → decode cX0_when pc = .ok (.ireturn, 1) → W p l e R s m args below meth c H locs 0 0 Q (F0 m pc ls [.int v]) := by intro v σ2 e9; cases e9; exact hR
  have j18 : ∀ (σ : PS) (x0 : Int32) (H : Heap) (locs : List Loc) (ls : Array Slot), Hw D A s H locs (wX ty o ad σ ++ rs) → lv_has ls 2 [] → X_when_j18 σ x0 = some (r, σ') → W p l e R s m args below meth c H locs 0 0 Q (F0 m 18 ls [.int x0]) := by
    intro σ x0 H locs ls h hl hf
    unfold X_when_j18 at hf
    exact hR _ _ (some_k hf) _ _ _ _ h rfl dX0_when_18
  intro H locs ls h hl
  have hl : lv_has ls 2 [(0, .ref o), (1, .int v1)] := hl
  unfold X_when at hf
  refine lv_aload_n C.x C.b dX0_when_0 rfl (lv_at hl 0 rfl) ?_
  refine lv_iload_n C.x C.b dX0_when_1 rfl (lv_at hl 1 rfl) ?_
  obtain ⟨q_1, hc, hf⟩ := bd_k (K := fun x => x) rfl hf
  refine cX_asksPiece C h hc (Nat.le_of_ble_eq_true rfl) hl.1 (Nat.le_of_ble_eq_true rfl) dX0_when_2 (fun H locs h => ?_)
  refine lv_if_eq (tgt := 16) C.x C.b dX0_when_5 (by decide) (fun c9 => ?_) (fun c9 => ?_)
  · have hf := if_t (K := fun x => x) c9 hf
    refine lv_bipush (v := (-2)) C.x C.b dX0_when_16 (by decide) ?_
    exact j18 q_1.2 ((-2)) _ _ _ h (lv_sub hl [] rfl) hf
  · have hf := if_f (K := fun x => x) c9 hf
    refine lv_aload_n C.x C.b dX0_when_8 rfl (lv_at hl 0 rfl) ?_
    refine lv_iload_n C.x C.b dX0_when_9 rfl (lv_at hl 1 rfl) ?_
    obtain ⟨q_2, hc, hf⟩ := bd_k (K := fun x => x) rfl hf
    refine cX_whenOf C h hc (Nat.le_of_ble_eq_true rfl) hl.1 (Nat.le_of_ble_eq_true rfl) dX0_when_10 (fun H locs h => ?_)
    refine lv_goto (tgt := 18) C.x C.b dX0_when_13 (by decide) ?_
    exact j18 q_1.2 q_2 _ _ _ h (lv_sub hl [] rfl) hf
def X_frozen_j19 (σ : PS) (x0 : Int32) : Option (Int32 × PS) := some (x0, σ)
def X_frozen (σ : PS) (v1 : Int32) : Option (Int32 × PS) := bd (X_asksPiece σ v1) (fun q_1 => if q_1.1 = 0 then X_frozen_j19 q_1.2 ((-2)) else ix v1 6 (X_frozen_j19 q_1.2 (rA q_1.2 22 v1)))
set_option maxHeartbeats 4000000 in
theorem kX_frozen (l : Launch) {D : va_G} {ty : Nat → ClassId} {A : Nat → Prop} {o : Nat} {ad : Nat → Nat} {rs : va_W} {σ : PS} {σ' : PS} {v1 : Int32} {r : Int32} (hf : X_frozen σ v1 = some (r, σ')) : KI l yX0_frozen cX0_frozen 2 .int 9 D ty A (wX ty o ad σ ++ rs) (wX ty o ad σ' ++ rs) [.ref o, .int v1] r := by
  refine KI.of (by decide) (Nat.le_of_ble_eq_true rfl) ?_
  intro p e R s m args below meth c Q C hR
  have C : Cx p R s m args c cX0_frozen 2 RX0 D ty A 9 := C
  have hR : ∀ (v : Int32) (σ2 : PS), (v, σ2) = (r, σ') → ∀ (H : Heap) (locs : List Loc) (pc : Nat) (ls : Array Slot), Hw D A s H locs (wX ty o ad σ2 ++ rs) → narrow .int (.int v) = .int v → decode cX0_frozen pc = .ok (.ireturn, 1) → W p l e R s m args below meth c H locs 0 0 Q (F0 m pc ls [.int v]) := by intro v σ2 e9; cases e9; exact hR
  have j19 : ∀ (σ : PS) (x0 : Int32) (H : Heap) (locs : List Loc) (ls : Array Slot), Hw D A s H locs (wX ty o ad σ ++ rs) → lv_has ls 2 [] → X_frozen_j19 σ x0 = some (r, σ') → W p l e R s m args below meth c H locs 0 0 Q (F0 m 19 ls [.int x0]) := by
    intro σ x0 H locs ls h hl hf
    unfold X_frozen_j19 at hf
    exact hR _ _ (some_k hf) _ _ _ _ h rfl dX0_frozen_19
  intro H locs ls h hl
  have hl : lv_has ls 2 [(0, .ref o), (1, .int v1)] := hl
  unfold X_frozen at hf
  refine lv_aload_n C.x C.b dX0_frozen_0 rfl (lv_at hl 0 rfl) ?_
  refine lv_iload_n C.x C.b dX0_frozen_1 rfl (lv_at hl 1 rfl) ?_
  obtain ⟨q_1, hc, hf⟩ := bd_k (K := fun x => x) rfl hf
  refine cX_asksPiece C h hc (Nat.le_of_ble_eq_true rfl) hl.1 (Nat.le_of_ble_eq_true rfl) dX0_frozen_2 (fun H locs h => ?_)
  refine lv_if_eq (tgt := 17) C.x C.b dX0_frozen_5 (by decide) (fun c9 => ?_) (fun c9 => ?_)
  · have hf := if_t (K := fun x => x) c9 hf
    refine lv_bipush (v := (-2)) C.x C.b dX0_frozen_17 (by decide) ?_
    exact j19 q_1.2 ((-2)) _ _ _ h (lv_sub hl [] rfl) hf
  · have hf := if_f (K := fun x => x) c9 hf
    refine lv_aload_n C.x C.b dX0_frozen_8 rfl (lv_at hl 0 rfl) ?_
    refine x_g22 C h dX0_frozen_9 ?_
    refine lv_iload_n C.x C.b dX0_frozen_12 rfl (lv_at hl 1 rfl) ?_
    obtain ⟨hi, hf⟩ := ix_k (K := fun x => x) rfl hf
    refine x_a22 C h hi dX0_frozen_13 ?_
    refine lv_goto (tgt := 19) C.x C.b dX0_frozen_14 (by decide) ?_
    exact j19 q_1.2 (rA q_1.2 22 v1) _ _ _ h (lv_sub hl [] rfl) hf
def X_sets_j19 (σ : PS) (x0 : Int32) : Option (Int32 × PS) := some (x0, σ)
def X_sets (σ : PS) (v1 : Int32) : Option (Int32 × PS) := bd (X_asksPiece σ v1) (fun q_1 => if q_1.1 = 0 then X_sets_j19 q_1.2 ((-2)) else ix v1 6 (X_sets_j19 q_1.2 (rA q_1.2 23 v1)))
set_option maxHeartbeats 4000000 in
theorem kX_sets (l : Launch) {D : va_G} {ty : Nat → ClassId} {A : Nat → Prop} {o : Nat} {ad : Nat → Nat} {rs : va_W} {σ : PS} {σ' : PS} {v1 : Int32} {r : Int32} (hf : X_sets σ v1 = some (r, σ')) : KI l yX0_sets cX0_sets 2 .int 9 D ty A (wX ty o ad σ ++ rs) (wX ty o ad σ' ++ rs) [.ref o, .int v1] r := by
  refine KI.of (by decide) (Nat.le_of_ble_eq_true rfl) ?_
  intro p e R s m args below meth c Q C hR
  have C : Cx p R s m args c cX0_sets 2 RX0 D ty A 9 := C
  have hR : ∀ (v : Int32) (σ2 : PS), (v, σ2) = (r, σ') → ∀ (H : Heap) (locs : List Loc) (pc : Nat) (ls : Array Slot), Hw D A s H locs (wX ty o ad σ2 ++ rs) → narrow .int (.int v) = .int v → decode cX0_sets pc = .ok (.ireturn, 1) → W p l e R s m args below meth c H locs 0 0 Q (F0 m pc ls [.int v]) := by intro v σ2 e9; cases e9; exact hR
  have j19 : ∀ (σ : PS) (x0 : Int32) (H : Heap) (locs : List Loc) (ls : Array Slot), Hw D A s H locs (wX ty o ad σ ++ rs) → lv_has ls 2 [] → X_sets_j19 σ x0 = some (r, σ') → W p l e R s m args below meth c H locs 0 0 Q (F0 m 19 ls [.int x0]) := by
    intro σ x0 H locs ls h hl hf
    unfold X_sets_j19 at hf
    exact hR _ _ (some_k hf) _ _ _ _ h rfl dX0_sets_19
  intro H locs ls h hl
  have hl : lv_has ls 2 [(0, .ref o), (1, .int v1)] := hl
  unfold X_sets at hf
  refine lv_aload_n C.x C.b dX0_sets_0 rfl (lv_at hl 0 rfl) ?_
  refine lv_iload_n C.x C.b dX0_sets_1 rfl (lv_at hl 1 rfl) ?_
  obtain ⟨q_1, hc, hf⟩ := bd_k (K := fun x => x) rfl hf
  refine cX_asksPiece C h hc (Nat.le_of_ble_eq_true rfl) hl.1 (Nat.le_of_ble_eq_true rfl) dX0_sets_2 (fun H locs h => ?_)
  refine lv_if_eq (tgt := 17) C.x C.b dX0_sets_5 (by decide) (fun c9 => ?_) (fun c9 => ?_)
  · have hf := if_t (K := fun x => x) c9 hf
    refine lv_bipush (v := (-2)) C.x C.b dX0_sets_17 (by decide) ?_
    exact j19 q_1.2 ((-2)) _ _ _ h (lv_sub hl [] rfl) hf
  · have hf := if_f (K := fun x => x) c9 hf
    refine lv_aload_n C.x C.b dX0_sets_8 rfl (lv_at hl 0 rfl) ?_
    refine x_g23 C h dX0_sets_9 ?_
    refine lv_iload_n C.x C.b dX0_sets_12 rfl (lv_at hl 1 rfl) ?_
    obtain ⟨hi, hf⟩ := ix_k (K := fun x => x) rfl hf
    refine x_a23 C h hi dX0_sets_13 ?_
    refine lv_goto (tgt := 19) C.x C.b dX0_sets_14 (by decide) ?_
    exact j19 q_1.2 (rA q_1.2 23 v1) _ _ _ h (lv_sub hl [] rfl) hf
def X_cracks_j19 (σ : PS) (x0 : Int32) : Option (Int32 × PS) := some (x0, σ)
def X_cracks (σ : PS) (v1 : Int32) : Option (Int32 × PS) := bd (X_asksPiece σ v1) (fun q_1 => if q_1.1 = 0 then X_cracks_j19 q_1.2 ((-2)) else ix v1 6 (X_cracks_j19 q_1.2 (rA q_1.2 20 v1)))
set_option maxHeartbeats 4000000 in
theorem kX_cracks (l : Launch) {D : va_G} {ty : Nat → ClassId} {A : Nat → Prop} {o : Nat} {ad : Nat → Nat} {rs : va_W} {σ : PS} {σ' : PS} {v1 : Int32} {r : Int32} (hf : X_cracks σ v1 = some (r, σ')) : KI l yX0_cracks cX0_cracks 2 .int 9 D ty A (wX ty o ad σ ++ rs) (wX ty o ad σ' ++ rs) [.ref o, .int v1] r := by
  refine KI.of (by decide) (Nat.le_of_ble_eq_true rfl) ?_
  intro p e R s m args below meth c Q C hR
  have C : Cx p R s m args c cX0_cracks 2 RX0 D ty A 9 := C
  have hR : ∀ (v : Int32) (σ2 : PS), (v, σ2) = (r, σ') → ∀ (H : Heap) (locs : List Loc) (pc : Nat) (ls : Array Slot), Hw D A s H locs (wX ty o ad σ2 ++ rs) → narrow .int (.int v) = .int v → decode cX0_cracks pc = .ok (.ireturn, 1) → W p l e R s m args below meth c H locs 0 0 Q (F0 m pc ls [.int v]) := by intro v σ2 e9; cases e9; exact hR
  have j19 : ∀ (σ : PS) (x0 : Int32) (H : Heap) (locs : List Loc) (ls : Array Slot), Hw D A s H locs (wX ty o ad σ ++ rs) → lv_has ls 2 [] → X_cracks_j19 σ x0 = some (r, σ') → W p l e R s m args below meth c H locs 0 0 Q (F0 m 19 ls [.int x0]) := by
    intro σ x0 H locs ls h hl hf
    unfold X_cracks_j19 at hf
    exact hR _ _ (some_k hf) _ _ _ _ h rfl dX0_cracks_19
  intro H locs ls h hl
  have hl : lv_has ls 2 [(0, .ref o), (1, .int v1)] := hl
  unfold X_cracks at hf
  refine lv_aload_n C.x C.b dX0_cracks_0 rfl (lv_at hl 0 rfl) ?_
  refine lv_iload_n C.x C.b dX0_cracks_1 rfl (lv_at hl 1 rfl) ?_
  obtain ⟨q_1, hc, hf⟩ := bd_k (K := fun x => x) rfl hf
  refine cX_asksPiece C h hc (Nat.le_of_ble_eq_true rfl) hl.1 (Nat.le_of_ble_eq_true rfl) dX0_cracks_2 (fun H locs h => ?_)
  refine lv_if_eq (tgt := 17) C.x C.b dX0_cracks_5 (by decide) (fun c9 => ?_) (fun c9 => ?_)
  · have hf := if_t (K := fun x => x) c9 hf
    refine lv_bipush (v := (-2)) C.x C.b dX0_cracks_17 (by decide) ?_
    exact j19 q_1.2 ((-2)) _ _ _ h (lv_sub hl [] rfl) hf
  · have hf := if_f (K := fun x => x) c9 hf
    refine lv_aload_n C.x C.b dX0_cracks_8 rfl (lv_at hl 0 rfl) ?_
    refine x_g20 C h dX0_cracks_9 ?_
    refine lv_iload_n C.x C.b dX0_cracks_12 rfl (lv_at hl 1 rfl) ?_
    obtain ⟨hi, hf⟩ := ix_k (K := fun x => x) rfl hf
    refine x_a20 C h hi dX0_cracks_13 ?_
    refine lv_goto (tgt := 19) C.x C.b dX0_cracks_14 (by decide) ?_
    exact j19 q_1.2 (rA q_1.2 20 v1) _ _ _ h (lv_sub hl [] rfl) hf
def X_why_j19 (σ : PS) (x0 : Int32) : Option (Int32 × PS) := some (x0, σ)
def X_why (σ : PS) (v1 : Int32) : Option (Int32 × PS) := bd (X_asksPiece σ v1) (fun q_1 => if q_1.1 = 0 then X_why_j19 q_1.2 ((-2)) else ix v1 6 (X_why_j19 q_1.2 (rA q_1.2 21 v1)))
set_option maxHeartbeats 4000000 in
theorem kX_why (l : Launch) {D : va_G} {ty : Nat → ClassId} {A : Nat → Prop} {o : Nat} {ad : Nat → Nat} {rs : va_W} {σ : PS} {σ' : PS} {v1 : Int32} {r : Int32} (hf : X_why σ v1 = some (r, σ')) : KI l yX0_why cX0_why 2 .int 9 D ty A (wX ty o ad σ ++ rs) (wX ty o ad σ' ++ rs) [.ref o, .int v1] r := by
  refine KI.of (by decide) (Nat.le_of_ble_eq_true rfl) ?_
  intro p e R s m args below meth c Q C hR
  have C : Cx p R s m args c cX0_why 2 RX0 D ty A 9 := C
  have hR : ∀ (v : Int32) (σ2 : PS), (v, σ2) = (r, σ') → ∀ (H : Heap) (locs : List Loc) (pc : Nat) (ls : Array Slot), Hw D A s H locs (wX ty o ad σ2 ++ rs) → narrow .int (.int v) = .int v → decode cX0_why pc = .ok (.ireturn, 1) → W p l e R s m args below meth c H locs 0 0 Q (F0 m pc ls [.int v]) := by intro v σ2 e9; cases e9; exact hR
  have j19 : ∀ (σ : PS) (x0 : Int32) (H : Heap) (locs : List Loc) (ls : Array Slot), Hw D A s H locs (wX ty o ad σ ++ rs) → lv_has ls 2 [] → X_why_j19 σ x0 = some (r, σ') → W p l e R s m args below meth c H locs 0 0 Q (F0 m 19 ls [.int x0]) := by
    intro σ x0 H locs ls h hl hf
    unfold X_why_j19 at hf
    exact hR _ _ (some_k hf) _ _ _ _ h rfl dX0_why_19
  intro H locs ls h hl
  have hl : lv_has ls 2 [(0, .ref o), (1, .int v1)] := hl
  unfold X_why at hf
  refine lv_aload_n C.x C.b dX0_why_0 rfl (lv_at hl 0 rfl) ?_
  refine lv_iload_n C.x C.b dX0_why_1 rfl (lv_at hl 1 rfl) ?_
  obtain ⟨q_1, hc, hf⟩ := bd_k (K := fun x => x) rfl hf
  refine cX_asksPiece C h hc (Nat.le_of_ble_eq_true rfl) hl.1 (Nat.le_of_ble_eq_true rfl) dX0_why_2 (fun H locs h => ?_)
  refine lv_if_eq (tgt := 17) C.x C.b dX0_why_5 (by decide) (fun c9 => ?_) (fun c9 => ?_)
  · have hf := if_t (K := fun x => x) c9 hf
    refine lv_bipush (v := (-2)) C.x C.b dX0_why_17 (by decide) ?_
    exact j19 q_1.2 ((-2)) _ _ _ h (lv_sub hl [] rfl) hf
  · have hf := if_f (K := fun x => x) c9 hf
    refine lv_aload_n C.x C.b dX0_why_8 rfl (lv_at hl 0 rfl) ?_
    refine x_g21 C h dX0_why_9 ?_
    refine lv_iload_n C.x C.b dX0_why_12 rfl (lv_at hl 1 rfl) ?_
    obtain ⟨hi, hf⟩ := ix_k (K := fun x => x) rfl hf
    refine x_a21 C h hi dX0_why_13 ?_
    refine lv_goto (tgt := 19) C.x C.b dX0_why_14 (by decide) ?_
    exact j19 q_1.2 (rA q_1.2 21 v1) _ _ _ h (lv_sub hl [] rfl) hf
def X_sound_j16 (σ : PS) (x0 : Int32) : Option (Int32 × PS) := some (x0, σ)
def X_sound (σ : PS) : Option (Int32 × PS) := bd (X_asksLehr σ) (fun q_1 => if q_1.1 = 0 then X_sound_j16 q_1.2 ((-2)) else bd (X_soundNow q_1.2) (fun q_2 => X_sound_j16 q_1.2 q_2))
set_option maxHeartbeats 4000000 in
theorem kX_sound (l : Launch) {D : va_G} {ty : Nat → ClassId} {A : Nat → Prop} {o : Nat} {ad : Nat → Nat} {rs : va_W} {σ : PS} {σ' : PS} {r : Int32} (hf : X_sound σ = some (r, σ')) : KI l yX0_sound cX0_sound 1 .int 8 D ty A (wX ty o ad σ ++ rs) (wX ty o ad σ' ++ rs) [.ref o] r := by
  refine KI.of (by decide) (Nat.le_of_ble_eq_true rfl) ?_
  intro p e R s m args below meth c Q C hR
  have C : Cx p R s m args c cX0_sound 1 RX0 D ty A 8 := C
  have hR : ∀ (v : Int32) (σ2 : PS), (v, σ2) = (r, σ') → ∀ (H : Heap) (locs : List Loc) (pc : Nat) (ls : Array Slot), Hw D A s H locs (wX ty o ad σ2 ++ rs) → narrow .int (.int v) = .int v → decode cX0_sound pc = .ok (.ireturn, 1) → W p l e R s m args below meth c H locs 0 0 Q (F0 m pc ls [.int v]) := by intro v σ2 e9; cases e9; exact hR
  have j16 : ∀ (σ : PS) (x0 : Int32) (H : Heap) (locs : List Loc) (ls : Array Slot), Hw D A s H locs (wX ty o ad σ ++ rs) → lv_has ls 1 [] → X_sound_j16 σ x0 = some (r, σ') → W p l e R s m args below meth c H locs 0 0 Q (F0 m 16 ls [.int x0]) := by
    intro σ x0 H locs ls h hl hf
    unfold X_sound_j16 at hf
    exact hR _ _ (some_k hf) _ _ _ _ h rfl dX0_sound_16
  intro H locs ls h hl
  have hl : lv_has ls 1 [(0, .ref o)] := hl
  unfold X_sound at hf
  refine lv_aload_n C.x C.b dX0_sound_0 rfl (lv_at hl 0 rfl) ?_
  obtain ⟨q_1, hc, hf⟩ := bd_k (K := fun x => x) rfl hf
  refine cX_asksLehr C h hc (Nat.le_of_ble_eq_true rfl) hl.1 (Nat.le_of_ble_eq_true rfl) dX0_sound_1 (fun H locs h => ?_)
  refine lv_if_eq (tgt := 14) C.x C.b dX0_sound_4 (by decide) (fun c9 => ?_) (fun c9 => ?_)
  · have hf := if_t (K := fun x => x) c9 hf
    refine lv_bipush (v := (-2)) C.x C.b dX0_sound_14 (by decide) ?_
    exact j16 q_1.2 ((-2)) _ _ _ h (lv_sub hl [] rfl) hf
  · have hf := if_f (K := fun x => x) c9 hf
    refine lv_aload_n C.x C.b dX0_sound_7 rfl (lv_at hl 0 rfl) ?_
    obtain ⟨q_2, hc, hf⟩ := bd_k (K := fun x => x) rfl hf
    refine cX_soundNow C h hc (Nat.le_of_ble_eq_true rfl) hl.1 (Nat.le_of_ble_eq_true rfl) dX0_sound_8 (fun H locs h => ?_)
    refine lv_goto (tgt := 16) C.x C.b dX0_sound_11 (by decide) ?_
    exact j16 q_1.2 q_2 _ _ _ h (lv_sub hl [] rfl) hf
def X_good_j30 (σ : PS) (x0 : Int32) : Option (Int32 × PS) := some (x0, σ)
def X_good (σ : PS) : Option (Int32 × PS) := bd (X_asksLehr σ) (fun q_1 => if q_1.1 = 0 then X_good_j30 q_1.2 ((-2)) else bd (X_soundNow q_1.2) (fun q_2 => bd (X_insideOf q_1.2 10 (gI q_1.2 100)) (fun q_3 => X_good_j30 q_1.2 (q_2 &&& q_3))))
set_option maxHeartbeats 4000000 in
theorem kX_good (l : Launch) {D : va_G} {ty : Nat → ClassId} {A : Nat → Prop} {o : Nat} {ad : Nat → Nat} {rs : va_W} {σ : PS} {σ' : PS} {r : Int32} (hf : X_good σ = some (r, σ')) : KI l yX0_good cX0_good 1 .int 8 D ty A (wX ty o ad σ ++ rs) (wX ty o ad σ' ++ rs) [.ref o] r := by
  refine KI.of (by decide) (Nat.le_of_ble_eq_true rfl) ?_
  intro p e R s m args below meth c Q C hR
  have C : Cx p R s m args c cX0_good 1 RX0 D ty A 8 := C
  have hR : ∀ (v : Int32) (σ2 : PS), (v, σ2) = (r, σ') → ∀ (H : Heap) (locs : List Loc) (pc : Nat) (ls : Array Slot), Hw D A s H locs (wX ty o ad σ2 ++ rs) → narrow .int (.int v) = .int v → decode cX0_good pc = .ok (.ireturn, 1) → W p l e R s m args below meth c H locs 0 0 Q (F0 m pc ls [.int v]) := by intro v σ2 e9; cases e9; exact hR
  have j30 : ∀ (σ : PS) (x0 : Int32) (H : Heap) (locs : List Loc) (ls : Array Slot), Hw D A s H locs (wX ty o ad σ ++ rs) → lv_has ls 1 [] → X_good_j30 σ x0 = some (r, σ') → W p l e R s m args below meth c H locs 0 0 Q (F0 m 30 ls [.int x0]) := by
    intro σ x0 H locs ls h hl hf
    unfold X_good_j30 at hf
    exact hR _ _ (some_k hf) _ _ _ _ h rfl dX0_good_30
  intro H locs ls h hl
  have hl : lv_has ls 1 [(0, .ref o)] := hl
  unfold X_good at hf
  refine lv_aload_n C.x C.b dX0_good_0 rfl (lv_at hl 0 rfl) ?_
  obtain ⟨q_1, hc, hf⟩ := bd_k (K := fun x => x) rfl hf
  refine cX_asksLehr C h hc (Nat.le_of_ble_eq_true rfl) hl.1 (Nat.le_of_ble_eq_true rfl) dX0_good_1 (fun H locs h => ?_)
  refine lv_if_eq (tgt := 28) C.x C.b dX0_good_4 (by decide) (fun c9 => ?_) (fun c9 => ?_)
  · have hf := if_t (K := fun x => x) c9 hf
    refine lv_bipush (v := (-2)) C.x C.b dX0_good_28 (by decide) ?_
    exact j30 q_1.2 ((-2)) _ _ _ h (lv_sub hl [] rfl) hf
  · have hf := if_f (K := fun x => x) c9 hf
    refine lv_aload_n C.x C.b dX0_good_7 rfl (lv_at hl 0 rfl) ?_
    obtain ⟨q_2, hc, hf⟩ := bd_k (K := fun x => x) rfl hf
    refine cX_soundNow C h hc (Nat.le_of_ble_eq_true rfl) hl.1 (Nat.le_of_ble_eq_true rfl) dX0_good_8 (fun H locs h => ?_)
    refine lv_aload_n C.x C.b dX0_good_11 rfl (lv_at hl 0 rfl) ?_
    refine lv_bipush (v := 10) C.x C.b dX0_good_12 (by decide) ?_
    refine lv_aload_n C.x C.b dX0_good_14 rfl (lv_at hl 0 rfl) ?_
    refine x_g0 C h dX0_good_15 ?_
    refine x_g100 C h dX0_good_18 ?_
    obtain ⟨q_3, hc, hf⟩ := bd_k (K := fun x => x) rfl hf
    refine cX_insideOf C h hc (Nat.le_of_ble_eq_true rfl) hl.1 (Nat.le_of_ble_eq_true rfl) dX0_good_21 (fun H locs h => ?_)
    refine lv_iand C.x C.b dX0_good_24 ?_
    refine lv_goto (tgt := 30) C.x C.b dX0_good_25 (by decide) ?_
    exact j30 q_1.2 (q_2 &&& q_3) _ _ _ h (lv_sub hl [] rfl) hf
def X_worst_j55 (σ : PS) (v1 : Int32) : Option (Int32 × PS) := some (v1, σ)
def X_worst_j49 (σ : PS) (v1 : Int32) (v2 : Int32) : Option ((Int32 × Int32) ⊕ (Int32 × PS)) := nm (v2 + 1) (fun v2_1 => some (.inl (v1, v2_1)))
def X_worst_j44 (σ : PS) (v1 : Int32) (v2 : Int32) (x0 : Int32) (x1 : Int32) : Option ((Int32 × Int32) ⊕ (Int32 × PS)) := if x1 ≤ x0 then X_worst_j49 σ v1 v2 else X_worst_j49 σ v2 v2
def X_worst_l14 (σ : PS) (v1 : Int32) (v2 : Int32) : Option ((Int32 × Int32) ⊕ (Int32 × PS)) := if (gI σ 100) < v2 then up (X_worst_j55 σ v1) else bd (X_cracksIn σ v2) (fun q_2 => if v1 = ((-1)) then X_worst_j44 σ v1 v2 0 q_2 else bd (X_cracksIn σ v1) (fun q_3 => X_worst_j44 σ v1 v2 q_3 q_2))
def X_worst_B14 (σ : PS) : (Int32 × Int32) → Option ((Int32 × Int32) ⊕ (Int32 × PS)) := fun t => X_worst_l14 σ t.1 t.2
def X_worst (σ : PS) : Option (Int32 × PS) := bd (X_asksLehr σ) (fun q_4 => if q_4.1 = 0 then some ((-2), q_4.2) else loop (X_worst_B14 q_4.2) fu ((-1), 0))
set_option maxHeartbeats 4000000 in
theorem kX_worst (l : Launch) {D : va_G} {ty : Nat → ClassId} {A : Nat → Prop} {o : Nat} {ad : Nat → Nat} {rs : va_W} {σ : PS} {σ' : PS} {r : Int32} (hf : X_worst σ = some (r, σ')) : KI l yX0_worst cX0_worst 3 .int 8 D ty A (wX ty o ad σ ++ rs) (wX ty o ad σ' ++ rs) [.ref o] r := by
  refine KI.of (by decide) (Nat.le_of_ble_eq_true rfl) ?_
  intro p e R s m args below meth c Q C hR
  have C : Cx p R s m args c cX0_worst 3 RX0 D ty A 8 := C
  have hR : ∀ (v : Int32) (σ2 : PS), (v, σ2) = (r, σ') → ∀ (H : Heap) (locs : List Loc) (pc : Nat) (ls : Array Slot), Hw D A s H locs (wX ty o ad σ2 ++ rs) → narrow .int (.int v) = .int v → decode cX0_worst pc = .ok (.ireturn, 1) → W p l e R s m args below meth c H locs 0 0 Q (F0 m pc ls [.int v]) := by intro v σ2 e9; cases e9; exact hR
  have j55 : ∀ (σ : PS) (v1 : Int32) (H : Heap) (locs : List Loc) (ls : Array Slot), Hw D A s H locs (wX ty o ad σ ++ rs) → lv_has ls 3 [(1, .int v1)] → X_worst_j55 σ v1 = some (r, σ') → W p l e R s m args below meth c H locs 0 0 Q (F0 m 55 ls []) := by
    intro σ v1 H locs ls h hl hf
    unfold X_worst_j55 at hf
    refine lv_iload_n C.x C.b dX0_worst_55 rfl (lv_at hl 0 rfl) ?_
    exact hR _ _ (some_k hf) _ _ _ _ h rfl dX0_worst_56
  have l14 : ∀ (σ : PS) (n14 : Nat) (v1 : Int32) (v2 : Int32) (H : Heap) (locs : List Loc) (ls : Array Slot), Hw D A s H locs (wX ty o ad σ ++ rs) → lv_has ls 3 [(0, .ref o), (1, .int v1), (2, .int v2)] → loop (X_worst_B14 σ) n14 (v1, v2) = some (r, σ') → W p l e R s m args below meth c H locs 0 0 Q (F0 m 14 ls []) := by
    intro σ n14
    induction n14 with
    | zero => intro v1 v2 H locs ls h hl hf; exact (none_k hf).elim
    | succ n14 ih14 =>
      have j49 : ∀ (v1 : Int32) (v2 : Int32) (H : Heap) (locs : List Loc) (ls : Array Slot), Hw D A s H locs (wX ty o ad σ ++ rs) → lv_has ls 3 [(0, .ref o), (1, .int v1), (2, .int v2)] → bl (X_worst_B14 σ) n14 (X_worst_j49 σ v1 v2) = some (r, σ') → W p l e R s m args below meth c H locs 0 0 Q (F0 m 49 ls []) := by
        intro v1 v2 H locs ls h hl hf
        unfold X_worst_j49 at hf
        obtain ⟨v2_1, e9, hf⟩ := nm_k (K := bl (X_worst_B14 σ) n14) hf
        refine lv_iinc (v := v2_1) (lv' := [(2, .int v2_1), (0, .ref o), (1, .int v1)]) C.x C.b dX0_worst_49 hl (k := 2) rfl (iinc_e (k := 1) (by decide) e9) (by decide) rfl (fun ls hl => ?_)
        refine lv_goto (tgt := 14) C.x C.b dX0_worst_52 (by decide) ?_
        exact ih14 v1 v2_1 _ _ _ h (lv_sub hl [1, 2, 0] rfl) hf
      have j44 : ∀ (v1 : Int32) (v2 : Int32) (x0 : Int32) (x1 : Int32) (H : Heap) (locs : List Loc) (ls : Array Slot), Hw D A s H locs (wX ty o ad σ ++ rs) → lv_has ls 3 [(0, .ref o), (1, .int v1), (2, .int v2)] → bl (X_worst_B14 σ) n14 (X_worst_j44 σ v1 v2 x0 x1) = some (r, σ') → W p l e R s m args below meth c H locs 0 0 Q (F0 m 44 ls [.int x0, .int x1]) := by
        intro v1 v2 x0 x1 H locs ls h hl hf
        unfold X_worst_j44 at hf
        refine lv_icmp_le (tgt := 49) C.x C.b dX0_worst_44 (by decide) (fun c9 => ?_) (fun c9 => ?_)
        · have hf := if_t (K := bl (X_worst_B14 σ) n14) c9 hf
          exact j49 v1 v2 _ _ _ h (lv_sub hl [0, 1, 2] rfl) hf
        · have hf := if_f (K := bl (X_worst_B14 σ) n14) c9 hf
          refine lv_iload_n C.x C.b dX0_worst_47 rfl (lv_at hl 2 rfl) ?_
          refine lv_istore_n (lv' := [(1, .int v2), (0, .ref o), (2, .int v2)]) C.x C.b dX0_worst_48 rfl hl (by decide) rfl (fun ls hl => ?_)
          exact j49 v2 v2 _ _ _ h (lv_sub hl [1, 0, 2] rfl) hf
      intro v1 v2 H locs ls h hl hf
      have hf : bl (X_worst_B14 σ) n14 (X_worst_l14 σ v1 v2) = some (r, σ') := hf
      unfold X_worst_l14 at hf
      refine lv_iload_n C.x C.b dX0_worst_14 rfl (lv_at hl 2 rfl) ?_
      refine lv_aload_n C.x C.b dX0_worst_15 rfl (lv_at hl 0 rfl) ?_
      refine x_g0 C h dX0_worst_16 ?_
      refine x_g100 C h dX0_worst_19 ?_
      refine lv_icmp_gt (tgt := 55) C.x C.b dX0_worst_22 (by decide) (fun c9 => ?_) (fun c9 => ?_)
      · have hf := if_t (K := bl (X_worst_B14 σ) n14) c9 hf
        have hf := bl_upK (K := fun x => x) hf
        exact j55 σ v1 _ _ _ h (lv_sub hl [1] rfl) hf
      · have hf := if_f (K := bl (X_worst_B14 σ) n14) c9 hf
        refine lv_aload_n C.x C.b dX0_worst_25 rfl (lv_at hl 0 rfl) ?_
        refine lv_iload_n C.x C.b dX0_worst_26 rfl (lv_at hl 2 rfl) ?_
        obtain ⟨q_2, hc, hf⟩ := bd_k (K := bl (X_worst_B14 σ) n14) rfl hf
        refine cX_cracksIn C h hc (Nat.le_of_ble_eq_true rfl) hl.1 (Nat.le_of_ble_eq_true rfl) dX0_worst_27 (fun H locs h => ?_)
        refine lv_iload_n C.x C.b dX0_worst_30 rfl (lv_at hl 1 rfl) ?_
        refine lv_iconst (v := (-1)) C.x C.b dX0_worst_31 (by decide) ?_
        refine lv_icmp_ne (tgt := 39) C.x C.b dX0_worst_32 (by decide) (fun c9 => ?_) (fun c9 => ?_)
        · have hf := if_f (K := bl (X_worst_B14 σ) n14) c9 hf
          refine lv_aload_n C.x C.b dX0_worst_39 rfl (lv_at hl 0 rfl) ?_
          refine lv_iload_n C.x C.b dX0_worst_40 rfl (lv_at hl 1 rfl) ?_
          obtain ⟨q_3, hc, hf⟩ := bd_k (K := bl (X_worst_B14 σ) n14) rfl hf
          refine cX_cracksIn C h hc (Nat.le_of_ble_eq_true rfl) hl.1 (Nat.le_of_ble_eq_true rfl) dX0_worst_41 (fun H locs h => ?_)
          exact j44 v1 v2 q_3 q_2 _ _ _ h (lv_sub hl [0, 1, 2] rfl) hf
        · have hf := if_t (K := bl (X_worst_B14 σ) n14) c9 hf
          refine lv_iconst (v := 0) C.x C.b dX0_worst_35 (by decide) ?_
          refine lv_goto (tgt := 44) C.x C.b dX0_worst_36 (by decide) ?_
          exact j44 v1 v2 0 q_2 _ _ _ h (lv_sub hl [0, 1, 2] rfl) hf
  intro H locs ls h hl
  have hl : lv_has ls 3 [(0, .ref o)] := hl
  unfold X_worst at hf
  refine lv_aload_n C.x C.b dX0_worst_0 rfl (lv_at hl 0 rfl) ?_
  obtain ⟨q_4, hc, hf⟩ := bd_k (K := fun x => x) rfl hf
  refine cX_asksLehr C h hc (Nat.le_of_ble_eq_true rfl) hl.1 (Nat.le_of_ble_eq_true rfl) dX0_worst_1 (fun H locs h => ?_)
  refine lv_if_ne (tgt := 10) C.x C.b dX0_worst_4 (by decide) (fun c9 => ?_) (fun c9 => ?_)
  · have hf := if_f (K := fun x => x) c9 hf
    refine lv_iconst (v := (-1)) C.x C.b dX0_worst_10 (by decide) ?_
    refine lv_istore_n (lv' := [(1, .int ((-1))), (0, .ref o)]) C.x C.b dX0_worst_11 rfl hl (by decide) rfl (fun ls hl => ?_)
    refine lv_iconst (v := 0) C.x C.b dX0_worst_12 (by decide) ?_
    refine lv_istore_n (lv' := [(2, .int 0), (1, .int ((-1))), (0, .ref o)]) C.x C.b dX0_worst_13 rfl hl (by decide) rfl (fun ls hl => ?_)
    exact l14 q_4.2 fu ((-1)) 0 _ _ _ h (lv_sub hl [2, 1, 0] rfl) hf
  · have hf := if_t (K := fun x => x) c9 hf
    refine lv_bipush (v := (-2)) C.x C.b dX0_worst_7 (by decide) ?_
    exact hR _ _ (some_k hf) _ _ _ _ h rfl dX0_worst_9
def X_sore_j55 (σ : PS) (v1 : Int32) : Option (Int32 × PS) := some (v1, σ)
def X_sore_j49 (σ : PS) (v1 : Int32) (v2 : Int32) : Option ((Int32 × Int32) ⊕ (Int32 × PS)) := nm (v2 + 1) (fun v2_1 => some (.inl (v1, v2_1)))
def X_sore_j44 (σ : PS) (v1 : Int32) (v2 : Int32) (x0 : Int32) (x1 : Int32) : Option ((Int32 × Int32) ⊕ (Int32 × PS)) := if x1 ≤ x0 then X_sore_j49 σ v1 v2 else X_sore_j49 σ v2 v2
def X_sore_l14 (σ : PS) (v1 : Int32) (v2 : Int32) : Option ((Int32 × Int32) ⊕ (Int32 × PS)) := if (gI σ 106) ≤ v2 then up (X_sore_j55 σ v1) else bd (X_cracksAt σ v2) (fun q_2 => if v1 = ((-1)) then X_sore_j44 σ v1 v2 0 q_2 else bd (X_cracksAt σ v1) (fun q_3 => X_sore_j44 σ v1 v2 q_3 q_2))
def X_sore_B14 (σ : PS) : (Int32 × Int32) → Option ((Int32 × Int32) ⊕ (Int32 × PS)) := fun t => X_sore_l14 σ t.1 t.2
def X_sore (σ : PS) : Option (Int32 × PS) := bd (X_asksLehr σ) (fun q_4 => if q_4.1 = 0 then some ((-2), q_4.2) else loop (X_sore_B14 q_4.2) fu ((-1), 0))
set_option maxHeartbeats 4000000 in
theorem kX_sore (l : Launch) {D : va_G} {ty : Nat → ClassId} {A : Nat → Prop} {o : Nat} {ad : Nat → Nat} {rs : va_W} {σ : PS} {σ' : PS} {r : Int32} (hf : X_sore σ = some (r, σ')) : KI l yX0_sore cX0_sore 3 .int 8 D ty A (wX ty o ad σ ++ rs) (wX ty o ad σ' ++ rs) [.ref o] r := by
  refine KI.of (by decide) (Nat.le_of_ble_eq_true rfl) ?_
  intro p e R s m args below meth c Q C hR
  have C : Cx p R s m args c cX0_sore 3 RX0 D ty A 8 := C
  have hR : ∀ (v : Int32) (σ2 : PS), (v, σ2) = (r, σ') → ∀ (H : Heap) (locs : List Loc) (pc : Nat) (ls : Array Slot), Hw D A s H locs (wX ty o ad σ2 ++ rs) → narrow .int (.int v) = .int v → decode cX0_sore pc = .ok (.ireturn, 1) → W p l e R s m args below meth c H locs 0 0 Q (F0 m pc ls [.int v]) := by intro v σ2 e9; cases e9; exact hR
  have j55 : ∀ (σ : PS) (v1 : Int32) (H : Heap) (locs : List Loc) (ls : Array Slot), Hw D A s H locs (wX ty o ad σ ++ rs) → lv_has ls 3 [(1, .int v1)] → X_sore_j55 σ v1 = some (r, σ') → W p l e R s m args below meth c H locs 0 0 Q (F0 m 55 ls []) := by
    intro σ v1 H locs ls h hl hf
    unfold X_sore_j55 at hf
    refine lv_iload_n C.x C.b dX0_sore_55 rfl (lv_at hl 0 rfl) ?_
    exact hR _ _ (some_k hf) _ _ _ _ h rfl dX0_sore_56
  have l14 : ∀ (σ : PS) (n14 : Nat) (v1 : Int32) (v2 : Int32) (H : Heap) (locs : List Loc) (ls : Array Slot), Hw D A s H locs (wX ty o ad σ ++ rs) → lv_has ls 3 [(0, .ref o), (1, .int v1), (2, .int v2)] → loop (X_sore_B14 σ) n14 (v1, v2) = some (r, σ') → W p l e R s m args below meth c H locs 0 0 Q (F0 m 14 ls []) := by
    intro σ n14
    induction n14 with
    | zero => intro v1 v2 H locs ls h hl hf; exact (none_k hf).elim
    | succ n14 ih14 =>
      have j49 : ∀ (v1 : Int32) (v2 : Int32) (H : Heap) (locs : List Loc) (ls : Array Slot), Hw D A s H locs (wX ty o ad σ ++ rs) → lv_has ls 3 [(0, .ref o), (1, .int v1), (2, .int v2)] → bl (X_sore_B14 σ) n14 (X_sore_j49 σ v1 v2) = some (r, σ') → W p l e R s m args below meth c H locs 0 0 Q (F0 m 49 ls []) := by
        intro v1 v2 H locs ls h hl hf
        unfold X_sore_j49 at hf
        obtain ⟨v2_1, e9, hf⟩ := nm_k (K := bl (X_sore_B14 σ) n14) hf
        refine lv_iinc (v := v2_1) (lv' := [(2, .int v2_1), (0, .ref o), (1, .int v1)]) C.x C.b dX0_sore_49 hl (k := 2) rfl (iinc_e (k := 1) (by decide) e9) (by decide) rfl (fun ls hl => ?_)
        refine lv_goto (tgt := 14) C.x C.b dX0_sore_52 (by decide) ?_
        exact ih14 v1 v2_1 _ _ _ h (lv_sub hl [1, 2, 0] rfl) hf
      have j44 : ∀ (v1 : Int32) (v2 : Int32) (x0 : Int32) (x1 : Int32) (H : Heap) (locs : List Loc) (ls : Array Slot), Hw D A s H locs (wX ty o ad σ ++ rs) → lv_has ls 3 [(0, .ref o), (1, .int v1), (2, .int v2)] → bl (X_sore_B14 σ) n14 (X_sore_j44 σ v1 v2 x0 x1) = some (r, σ') → W p l e R s m args below meth c H locs 0 0 Q (F0 m 44 ls [.int x0, .int x1]) := by
        intro v1 v2 x0 x1 H locs ls h hl hf
        unfold X_sore_j44 at hf
        refine lv_icmp_le (tgt := 49) C.x C.b dX0_sore_44 (by decide) (fun c9 => ?_) (fun c9 => ?_)
        · have hf := if_t (K := bl (X_sore_B14 σ) n14) c9 hf
          exact j49 v1 v2 _ _ _ h (lv_sub hl [0, 1, 2] rfl) hf
        · have hf := if_f (K := bl (X_sore_B14 σ) n14) c9 hf
          refine lv_iload_n C.x C.b dX0_sore_47 rfl (lv_at hl 2 rfl) ?_
          refine lv_istore_n (lv' := [(1, .int v2), (0, .ref o), (2, .int v2)]) C.x C.b dX0_sore_48 rfl hl (by decide) rfl (fun ls hl => ?_)
          exact j49 v2 v2 _ _ _ h (lv_sub hl [1, 0, 2] rfl) hf
      intro v1 v2 H locs ls h hl hf
      have hf : bl (X_sore_B14 σ) n14 (X_sore_l14 σ v1 v2) = some (r, σ') := hf
      unfold X_sore_l14 at hf
      refine lv_iload_n C.x C.b dX0_sore_14 rfl (lv_at hl 2 rfl) ?_
      refine lv_aload_n C.x C.b dX0_sore_15 rfl (lv_at hl 0 rfl) ?_
      refine x_g0 C h dX0_sore_16 ?_
      refine x_g106 C h dX0_sore_19 ?_
      refine lv_icmp_ge (tgt := 55) C.x C.b dX0_sore_22 (by decide) (fun c9 => ?_) (fun c9 => ?_)
      · have hf := if_t (K := bl (X_sore_B14 σ) n14) c9 hf
        have hf := bl_upK (K := fun x => x) hf
        exact j55 σ v1 _ _ _ h (lv_sub hl [1] rfl) hf
      · have hf := if_f (K := bl (X_sore_B14 σ) n14) c9 hf
        refine lv_aload_n C.x C.b dX0_sore_25 rfl (lv_at hl 0 rfl) ?_
        refine lv_iload_n C.x C.b dX0_sore_26 rfl (lv_at hl 2 rfl) ?_
        obtain ⟨q_2, hc, hf⟩ := bd_k (K := bl (X_sore_B14 σ) n14) rfl hf
        refine cX_cracksAt C h hc (Nat.le_of_ble_eq_true rfl) hl.1 (Nat.le_of_ble_eq_true rfl) dX0_sore_27 (fun H locs h => ?_)
        refine lv_iload_n C.x C.b dX0_sore_30 rfl (lv_at hl 1 rfl) ?_
        refine lv_iconst (v := (-1)) C.x C.b dX0_sore_31 (by decide) ?_
        refine lv_icmp_ne (tgt := 39) C.x C.b dX0_sore_32 (by decide) (fun c9 => ?_) (fun c9 => ?_)
        · have hf := if_f (K := bl (X_sore_B14 σ) n14) c9 hf
          refine lv_aload_n C.x C.b dX0_sore_39 rfl (lv_at hl 0 rfl) ?_
          refine lv_iload_n C.x C.b dX0_sore_40 rfl (lv_at hl 1 rfl) ?_
          obtain ⟨q_3, hc, hf⟩ := bd_k (K := bl (X_sore_B14 σ) n14) rfl hf
          refine cX_cracksAt C h hc (Nat.le_of_ble_eq_true rfl) hl.1 (Nat.le_of_ble_eq_true rfl) dX0_sore_41 (fun H locs h => ?_)
          exact j44 v1 v2 q_3 q_2 _ _ _ h (lv_sub hl [0, 1, 2] rfl) hf
        · have hf := if_t (K := bl (X_sore_B14 σ) n14) c9 hf
          refine lv_iconst (v := 0) C.x C.b dX0_sore_35 (by decide) ?_
          refine lv_goto (tgt := 44) C.x C.b dX0_sore_36 (by decide) ?_
          exact j44 v1 v2 0 q_2 _ _ _ h (lv_sub hl [0, 1, 2] rfl) hf
  intro H locs ls h hl
  have hl : lv_has ls 3 [(0, .ref o)] := hl
  unfold X_sore at hf
  refine lv_aload_n C.x C.b dX0_sore_0 rfl (lv_at hl 0 rfl) ?_
  obtain ⟨q_4, hc, hf⟩ := bd_k (K := fun x => x) rfl hf
  refine cX_asksLehr C h hc (Nat.le_of_ble_eq_true rfl) hl.1 (Nat.le_of_ble_eq_true rfl) dX0_sore_1 (fun H locs h => ?_)
  refine lv_if_ne (tgt := 10) C.x C.b dX0_sore_4 (by decide) (fun c9 => ?_) (fun c9 => ?_)
  · have hf := if_f (K := fun x => x) c9 hf
    refine lv_iconst (v := (-1)) C.x C.b dX0_sore_10 (by decide) ?_
    refine lv_istore_n (lv' := [(1, .int ((-1))), (0, .ref o)]) C.x C.b dX0_sore_11 rfl hl (by decide) rfl (fun ls hl => ?_)
    refine lv_iconst (v := 0) C.x C.b dX0_sore_12 (by decide) ?_
    refine lv_istore_n (lv' := [(2, .int 0), (1, .int ((-1))), (0, .ref o)]) C.x C.b dX0_sore_13 rfl hl (by decide) rfl (fun ls hl => ?_)
    exact l14 q_4.2 fu ((-1)) 0 _ _ _ h (lv_sub hl [2, 1, 0] rfl) hf
  · have hf := if_t (K := fun x => x) c9 hf
    refine lv_bipush (v := (-2)) C.x C.b dX0_sore_7 (by decide) ?_
    exact hR _ _ (some_k hf) _ _ _ _ h rfl dX0_sore_9
def X_tense_j64 (σ : PS) (v2 : Int32) : Option (Int32 × PS) := some (v2, σ)
def X_tense_j56 (σ : PS) (v1 : Int32) (v3 : Int32) (x0 : Int32) (x1 : Int32) : Option ((Int32 × Int32) ⊕ (Int32 × PS)) := nm (x1 + x0) (fun v2_1 => nm (v3 + 1) (fun v3_2 => some (.inl (v2_1, v3_2))))
def X_tense_j55 (σ : PS) (v1 : Int32) (v3 : Int32) (x0 : Int32) : Option ((Int32 × Int32) ⊕ (Int32 × PS)) := X_tense_j56 σ v1 v3 0 x0
def X_tense_l15 (σ : PS) (v1 : Int32) (v2 : Int32) (v3 : Int32) : Option ((Int32 × Int32) ⊕ (Int32 × PS)) := if (gI σ 100) < v3 then up (X_tense_j64 σ v2) else bd (X_hasCome σ v1 v3) (fun q_3 => if q_3 = 0 then X_tense_j55 σ v1 v3 v2 else bd (X_skinOf σ v1 v3) (fun q_4 => bd (X_coreOf σ v1 v3) (fun q_5 => if q_5 ≤ q_4 then X_tense_j55 σ v1 v3 v2 else X_tense_j56 σ v1 v3 1 v2)))
def X_tense_B15 (σ : PS) (v1 : Int32) : (Int32 × Int32) → Option ((Int32 × Int32) ⊕ (Int32 × PS)) := fun t => X_tense_l15 σ v1 t.1 t.2
def X_tense (σ : PS) (v1 : Int32) : Option (Int32 × PS) := bd (X_asksPiece σ v1) (fun q_6 => if q_6.1 = 0 then some ((-2), q_6.2) else loop (X_tense_B15 q_6.2 v1) fu (0, 0))
set_option maxHeartbeats 4000000 in
theorem kX_tense (l : Launch) {D : va_G} {ty : Nat → ClassId} {A : Nat → Prop} {o : Nat} {ad : Nat → Nat} {rs : va_W} {σ : PS} {σ' : PS} {v1 : Int32} {r : Int32} (hf : X_tense σ v1 = some (r, σ')) : KI l yX0_tense cX0_tense 4 .int 9 D ty A (wX ty o ad σ ++ rs) (wX ty o ad σ' ++ rs) [.ref o, .int v1] r := by
  refine KI.of (by decide) (Nat.le_of_ble_eq_true rfl) ?_
  intro p e R s m args below meth c Q C hR
  have C : Cx p R s m args c cX0_tense 4 RX0 D ty A 9 := C
  have hR : ∀ (v : Int32) (σ2 : PS), (v, σ2) = (r, σ') → ∀ (H : Heap) (locs : List Loc) (pc : Nat) (ls : Array Slot), Hw D A s H locs (wX ty o ad σ2 ++ rs) → narrow .int (.int v) = .int v → decode cX0_tense pc = .ok (.ireturn, 1) → W p l e R s m args below meth c H locs 0 0 Q (F0 m pc ls [.int v]) := by intro v σ2 e9; cases e9; exact hR
  have j64 : ∀ (σ : PS) (v2 : Int32) (H : Heap) (locs : List Loc) (ls : Array Slot), Hw D A s H locs (wX ty o ad σ ++ rs) → lv_has ls 4 [(2, .int v2)] → X_tense_j64 σ v2 = some (r, σ') → W p l e R s m args below meth c H locs 0 0 Q (F0 m 64 ls []) := by
    intro σ v2 H locs ls h hl hf
    unfold X_tense_j64 at hf
    refine lv_iload_n C.x C.b dX0_tense_64 rfl (lv_at hl 0 rfl) ?_
    exact hR _ _ (some_k hf) _ _ _ _ h rfl dX0_tense_65
  have l15 : ∀ (σ : PS) (n15 : Nat) (v2 : Int32) (v3 : Int32) (H : Heap) (locs : List Loc) (ls : Array Slot), Hw D A s H locs (wX ty o ad σ ++ rs) → lv_has ls 4 [(0, .ref o), (1, .int v1), (2, .int v2), (3, .int v3)] → loop (X_tense_B15 σ v1) n15 (v2, v3) = some (r, σ') → W p l e R s m args below meth c H locs 0 0 Q (F0 m 15 ls []) := by
    intro σ n15
    induction n15 with
    | zero => intro v2 v3 H locs ls h hl hf; exact (none_k hf).elim
    | succ n15 ih15 =>
      have j56 : ∀ (v3 : Int32) (x0 : Int32) (x1 : Int32) (H : Heap) (locs : List Loc) (ls : Array Slot), Hw D A s H locs (wX ty o ad σ ++ rs) → lv_has ls 4 [(0, .ref o), (1, .int v1), (3, .int v3)] → bl (X_tense_B15 σ v1) n15 (X_tense_j56 σ v1 v3 x0 x1) = some (r, σ') → W p l e R s m args below meth c H locs 0 0 Q (F0 m 56 ls [.int x0, .int x1]) := by
        intro v3 x0 x1 H locs ls h hl hf
        unfold X_tense_j56 at hf
        refine lv_iadd C.x C.b dX0_tense_56 ?_
        obtain ⟨v2_1, e9, hf⟩ := nm_k (K := bl (X_tense_B15 σ v1) n15) hf
        refine lv_topI e9 ?_
        refine lv_istore_n (lv' := [(2, .int v2_1), (0, .ref o), (1, .int v1), (3, .int v3)]) C.x C.b dX0_tense_57 rfl hl (by decide) rfl (fun ls hl => ?_)
        obtain ⟨v3_2, e9, hf⟩ := nm_k (K := bl (X_tense_B15 σ v1) n15) hf
        refine lv_iinc (v := v3_2) (lv' := [(3, .int v3_2), (2, .int v2_1), (0, .ref o), (1, .int v1)]) C.x C.b dX0_tense_58 hl (k := 3) rfl (iinc_e (k := 1) (by decide) e9) (by decide) rfl (fun ls hl => ?_)
        refine lv_goto (tgt := 15) C.x C.b dX0_tense_61 (by decide) ?_
        exact ih15 v2_1 v3_2 _ _ _ h (lv_sub hl [2, 3, 1, 0] rfl) hf
      have j55 : ∀ (v3 : Int32) (x0 : Int32) (H : Heap) (locs : List Loc) (ls : Array Slot), Hw D A s H locs (wX ty o ad σ ++ rs) → lv_has ls 4 [(0, .ref o), (1, .int v1), (3, .int v3)] → bl (X_tense_B15 σ v1) n15 (X_tense_j55 σ v1 v3 x0) = some (r, σ') → W p l e R s m args below meth c H locs 0 0 Q (F0 m 55 ls [.int x0]) := by
        intro v3 x0 H locs ls h hl hf
        unfold X_tense_j55 at hf
        refine lv_iconst (v := 0) C.x C.b dX0_tense_55 (by decide) ?_
        exact j56 v3 0 x0 _ _ _ h (lv_sub hl [0, 1, 2] rfl) hf
      intro v2 v3 H locs ls h hl hf
      have hf : bl (X_tense_B15 σ v1) n15 (X_tense_l15 σ v1 v2 v3) = some (r, σ') := hf
      unfold X_tense_l15 at hf
      refine lv_iload_n C.x C.b dX0_tense_15 rfl (lv_at hl 3 rfl) ?_
      refine lv_aload_n C.x C.b dX0_tense_16 rfl (lv_at hl 0 rfl) ?_
      refine x_g0 C h dX0_tense_17 ?_
      refine x_g100 C h dX0_tense_20 ?_
      refine lv_icmp_gt (tgt := 64) C.x C.b dX0_tense_23 (by decide) (fun c9 => ?_) (fun c9 => ?_)
      · have hf := if_t (K := bl (X_tense_B15 σ v1) n15) c9 hf
        have hf := bl_upK (K := fun x => x) hf
        exact j64 σ v2 _ _ _ h (lv_sub hl [2] rfl) hf
      · have hf := if_f (K := bl (X_tense_B15 σ v1) n15) c9 hf
        refine lv_iload_n C.x C.b dX0_tense_26 rfl (lv_at hl 2 rfl) ?_
        refine lv_aload_n C.x C.b dX0_tense_27 rfl (lv_at hl 0 rfl) ?_
        refine lv_iload_n C.x C.b dX0_tense_28 rfl (lv_at hl 1 rfl) ?_
        refine lv_iload_n C.x C.b dX0_tense_29 rfl (lv_at hl 3 rfl) ?_
        obtain ⟨q_3, hc, hf⟩ := bd_k (K := bl (X_tense_B15 σ v1) n15) rfl hf
        refine cX_hasCome C h hc (Nat.le_of_ble_eq_true rfl) hl.1 (Nat.le_of_ble_eq_true rfl) dX0_tense_30 (fun H locs h => ?_)
        refine lv_if_eq (tgt := 55) C.x C.b dX0_tense_33 (by decide) (fun c9 => ?_) (fun c9 => ?_)
        · have hf := if_t (K := bl (X_tense_B15 σ v1) n15) c9 hf
          exact j55 v3 v2 _ _ _ h (lv_sub hl [0, 1, 3] rfl) hf
        · have hf := if_f (K := bl (X_tense_B15 σ v1) n15) c9 hf
          refine lv_aload_n C.x C.b dX0_tense_36 rfl (lv_at hl 0 rfl) ?_
          refine lv_iload_n C.x C.b dX0_tense_37 rfl (lv_at hl 1 rfl) ?_
          refine lv_iload_n C.x C.b dX0_tense_38 rfl (lv_at hl 3 rfl) ?_
          obtain ⟨q_4, hc, hf⟩ := bd_k (K := bl (X_tense_B15 σ v1) n15) rfl hf
          refine cX_skinOf C h hc (Nat.le_of_ble_eq_true rfl) hl.1 (Nat.le_of_ble_eq_true rfl) dX0_tense_39 (fun H locs h => ?_)
          refine lv_aload_n C.x C.b dX0_tense_42 rfl (lv_at hl 0 rfl) ?_
          refine lv_iload_n C.x C.b dX0_tense_43 rfl (lv_at hl 1 rfl) ?_
          refine lv_iload_n C.x C.b dX0_tense_44 rfl (lv_at hl 3 rfl) ?_
          obtain ⟨q_5, hc, hf⟩ := bd_k (K := bl (X_tense_B15 σ v1) n15) rfl hf
          refine cX_coreOf C h hc (Nat.le_of_ble_eq_true rfl) hl.1 (Nat.le_of_ble_eq_true rfl) dX0_tense_45 (fun H locs h => ?_)
          refine lv_icmp_ge (tgt := 55) C.x C.b dX0_tense_48 (by decide) (fun c9 => ?_) (fun c9 => ?_)
          · have hf := if_t (K := bl (X_tense_B15 σ v1) n15) c9 hf
            exact j55 v3 v2 _ _ _ h (lv_sub hl [0, 1, 3] rfl) hf
          · have hf := if_f (K := bl (X_tense_B15 σ v1) n15) c9 hf
            refine lv_iconst (v := 1) C.x C.b dX0_tense_51 (by decide) ?_
            refine lv_goto (tgt := 56) C.x C.b dX0_tense_52 (by decide) ?_
            exact j56 v3 1 v2 _ _ _ h (lv_sub hl [0, 1, 3] rfl) hf
  intro H locs ls h hl
  have hl : lv_has ls 4 [(0, .ref o), (1, .int v1)] := hl
  unfold X_tense at hf
  refine lv_aload_n C.x C.b dX0_tense_0 rfl (lv_at hl 0 rfl) ?_
  refine lv_iload_n C.x C.b dX0_tense_1 rfl (lv_at hl 1 rfl) ?_
  obtain ⟨q_6, hc, hf⟩ := bd_k (K := fun x => x) rfl hf
  refine cX_asksPiece C h hc (Nat.le_of_ble_eq_true rfl) hl.1 (Nat.le_of_ble_eq_true rfl) dX0_tense_2 (fun H locs h => ?_)
  refine lv_if_ne (tgt := 11) C.x C.b dX0_tense_5 (by decide) (fun c9 => ?_) (fun c9 => ?_)
  · have hf := if_f (K := fun x => x) c9 hf
    refine lv_iconst (v := 0) C.x C.b dX0_tense_11 (by decide) ?_
    refine lv_istore_n (lv' := [(2, .int 0), (0, .ref o), (1, .int v1)]) C.x C.b dX0_tense_12 rfl hl (by decide) rfl (fun ls hl => ?_)
    refine lv_iconst (v := 0) C.x C.b dX0_tense_13 (by decide) ?_
    refine lv_istore_n (lv' := [(3, .int 0), (2, .int 0), (0, .ref o), (1, .int v1)]) C.x C.b dX0_tense_14 rfl hl (by decide) rfl (fun ls hl => ?_)
    exact l15 q_6.2 fu 0 0 _ _ _ h (lv_sub hl [2, 3, 1, 0] rfl) hf
  · have hf := if_t (K := fun x => x) c9 hf
    refine lv_bipush (v := (-2)) C.x C.b dX0_tense_8 (by decide) ?_
    exact hR _ _ (some_k hf) _ _ _ _ h rfl dX0_tense_10
def X_warms_j57 (σ : PS) (v2 : Int32) : Option (Int32 × PS) := some (v2, σ)
def X_warms_j49 (σ : PS) (v1 : Int32) (v3 : Int32) (x0 : Int32) (x1 : Int32) : Option ((Int32 × Int32) ⊕ (Int32 × PS)) := nm (x1 + x0) (fun v2_1 => nm (v3 + 1) (fun v3_2 => some (.inl (v2_1, v3_2))))
def X_warms_l15 (σ : PS) (v1 : Int32) (v2 : Int32) (v3 : Int32) : Option ((Int32 × Int32) ⊕ (Int32 × PS)) := if (gI σ 100) < v3 then up (X_warms_j57 σ v2) else bd (X_skinOf σ v1 v3) (fun q_3 => bd (X_skinOf σ v1 (v3 - 1)) (fun q_4 => if q_3 ≤ q_4 then X_warms_j49 σ v1 v3 0 v2 else X_warms_j49 σ v1 v3 1 v2))
def X_warms_B15 (σ : PS) (v1 : Int32) : (Int32 × Int32) → Option ((Int32 × Int32) ⊕ (Int32 × PS)) := fun t => X_warms_l15 σ v1 t.1 t.2
def X_warms (σ : PS) (v1 : Int32) : Option (Int32 × PS) := bd (X_asksPiece σ v1) (fun q_5 => if q_5.1 = 0 then some ((-2), q_5.2) else loop (X_warms_B15 q_5.2 v1) fu (0, 1))
set_option maxHeartbeats 4000000 in
theorem kX_warms (l : Launch) {D : va_G} {ty : Nat → ClassId} {A : Nat → Prop} {o : Nat} {ad : Nat → Nat} {rs : va_W} {σ : PS} {σ' : PS} {v1 : Int32} {r : Int32} (hf : X_warms σ v1 = some (r, σ')) : KI l yX0_warms cX0_warms 4 .int 9 D ty A (wX ty o ad σ ++ rs) (wX ty o ad σ' ++ rs) [.ref o, .int v1] r := by
  refine KI.of (by decide) (Nat.le_of_ble_eq_true rfl) ?_
  intro p e R s m args below meth c Q C hR
  have C : Cx p R s m args c cX0_warms 4 RX0 D ty A 9 := C
  have hR : ∀ (v : Int32) (σ2 : PS), (v, σ2) = (r, σ') → ∀ (H : Heap) (locs : List Loc) (pc : Nat) (ls : Array Slot), Hw D A s H locs (wX ty o ad σ2 ++ rs) → narrow .int (.int v) = .int v → decode cX0_warms pc = .ok (.ireturn, 1) → W p l e R s m args below meth c H locs 0 0 Q (F0 m pc ls [.int v]) := by intro v σ2 e9; cases e9; exact hR
  have j57 : ∀ (σ : PS) (v2 : Int32) (H : Heap) (locs : List Loc) (ls : Array Slot), Hw D A s H locs (wX ty o ad σ ++ rs) → lv_has ls 4 [(2, .int v2)] → X_warms_j57 σ v2 = some (r, σ') → W p l e R s m args below meth c H locs 0 0 Q (F0 m 57 ls []) := by
    intro σ v2 H locs ls h hl hf
    unfold X_warms_j57 at hf
    refine lv_iload_n C.x C.b dX0_warms_57 rfl (lv_at hl 0 rfl) ?_
    exact hR _ _ (some_k hf) _ _ _ _ h rfl dX0_warms_58
  have l15 : ∀ (σ : PS) (n15 : Nat) (v2 : Int32) (v3 : Int32) (H : Heap) (locs : List Loc) (ls : Array Slot), Hw D A s H locs (wX ty o ad σ ++ rs) → lv_has ls 4 [(0, .ref o), (1, .int v1), (2, .int v2), (3, .int v3)] → loop (X_warms_B15 σ v1) n15 (v2, v3) = some (r, σ') → W p l e R s m args below meth c H locs 0 0 Q (F0 m 15 ls []) := by
    intro σ n15
    induction n15 with
    | zero => intro v2 v3 H locs ls h hl hf; exact (none_k hf).elim
    | succ n15 ih15 =>
      have j49 : ∀ (v3 : Int32) (x0 : Int32) (x1 : Int32) (H : Heap) (locs : List Loc) (ls : Array Slot), Hw D A s H locs (wX ty o ad σ ++ rs) → lv_has ls 4 [(0, .ref o), (1, .int v1), (3, .int v3)] → bl (X_warms_B15 σ v1) n15 (X_warms_j49 σ v1 v3 x0 x1) = some (r, σ') → W p l e R s m args below meth c H locs 0 0 Q (F0 m 49 ls [.int x0, .int x1]) := by
        intro v3 x0 x1 H locs ls h hl hf
        unfold X_warms_j49 at hf
        refine lv_iadd C.x C.b dX0_warms_49 ?_
        obtain ⟨v2_1, e9, hf⟩ := nm_k (K := bl (X_warms_B15 σ v1) n15) hf
        refine lv_topI e9 ?_
        refine lv_istore_n (lv' := [(2, .int v2_1), (0, .ref o), (1, .int v1), (3, .int v3)]) C.x C.b dX0_warms_50 rfl hl (by decide) rfl (fun ls hl => ?_)
        obtain ⟨v3_2, e9, hf⟩ := nm_k (K := bl (X_warms_B15 σ v1) n15) hf
        refine lv_iinc (v := v3_2) (lv' := [(3, .int v3_2), (2, .int v2_1), (0, .ref o), (1, .int v1)]) C.x C.b dX0_warms_51 hl (k := 3) rfl (iinc_e (k := 1) (by decide) e9) (by decide) rfl (fun ls hl => ?_)
        refine lv_goto (tgt := 15) C.x C.b dX0_warms_54 (by decide) ?_
        exact ih15 v2_1 v3_2 _ _ _ h (lv_sub hl [2, 3, 1, 0] rfl) hf
      intro v2 v3 H locs ls h hl hf
      have hf : bl (X_warms_B15 σ v1) n15 (X_warms_l15 σ v1 v2 v3) = some (r, σ') := hf
      unfold X_warms_l15 at hf
      refine lv_iload_n C.x C.b dX0_warms_15 rfl (lv_at hl 3 rfl) ?_
      refine lv_aload_n C.x C.b dX0_warms_16 rfl (lv_at hl 0 rfl) ?_
      refine x_g0 C h dX0_warms_17 ?_
      refine x_g100 C h dX0_warms_20 ?_
      refine lv_icmp_gt (tgt := 57) C.x C.b dX0_warms_23 (by decide) (fun c9 => ?_) (fun c9 => ?_)
      · have hf := if_t (K := bl (X_warms_B15 σ v1) n15) c9 hf
        have hf := bl_upK (K := fun x => x) hf
        exact j57 σ v2 _ _ _ h (lv_sub hl [2] rfl) hf
      · have hf := if_f (K := bl (X_warms_B15 σ v1) n15) c9 hf
        refine lv_iload_n C.x C.b dX0_warms_26 rfl (lv_at hl 2 rfl) ?_
        refine lv_aload_n C.x C.b dX0_warms_27 rfl (lv_at hl 0 rfl) ?_
        refine lv_iload_n C.x C.b dX0_warms_28 rfl (lv_at hl 1 rfl) ?_
        refine lv_iload_n C.x C.b dX0_warms_29 rfl (lv_at hl 3 rfl) ?_
        obtain ⟨q_3, hc, hf⟩ := bd_k (K := bl (X_warms_B15 σ v1) n15) rfl hf
        refine cX_skinOf C h hc (Nat.le_of_ble_eq_true rfl) hl.1 (Nat.le_of_ble_eq_true rfl) dX0_warms_30 (fun H locs h => ?_)
        refine lv_aload_n C.x C.b dX0_warms_33 rfl (lv_at hl 0 rfl) ?_
        refine lv_iload_n C.x C.b dX0_warms_34 rfl (lv_at hl 1 rfl) ?_
        refine lv_iload_n C.x C.b dX0_warms_35 rfl (lv_at hl 3 rfl) ?_
        refine lv_iconst (v := 1) C.x C.b dX0_warms_36 (by decide) ?_
        refine lv_isub C.x C.b dX0_warms_37 ?_
        obtain ⟨q_4, hc, hf⟩ := bd_k (K := bl (X_warms_B15 σ v1) n15) rfl hf
        refine cX_skinOf C h hc (Nat.le_of_ble_eq_true rfl) hl.1 (Nat.le_of_ble_eq_true rfl) dX0_warms_38 (fun H locs h => ?_)
        refine lv_icmp_le (tgt := 48) C.x C.b dX0_warms_41 (by decide) (fun c9 => ?_) (fun c9 => ?_)
        · have hf := if_t (K := bl (X_warms_B15 σ v1) n15) c9 hf
          refine lv_iconst (v := 0) C.x C.b dX0_warms_48 (by decide) ?_
          exact j49 v3 0 v2 _ _ _ h (lv_sub hl [0, 1, 3] rfl) hf
        · have hf := if_f (K := bl (X_warms_B15 σ v1) n15) c9 hf
          refine lv_iconst (v := 1) C.x C.b dX0_warms_44 (by decide) ?_
          refine lv_goto (tgt := 49) C.x C.b dX0_warms_45 (by decide) ?_
          exact j49 v3 1 v2 _ _ _ h (lv_sub hl [0, 1, 3] rfl) hf
  intro H locs ls h hl
  have hl : lv_has ls 4 [(0, .ref o), (1, .int v1)] := hl
  unfold X_warms at hf
  refine lv_aload_n C.x C.b dX0_warms_0 rfl (lv_at hl 0 rfl) ?_
  refine lv_iload_n C.x C.b dX0_warms_1 rfl (lv_at hl 1 rfl) ?_
  obtain ⟨q_5, hc, hf⟩ := bd_k (K := fun x => x) rfl hf
  refine cX_asksPiece C h hc (Nat.le_of_ble_eq_true rfl) hl.1 (Nat.le_of_ble_eq_true rfl) dX0_warms_2 (fun H locs h => ?_)
  refine lv_if_ne (tgt := 11) C.x C.b dX0_warms_5 (by decide) (fun c9 => ?_) (fun c9 => ?_)
  · have hf := if_f (K := fun x => x) c9 hf
    refine lv_iconst (v := 0) C.x C.b dX0_warms_11 (by decide) ?_
    refine lv_istore_n (lv' := [(2, .int 0), (0, .ref o), (1, .int v1)]) C.x C.b dX0_warms_12 rfl hl (by decide) rfl (fun ls hl => ?_)
    refine lv_iconst (v := 1) C.x C.b dX0_warms_13 (by decide) ?_
    refine lv_istore_n (lv' := [(3, .int 1), (2, .int 0), (0, .ref o), (1, .int v1)]) C.x C.b dX0_warms_14 rfl hl (by decide) rfl (fun ls hl => ?_)
    exact l15 q_5.2 fu 0 1 _ _ _ h (lv_sub hl [2, 3, 1, 0] rfl) hf
  · have hf := if_t (K := fun x => x) c9 hf
    refine lv_bipush (v := (-2)) C.x C.b dX0_warms_8 (by decide) ?_
    exact hR _ _ (some_k hf) _ _ _ _ h rfl dX0_warms_10
def X_cool_j63 (σ : PS) : Option (Int32 × PS) := some ((-1), σ)
def X_cool_j57 (σ : PS) (v1 : Int32) (v2 : Int32) (v3 : Int32) : Option ((Int32) ⊕ (Int32 × PS)) := nm (v3 + 1) (fun v3_1 => some (.inl (v3_1)))
def X_cool_j55 (σ : PS) (v3 : Int32) : Option (Int32 × PS) := some (v3, σ)
def X_cool_l25 (σ : PS) (v1 : Int32) (v2 : Int32) (v3 : Int32) : Option ((Int32) ⊕ (Int32 × PS)) := if (gI σ 100) < v3 then up (X_cool_j63 σ) else bd (X_hasCome σ v1 v3) (fun q_2 => if q_2 = 0 then X_cool_j57 σ v1 v2 v3 else bd (X_skinOf σ v1 v3) (fun q_3 => if v2 < q_3 then X_cool_j57 σ v1 v2 v3 else up (X_cool_j55 σ v3)))
def X_cool_B25 (σ : PS) (v1 : Int32) (v2 : Int32) : (Int32) → Option ((Int32) ⊕ (Int32 × PS)) := fun t => X_cool_l25 σ v1 v2 t
def X_cool_j20 (σ : PS) : Option (Int32 × PS) := some ((-2), σ)
def X_cool (σ : PS) (v1 : Int32) (v2 : Int32) : Option (Int32 × PS) := bd (X_asksPiece σ v1) (fun q_4 => if q_4.1 = 0 then X_cool_j20 q_4.2 else bd (X_isIn v2.toInt64 0 600) (fun q_5 => if q_5 = 0 then X_cool_j20 q_4.2 else loop (X_cool_B25 q_4.2 v1 v2) fu (0)))
set_option maxHeartbeats 4000000 in
theorem kX_cool (l : Launch) {D : va_G} {ty : Nat → ClassId} {A : Nat → Prop} {o : Nat} {ad : Nat → Nat} {rs : va_W} {σ : PS} {σ' : PS} {v1 : Int32} {v2 : Int32} {r : Int32} (hf : X_cool σ v1 v2 = some (r, σ')) : KI l yX0_cool cX0_cool 4 .int 9 D ty A (wX ty o ad σ ++ rs) (wX ty o ad σ' ++ rs) [.ref o, .int v1, .int v2] r := by
  refine KI.of (by decide) (Nat.le_of_ble_eq_true rfl) ?_
  intro p e R s m args below meth c Q C hR
  have C : Cx p R s m args c cX0_cool 4 RX0 D ty A 9 := C
  have hR : ∀ (v : Int32) (σ2 : PS), (v, σ2) = (r, σ') → ∀ (H : Heap) (locs : List Loc) (pc : Nat) (ls : Array Slot), Hw D A s H locs (wX ty o ad σ2 ++ rs) → narrow .int (.int v) = .int v → decode cX0_cool pc = .ok (.ireturn, 1) → W p l e R s m args below meth c H locs 0 0 Q (F0 m pc ls [.int v]) := by intro v σ2 e9; cases e9; exact hR
  have j63 : ∀ (σ : PS) (H : Heap) (locs : List Loc) (ls : Array Slot), Hw D A s H locs (wX ty o ad σ ++ rs) → lv_has ls 4 [] → X_cool_j63 σ = some (r, σ') → W p l e R s m args below meth c H locs 0 0 Q (F0 m 63 ls []) := by
    intro σ H locs ls h hl hf
    unfold X_cool_j63 at hf
    refine lv_iconst (v := (-1)) C.x C.b dX0_cool_63 (by decide) ?_
    exact hR _ _ (some_k hf) _ _ _ _ h rfl dX0_cool_64
  have j55 : ∀ (σ : PS) (v3 : Int32) (H : Heap) (locs : List Loc) (ls : Array Slot), Hw D A s H locs (wX ty o ad σ ++ rs) → lv_has ls 4 [(3, .int v3)] → X_cool_j55 σ v3 = some (r, σ') → W p l e R s m args below meth c H locs 0 0 Q (F0 m 55 ls []) := by
    intro σ v3 H locs ls h hl hf
    unfold X_cool_j55 at hf
    refine lv_iload_n C.x C.b dX0_cool_55 rfl (lv_at hl 0 rfl) ?_
    exact hR _ _ (some_k hf) _ _ _ _ h rfl dX0_cool_56
  have l25 : ∀ (σ : PS) (n25 : Nat) (v3 : Int32) (H : Heap) (locs : List Loc) (ls : Array Slot), Hw D A s H locs (wX ty o ad σ ++ rs) → lv_has ls 4 [(0, .ref o), (1, .int v1), (2, .int v2), (3, .int v3)] → loop (X_cool_B25 σ v1 v2) n25 (v3) = some (r, σ') → W p l e R s m args below meth c H locs 0 0 Q (F0 m 25 ls []) := by
    intro σ n25
    induction n25 with
    | zero => intro v3 H locs ls h hl hf; exact (none_k hf).elim
    | succ n25 ih25 =>
      have j57 : ∀ (v3 : Int32) (H : Heap) (locs : List Loc) (ls : Array Slot), Hw D A s H locs (wX ty o ad σ ++ rs) → lv_has ls 4 [(0, .ref o), (1, .int v1), (2, .int v2), (3, .int v3)] → bl (X_cool_B25 σ v1 v2) n25 (X_cool_j57 σ v1 v2 v3) = some (r, σ') → W p l e R s m args below meth c H locs 0 0 Q (F0 m 57 ls []) := by
        intro v3 H locs ls h hl hf
        unfold X_cool_j57 at hf
        obtain ⟨v3_1, e9, hf⟩ := nm_k (K := bl (X_cool_B25 σ v1 v2) n25) hf
        refine lv_iinc (v := v3_1) (lv' := [(3, .int v3_1), (0, .ref o), (1, .int v1), (2, .int v2)]) C.x C.b dX0_cool_57 hl (k := 3) rfl (iinc_e (k := 1) (by decide) e9) (by decide) rfl (fun ls hl => ?_)
        refine lv_goto (tgt := 25) C.x C.b dX0_cool_60 (by decide) ?_
        exact ih25 v3_1 _ _ _ h (lv_sub hl [1, 2, 3, 0] rfl) hf
      intro v3 H locs ls h hl hf
      have hf : bl (X_cool_B25 σ v1 v2) n25 (X_cool_l25 σ v1 v2 v3) = some (r, σ') := hf
      unfold X_cool_l25 at hf
      refine lv_iload_n C.x C.b dX0_cool_25 rfl (lv_at hl 3 rfl) ?_
      refine lv_aload_n C.x C.b dX0_cool_26 rfl (lv_at hl 0 rfl) ?_
      refine x_g0 C h dX0_cool_27 ?_
      refine x_g100 C h dX0_cool_30 ?_
      refine lv_icmp_gt (tgt := 63) C.x C.b dX0_cool_33 (by decide) (fun c9 => ?_) (fun c9 => ?_)
      · have hf := if_t (K := bl (X_cool_B25 σ v1 v2) n25) c9 hf
        have hf := bl_upK (K := fun x => x) hf
        exact j63 σ _ _ _ h (lv_sub hl [] rfl) hf
      · have hf := if_f (K := bl (X_cool_B25 σ v1 v2) n25) c9 hf
        refine lv_aload_n C.x C.b dX0_cool_36 rfl (lv_at hl 0 rfl) ?_
        refine lv_iload_n C.x C.b dX0_cool_37 rfl (lv_at hl 1 rfl) ?_
        refine lv_iload_n C.x C.b dX0_cool_38 rfl (lv_at hl 3 rfl) ?_
        obtain ⟨q_2, hc, hf⟩ := bd_k (K := bl (X_cool_B25 σ v1 v2) n25) rfl hf
        refine cX_hasCome C h hc (Nat.le_of_ble_eq_true rfl) hl.1 (Nat.le_of_ble_eq_true rfl) dX0_cool_39 (fun H locs h => ?_)
        refine lv_if_eq (tgt := 57) C.x C.b dX0_cool_42 (by decide) (fun c9 => ?_) (fun c9 => ?_)
        · have hf := if_t (K := bl (X_cool_B25 σ v1 v2) n25) c9 hf
          exact j57 v3 _ _ _ h (lv_sub hl [0, 1, 2, 3] rfl) hf
        · have hf := if_f (K := bl (X_cool_B25 σ v1 v2) n25) c9 hf
          refine lv_aload_n C.x C.b dX0_cool_45 rfl (lv_at hl 0 rfl) ?_
          refine lv_iload_n C.x C.b dX0_cool_46 rfl (lv_at hl 1 rfl) ?_
          refine lv_iload_n C.x C.b dX0_cool_47 rfl (lv_at hl 3 rfl) ?_
          obtain ⟨q_3, hc, hf⟩ := bd_k (K := bl (X_cool_B25 σ v1 v2) n25) rfl hf
          refine cX_skinOf C h hc (Nat.le_of_ble_eq_true rfl) hl.1 (Nat.le_of_ble_eq_true rfl) dX0_cool_48 (fun H locs h => ?_)
          refine lv_iload_n C.x C.b dX0_cool_51 rfl (lv_at hl 2 rfl) ?_
          refine lv_icmp_gt (tgt := 57) C.x C.b dX0_cool_52 (by decide) (fun c9 => ?_) (fun c9 => ?_)
          · have hf := if_t (K := bl (X_cool_B25 σ v1 v2) n25) c9 hf
            exact j57 v3 _ _ _ h (lv_sub hl [0, 1, 2, 3] rfl) hf
          · have hf := if_f (K := bl (X_cool_B25 σ v1 v2) n25) c9 hf
            have hf := bl_upK (K := fun x => x) hf
            exact j55 σ v3 _ _ _ h (lv_sub hl [3] rfl) hf
  have j20 : ∀ (σ : PS) (H : Heap) (locs : List Loc) (ls : Array Slot), Hw D A s H locs (wX ty o ad σ ++ rs) → lv_has ls 4 [] → X_cool_j20 σ = some (r, σ') → W p l e R s m args below meth c H locs 0 0 Q (F0 m 20 ls []) := by
    intro σ H locs ls h hl hf
    unfold X_cool_j20 at hf
    refine lv_bipush (v := (-2)) C.x C.b dX0_cool_20 (by decide) ?_
    exact hR _ _ (some_k hf) _ _ _ _ h rfl dX0_cool_22
  intro H locs ls h hl
  have hl : lv_has ls 4 [(0, .ref o), (1, .int v1), (2, .int v2)] := hl
  unfold X_cool at hf
  refine lv_aload_n C.x C.b dX0_cool_0 rfl (lv_at hl 0 rfl) ?_
  refine lv_iload_n C.x C.b dX0_cool_1 rfl (lv_at hl 1 rfl) ?_
  obtain ⟨q_4, hc, hf⟩ := bd_k (K := fun x => x) rfl hf
  refine cX_asksPiece C h hc (Nat.le_of_ble_eq_true rfl) hl.1 (Nat.le_of_ble_eq_true rfl) dX0_cool_2 (fun H locs h => ?_)
  refine lv_if_eq (tgt := 20) C.x C.b dX0_cool_5 (by decide) (fun c9 => ?_) (fun c9 => ?_)
  · have hf := if_t (K := fun x => x) c9 hf
    exact j20 q_4.2 _ _ _ h (lv_sub hl [] rfl) hf
  · have hf := if_f (K := fun x => x) c9 hf
    refine lv_iload_n C.x C.b dX0_cool_8 rfl (lv_at hl 2 rfl) ?_
    refine lv_i2l C.x C.b dX0_cool_9 rfl ?_
    refine lv_lconst (v := 0) C.x C.b dX0_cool_10 (by decide) ?_
    refine lv_ldc2 (v := 600) C.x C.b C.own (C.ts _ q973) dX0_cool_11 ?_
    obtain ⟨q_5, hc, hf⟩ := bd_k (K := fun x => x) rfl hf
    refine cX_isIn C h hc (Nat.le_of_ble_eq_true rfl) hl.1 (Nat.le_of_ble_eq_true rfl) dX0_cool_14 (fun H locs h => ?_)
    refine lv_if_ne (tgt := 23) C.x C.b dX0_cool_17 (by decide) (fun c9 => ?_) (fun c9 => ?_)
    · have hf := if_f (K := fun x => x) c9 hf
      refine lv_iconst (v := 0) C.x C.b dX0_cool_23 (by decide) ?_
      refine lv_istore_n (lv' := [(3, .int 0), (0, .ref o), (1, .int v1), (2, .int v2)]) C.x C.b dX0_cool_24 rfl hl (by decide) rfl (fun ls hl => ?_)
      exact l25 q_4.2 fu 0 _ _ _ h (lv_sub hl [1, 2, 3, 0] rfl) hf
    · have hf := if_t (K := fun x => x) c9 hf
      exact j20 q_4.2 _ _ _ h (lv_sub hl [] rfl) hf
def X_still_j52 (σ : PS) (v2 : Int32) : Option (Int32 × PS) := some (v2, σ)
def X_still_l19 (σ : PS) (v1 : Int32) (v2 : Int32) : Option ((Int32) ⊕ (Int32 × PS)) := if v2 ≤ 0 then up (X_still_j52 σ v2) else bd (X_skinOf σ v1 (v2 - 1)) (fun q_1 => bd (X_skinOf σ v1 (gI σ 100)) (fun q_2 => if q_1 = q_2 then nm (v2 + (-1)) (fun v2_3 => some (.inl (v2_3))) else up (X_still_j52 σ v2)))
def X_still_B19 (σ : PS) (v1 : Int32) : (Int32) → Option ((Int32) ⊕ (Int32 × PS)) := fun t => X_still_l19 σ v1 t
def X_still (σ : PS) (v1 : Int32) : Option (Int32 × PS) := bd (X_asksPiece σ v1) (fun q_4 => if q_4.1 = 0 then some ((-2), q_4.2) else nm (gI q_4.2 100) (fun v2_5 => loop (X_still_B19 q_4.2 v1) fu (v2_5)))
set_option maxHeartbeats 4000000 in
theorem kX_still (l : Launch) {D : va_G} {ty : Nat → ClassId} {A : Nat → Prop} {o : Nat} {ad : Nat → Nat} {rs : va_W} {σ : PS} {σ' : PS} {v1 : Int32} {r : Int32} (hf : X_still σ v1 = some (r, σ')) : KI l yX0_still cX0_still 3 .int 9 D ty A (wX ty o ad σ ++ rs) (wX ty o ad σ' ++ rs) [.ref o, .int v1] r := by
  refine KI.of (by decide) (Nat.le_of_ble_eq_true rfl) ?_
  intro p e R s m args below meth c Q C hR
  have C : Cx p R s m args c cX0_still 3 RX0 D ty A 9 := C
  have hR : ∀ (v : Int32) (σ2 : PS), (v, σ2) = (r, σ') → ∀ (H : Heap) (locs : List Loc) (pc : Nat) (ls : Array Slot), Hw D A s H locs (wX ty o ad σ2 ++ rs) → narrow .int (.int v) = .int v → decode cX0_still pc = .ok (.ireturn, 1) → W p l e R s m args below meth c H locs 0 0 Q (F0 m pc ls [.int v]) := by intro v σ2 e9; cases e9; exact hR
  have j52 : ∀ (σ : PS) (v2 : Int32) (H : Heap) (locs : List Loc) (ls : Array Slot), Hw D A s H locs (wX ty o ad σ ++ rs) → lv_has ls 3 [(2, .int v2)] → X_still_j52 σ v2 = some (r, σ') → W p l e R s m args below meth c H locs 0 0 Q (F0 m 52 ls []) := by
    intro σ v2 H locs ls h hl hf
    unfold X_still_j52 at hf
    refine lv_iload_n C.x C.b dX0_still_52 rfl (lv_at hl 0 rfl) ?_
    exact hR _ _ (some_k hf) _ _ _ _ h rfl dX0_still_53
  have l19 : ∀ (σ : PS) (n19 : Nat) (v2 : Int32) (H : Heap) (locs : List Loc) (ls : Array Slot), Hw D A s H locs (wX ty o ad σ ++ rs) → lv_has ls 3 [(0, .ref o), (1, .int v1), (2, .int v2)] → loop (X_still_B19 σ v1) n19 (v2) = some (r, σ') → W p l e R s m args below meth c H locs 0 0 Q (F0 m 19 ls []) := by
    intro σ n19
    induction n19 with
    | zero => intro v2 H locs ls h hl hf; exact (none_k hf).elim
    | succ n19 ih19 =>
      intro v2 H locs ls h hl hf
      have hf : bl (X_still_B19 σ v1) n19 (X_still_l19 σ v1 v2) = some (r, σ') := hf
      unfold X_still_l19 at hf
      refine lv_iload_n C.x C.b dX0_still_19 rfl (lv_at hl 2 rfl) ?_
      refine lv_if_le (tgt := 52) C.x C.b dX0_still_20 (by decide) (fun c9 => ?_) (fun c9 => ?_)
      · have hf := if_t (K := bl (X_still_B19 σ v1) n19) c9 hf
        have hf := bl_upK (K := fun x => x) hf
        exact j52 σ v2 _ _ _ h (lv_sub hl [2] rfl) hf
      · have hf := if_f (K := bl (X_still_B19 σ v1) n19) c9 hf
        refine lv_aload_n C.x C.b dX0_still_23 rfl (lv_at hl 0 rfl) ?_
        refine lv_iload_n C.x C.b dX0_still_24 rfl (lv_at hl 1 rfl) ?_
        refine lv_iload_n C.x C.b dX0_still_25 rfl (lv_at hl 2 rfl) ?_
        refine lv_iconst (v := 1) C.x C.b dX0_still_26 (by decide) ?_
        refine lv_isub C.x C.b dX0_still_27 ?_
        obtain ⟨q_1, hc, hf⟩ := bd_k (K := bl (X_still_B19 σ v1) n19) rfl hf
        refine cX_skinOf C h hc (Nat.le_of_ble_eq_true rfl) hl.1 (Nat.le_of_ble_eq_true rfl) dX0_still_28 (fun H locs h => ?_)
        refine lv_aload_n C.x C.b dX0_still_31 rfl (lv_at hl 0 rfl) ?_
        refine lv_iload_n C.x C.b dX0_still_32 rfl (lv_at hl 1 rfl) ?_
        refine lv_aload_n C.x C.b dX0_still_33 rfl (lv_at hl 0 rfl) ?_
        refine x_g0 C h dX0_still_34 ?_
        refine x_g100 C h dX0_still_37 ?_
        obtain ⟨q_2, hc, hf⟩ := bd_k (K := bl (X_still_B19 σ v1) n19) rfl hf
        refine cX_skinOf C h hc (Nat.le_of_ble_eq_true rfl) hl.1 (Nat.le_of_ble_eq_true rfl) dX0_still_40 (fun H locs h => ?_)
        refine lv_icmp_ne (tgt := 52) C.x C.b dX0_still_43 (by decide) (fun c9 => ?_) (fun c9 => ?_)
        · have hf := if_f (K := bl (X_still_B19 σ v1) n19) c9 hf
          have hf := bl_upK (K := fun x => x) hf
          exact j52 σ v2 _ _ _ h (lv_sub hl [2] rfl) hf
        · have hf := if_t (K := bl (X_still_B19 σ v1) n19) c9 hf
          obtain ⟨v2_3, e9, hf⟩ := nm_k (K := bl (X_still_B19 σ v1) n19) hf
          refine lv_iinc (v := v2_3) (lv' := [(2, .int v2_3), (0, .ref o), (1, .int v1)]) C.x C.b dX0_still_46 hl (k := 2) rfl (iinc_e (k := (-1)) (by decide) e9) (by decide) rfl (fun ls hl => ?_)
          refine lv_goto (tgt := 19) C.x C.b dX0_still_49 (by decide) ?_
          exact ih19 v2_3 _ _ _ h (lv_sub hl [1, 2, 0] rfl) hf
  intro H locs ls h hl
  have hl : lv_has ls 3 [(0, .ref o), (1, .int v1)] := hl
  unfold X_still at hf
  refine lv_aload_n C.x C.b dX0_still_0 rfl (lv_at hl 0 rfl) ?_
  refine lv_iload_n C.x C.b dX0_still_1 rfl (lv_at hl 1 rfl) ?_
  obtain ⟨q_4, hc, hf⟩ := bd_k (K := fun x => x) rfl hf
  refine cX_asksPiece C h hc (Nat.le_of_ble_eq_true rfl) hl.1 (Nat.le_of_ble_eq_true rfl) dX0_still_2 (fun H locs h => ?_)
  refine lv_if_ne (tgt := 11) C.x C.b dX0_still_5 (by decide) (fun c9 => ?_) (fun c9 => ?_)
  · have hf := if_f (K := fun x => x) c9 hf
    refine lv_aload_n C.x C.b dX0_still_11 rfl (lv_at hl 0 rfl) ?_
    refine x_g0 C h dX0_still_12 ?_
    refine x_g100 C h dX0_still_15 ?_
    obtain ⟨v2_5, e9, hf⟩ := nm_k (K := fun x => x) hf
    refine lv_topI e9 ?_
    refine lv_istore_n (lv' := [(2, .int v2_5), (0, .ref o), (1, .int v1)]) C.x C.b dX0_still_18 rfl hl (by decide) rfl (fun ls hl => ?_)
    exact l19 q_4.2 fu v2_5 _ _ _ h (lv_sub hl [1, 2, 0] rfl) hf
  · have hf := if_t (K := fun x => x) c9 hf
    refine lv_bipush (v := (-2)) C.x C.b dX0_still_8 (by decide) ?_
    exact hR _ _ (some_k hf) _ _ _ _ h rfl dX0_still_10
def X_crowd_j64 (σ : PS) (v1 : Int32) : Option (Int32 × PS) := some (v1, σ)
def X_crowd_j58 (σ : PS) (v1 : Int32) (v2 : Int32) : Option ((Int32 × Int32) ⊕ (Int32 × PS)) := nm (v2 + 1) (fun v2_1 => some (.inl (v1, v2_1)))
def X_crowd_l27 (σ : PS) (v2 : Int32) (v1 : Int32) (v3 : Int32) : Option ((Int32 × Int32) ⊕ ((Int32 × Int32) ⊕ (Int32 × PS))) := if (gI σ 106) ≤ v3 then up (X_crowd_j58 σ v1 v2) else bd (X_insideOf σ v3 v2) (fun q_2 => bd (J_bitCount q_2) (fun q_3 => nm (mx v1 q_3) (fun v1_4 => nm (v3 + 1) (fun v3_5 => some (.inl (v1_4, v3_5))))))
def X_crowd_B27 (σ : PS) (v2 : Int32) : (Int32 × Int32) → Option ((Int32 × Int32) ⊕ ((Int32 × Int32) ⊕ (Int32 × PS))) := fun t => X_crowd_l27 σ v2 t.1 t.2
def X_crowd_l14 (σ : PS) (v1 : Int32) (v2 : Int32) : Option ((Int32 × Int32) ⊕ (Int32 × PS)) := if (gI σ 100) < v2 then up (X_crowd_j64 σ v1) else loop (X_crowd_B27 σ v2) fu (v1, 0)
def X_crowd_B14 (σ : PS) : (Int32 × Int32) → Option ((Int32 × Int32) ⊕ (Int32 × PS)) := fun t => X_crowd_l14 σ t.1 t.2
def X_crowd (σ : PS) : Option (Int32 × PS) := bd (X_asksLehr σ) (fun q_6 => if q_6.1 = 0 then some ((-2), q_6.2) else loop (X_crowd_B14 q_6.2) fu (0, 0))
set_option maxHeartbeats 4000000 in
theorem kX_crowd (l : Launch) {D : va_G} {ty : Nat → ClassId} {A : Nat → Prop} {o : Nat} {ad : Nat → Nat} {rs : va_W} {σ : PS} {σ' : PS} {r : Int32} (hf : X_crowd σ = some (r, σ')) : KI l yX0_crowd cX0_crowd 4 .int 8 D ty A (wX ty o ad σ ++ rs) (wX ty o ad σ' ++ rs) [.ref o] r := by
  refine KI.of (by decide) (Nat.le_of_ble_eq_true rfl) ?_
  intro p e R s m args below meth c Q C hR
  have C : Cx p R s m args c cX0_crowd 4 RX0 D ty A 8 := C
  have hR : ∀ (v : Int32) (σ2 : PS), (v, σ2) = (r, σ') → ∀ (H : Heap) (locs : List Loc) (pc : Nat) (ls : Array Slot), Hw D A s H locs (wX ty o ad σ2 ++ rs) → narrow .int (.int v) = .int v → decode cX0_crowd pc = .ok (.ireturn, 1) → W p l e R s m args below meth c H locs 0 0 Q (F0 m pc ls [.int v]) := by intro v σ2 e9; cases e9; exact hR
  have j64 : ∀ (σ : PS) (v1 : Int32) (H : Heap) (locs : List Loc) (ls : Array Slot), Hw D A s H locs (wX ty o ad σ ++ rs) → lv_has ls 4 [(1, .int v1)] → X_crowd_j64 σ v1 = some (r, σ') → W p l e R s m args below meth c H locs 0 0 Q (F0 m 64 ls []) := by
    intro σ v1 H locs ls h hl hf
    unfold X_crowd_j64 at hf
    refine lv_iload_n C.x C.b dX0_crowd_64 rfl (lv_at hl 0 rfl) ?_
    exact hR _ _ (some_k hf) _ _ _ _ h rfl dX0_crowd_65
  have l14 : ∀ (σ : PS) (n14 : Nat) (v1 : Int32) (v2 : Int32) (H : Heap) (locs : List Loc) (ls : Array Slot), Hw D A s H locs (wX ty o ad σ ++ rs) → lv_has ls 4 [(0, .ref o), (1, .int v1), (2, .int v2)] → loop (X_crowd_B14 σ) n14 (v1, v2) = some (r, σ') → W p l e R s m args below meth c H locs 0 0 Q (F0 m 14 ls []) := by
    intro σ n14
    induction n14 with
    | zero => intro v1 v2 H locs ls h hl hf; exact (none_k hf).elim
    | succ n14 ih14 =>
      have j58 : ∀ (v1 : Int32) (v2 : Int32) (H : Heap) (locs : List Loc) (ls : Array Slot), Hw D A s H locs (wX ty o ad σ ++ rs) → lv_has ls 4 [(0, .ref o), (1, .int v1), (2, .int v2)] → bl (X_crowd_B14 σ) n14 (X_crowd_j58 σ v1 v2) = some (r, σ') → W p l e R s m args below meth c H locs 0 0 Q (F0 m 58 ls []) := by
        intro v1 v2 H locs ls h hl hf
        unfold X_crowd_j58 at hf
        obtain ⟨v2_1, e9, hf⟩ := nm_k (K := bl (X_crowd_B14 σ) n14) hf
        refine lv_iinc (v := v2_1) (lv' := [(2, .int v2_1), (0, .ref o), (1, .int v1)]) C.x C.b dX0_crowd_58 hl (k := 2) rfl (iinc_e (k := 1) (by decide) e9) (by decide) rfl (fun ls hl => ?_)
        refine lv_goto (tgt := 14) C.x C.b dX0_crowd_61 (by decide) ?_
        exact ih14 v1 v2_1 _ _ _ h (lv_sub hl [1, 2, 0] rfl) hf
      have l27 : ∀ (v2 : Int32) (n27 : Nat) (v1 : Int32) (v3 : Int32) (H : Heap) (locs : List Loc) (ls : Array Slot), Hw D A s H locs (wX ty o ad σ ++ rs) → lv_has ls 4 [(0, .ref o), (1, .int v1), (2, .int v2), (3, .int v3)] → bl (X_crowd_B14 σ) n14 (loop (X_crowd_B27 σ v2) n27 (v1, v3)) = some (r, σ') → W p l e R s m args below meth c H locs 0 0 Q (F0 m 27 ls []) := by
        intro v2 n27
        induction n27 with
        | zero => intro v1 v3 H locs ls h hl hf; exact (none_k hf).elim
        | succ n27 ih27 =>
          intro v1 v3 H locs ls h hl hf
          have hf : bl (X_crowd_B14 σ) n14 (bl (X_crowd_B27 σ v2) n27 (X_crowd_l27 σ v2 v1 v3)) = some (r, σ') := hf
          unfold X_crowd_l27 at hf
          refine lv_iload_n C.x C.b dX0_crowd_27 rfl (lv_at hl 3 rfl) ?_
          refine lv_aload_n C.x C.b dX0_crowd_28 rfl (lv_at hl 0 rfl) ?_
          refine x_g0 C h dX0_crowd_29 ?_
          refine x_g106 C h dX0_crowd_32 ?_
          refine lv_icmp_ge (tgt := 58) C.x C.b dX0_crowd_35 (by decide) (fun c9 => ?_) (fun c9 => ?_)
          · have hf := if_t (K := fun x => bl (X_crowd_B14 σ) n14 (bl (X_crowd_B27 σ v2) n27 x)) c9 hf
            have hf := bl_upK (K := bl (X_crowd_B14 σ) n14) hf
            exact j58 v1 v2 _ _ _ h (lv_sub hl [0, 1, 2] rfl) hf
          · have hf := if_f (K := fun x => bl (X_crowd_B14 σ) n14 (bl (X_crowd_B27 σ v2) n27 x)) c9 hf
            refine lv_iload_n C.x C.b dX0_crowd_38 rfl (lv_at hl 1 rfl) ?_
            refine lv_aload_n C.x C.b dX0_crowd_39 rfl (lv_at hl 0 rfl) ?_
            refine lv_iload_n C.x C.b dX0_crowd_40 rfl (lv_at hl 3 rfl) ?_
            refine lv_iload_n C.x C.b dX0_crowd_41 rfl (lv_at hl 2 rfl) ?_
            obtain ⟨q_2, hc, hf⟩ := bd_k (K := fun x => bl (X_crowd_B14 σ) n14 (bl (X_crowd_B27 σ v2) n27 x)) rfl hf
            refine cX_insideOf C h hc (Nat.le_of_ble_eq_true rfl) hl.1 (Nat.le_of_ble_eq_true rfl) dX0_crowd_42 (fun H locs h => ?_)
            obtain ⟨q_3, hc, hf⟩ := bd_k (K := fun x => bl (X_crowd_B14 σ) n14 (bl (X_crowd_B27 σ v2) n27 x)) rfl hf
            refine cJ_bitCount_RX0 C h hc (Nat.le_of_ble_eq_true rfl) hl.1 (Nat.le_of_ble_eq_true rfl) dX0_crowd_45 (fun H locs h => ?_)
            refine r_max_X0 C h hl.1 (by decide) (Nat.le_of_ble_eq_true rfl) dX0_crowd_48 ?_
            obtain ⟨v1_4, e9, hf⟩ := nm_k (K := fun x => bl (X_crowd_B14 σ) n14 (bl (X_crowd_B27 σ v2) n27 x)) hf
            refine lv_topI e9 ?_
            refine lv_istore_n (lv' := [(1, .int v1_4), (0, .ref o), (2, .int v2), (3, .int v3)]) C.x C.b dX0_crowd_51 rfl hl (by decide) rfl (fun ls hl => ?_)
            obtain ⟨v3_5, e9, hf⟩ := nm_k (K := fun x => bl (X_crowd_B14 σ) n14 (bl (X_crowd_B27 σ v2) n27 x)) hf
            refine lv_iinc (v := v3_5) (lv' := [(3, .int v3_5), (1, .int v1_4), (0, .ref o), (2, .int v2)]) C.x C.b dX0_crowd_52 hl (k := 3) rfl (iinc_e (k := 1) (by decide) e9) (by decide) rfl (fun ls hl => ?_)
            refine lv_goto (tgt := 27) C.x C.b dX0_crowd_55 (by decide) ?_
            exact ih27 v1_4 v3_5 _ _ _ h (lv_sub hl [2, 1, 3, 0] rfl) hf
      intro v1 v2 H locs ls h hl hf
      have hf : bl (X_crowd_B14 σ) n14 (X_crowd_l14 σ v1 v2) = some (r, σ') := hf
      unfold X_crowd_l14 at hf
      refine lv_iload_n C.x C.b dX0_crowd_14 rfl (lv_at hl 2 rfl) ?_
      refine lv_aload_n C.x C.b dX0_crowd_15 rfl (lv_at hl 0 rfl) ?_
      refine x_g0 C h dX0_crowd_16 ?_
      refine x_g100 C h dX0_crowd_19 ?_
      refine lv_icmp_gt (tgt := 64) C.x C.b dX0_crowd_22 (by decide) (fun c9 => ?_) (fun c9 => ?_)
      · have hf := if_t (K := bl (X_crowd_B14 σ) n14) c9 hf
        have hf := bl_upK (K := fun x => x) hf
        exact j64 σ v1 _ _ _ h (lv_sub hl [1] rfl) hf
      · have hf := if_f (K := bl (X_crowd_B14 σ) n14) c9 hf
        refine lv_iconst (v := 0) C.x C.b dX0_crowd_25 (by decide) ?_
        refine lv_istore_n (lv' := [(3, .int 0), (0, .ref o), (1, .int v1), (2, .int v2)]) C.x C.b dX0_crowd_26 rfl hl (by decide) rfl (fun ls hl => ?_)
        exact l27 v2 fu v1 0 _ _ _ h (lv_sub hl [1, 2, 3, 0] rfl) hf
  intro H locs ls h hl
  have hl : lv_has ls 4 [(0, .ref o)] := hl
  unfold X_crowd at hf
  refine lv_aload_n C.x C.b dX0_crowd_0 rfl (lv_at hl 0 rfl) ?_
  obtain ⟨q_6, hc, hf⟩ := bd_k (K := fun x => x) rfl hf
  refine cX_asksLehr C h hc (Nat.le_of_ble_eq_true rfl) hl.1 (Nat.le_of_ble_eq_true rfl) dX0_crowd_1 (fun H locs h => ?_)
  refine lv_if_ne (tgt := 10) C.x C.b dX0_crowd_4 (by decide) (fun c9 => ?_) (fun c9 => ?_)
  · have hf := if_f (K := fun x => x) c9 hf
    refine lv_iconst (v := 0) C.x C.b dX0_crowd_10 (by decide) ?_
    refine lv_istore_n (lv' := [(1, .int 0), (0, .ref o)]) C.x C.b dX0_crowd_11 rfl hl (by decide) rfl (fun ls hl => ?_)
    refine lv_iconst (v := 0) C.x C.b dX0_crowd_12 (by decide) ?_
    refine lv_istore_n (lv' := [(2, .int 0), (1, .int 0), (0, .ref o)]) C.x C.b dX0_crowd_13 rfl hl (by decide) rfl (fun ls hl => ?_)
    exact l14 q_6.2 fu 0 0 _ _ _ h (lv_sub hl [2, 1, 0] rfl) hf
  · have hf := if_t (K := fun x => x) c9 hf
    refine lv_bipush (v := (-2)) C.x C.b dX0_crowd_7 (by decide) ?_
    exact hR _ _ (some_k hf) _ _ _ _ h rfl dX0_crowd_9
def X_least_j65 (σ : PS) (x0 : Int32) : Option (Int32 × PS) := some (x0, σ)
def X_least_j53 (σ : PS) (v2 : Int32) : Option (Int32 × PS) := if v2 = 1000000000 then X_least_j65 σ ((-1)) else X_least_j65 σ v2
def X_least_l25 (σ : PS) (v1 : Int32) (v2 : Int32) (v3 : Int32) : Option ((Int32 × Int32) ⊕ (Int32 × PS)) := if (gI σ 100) < v3 then up (X_least_j53 σ v2) else bd (X_skinOf σ v1 v3) (fun q_1 => nm (mn v2 q_1) (fun v2_2 => nm (v3 + 1) (fun v3_3 => some (.inl (v2_2, v3_3)))))
def X_least_B25 (σ : PS) (v1 : Int32) : (Int32 × Int32) → Option ((Int32 × Int32) ⊕ (Int32 × PS)) := fun t => X_least_l25 σ v1 t.1 t.2
def X_least (σ : PS) (v1 : Int32) : Option (Int32 × PS) := bd (X_asksPiece σ v1) (fun q_4 => if q_4.1 = 0 then some ((-2), q_4.2) else ix v1 6 (nm (rA q_4.2 113 v1) (fun v3_5 => loop (X_least_B25 q_4.2 v1) fu (1000000000, v3_5))))
set_option maxHeartbeats 4000000 in
theorem kX_least (l : Launch) {D : va_G} {ty : Nat → ClassId} {A : Nat → Prop} {o : Nat} {ad : Nat → Nat} {rs : va_W} {σ : PS} {σ' : PS} {v1 : Int32} {r : Int32} (hf : X_least σ v1 = some (r, σ')) : KI l yX0_least cX0_least 4 .int 9 D ty A (wX ty o ad σ ++ rs) (wX ty o ad σ' ++ rs) [.ref o, .int v1] r := by
  refine KI.of (by decide) (Nat.le_of_ble_eq_true rfl) ?_
  intro p e R s m args below meth c Q C hR
  have C : Cx p R s m args c cX0_least 4 RX0 D ty A 9 := C
  have hR : ∀ (v : Int32) (σ2 : PS), (v, σ2) = (r, σ') → ∀ (H : Heap) (locs : List Loc) (pc : Nat) (ls : Array Slot), Hw D A s H locs (wX ty o ad σ2 ++ rs) → narrow .int (.int v) = .int v → decode cX0_least pc = .ok (.ireturn, 1) → W p l e R s m args below meth c H locs 0 0 Q (F0 m pc ls [.int v]) := by intro v σ2 e9; cases e9; exact hR
  have j65 : ∀ (σ : PS) (x0 : Int32) (H : Heap) (locs : List Loc) (ls : Array Slot), Hw D A s H locs (wX ty o ad σ ++ rs) → lv_has ls 4 [] → X_least_j65 σ x0 = some (r, σ') → W p l e R s m args below meth c H locs 0 0 Q (F0 m 65 ls [.int x0]) := by
    intro σ x0 H locs ls h hl hf
    unfold X_least_j65 at hf
    exact hR _ _ (some_k hf) _ _ _ _ h rfl dX0_least_65
  have j53 : ∀ (σ : PS) (v2 : Int32) (H : Heap) (locs : List Loc) (ls : Array Slot), Hw D A s H locs (wX ty o ad σ ++ rs) → lv_has ls 4 [(2, .int v2)] → X_least_j53 σ v2 = some (r, σ') → W p l e R s m args below meth c H locs 0 0 Q (F0 m 53 ls []) := by
    intro σ v2 H locs ls h hl hf
    unfold X_least_j53 at hf
    refine lv_iload_n C.x C.b dX0_least_53 rfl (lv_at hl 0 rfl) ?_
    refine lv_ldcw (v := 1000000000) C.x C.b C.own (C.ts _ q1012) dX0_least_54 ?_
    refine lv_icmp_ne (tgt := 64) C.x C.b dX0_least_57 (by decide) (fun c9 => ?_) (fun c9 => ?_)
    · have hf := if_f (K := fun x => x) c9 hf
      refine lv_iload_n C.x C.b dX0_least_64 rfl (lv_at hl 0 rfl) ?_
      exact j65 σ v2 _ _ _ h (lv_sub hl [] rfl) hf
    · have hf := if_t (K := fun x => x) c9 hf
      refine lv_iconst (v := (-1)) C.x C.b dX0_least_60 (by decide) ?_
      refine lv_goto (tgt := 65) C.x C.b dX0_least_61 (by decide) ?_
      exact j65 σ ((-1)) _ _ _ h (lv_sub hl [] rfl) hf
  have l25 : ∀ (σ : PS) (n25 : Nat) (v2 : Int32) (v3 : Int32) (H : Heap) (locs : List Loc) (ls : Array Slot), Hw D A s H locs (wX ty o ad σ ++ rs) → lv_has ls 4 [(0, .ref o), (1, .int v1), (2, .int v2), (3, .int v3)] → loop (X_least_B25 σ v1) n25 (v2, v3) = some (r, σ') → W p l e R s m args below meth c H locs 0 0 Q (F0 m 25 ls []) := by
    intro σ n25
    induction n25 with
    | zero => intro v2 v3 H locs ls h hl hf; exact (none_k hf).elim
    | succ n25 ih25 =>
      intro v2 v3 H locs ls h hl hf
      have hf : bl (X_least_B25 σ v1) n25 (X_least_l25 σ v1 v2 v3) = some (r, σ') := hf
      unfold X_least_l25 at hf
      refine lv_iload_n C.x C.b dX0_least_25 rfl (lv_at hl 3 rfl) ?_
      refine lv_aload_n C.x C.b dX0_least_26 rfl (lv_at hl 0 rfl) ?_
      refine x_g0 C h dX0_least_27 ?_
      refine x_g100 C h dX0_least_30 ?_
      refine lv_icmp_gt (tgt := 53) C.x C.b dX0_least_33 (by decide) (fun c9 => ?_) (fun c9 => ?_)
      · have hf := if_t (K := bl (X_least_B25 σ v1) n25) c9 hf
        have hf := bl_upK (K := fun x => x) hf
        exact j53 σ v2 _ _ _ h (lv_sub hl [2] rfl) hf
      · have hf := if_f (K := bl (X_least_B25 σ v1) n25) c9 hf
        refine lv_iload_n C.x C.b dX0_least_36 rfl (lv_at hl 2 rfl) ?_
        refine lv_aload_n C.x C.b dX0_least_37 rfl (lv_at hl 0 rfl) ?_
        refine lv_iload_n C.x C.b dX0_least_38 rfl (lv_at hl 1 rfl) ?_
        refine lv_iload_n C.x C.b dX0_least_39 rfl (lv_at hl 3 rfl) ?_
        obtain ⟨q_1, hc, hf⟩ := bd_k (K := bl (X_least_B25 σ v1) n25) rfl hf
        refine cX_skinOf C h hc (Nat.le_of_ble_eq_true rfl) hl.1 (Nat.le_of_ble_eq_true rfl) dX0_least_40 (fun H locs h => ?_)
        refine r_min_X0 C h hl.1 (by decide) (Nat.le_of_ble_eq_true rfl) dX0_least_43 ?_
        obtain ⟨v2_2, e9, hf⟩ := nm_k (K := bl (X_least_B25 σ v1) n25) hf
        refine lv_topI e9 ?_
        refine lv_istore_n (lv' := [(2, .int v2_2), (0, .ref o), (1, .int v1), (3, .int v3)]) C.x C.b dX0_least_46 rfl hl (by decide) rfl (fun ls hl => ?_)
        obtain ⟨v3_3, e9, hf⟩ := nm_k (K := bl (X_least_B25 σ v1) n25) hf
        refine lv_iinc (v := v3_3) (lv' := [(3, .int v3_3), (2, .int v2_2), (0, .ref o), (1, .int v1)]) C.x C.b dX0_least_47 hl (k := 3) rfl (iinc_e (k := 1) (by decide) e9) (by decide) rfl (fun ls hl => ?_)
        refine lv_goto (tgt := 25) C.x C.b dX0_least_50 (by decide) ?_
        exact ih25 v2_2 v3_3 _ _ _ h (lv_sub hl [2, 3, 1, 0] rfl) hf
  intro H locs ls h hl
  have hl : lv_has ls 4 [(0, .ref o), (1, .int v1)] := hl
  unfold X_least at hf
  refine lv_aload_n C.x C.b dX0_least_0 rfl (lv_at hl 0 rfl) ?_
  refine lv_iload_n C.x C.b dX0_least_1 rfl (lv_at hl 1 rfl) ?_
  obtain ⟨q_4, hc, hf⟩ := bd_k (K := fun x => x) rfl hf
  refine cX_asksPiece C h hc (Nat.le_of_ble_eq_true rfl) hl.1 (Nat.le_of_ble_eq_true rfl) dX0_least_2 (fun H locs h => ?_)
  refine lv_if_ne (tgt := 11) C.x C.b dX0_least_5 (by decide) (fun c9 => ?_) (fun c9 => ?_)
  · have hf := if_f (K := fun x => x) c9 hf
    refine lv_ldcw (v := 1000000000) C.x C.b C.own (C.ts _ q1012) dX0_least_11 ?_
    refine lv_istore_n (lv' := [(2, .int 1000000000), (0, .ref o), (1, .int v1)]) C.x C.b dX0_least_14 rfl hl (by decide) rfl (fun ls hl => ?_)
    refine lv_aload_n C.x C.b dX0_least_15 rfl (lv_at hl 1 rfl) ?_
    refine x_g0 C h dX0_least_16 ?_
    refine x_g113 C h dX0_least_19 ?_
    refine lv_iload_n C.x C.b dX0_least_22 rfl (lv_at hl 2 rfl) ?_
    obtain ⟨hi, hf⟩ := ix_k (K := fun x => x) rfl hf
    refine x_a113 C h hi dX0_least_23 ?_
    obtain ⟨v3_5, e9, hf⟩ := nm_k (K := fun x => x) hf
    refine lv_topI e9 ?_
    refine lv_istore_n (lv' := [(3, .int v3_5), (2, .int 1000000000), (0, .ref o), (1, .int v1)]) C.x C.b dX0_least_24 rfl hl (by decide) rfl (fun ls hl => ?_)
    exact l25 q_4.2 fu 1000000000 v3_5 _ _ _ h (lv_sub hl [2, 3, 1, 0] rfl) hf
  · have hf := if_t (K := fun x => x) c9 hf
    refine lv_bipush (v := (-2)) C.x C.b dX0_least_8 (by decide) ?_
    exact hR _ _ (some_k hf) _ _ _ _ h rfl dX0_least_10
def X_chill_j58 (σ : PS) (v2 : Int32) : Option (Int32 × PS) := some (v2, σ)
def X_chill_j52 (σ : PS) (v1 : Int32) (v2 : Int32) (v3 : Int32) : Option ((Int32 × Int32) ⊕ (Int32 × PS)) := nm (v3 + 1) (fun v3_1 => some (.inl (v2, v3_1)))
def X_chill_j47 (σ : PS) (v1 : Int32) (v2 : Int32) (v3 : Int32) (x0 : Int32) (x1 : Int32) : Option ((Int32 × Int32) ⊕ (Int32 × PS)) := if x1 ≤ x0 then X_chill_j52 σ v1 v2 v3 else X_chill_j52 σ v1 v3 v3
def X_chill_l15 (σ : PS) (v1 : Int32) (v2 : Int32) (v3 : Int32) : Option ((Int32 × Int32) ⊕ (Int32 × PS)) := if (gI σ 100) ≤ v3 then up (X_chill_j58 σ v2) else bd (X_dropOf σ v1 v3) (fun q_2 => if v2 = ((-1)) then X_chill_j47 σ v1 v2 v3 0 q_2 else bd (X_dropOf σ v1 v2) (fun q_3 => X_chill_j47 σ v1 v2 v3 q_3 q_2))
def X_chill_B15 (σ : PS) (v1 : Int32) : (Int32 × Int32) → Option ((Int32 × Int32) ⊕ (Int32 × PS)) := fun t => X_chill_l15 σ v1 t.1 t.2
def X_chill (σ : PS) (v1 : Int32) : Option (Int32 × PS) := bd (X_asksPiece σ v1) (fun q_4 => if q_4.1 = 0 then some ((-2), q_4.2) else loop (X_chill_B15 q_4.2 v1) fu ((-1), 0))
set_option maxHeartbeats 4000000 in
theorem kX_chill (l : Launch) {D : va_G} {ty : Nat → ClassId} {A : Nat → Prop} {o : Nat} {ad : Nat → Nat} {rs : va_W} {σ : PS} {σ' : PS} {v1 : Int32} {r : Int32} (hf : X_chill σ v1 = some (r, σ')) : KI l yX0_chill cX0_chill 4 .int 9 D ty A (wX ty o ad σ ++ rs) (wX ty o ad σ' ++ rs) [.ref o, .int v1] r := by
  refine KI.of (by decide) (Nat.le_of_ble_eq_true rfl) ?_
  intro p e R s m args below meth c Q C hR
  have C : Cx p R s m args c cX0_chill 4 RX0 D ty A 9 := C
  have hR : ∀ (v : Int32) (σ2 : PS), (v, σ2) = (r, σ') → ∀ (H : Heap) (locs : List Loc) (pc : Nat) (ls : Array Slot), Hw D A s H locs (wX ty o ad σ2 ++ rs) → narrow .int (.int v) = .int v → decode cX0_chill pc = .ok (.ireturn, 1) → W p l e R s m args below meth c H locs 0 0 Q (F0 m pc ls [.int v]) := by intro v σ2 e9; cases e9; exact hR
  have j58 : ∀ (σ : PS) (v2 : Int32) (H : Heap) (locs : List Loc) (ls : Array Slot), Hw D A s H locs (wX ty o ad σ ++ rs) → lv_has ls 4 [(2, .int v2)] → X_chill_j58 σ v2 = some (r, σ') → W p l e R s m args below meth c H locs 0 0 Q (F0 m 58 ls []) := by
    intro σ v2 H locs ls h hl hf
    unfold X_chill_j58 at hf
    refine lv_iload_n C.x C.b dX0_chill_58 rfl (lv_at hl 0 rfl) ?_
    exact hR _ _ (some_k hf) _ _ _ _ h rfl dX0_chill_59
  have l15 : ∀ (σ : PS) (n15 : Nat) (v2 : Int32) (v3 : Int32) (H : Heap) (locs : List Loc) (ls : Array Slot), Hw D A s H locs (wX ty o ad σ ++ rs) → lv_has ls 4 [(0, .ref o), (1, .int v1), (2, .int v2), (3, .int v3)] → loop (X_chill_B15 σ v1) n15 (v2, v3) = some (r, σ') → W p l e R s m args below meth c H locs 0 0 Q (F0 m 15 ls []) := by
    intro σ n15
    induction n15 with
    | zero => intro v2 v3 H locs ls h hl hf; exact (none_k hf).elim
    | succ n15 ih15 =>
      have j52 : ∀ (v2 : Int32) (v3 : Int32) (H : Heap) (locs : List Loc) (ls : Array Slot), Hw D A s H locs (wX ty o ad σ ++ rs) → lv_has ls 4 [(0, .ref o), (1, .int v1), (2, .int v2), (3, .int v3)] → bl (X_chill_B15 σ v1) n15 (X_chill_j52 σ v1 v2 v3) = some (r, σ') → W p l e R s m args below meth c H locs 0 0 Q (F0 m 52 ls []) := by
        intro v2 v3 H locs ls h hl hf
        unfold X_chill_j52 at hf
        obtain ⟨v3_1, e9, hf⟩ := nm_k (K := bl (X_chill_B15 σ v1) n15) hf
        refine lv_iinc (v := v3_1) (lv' := [(3, .int v3_1), (0, .ref o), (1, .int v1), (2, .int v2)]) C.x C.b dX0_chill_52 hl (k := 3) rfl (iinc_e (k := 1) (by decide) e9) (by decide) rfl (fun ls hl => ?_)
        refine lv_goto (tgt := 15) C.x C.b dX0_chill_55 (by decide) ?_
        exact ih15 v2 v3_1 _ _ _ h (lv_sub hl [1, 2, 3, 0] rfl) hf
      have j47 : ∀ (v2 : Int32) (v3 : Int32) (x0 : Int32) (x1 : Int32) (H : Heap) (locs : List Loc) (ls : Array Slot), Hw D A s H locs (wX ty o ad σ ++ rs) → lv_has ls 4 [(0, .ref o), (1, .int v1), (2, .int v2), (3, .int v3)] → bl (X_chill_B15 σ v1) n15 (X_chill_j47 σ v1 v2 v3 x0 x1) = some (r, σ') → W p l e R s m args below meth c H locs 0 0 Q (F0 m 47 ls [.int x0, .int x1]) := by
        intro v2 v3 x0 x1 H locs ls h hl hf
        unfold X_chill_j47 at hf
        refine lv_icmp_le (tgt := 52) C.x C.b dX0_chill_47 (by decide) (fun c9 => ?_) (fun c9 => ?_)
        · have hf := if_t (K := bl (X_chill_B15 σ v1) n15) c9 hf
          exact j52 v2 v3 _ _ _ h (lv_sub hl [0, 1, 2, 3] rfl) hf
        · have hf := if_f (K := bl (X_chill_B15 σ v1) n15) c9 hf
          refine lv_iload_n C.x C.b dX0_chill_50 rfl (lv_at hl 3 rfl) ?_
          refine lv_istore_n (lv' := [(2, .int v3), (0, .ref o), (1, .int v1), (3, .int v3)]) C.x C.b dX0_chill_51 rfl hl (by decide) rfl (fun ls hl => ?_)
          exact j52 v3 v3 _ _ _ h (lv_sub hl [1, 2, 0, 3] rfl) hf
      intro v2 v3 H locs ls h hl hf
      have hf : bl (X_chill_B15 σ v1) n15 (X_chill_l15 σ v1 v2 v3) = some (r, σ') := hf
      unfold X_chill_l15 at hf
      refine lv_iload_n C.x C.b dX0_chill_15 rfl (lv_at hl 3 rfl) ?_
      refine lv_aload_n C.x C.b dX0_chill_16 rfl (lv_at hl 0 rfl) ?_
      refine x_g0 C h dX0_chill_17 ?_
      refine x_g100 C h dX0_chill_20 ?_
      refine lv_icmp_ge (tgt := 58) C.x C.b dX0_chill_23 (by decide) (fun c9 => ?_) (fun c9 => ?_)
      · have hf := if_t (K := bl (X_chill_B15 σ v1) n15) c9 hf
        have hf := bl_upK (K := fun x => x) hf
        exact j58 σ v2 _ _ _ h (lv_sub hl [2] rfl) hf
      · have hf := if_f (K := bl (X_chill_B15 σ v1) n15) c9 hf
        refine lv_aload_n C.x C.b dX0_chill_26 rfl (lv_at hl 0 rfl) ?_
        refine lv_iload_n C.x C.b dX0_chill_27 rfl (lv_at hl 1 rfl) ?_
        refine lv_iload_n C.x C.b dX0_chill_28 rfl (lv_at hl 3 rfl) ?_
        obtain ⟨q_2, hc, hf⟩ := bd_k (K := bl (X_chill_B15 σ v1) n15) rfl hf
        refine cX_dropOf C h hc (Nat.le_of_ble_eq_true rfl) hl.1 (Nat.le_of_ble_eq_true rfl) dX0_chill_29 (fun H locs h => ?_)
        refine lv_iload_n C.x C.b dX0_chill_32 rfl (lv_at hl 2 rfl) ?_
        refine lv_iconst (v := (-1)) C.x C.b dX0_chill_33 (by decide) ?_
        refine lv_icmp_ne (tgt := 41) C.x C.b dX0_chill_34 (by decide) (fun c9 => ?_) (fun c9 => ?_)
        · have hf := if_f (K := bl (X_chill_B15 σ v1) n15) c9 hf
          refine lv_aload_n C.x C.b dX0_chill_41 rfl (lv_at hl 0 rfl) ?_
          refine lv_iload_n C.x C.b dX0_chill_42 rfl (lv_at hl 1 rfl) ?_
          refine lv_iload_n C.x C.b dX0_chill_43 rfl (lv_at hl 2 rfl) ?_
          obtain ⟨q_3, hc, hf⟩ := bd_k (K := bl (X_chill_B15 σ v1) n15) rfl hf
          refine cX_dropOf C h hc (Nat.le_of_ble_eq_true rfl) hl.1 (Nat.le_of_ble_eq_true rfl) dX0_chill_44 (fun H locs h => ?_)
          exact j47 v2 v3 q_3 q_2 _ _ _ h (lv_sub hl [0, 1, 2, 3] rfl) hf
        · have hf := if_t (K := bl (X_chill_B15 σ v1) n15) c9 hf
          refine lv_iconst (v := 0) C.x C.b dX0_chill_37 (by decide) ?_
          refine lv_goto (tgt := 47) C.x C.b dX0_chill_38 (by decide) ?_
          exact j47 v2 v3 0 q_2 _ _ _ h (lv_sub hl [0, 1, 2, 3] rfl) hf
  intro H locs ls h hl
  have hl : lv_has ls 4 [(0, .ref o), (1, .int v1)] := hl
  unfold X_chill at hf
  refine lv_aload_n C.x C.b dX0_chill_0 rfl (lv_at hl 0 rfl) ?_
  refine lv_iload_n C.x C.b dX0_chill_1 rfl (lv_at hl 1 rfl) ?_
  obtain ⟨q_4, hc, hf⟩ := bd_k (K := fun x => x) rfl hf
  refine cX_asksPiece C h hc (Nat.le_of_ble_eq_true rfl) hl.1 (Nat.le_of_ble_eq_true rfl) dX0_chill_2 (fun H locs h => ?_)
  refine lv_if_ne (tgt := 11) C.x C.b dX0_chill_5 (by decide) (fun c9 => ?_) (fun c9 => ?_)
  · have hf := if_f (K := fun x => x) c9 hf
    refine lv_iconst (v := (-1)) C.x C.b dX0_chill_11 (by decide) ?_
    refine lv_istore_n (lv' := [(2, .int ((-1))), (0, .ref o), (1, .int v1)]) C.x C.b dX0_chill_12 rfl hl (by decide) rfl (fun ls hl => ?_)
    refine lv_iconst (v := 0) C.x C.b dX0_chill_13 (by decide) ?_
    refine lv_istore_n (lv' := [(3, .int 0), (2, .int ((-1))), (0, .ref o), (1, .int v1)]) C.x C.b dX0_chill_14 rfl hl (by decide) rfl (fun ls hl => ?_)
    exact l15 q_4.2 fu ((-1)) 0 _ _ _ h (lv_sub hl [2, 3, 1, 0] rfl) hf
  · have hf := if_t (K := fun x => x) c9 hf
    refine lv_bipush (v := (-2)) C.x C.b dX0_chill_8 (by decide) ?_
    exact hR _ _ (some_k hf) _ _ _ _ h rfl dX0_chill_10
def X_drop_j28 (σ : PS) (x0 : Int32) : Option (Int32 × PS) := some (x0, σ)
def X_drop_j25 (σ : PS) : Option (Int32 × PS) := X_drop_j28 σ ((-100000))
def X_drop (σ : PS) (v1 : Int32) (v2 : Int32) : Option (Int32 × PS) := bd (X_asksPiece σ v1) (fun q_1 => if q_1.1 = 0 then X_drop_j25 q_1.2 else bd (X_isAhead q_1.2 v2) (fun q_2 => if q_2 = 0 then X_drop_j25 q_1.2 else bd (X_dropOf q_1.2 v1 v2) (fun q_3 => X_drop_j28 q_1.2 q_3)))
set_option maxHeartbeats 4000000 in
theorem kX_drop (l : Launch) {D : va_G} {ty : Nat → ClassId} {A : Nat → Prop} {o : Nat} {ad : Nat → Nat} {rs : va_W} {σ : PS} {σ' : PS} {v1 : Int32} {v2 : Int32} {r : Int32} (hf : X_drop σ v1 v2 = some (r, σ')) : KI l yX0_drop cX0_drop 3 .int 9 D ty A (wX ty o ad σ ++ rs) (wX ty o ad σ' ++ rs) [.ref o, .int v1, .int v2] r := by
  refine KI.of (by decide) (Nat.le_of_ble_eq_true rfl) ?_
  intro p e R s m args below meth c Q C hR
  have C : Cx p R s m args c cX0_drop 3 RX0 D ty A 9 := C
  have hR : ∀ (v : Int32) (σ2 : PS), (v, σ2) = (r, σ') → ∀ (H : Heap) (locs : List Loc) (pc : Nat) (ls : Array Slot), Hw D A s H locs (wX ty o ad σ2 ++ rs) → narrow .int (.int v) = .int v → decode cX0_drop pc = .ok (.ireturn, 1) → W p l e R s m args below meth c H locs 0 0 Q (F0 m pc ls [.int v]) := by intro v σ2 e9; cases e9; exact hR
  have j28 : ∀ (σ : PS) (x0 : Int32) (H : Heap) (locs : List Loc) (ls : Array Slot), Hw D A s H locs (wX ty o ad σ ++ rs) → lv_has ls 3 [] → X_drop_j28 σ x0 = some (r, σ') → W p l e R s m args below meth c H locs 0 0 Q (F0 m 28 ls [.int x0]) := by
    intro σ x0 H locs ls h hl hf
    unfold X_drop_j28 at hf
    exact hR _ _ (some_k hf) _ _ _ _ h rfl dX0_drop_28
  have j25 : ∀ (σ : PS) (H : Heap) (locs : List Loc) (ls : Array Slot), Hw D A s H locs (wX ty o ad σ ++ rs) → lv_has ls 3 [] → X_drop_j25 σ = some (r, σ') → W p l e R s m args below meth c H locs 0 0 Q (F0 m 25 ls []) := by
    intro σ H locs ls h hl hf
    unfold X_drop_j25 at hf
    refine lv_ldcw (v := (-100000)) C.x C.b C.own (C.ts _ q1030) dX0_drop_25 ?_
    exact j28 σ ((-100000)) _ _ _ h (lv_sub hl [] rfl) hf
  intro H locs ls h hl
  have hl : lv_has ls 3 [(0, .ref o), (1, .int v1), (2, .int v2)] := hl
  unfold X_drop at hf
  refine lv_aload_n C.x C.b dX0_drop_0 rfl (lv_at hl 0 rfl) ?_
  refine lv_iload_n C.x C.b dX0_drop_1 rfl (lv_at hl 1 rfl) ?_
  obtain ⟨q_1, hc, hf⟩ := bd_k (K := fun x => x) rfl hf
  refine cX_asksPiece C h hc (Nat.le_of_ble_eq_true rfl) hl.1 (Nat.le_of_ble_eq_true rfl) dX0_drop_2 (fun H locs h => ?_)
  refine lv_if_eq (tgt := 25) C.x C.b dX0_drop_5 (by decide) (fun c9 => ?_) (fun c9 => ?_)
  · have hf := if_t (K := fun x => x) c9 hf
    exact j25 q_1.2 _ _ _ h (lv_sub hl [] rfl) hf
  · have hf := if_f (K := fun x => x) c9 hf
    refine lv_aload_n C.x C.b dX0_drop_8 rfl (lv_at hl 0 rfl) ?_
    refine lv_iload_n C.x C.b dX0_drop_9 rfl (lv_at hl 2 rfl) ?_
    obtain ⟨q_2, hc, hf⟩ := bd_k (K := fun x => x) rfl hf
    refine cX_isAhead C h hc (Nat.le_of_ble_eq_true rfl) hl.1 (Nat.le_of_ble_eq_true rfl) dX0_drop_10 (fun H locs h => ?_)
    refine lv_if_eq (tgt := 25) C.x C.b dX0_drop_13 (by decide) (fun c9 => ?_) (fun c9 => ?_)
    · have hf := if_t (K := fun x => x) c9 hf
      exact j25 q_1.2 _ _ _ h (lv_sub hl [] rfl) hf
    · have hf := if_f (K := fun x => x) c9 hf
      refine lv_aload_n C.x C.b dX0_drop_16 rfl (lv_at hl 0 rfl) ?_
      refine lv_iload_n C.x C.b dX0_drop_17 rfl (lv_at hl 1 rfl) ?_
      refine lv_iload_n C.x C.b dX0_drop_18 rfl (lv_at hl 2 rfl) ?_
      obtain ⟨q_3, hc, hf⟩ := bd_k (K := fun x => x) rfl hf
      refine cX_dropOf C h hc (Nat.le_of_ble_eq_true rfl) hl.1 (Nat.le_of_ble_eq_true rfl) dX0_drop_19 (fun H locs h => ?_)
      refine lv_goto (tgt := 28) C.x C.b dX0_drop_22 (by decide) ?_
      exact j28 q_1.2 q_3 _ _ _ h (lv_sub hl [] rfl) hf
def X_gaps_j60 (σ : PS) (v2 : Int32) : Option (Int32 × PS) := some (v2, σ)
def X_gaps_j52 (σ : PS) (v1 : Int32) (v3 : Int32) (x0 : Int32) (x1 : Int32) : Option ((Int32 × Int32) ⊕ (Int32 × PS)) := nm (x1 + x0) (fun v2_1 => nm (v3 + 1) (fun v3_2 => some (.inl (v2_1, v3_2))))
def X_gaps_l15 (σ : PS) (v1 : Int32) (v2 : Int32) (v3 : Int32) : Option ((Int32 × Int32) ⊕ (Int32 × PS)) := if (gI σ 100) < v3 then up (X_gaps_j60 σ v2) else bd (X_strainOf σ v1 v3) (fun q_3 => ix v1 6 (if q_3 ≤ ((rA σ 112 v1) / 2) then X_gaps_j52 σ v1 v3 0 v2 else X_gaps_j52 σ v1 v3 1 v2))
def X_gaps_B15 (σ : PS) (v1 : Int32) : (Int32 × Int32) → Option ((Int32 × Int32) ⊕ (Int32 × PS)) := fun t => X_gaps_l15 σ v1 t.1 t.2
def X_gaps (σ : PS) (v1 : Int32) : Option (Int32 × PS) := bd (X_asksPiece σ v1) (fun q_4 => if q_4.1 = 0 then some ((-2), q_4.2) else loop (X_gaps_B15 q_4.2 v1) fu (0, 0))
set_option maxHeartbeats 4000000 in
theorem kX_gaps (l : Launch) {D : va_G} {ty : Nat → ClassId} {A : Nat → Prop} {o : Nat} {ad : Nat → Nat} {rs : va_W} {σ : PS} {σ' : PS} {v1 : Int32} {r : Int32} (hf : X_gaps σ v1 = some (r, σ')) : KI l yX0_gaps cX0_gaps 4 .int 9 D ty A (wX ty o ad σ ++ rs) (wX ty o ad σ' ++ rs) [.ref o, .int v1] r := by
  refine KI.of (by decide) (Nat.le_of_ble_eq_true rfl) ?_
  intro p e R s m args below meth c Q C hR
  have C : Cx p R s m args c cX0_gaps 4 RX0 D ty A 9 := C
  have hR : ∀ (v : Int32) (σ2 : PS), (v, σ2) = (r, σ') → ∀ (H : Heap) (locs : List Loc) (pc : Nat) (ls : Array Slot), Hw D A s H locs (wX ty o ad σ2 ++ rs) → narrow .int (.int v) = .int v → decode cX0_gaps pc = .ok (.ireturn, 1) → W p l e R s m args below meth c H locs 0 0 Q (F0 m pc ls [.int v]) := by intro v σ2 e9; cases e9; exact hR
  have j60 : ∀ (σ : PS) (v2 : Int32) (H : Heap) (locs : List Loc) (ls : Array Slot), Hw D A s H locs (wX ty o ad σ ++ rs) → lv_has ls 4 [(2, .int v2)] → X_gaps_j60 σ v2 = some (r, σ') → W p l e R s m args below meth c H locs 0 0 Q (F0 m 60 ls []) := by
    intro σ v2 H locs ls h hl hf
    unfold X_gaps_j60 at hf
    refine lv_iload_n C.x C.b dX0_gaps_60 rfl (lv_at hl 0 rfl) ?_
    exact hR _ _ (some_k hf) _ _ _ _ h rfl dX0_gaps_61
  have l15 : ∀ (σ : PS) (n15 : Nat) (v2 : Int32) (v3 : Int32) (H : Heap) (locs : List Loc) (ls : Array Slot), Hw D A s H locs (wX ty o ad σ ++ rs) → lv_has ls 4 [(0, .ref o), (1, .int v1), (2, .int v2), (3, .int v3)] → loop (X_gaps_B15 σ v1) n15 (v2, v3) = some (r, σ') → W p l e R s m args below meth c H locs 0 0 Q (F0 m 15 ls []) := by
    intro σ n15
    induction n15 with
    | zero => intro v2 v3 H locs ls h hl hf; exact (none_k hf).elim
    | succ n15 ih15 =>
      have j52 : ∀ (v3 : Int32) (x0 : Int32) (x1 : Int32) (H : Heap) (locs : List Loc) (ls : Array Slot), Hw D A s H locs (wX ty o ad σ ++ rs) → lv_has ls 4 [(0, .ref o), (1, .int v1), (3, .int v3)] → bl (X_gaps_B15 σ v1) n15 (X_gaps_j52 σ v1 v3 x0 x1) = some (r, σ') → W p l e R s m args below meth c H locs 0 0 Q (F0 m 52 ls [.int x0, .int x1]) := by
        intro v3 x0 x1 H locs ls h hl hf
        unfold X_gaps_j52 at hf
        refine lv_iadd C.x C.b dX0_gaps_52 ?_
        obtain ⟨v2_1, e9, hf⟩ := nm_k (K := bl (X_gaps_B15 σ v1) n15) hf
        refine lv_topI e9 ?_
        refine lv_istore_n (lv' := [(2, .int v2_1), (0, .ref o), (1, .int v1), (3, .int v3)]) C.x C.b dX0_gaps_53 rfl hl (by decide) rfl (fun ls hl => ?_)
        obtain ⟨v3_2, e9, hf⟩ := nm_k (K := bl (X_gaps_B15 σ v1) n15) hf
        refine lv_iinc (v := v3_2) (lv' := [(3, .int v3_2), (2, .int v2_1), (0, .ref o), (1, .int v1)]) C.x C.b dX0_gaps_54 hl (k := 3) rfl (iinc_e (k := 1) (by decide) e9) (by decide) rfl (fun ls hl => ?_)
        refine lv_goto (tgt := 15) C.x C.b dX0_gaps_57 (by decide) ?_
        exact ih15 v2_1 v3_2 _ _ _ h (lv_sub hl [2, 3, 1, 0] rfl) hf
      intro v2 v3 H locs ls h hl hf
      have hf : bl (X_gaps_B15 σ v1) n15 (X_gaps_l15 σ v1 v2 v3) = some (r, σ') := hf
      unfold X_gaps_l15 at hf
      refine lv_iload_n C.x C.b dX0_gaps_15 rfl (lv_at hl 3 rfl) ?_
      refine lv_aload_n C.x C.b dX0_gaps_16 rfl (lv_at hl 0 rfl) ?_
      refine x_g0 C h dX0_gaps_17 ?_
      refine x_g100 C h dX0_gaps_20 ?_
      refine lv_icmp_gt (tgt := 60) C.x C.b dX0_gaps_23 (by decide) (fun c9 => ?_) (fun c9 => ?_)
      · have hf := if_t (K := bl (X_gaps_B15 σ v1) n15) c9 hf
        have hf := bl_upK (K := fun x => x) hf
        exact j60 σ v2 _ _ _ h (lv_sub hl [2] rfl) hf
      · have hf := if_f (K := bl (X_gaps_B15 σ v1) n15) c9 hf
        refine lv_iload_n C.x C.b dX0_gaps_26 rfl (lv_at hl 2 rfl) ?_
        refine lv_aload_n C.x C.b dX0_gaps_27 rfl (lv_at hl 0 rfl) ?_
        refine lv_iload_n C.x C.b dX0_gaps_28 rfl (lv_at hl 1 rfl) ?_
        refine lv_iload_n C.x C.b dX0_gaps_29 rfl (lv_at hl 3 rfl) ?_
        obtain ⟨q_3, hc, hf⟩ := bd_k (K := bl (X_gaps_B15 σ v1) n15) rfl hf
        refine cX_strainOf C h hc (Nat.le_of_ble_eq_true rfl) hl.1 (Nat.le_of_ble_eq_true rfl) dX0_gaps_30 (fun H locs h => ?_)
        refine lv_aload_n C.x C.b dX0_gaps_33 rfl (lv_at hl 0 rfl) ?_
        refine x_g0 C h dX0_gaps_34 ?_
        refine x_g112 C h dX0_gaps_37 ?_
        refine lv_iload_n C.x C.b dX0_gaps_40 rfl (lv_at hl 1 rfl) ?_
        obtain ⟨hi, hf⟩ := ix_k (K := bl (X_gaps_B15 σ v1) n15) rfl hf
        refine x_a112 C h hi dX0_gaps_41 ?_
        refine lv_iconst (v := 2) C.x C.b dX0_gaps_42 (by decide) ?_
        refine lv_idiv C.x C.b dX0_gaps_43 (by decide) ?_
        refine lv_icmp_le (tgt := 51) C.x C.b dX0_gaps_44 (by decide) (fun c9 => ?_) (fun c9 => ?_)
        · have hf := if_t (K := bl (X_gaps_B15 σ v1) n15) c9 hf
          refine lv_iconst (v := 0) C.x C.b dX0_gaps_51 (by decide) ?_
          exact j52 v3 0 v2 _ _ _ h (lv_sub hl [0, 1, 3] rfl) hf
        · have hf := if_f (K := bl (X_gaps_B15 σ v1) n15) c9 hf
          refine lv_iconst (v := 1) C.x C.b dX0_gaps_47 (by decide) ?_
          refine lv_goto (tgt := 52) C.x C.b dX0_gaps_48 (by decide) ?_
          exact j52 v3 1 v2 _ _ _ h (lv_sub hl [0, 1, 3] rfl) hf
  intro H locs ls h hl
  have hl : lv_has ls 4 [(0, .ref o), (1, .int v1)] := hl
  unfold X_gaps at hf
  refine lv_aload_n C.x C.b dX0_gaps_0 rfl (lv_at hl 0 rfl) ?_
  refine lv_iload_n C.x C.b dX0_gaps_1 rfl (lv_at hl 1 rfl) ?_
  obtain ⟨q_4, hc, hf⟩ := bd_k (K := fun x => x) rfl hf
  refine cX_asksPiece C h hc (Nat.le_of_ble_eq_true rfl) hl.1 (Nat.le_of_ble_eq_true rfl) dX0_gaps_2 (fun H locs h => ?_)
  refine lv_if_ne (tgt := 11) C.x C.b dX0_gaps_5 (by decide) (fun c9 => ?_) (fun c9 => ?_)
  · have hf := if_f (K := fun x => x) c9 hf
    refine lv_iconst (v := 0) C.x C.b dX0_gaps_11 (by decide) ?_
    refine lv_istore_n (lv' := [(2, .int 0), (0, .ref o), (1, .int v1)]) C.x C.b dX0_gaps_12 rfl hl (by decide) rfl (fun ls hl => ?_)
    refine lv_iconst (v := 0) C.x C.b dX0_gaps_13 (by decide) ?_
    refine lv_istore_n (lv' := [(3, .int 0), (2, .int 0), (0, .ref o), (1, .int v1)]) C.x C.b dX0_gaps_14 rfl hl (by decide) rfl (fun ls hl => ?_)
    exact l15 q_4.2 fu 0 0 _ _ _ h (lv_sub hl [2, 3, 1, 0] rfl) hf
  · have hf := if_t (K := fun x => x) c9 hf
    refine lv_bipush (v := (-2)) C.x C.b dX0_gaps_8 (by decide) ?_
    exact hR _ _ (some_k hf) _ _ _ _ h rfl dX0_gaps_10
def X_tally_j57 (σ : PS) (v2 : Int32) : Option (Int32 × PS) := some (v2, σ)
def X_tally_j49 (σ : PS) (v1 : Int32) (v3 : Int32) (x0 : Int32) (x1 : Int32) : Option ((Int32 × Int32) ⊕ (Int32 × PS)) := nm (x1 + x0) (fun v2_1 => nm (v3 + 1) (fun v3_2 => some (.inl (v2_1, v3_2))))
def X_tally_l22 (σ : PS) (v1 : Int32) (v2 : Int32) (v3 : Int32) : Option ((Int32 × Int32) ⊕ (Int32 × PS)) := if (gI σ 107) ≤ v3 then up (X_tally_j57 σ v2) else ix v3 6 (if (rA σ 21 v3) = v1 then X_tally_j49 σ v1 v3 1 v2 else X_tally_j49 σ v1 v3 0 v2)
def X_tally_B22 (σ : PS) (v1 : Int32) : (Int32 × Int32) → Option ((Int32 × Int32) ⊕ (Int32 × PS)) := fun t => X_tally_l22 σ v1 t.1 t.2
def X_tally_j15 (σ : PS) : Option (Int32 × PS) := some ((-2), σ)
def X_tally (σ : PS) (v1 : Int32) : Option (Int32 × PS) := bd (X_asksLehr σ) (fun q_3 => if q_3.1 = 0 then X_tally_j15 q_3.2 else bd (X_isOneOf v1 3) (fun q_4 => if q_4 = 0 then X_tally_j15 q_3.2 else loop (X_tally_B22 q_3.2 v1) fu (0, 0)))
set_option maxHeartbeats 4000000 in
theorem kX_tally (l : Launch) {D : va_G} {ty : Nat → ClassId} {A : Nat → Prop} {o : Nat} {ad : Nat → Nat} {rs : va_W} {σ : PS} {σ' : PS} {v1 : Int32} {r : Int32} (hf : X_tally σ v1 = some (r, σ')) : KI l yX0_tally cX0_tally 4 .int 8 D ty A (wX ty o ad σ ++ rs) (wX ty o ad σ' ++ rs) [.ref o, .int v1] r := by
  refine KI.of (by decide) (Nat.le_of_ble_eq_true rfl) ?_
  intro p e R s m args below meth c Q C hR
  have C : Cx p R s m args c cX0_tally 4 RX0 D ty A 8 := C
  have hR : ∀ (v : Int32) (σ2 : PS), (v, σ2) = (r, σ') → ∀ (H : Heap) (locs : List Loc) (pc : Nat) (ls : Array Slot), Hw D A s H locs (wX ty o ad σ2 ++ rs) → narrow .int (.int v) = .int v → decode cX0_tally pc = .ok (.ireturn, 1) → W p l e R s m args below meth c H locs 0 0 Q (F0 m pc ls [.int v]) := by intro v σ2 e9; cases e9; exact hR
  have j57 : ∀ (σ : PS) (v2 : Int32) (H : Heap) (locs : List Loc) (ls : Array Slot), Hw D A s H locs (wX ty o ad σ ++ rs) → lv_has ls 4 [(2, .int v2)] → X_tally_j57 σ v2 = some (r, σ') → W p l e R s m args below meth c H locs 0 0 Q (F0 m 57 ls []) := by
    intro σ v2 H locs ls h hl hf
    unfold X_tally_j57 at hf
    refine lv_iload_n C.x C.b dX0_tally_57 rfl (lv_at hl 0 rfl) ?_
    exact hR _ _ (some_k hf) _ _ _ _ h rfl dX0_tally_58
  have l22 : ∀ (σ : PS) (n22 : Nat) (v2 : Int32) (v3 : Int32) (H : Heap) (locs : List Loc) (ls : Array Slot), Hw D A s H locs (wX ty o ad σ ++ rs) → lv_has ls 4 [(0, .ref o), (1, .int v1), (2, .int v2), (3, .int v3)] → loop (X_tally_B22 σ v1) n22 (v2, v3) = some (r, σ') → W p l e R s m args below meth c H locs 0 0 Q (F0 m 22 ls []) := by
    intro σ n22
    induction n22 with
    | zero => intro v2 v3 H locs ls h hl hf; exact (none_k hf).elim
    | succ n22 ih22 =>
      have j49 : ∀ (v3 : Int32) (x0 : Int32) (x1 : Int32) (H : Heap) (locs : List Loc) (ls : Array Slot), Hw D A s H locs (wX ty o ad σ ++ rs) → lv_has ls 4 [(0, .ref o), (1, .int v1), (3, .int v3)] → bl (X_tally_B22 σ v1) n22 (X_tally_j49 σ v1 v3 x0 x1) = some (r, σ') → W p l e R s m args below meth c H locs 0 0 Q (F0 m 49 ls [.int x0, .int x1]) := by
        intro v3 x0 x1 H locs ls h hl hf
        unfold X_tally_j49 at hf
        refine lv_iadd C.x C.b dX0_tally_49 ?_
        obtain ⟨v2_1, e9, hf⟩ := nm_k (K := bl (X_tally_B22 σ v1) n22) hf
        refine lv_topI e9 ?_
        refine lv_istore_n (lv' := [(2, .int v2_1), (0, .ref o), (1, .int v1), (3, .int v3)]) C.x C.b dX0_tally_50 rfl hl (by decide) rfl (fun ls hl => ?_)
        obtain ⟨v3_2, e9, hf⟩ := nm_k (K := bl (X_tally_B22 σ v1) n22) hf
        refine lv_iinc (v := v3_2) (lv' := [(3, .int v3_2), (2, .int v2_1), (0, .ref o), (1, .int v1)]) C.x C.b dX0_tally_51 hl (k := 3) rfl (iinc_e (k := 1) (by decide) e9) (by decide) rfl (fun ls hl => ?_)
        refine lv_goto (tgt := 22) C.x C.b dX0_tally_54 (by decide) ?_
        exact ih22 v2_1 v3_2 _ _ _ h (lv_sub hl [2, 3, 1, 0] rfl) hf
      intro v2 v3 H locs ls h hl hf
      have hf : bl (X_tally_B22 σ v1) n22 (X_tally_l22 σ v1 v2 v3) = some (r, σ') := hf
      unfold X_tally_l22 at hf
      refine lv_iload_n C.x C.b dX0_tally_22 rfl (lv_at hl 3 rfl) ?_
      refine lv_aload_n C.x C.b dX0_tally_23 rfl (lv_at hl 0 rfl) ?_
      refine x_g0 C h dX0_tally_24 ?_
      refine x_g107 C h dX0_tally_27 ?_
      refine lv_icmp_ge (tgt := 57) C.x C.b dX0_tally_30 (by decide) (fun c9 => ?_) (fun c9 => ?_)
      · have hf := if_t (K := bl (X_tally_B22 σ v1) n22) c9 hf
        have hf := bl_upK (K := fun x => x) hf
        exact j57 σ v2 _ _ _ h (lv_sub hl [2] rfl) hf
      · have hf := if_f (K := bl (X_tally_B22 σ v1) n22) c9 hf
        refine lv_iload_n C.x C.b dX0_tally_33 rfl (lv_at hl 2 rfl) ?_
        refine lv_aload_n C.x C.b dX0_tally_34 rfl (lv_at hl 0 rfl) ?_
        refine x_g21 C h dX0_tally_35 ?_
        refine lv_iload_n C.x C.b dX0_tally_38 rfl (lv_at hl 3 rfl) ?_
        obtain ⟨hi, hf⟩ := ix_k (K := bl (X_tally_B22 σ v1) n22) rfl hf
        refine x_a21 C h hi dX0_tally_39 ?_
        refine lv_iload_n C.x C.b dX0_tally_40 rfl (lv_at hl 1 rfl) ?_
        refine lv_icmp_ne (tgt := 48) C.x C.b dX0_tally_41 (by decide) (fun c9 => ?_) (fun c9 => ?_)
        · have hf := if_f (K := bl (X_tally_B22 σ v1) n22) c9 hf
          refine lv_iconst (v := 0) C.x C.b dX0_tally_48 (by decide) ?_
          exact j49 v3 0 v2 _ _ _ h (lv_sub hl [0, 1, 3] rfl) hf
        · have hf := if_t (K := bl (X_tally_B22 σ v1) n22) c9 hf
          refine lv_iconst (v := 1) C.x C.b dX0_tally_44 (by decide) ?_
          refine lv_goto (tgt := 49) C.x C.b dX0_tally_45 (by decide) ?_
          exact j49 v3 1 v2 _ _ _ h (lv_sub hl [0, 1, 3] rfl) hf
  have j15 : ∀ (σ : PS) (H : Heap) (locs : List Loc) (ls : Array Slot), Hw D A s H locs (wX ty o ad σ ++ rs) → lv_has ls 4 [] → X_tally_j15 σ = some (r, σ') → W p l e R s m args below meth c H locs 0 0 Q (F0 m 15 ls []) := by
    intro σ H locs ls h hl hf
    unfold X_tally_j15 at hf
    refine lv_bipush (v := (-2)) C.x C.b dX0_tally_15 (by decide) ?_
    exact hR _ _ (some_k hf) _ _ _ _ h rfl dX0_tally_17
  intro H locs ls h hl
  have hl : lv_has ls 4 [(0, .ref o), (1, .int v1)] := hl
  unfold X_tally at hf
  refine lv_aload_n C.x C.b dX0_tally_0 rfl (lv_at hl 0 rfl) ?_
  obtain ⟨q_3, hc, hf⟩ := bd_k (K := fun x => x) rfl hf
  refine cX_asksLehr C h hc (Nat.le_of_ble_eq_true rfl) hl.1 (Nat.le_of_ble_eq_true rfl) dX0_tally_1 (fun H locs h => ?_)
  refine lv_if_eq (tgt := 15) C.x C.b dX0_tally_4 (by decide) (fun c9 => ?_) (fun c9 => ?_)
  · have hf := if_t (K := fun x => x) c9 hf
    exact j15 q_3.2 _ _ _ h (lv_sub hl [] rfl) hf
  · have hf := if_f (K := fun x => x) c9 hf
    refine lv_iload_n C.x C.b dX0_tally_7 rfl (lv_at hl 1 rfl) ?_
    refine lv_iconst (v := 3) C.x C.b dX0_tally_8 (by decide) ?_
    obtain ⟨q_4, hc, hf⟩ := bd_k (K := fun x => x) rfl hf
    refine cX_isOneOf C h hc (Nat.le_of_ble_eq_true rfl) hl.1 (Nat.le_of_ble_eq_true rfl) dX0_tally_9 (fun H locs h => ?_)
    refine lv_if_ne (tgt := 18) C.x C.b dX0_tally_12 (by decide) (fun c9 => ?_) (fun c9 => ?_)
    · have hf := if_f (K := fun x => x) c9 hf
      refine lv_iconst (v := 0) C.x C.b dX0_tally_18 (by decide) ?_
      refine lv_istore_n (lv' := [(2, .int 0), (0, .ref o), (1, .int v1)]) C.x C.b dX0_tally_19 rfl hl (by decide) rfl (fun ls hl => ?_)
      refine lv_iconst (v := 0) C.x C.b dX0_tally_20 (by decide) ?_
      refine lv_istore_n (lv' := [(3, .int 0), (2, .int 0), (0, .ref o), (1, .int v1)]) C.x C.b dX0_tally_21 rfl hl (by decide) rfl (fun ls hl => ?_)
      exact l22 q_3.2 fu 0 0 _ _ _ h (lv_sub hl [2, 3, 1, 0] rfl) hf
    · have hf := if_t (K := fun x => x) c9 hf
      exact j15 q_3.2 _ _ _ h (lv_sub hl [] rfl) hf
def X_last_j45 (σ : PS) (v2 : Int32) : Option (Int32 × PS) := some (v2, σ)
def X_last_l26 (σ : PS) (v1 : Int32) (v2 : Int32) : Option ((Int32) ⊕ (Int32 × PS)) := if v2 < 0 then up (X_last_j45 σ v2) else bd (X_insideOf σ v1 v2) (fun q_1 => if q_1 = 0 then nm (v2 + (-1)) (fun v2_2 => some (.inl (v2_2))) else up (X_last_j45 σ v2))
def X_last_B26 (σ : PS) (v1 : Int32) : (Int32) → Option ((Int32) ⊕ (Int32 × PS)) := fun t => X_last_l26 σ v1 t
def X_last_j15 (σ : PS) : Option (Int32 × PS) := some ((-2), σ)
def X_last (σ : PS) (v1 : Int32) : Option (Int32 × PS) := bd (X_asksLehr σ) (fun q_3 => if q_3.1 = 0 then X_last_j15 q_3.2 else bd (X_isZone q_3.2 v1) (fun q_4 => if q_4 = 0 then X_last_j15 q_3.2 else nm (gI q_3.2 100) (fun v2_5 => loop (X_last_B26 q_3.2 v1) fu (v2_5))))
set_option maxHeartbeats 4000000 in
theorem kX_last (l : Launch) {D : va_G} {ty : Nat → ClassId} {A : Nat → Prop} {o : Nat} {ad : Nat → Nat} {rs : va_W} {σ : PS} {σ' : PS} {v1 : Int32} {r : Int32} (hf : X_last σ v1 = some (r, σ')) : KI l yX0_last cX0_last 3 .int 8 D ty A (wX ty o ad σ ++ rs) (wX ty o ad σ' ++ rs) [.ref o, .int v1] r := by
  refine KI.of (by decide) (Nat.le_of_ble_eq_true rfl) ?_
  intro p e R s m args below meth c Q C hR
  have C : Cx p R s m args c cX0_last 3 RX0 D ty A 8 := C
  have hR : ∀ (v : Int32) (σ2 : PS), (v, σ2) = (r, σ') → ∀ (H : Heap) (locs : List Loc) (pc : Nat) (ls : Array Slot), Hw D A s H locs (wX ty o ad σ2 ++ rs) → narrow .int (.int v) = .int v → decode cX0_last pc = .ok (.ireturn, 1) → W p l e R s m args below meth c H locs 0 0 Q (F0 m pc ls [.int v]) := by intro v σ2 e9; cases e9; exact hR
  have j45 : ∀ (σ : PS) (v2 : Int32) (H : Heap) (locs : List Loc) (ls : Array Slot), Hw D A s H locs (wX ty o ad σ ++ rs) → lv_has ls 3 [(2, .int v2)] → X_last_j45 σ v2 = some (r, σ') → W p l e R s m args below meth c H locs 0 0 Q (F0 m 45 ls []) := by
    intro σ v2 H locs ls h hl hf
    unfold X_last_j45 at hf
    refine lv_iload_n C.x C.b dX0_last_45 rfl (lv_at hl 0 rfl) ?_
    exact hR _ _ (some_k hf) _ _ _ _ h rfl dX0_last_46
  have l26 : ∀ (σ : PS) (n26 : Nat) (v2 : Int32) (H : Heap) (locs : List Loc) (ls : Array Slot), Hw D A s H locs (wX ty o ad σ ++ rs) → lv_has ls 3 [(0, .ref o), (1, .int v1), (2, .int v2)] → loop (X_last_B26 σ v1) n26 (v2) = some (r, σ') → W p l e R s m args below meth c H locs 0 0 Q (F0 m 26 ls []) := by
    intro σ n26
    induction n26 with
    | zero => intro v2 H locs ls h hl hf; exact (none_k hf).elim
    | succ n26 ih26 =>
      intro v2 H locs ls h hl hf
      have hf : bl (X_last_B26 σ v1) n26 (X_last_l26 σ v1 v2) = some (r, σ') := hf
      unfold X_last_l26 at hf
      refine lv_iload_n C.x C.b dX0_last_26 rfl (lv_at hl 2 rfl) ?_
      refine lv_if_lt (tgt := 45) C.x C.b dX0_last_27 (by decide) (fun c9 => ?_) (fun c9 => ?_)
      · have hf := if_t (K := bl (X_last_B26 σ v1) n26) c9 hf
        have hf := bl_upK (K := fun x => x) hf
        exact j45 σ v2 _ _ _ h (lv_sub hl [2] rfl) hf
      · have hf := if_f (K := bl (X_last_B26 σ v1) n26) c9 hf
        refine lv_aload_n C.x C.b dX0_last_30 rfl (lv_at hl 0 rfl) ?_
        refine lv_iload_n C.x C.b dX0_last_31 rfl (lv_at hl 1 rfl) ?_
        refine lv_iload_n C.x C.b dX0_last_32 rfl (lv_at hl 2 rfl) ?_
        obtain ⟨q_1, hc, hf⟩ := bd_k (K := bl (X_last_B26 σ v1) n26) rfl hf
        refine cX_insideOf C h hc (Nat.le_of_ble_eq_true rfl) hl.1 (Nat.le_of_ble_eq_true rfl) dX0_last_33 (fun H locs h => ?_)
        refine lv_if_ne (tgt := 45) C.x C.b dX0_last_36 (by decide) (fun c9 => ?_) (fun c9 => ?_)
        · have hf := if_f (K := bl (X_last_B26 σ v1) n26) c9 hf
          have hf := bl_upK (K := fun x => x) hf
          exact j45 σ v2 _ _ _ h (lv_sub hl [2] rfl) hf
        · have hf := if_t (K := bl (X_last_B26 σ v1) n26) c9 hf
          obtain ⟨v2_2, e9, hf⟩ := nm_k (K := bl (X_last_B26 σ v1) n26) hf
          refine lv_iinc (v := v2_2) (lv' := [(2, .int v2_2), (0, .ref o), (1, .int v1)]) C.x C.b dX0_last_39 hl (k := 2) rfl (iinc_e (k := (-1)) (by decide) e9) (by decide) rfl (fun ls hl => ?_)
          refine lv_goto (tgt := 26) C.x C.b dX0_last_42 (by decide) ?_
          exact ih26 v2_2 _ _ _ h (lv_sub hl [1, 2, 0] rfl) hf
  have j15 : ∀ (σ : PS) (H : Heap) (locs : List Loc) (ls : Array Slot), Hw D A s H locs (wX ty o ad σ ++ rs) → lv_has ls 3 [] → X_last_j15 σ = some (r, σ') → W p l e R s m args below meth c H locs 0 0 Q (F0 m 15 ls []) := by
    intro σ H locs ls h hl hf
    unfold X_last_j15 at hf
    refine lv_bipush (v := (-2)) C.x C.b dX0_last_15 (by decide) ?_
    exact hR _ _ (some_k hf) _ _ _ _ h rfl dX0_last_17
  intro H locs ls h hl
  have hl : lv_has ls 3 [(0, .ref o), (1, .int v1)] := hl
  unfold X_last at hf
  refine lv_aload_n C.x C.b dX0_last_0 rfl (lv_at hl 0 rfl) ?_
  obtain ⟨q_3, hc, hf⟩ := bd_k (K := fun x => x) rfl hf
  refine cX_asksLehr C h hc (Nat.le_of_ble_eq_true rfl) hl.1 (Nat.le_of_ble_eq_true rfl) dX0_last_1 (fun H locs h => ?_)
  refine lv_if_eq (tgt := 15) C.x C.b dX0_last_4 (by decide) (fun c9 => ?_) (fun c9 => ?_)
  · have hf := if_t (K := fun x => x) c9 hf
    exact j15 q_3.2 _ _ _ h (lv_sub hl [] rfl) hf
  · have hf := if_f (K := fun x => x) c9 hf
    refine lv_aload_n C.x C.b dX0_last_7 rfl (lv_at hl 0 rfl) ?_
    refine lv_iload_n C.x C.b dX0_last_8 rfl (lv_at hl 1 rfl) ?_
    obtain ⟨q_4, hc, hf⟩ := bd_k (K := fun x => x) rfl hf
    refine cX_isZone C h hc (Nat.le_of_ble_eq_true rfl) hl.1 (Nat.le_of_ble_eq_true rfl) dX0_last_9 (fun H locs h => ?_)
    refine lv_if_ne (tgt := 18) C.x C.b dX0_last_12 (by decide) (fun c9 => ?_) (fun c9 => ?_)
    · have hf := if_f (K := fun x => x) c9 hf
      refine lv_aload_n C.x C.b dX0_last_18 rfl (lv_at hl 0 rfl) ?_
      refine x_g0 C h dX0_last_19 ?_
      refine x_g100 C h dX0_last_22 ?_
      obtain ⟨v2_5, e9, hf⟩ := nm_k (K := fun x => x) hf
      refine lv_topI e9 ?_
      refine lv_istore_n (lv' := [(2, .int v2_5), (0, .ref o), (1, .int v1)]) C.x C.b dX0_last_25 rfl hl (by decide) rfl (fun ls hl => ?_)
      exact l26 q_3.2 fu v2_5 _ _ _ h (lv_sub hl [1, 2, 0] rfl) hf
    · have hf := if_t (K := fun x => x) c9 hf
      exact j15 q_3.2 _ _ _ h (lv_sub hl [] rfl) hf
def X_busy_j25 (σ : PS) (x0 : Int32) : Option (Int32 × PS) := some (x0, σ)
def X_busy_j23 (σ : PS) : Option (Int32 × PS) := X_busy_j25 σ ((-2))
def X_busy (σ : PS) (v1 : Int32) : Option (Int32 × PS) := bd (X_asksLehr σ) (fun q_1 => if q_1.1 = 0 then X_busy_j23 q_1.2 else bd (X_isZone q_1.2 v1) (fun q_2 => if q_2 = 0 then X_busy_j23 q_1.2 else bd (X_busyOf q_1.2 v1) (fun q_3 => X_busy_j25 q_1.2 q_3)))
set_option maxHeartbeats 4000000 in
theorem kX_busy (l : Launch) {D : va_G} {ty : Nat → ClassId} {A : Nat → Prop} {o : Nat} {ad : Nat → Nat} {rs : va_W} {σ : PS} {σ' : PS} {v1 : Int32} {r : Int32} (hf : X_busy σ v1 = some (r, σ')) : KI l yX0_busy cX0_busy 2 .int 8 D ty A (wX ty o ad σ ++ rs) (wX ty o ad σ' ++ rs) [.ref o, .int v1] r := by
  refine KI.of (by decide) (Nat.le_of_ble_eq_true rfl) ?_
  intro p e R s m args below meth c Q C hR
  have C : Cx p R s m args c cX0_busy 2 RX0 D ty A 8 := C
  have hR : ∀ (v : Int32) (σ2 : PS), (v, σ2) = (r, σ') → ∀ (H : Heap) (locs : List Loc) (pc : Nat) (ls : Array Slot), Hw D A s H locs (wX ty o ad σ2 ++ rs) → narrow .int (.int v) = .int v → decode cX0_busy pc = .ok (.ireturn, 1) → W p l e R s m args below meth c H locs 0 0 Q (F0 m pc ls [.int v]) := by intro v σ2 e9; cases e9; exact hR
  have j25 : ∀ (σ : PS) (x0 : Int32) (H : Heap) (locs : List Loc) (ls : Array Slot), Hw D A s H locs (wX ty o ad σ ++ rs) → lv_has ls 2 [] → X_busy_j25 σ x0 = some (r, σ') → W p l e R s m args below meth c H locs 0 0 Q (F0 m 25 ls [.int x0]) := by
    intro σ x0 H locs ls h hl hf
    unfold X_busy_j25 at hf
    exact hR _ _ (some_k hf) _ _ _ _ h rfl dX0_busy_25
  have j23 : ∀ (σ : PS) (H : Heap) (locs : List Loc) (ls : Array Slot), Hw D A s H locs (wX ty o ad σ ++ rs) → lv_has ls 2 [] → X_busy_j23 σ = some (r, σ') → W p l e R s m args below meth c H locs 0 0 Q (F0 m 23 ls []) := by
    intro σ H locs ls h hl hf
    unfold X_busy_j23 at hf
    refine lv_bipush (v := (-2)) C.x C.b dX0_busy_23 (by decide) ?_
    exact j25 σ ((-2)) _ _ _ h (lv_sub hl [] rfl) hf
  intro H locs ls h hl
  have hl : lv_has ls 2 [(0, .ref o), (1, .int v1)] := hl
  unfold X_busy at hf
  refine lv_aload_n C.x C.b dX0_busy_0 rfl (lv_at hl 0 rfl) ?_
  obtain ⟨q_1, hc, hf⟩ := bd_k (K := fun x => x) rfl hf
  refine cX_asksLehr C h hc (Nat.le_of_ble_eq_true rfl) hl.1 (Nat.le_of_ble_eq_true rfl) dX0_busy_1 (fun H locs h => ?_)
  refine lv_if_eq (tgt := 23) C.x C.b dX0_busy_4 (by decide) (fun c9 => ?_) (fun c9 => ?_)
  · have hf := if_t (K := fun x => x) c9 hf
    exact j23 q_1.2 _ _ _ h (lv_sub hl [] rfl) hf
  · have hf := if_f (K := fun x => x) c9 hf
    refine lv_aload_n C.x C.b dX0_busy_7 rfl (lv_at hl 0 rfl) ?_
    refine lv_iload_n C.x C.b dX0_busy_8 rfl (lv_at hl 1 rfl) ?_
    obtain ⟨q_2, hc, hf⟩ := bd_k (K := fun x => x) rfl hf
    refine cX_isZone C h hc (Nat.le_of_ble_eq_true rfl) hl.1 (Nat.le_of_ble_eq_true rfl) dX0_busy_9 (fun H locs h => ?_)
    refine lv_if_eq (tgt := 23) C.x C.b dX0_busy_12 (by decide) (fun c9 => ?_) (fun c9 => ?_)
    · have hf := if_t (K := fun x => x) c9 hf
      exact j23 q_1.2 _ _ _ h (lv_sub hl [] rfl) hf
    · have hf := if_f (K := fun x => x) c9 hf
      refine lv_aload_n C.x C.b dX0_busy_15 rfl (lv_at hl 0 rfl) ?_
      refine lv_iload_n C.x C.b dX0_busy_16 rfl (lv_at hl 1 rfl) ?_
      obtain ⟨q_3, hc, hf⟩ := bd_k (K := fun x => x) rfl hf
      refine cX_busyOf C h hc (Nat.le_of_ble_eq_true rfl) hl.1 (Nat.le_of_ble_eq_true rfl) dX0_busy_17 (fun H locs h => ?_)
      refine lv_goto (tgt := 25) C.x C.b dX0_busy_20 (by decide) ?_
      exact j25 q_1.2 q_3 _ _ _ h (lv_sub hl [] rfl) hf
def X_idle_j49 (σ : PS) (v1 : Int32) : Option (Int32 × PS) := some (v1, σ)
def X_idle_j41 (σ : PS) (v2 : Int32) (x0 : Int32) (x1 : Int32) : Option ((Int32 × Int32) ⊕ (Int32 × PS)) := nm (x1 ||| x0) (fun v1_1 => nm (v2 + 1) (fun v2_2 => some (.inl (v1_1, v2_2))))
def X_idle_l14 (σ : PS) (v1 : Int32) (v2 : Int32) : Option ((Int32 × Int32) ⊕ (Int32 × PS)) := if (gI σ 106) ≤ v2 then up (X_idle_j49 σ v1) else bd (X_busyOf σ v2) (fun q_3 => if q_3 = 0 then X_idle_j41 σ v2 (1 <<< (v2 &&& 31)) v1 else X_idle_j41 σ v2 0 v1)
def X_idle_B14 (σ : PS) : (Int32 × Int32) → Option ((Int32 × Int32) ⊕ (Int32 × PS)) := fun t => X_idle_l14 σ t.1 t.2
def X_idle (σ : PS) : Option (Int32 × PS) := bd (X_asksLehr σ) (fun q_4 => if q_4.1 = 0 then some ((-2), q_4.2) else loop (X_idle_B14 q_4.2) fu (0, 0))
set_option maxHeartbeats 4000000 in
theorem kX_idle (l : Launch) {D : va_G} {ty : Nat → ClassId} {A : Nat → Prop} {o : Nat} {ad : Nat → Nat} {rs : va_W} {σ : PS} {σ' : PS} {r : Int32} (hf : X_idle σ = some (r, σ')) : KI l yX0_idle cX0_idle 3 .int 8 D ty A (wX ty o ad σ ++ rs) (wX ty o ad σ' ++ rs) [.ref o] r := by
  refine KI.of (by decide) (Nat.le_of_ble_eq_true rfl) ?_
  intro p e R s m args below meth c Q C hR
  have C : Cx p R s m args c cX0_idle 3 RX0 D ty A 8 := C
  have hR : ∀ (v : Int32) (σ2 : PS), (v, σ2) = (r, σ') → ∀ (H : Heap) (locs : List Loc) (pc : Nat) (ls : Array Slot), Hw D A s H locs (wX ty o ad σ2 ++ rs) → narrow .int (.int v) = .int v → decode cX0_idle pc = .ok (.ireturn, 1) → W p l e R s m args below meth c H locs 0 0 Q (F0 m pc ls [.int v]) := by intro v σ2 e9; cases e9; exact hR
  have j49 : ∀ (σ : PS) (v1 : Int32) (H : Heap) (locs : List Loc) (ls : Array Slot), Hw D A s H locs (wX ty o ad σ ++ rs) → lv_has ls 3 [(1, .int v1)] → X_idle_j49 σ v1 = some (r, σ') → W p l e R s m args below meth c H locs 0 0 Q (F0 m 49 ls []) := by
    intro σ v1 H locs ls h hl hf
    unfold X_idle_j49 at hf
    refine lv_iload_n C.x C.b dX0_idle_49 rfl (lv_at hl 0 rfl) ?_
    exact hR _ _ (some_k hf) _ _ _ _ h rfl dX0_idle_50
  have l14 : ∀ (σ : PS) (n14 : Nat) (v1 : Int32) (v2 : Int32) (H : Heap) (locs : List Loc) (ls : Array Slot), Hw D A s H locs (wX ty o ad σ ++ rs) → lv_has ls 3 [(0, .ref o), (1, .int v1), (2, .int v2)] → loop (X_idle_B14 σ) n14 (v1, v2) = some (r, σ') → W p l e R s m args below meth c H locs 0 0 Q (F0 m 14 ls []) := by
    intro σ n14
    induction n14 with
    | zero => intro v1 v2 H locs ls h hl hf; exact (none_k hf).elim
    | succ n14 ih14 =>
      have j41 : ∀ (v2 : Int32) (x0 : Int32) (x1 : Int32) (H : Heap) (locs : List Loc) (ls : Array Slot), Hw D A s H locs (wX ty o ad σ ++ rs) → lv_has ls 3 [(0, .ref o), (2, .int v2)] → bl (X_idle_B14 σ) n14 (X_idle_j41 σ v2 x0 x1) = some (r, σ') → W p l e R s m args below meth c H locs 0 0 Q (F0 m 41 ls [.int x0, .int x1]) := by
        intro v2 x0 x1 H locs ls h hl hf
        unfold X_idle_j41 at hf
        refine lv_ior C.x C.b dX0_idle_41 ?_
        obtain ⟨v1_1, e9, hf⟩ := nm_k (K := bl (X_idle_B14 σ) n14) hf
        refine lv_topI e9 ?_
        refine lv_istore_n (lv' := [(1, .int v1_1), (0, .ref o), (2, .int v2)]) C.x C.b dX0_idle_42 rfl hl (by decide) rfl (fun ls hl => ?_)
        obtain ⟨v2_2, e9, hf⟩ := nm_k (K := bl (X_idle_B14 σ) n14) hf
        refine lv_iinc (v := v2_2) (lv' := [(2, .int v2_2), (1, .int v1_1), (0, .ref o)]) C.x C.b dX0_idle_43 hl (k := 2) rfl (iinc_e (k := 1) (by decide) e9) (by decide) rfl (fun ls hl => ?_)
        refine lv_goto (tgt := 14) C.x C.b dX0_idle_46 (by decide) ?_
        exact ih14 v1_1 v2_2 _ _ _ h (lv_sub hl [2, 1, 0] rfl) hf
      intro v1 v2 H locs ls h hl hf
      have hf : bl (X_idle_B14 σ) n14 (X_idle_l14 σ v1 v2) = some (r, σ') := hf
      unfold X_idle_l14 at hf
      refine lv_iload_n C.x C.b dX0_idle_14 rfl (lv_at hl 2 rfl) ?_
      refine lv_aload_n C.x C.b dX0_idle_15 rfl (lv_at hl 0 rfl) ?_
      refine x_g0 C h dX0_idle_16 ?_
      refine x_g106 C h dX0_idle_19 ?_
      refine lv_icmp_ge (tgt := 49) C.x C.b dX0_idle_22 (by decide) (fun c9 => ?_) (fun c9 => ?_)
      · have hf := if_t (K := bl (X_idle_B14 σ) n14) c9 hf
        have hf := bl_upK (K := fun x => x) hf
        exact j49 σ v1 _ _ _ h (lv_sub hl [1] rfl) hf
      · have hf := if_f (K := bl (X_idle_B14 σ) n14) c9 hf
        refine lv_iload_n C.x C.b dX0_idle_25 rfl (lv_at hl 1 rfl) ?_
        refine lv_aload_n C.x C.b dX0_idle_26 rfl (lv_at hl 0 rfl) ?_
        refine lv_iload_n C.x C.b dX0_idle_27 rfl (lv_at hl 2 rfl) ?_
        obtain ⟨q_3, hc, hf⟩ := bd_k (K := bl (X_idle_B14 σ) n14) rfl hf
        refine cX_busyOf C h hc (Nat.le_of_ble_eq_true rfl) hl.1 (Nat.le_of_ble_eq_true rfl) dX0_idle_28 (fun H locs h => ?_)
        refine lv_if_ne (tgt := 40) C.x C.b dX0_idle_31 (by decide) (fun c9 => ?_) (fun c9 => ?_)
        · have hf := if_f (K := bl (X_idle_B14 σ) n14) c9 hf
          refine lv_iconst (v := 0) C.x C.b dX0_idle_40 (by decide) ?_
          exact j41 v2 0 v1 _ _ _ h (lv_sub hl [0, 2] rfl) hf
        · have hf := if_t (K := bl (X_idle_B14 σ) n14) c9 hf
          refine lv_iconst (v := 1) C.x C.b dX0_idle_34 (by decide) ?_
          refine lv_iload_n C.x C.b dX0_idle_35 rfl (lv_at hl 2 rfl) ?_
          refine lv_ishl C.x C.b dX0_idle_36 ?_
          refine lv_goto (tgt := 41) C.x C.b dX0_idle_37 (by decide) ?_
          exact j41 v2 (1 <<< (v2 &&& 31)) v1 _ _ _ h (lv_sub hl [0, 2] rfl) hf
  intro H locs ls h hl
  have hl : lv_has ls 3 [(0, .ref o)] := hl
  unfold X_idle at hf
  refine lv_aload_n C.x C.b dX0_idle_0 rfl (lv_at hl 0 rfl) ?_
  obtain ⟨q_4, hc, hf⟩ := bd_k (K := fun x => x) rfl hf
  refine cX_asksLehr C h hc (Nat.le_of_ble_eq_true rfl) hl.1 (Nat.le_of_ble_eq_true rfl) dX0_idle_1 (fun H locs h => ?_)
  refine lv_if_ne (tgt := 10) C.x C.b dX0_idle_4 (by decide) (fun c9 => ?_) (fun c9 => ?_)
  · have hf := if_f (K := fun x => x) c9 hf
    refine lv_iconst (v := 0) C.x C.b dX0_idle_10 (by decide) ?_
    refine lv_istore_n (lv' := [(1, .int 0), (0, .ref o)]) C.x C.b dX0_idle_11 rfl hl (by decide) rfl (fun ls hl => ?_)
    refine lv_iconst (v := 0) C.x C.b dX0_idle_12 (by decide) ?_
    refine lv_istore_n (lv' := [(2, .int 0), (1, .int 0), (0, .ref o)]) C.x C.b dX0_idle_13 rfl hl (by decide) rfl (fun ls hl => ?_)
    exact l14 q_4.2 fu 0 0 _ _ _ h (lv_sub hl [2, 1, 0] rfl) hf
  · have hf := if_t (K := fun x => x) c9 hf
    refine lv_bipush (v := (-2)) C.x C.b dX0_idle_7 (by decide) ?_
    exact hR _ _ (some_k hf) _ _ _ _ h rfl dX0_idle_9
def X_needsOf_j60 (σ : PS) (x0 : Int32) : Option (Int32 × PS) := some (x0, σ)
def X_needsOf_j33 (σ : PS) (v1 : Int32) (v2 : Int32) : Option (Int32 × PS) := ix v1 6 (ix v1 6 (nm (wA σ 9 v1 (rA σ 112 v1)) (fun σ_1 => if v2 ≤ 300 then X_needsOf_j60 σ_1 v2 else X_needsOf_j60 σ_1 ((-1)))))
def X_needsOf_j24 (σ : PS) (v1 : Int32) (v2 : Int32) : Option (Int32 × PS) := X_needsOf_j33 σ v1 v2
def X_needsOf_l2 (v1 : Int32) (v2 : Int32) (σ : PS) : Option ((Int32 × PS) ⊕ (Int32 × PS)) := if 300 < v2 then up (X_needsOf_j33 σ v1 v2) else ix v1 6 (nm (wA σ 9 v1 v2) (fun σ_2 => bd (X_isSoundBy σ_2 v1) (fun q_3 => if q_3.1 = 0 then nm (v2 + 1) (fun v2_4 => some (.inl (v2_4, q_3.2))) else up (X_needsOf_j24 q_3.2 v1 v2))))
def X_needsOf_B2 (v1 : Int32) : (Int32 × PS) → Option ((Int32 × PS) ⊕ (Int32 × PS)) := fun t => X_needsOf_l2 v1 t.1 t.2
def X_needsOf (σ : PS) (v1 : Int32) : Option (Int32 × PS) := loop (X_needsOf_B2 v1) fu (0, σ)
set_option maxHeartbeats 4000000 in
theorem kX_needsOf (l : Launch) {D : va_G} {ty : Nat → ClassId} {A : Nat → Prop} {o : Nat} {ad : Nat → Nat} {rs : va_W} {σ : PS} {σ' : PS} {v1 : Int32} {r : Int32} (hf : X_needsOf σ v1 = some (r, σ')) : KI l yX0_needsOf cX0_needsOf 3 .int 8 D ty A (wX ty o ad σ ++ rs) (wX ty o ad σ' ++ rs) [.ref o, .int v1] r := by
  refine KI.of (by decide) (Nat.le_of_ble_eq_true rfl) ?_
  intro p e R s m args below meth c Q C hR
  have C : Cx p R s m args c cX0_needsOf 3 RX0 D ty A 8 := C
  have hR : ∀ (v : Int32) (σ2 : PS), (v, σ2) = (r, σ') → ∀ (H : Heap) (locs : List Loc) (pc : Nat) (ls : Array Slot), Hw D A s H locs (wX ty o ad σ2 ++ rs) → narrow .int (.int v) = .int v → decode cX0_needsOf pc = .ok (.ireturn, 1) → W p l e R s m args below meth c H locs 0 0 Q (F0 m pc ls [.int v]) := by intro v σ2 e9; cases e9; exact hR
  have j60 : ∀ (σ : PS) (x0 : Int32) (H : Heap) (locs : List Loc) (ls : Array Slot), Hw D A s H locs (wX ty o ad σ ++ rs) → lv_has ls 3 [] → X_needsOf_j60 σ x0 = some (r, σ') → W p l e R s m args below meth c H locs 0 0 Q (F0 m 60 ls [.int x0]) := by
    intro σ x0 H locs ls h hl hf
    unfold X_needsOf_j60 at hf
    exact hR _ _ (some_k hf) _ _ _ _ h rfl dX0_needsOf_60
  have j33 : ∀ (σ : PS) (v2 : Int32) (H : Heap) (locs : List Loc) (ls : Array Slot), Hw D A s H locs (wX ty o ad σ ++ rs) → lv_has ls 3 [(0, .ref o), (1, .int v1), (2, .int v2)] → X_needsOf_j33 σ v1 v2 = some (r, σ') → W p l e R s m args below meth c H locs 0 0 Q (F0 m 33 ls []) := by
    intro σ v2 H locs ls h hl hf
    unfold X_needsOf_j33 at hf
    refine lv_aload_n C.x C.b dX0_needsOf_33 rfl (lv_at hl 0 rfl) ?_
    refine x_g9 C h dX0_needsOf_34 ?_
    refine lv_iload_n C.x C.b dX0_needsOf_37 rfl (lv_at hl 1 rfl) ?_
    refine lv_aload_n C.x C.b dX0_needsOf_38 rfl (lv_at hl 0 rfl) ?_
    refine x_g0 C h dX0_needsOf_39 ?_
    refine x_g112 C h dX0_needsOf_42 ?_
    refine lv_iload_n C.x C.b dX0_needsOf_45 rfl (lv_at hl 1 rfl) ?_
    obtain ⟨hi, hf⟩ := ix_k (K := fun x => x) rfl hf
    refine x_a112 C h hi dX0_needsOf_46 ?_
    obtain ⟨hi, hf⟩ := ix_k (K := fun x => x) rfl hf
    obtain ⟨σ_1, e9, hf⟩ := nm_k (K := fun x => x) hf
    refine x_w9 C h hi e9 dX0_needsOf_47 (fun H locs h => ?_)
    refine lv_iload_n C.x C.b dX0_needsOf_48 rfl (lv_at hl 2 rfl) ?_
    refine lv_sipush (v := 300) C.x C.b dX0_needsOf_49 (by decide) ?_
    refine lv_icmp_le (tgt := 59) C.x C.b dX0_needsOf_52 (by decide) (fun c9 => ?_) (fun c9 => ?_)
    · have hf := if_t (K := fun x => x) c9 hf
      refine lv_iload_n C.x C.b dX0_needsOf_59 rfl (lv_at hl 2 rfl) ?_
      exact j60 σ_1 v2 _ _ _ h (lv_sub hl [] rfl) hf
    · have hf := if_f (K := fun x => x) c9 hf
      refine lv_iconst (v := (-1)) C.x C.b dX0_needsOf_55 (by decide) ?_
      refine lv_goto (tgt := 60) C.x C.b dX0_needsOf_56 (by decide) ?_
      exact j60 σ_1 ((-1)) _ _ _ h (lv_sub hl [] rfl) hf
  have j24 : ∀ (σ : PS) (v2 : Int32) (H : Heap) (locs : List Loc) (ls : Array Slot), Hw D A s H locs (wX ty o ad σ ++ rs) → lv_has ls 3 [(0, .ref o), (1, .int v1), (2, .int v2)] → X_needsOf_j24 σ v1 v2 = some (r, σ') → W p l e R s m args below meth c H locs 0 0 Q (F0 m 24 ls []) := by
    intro σ v2 H locs ls h hl hf
    unfold X_needsOf_j24 at hf
    refine lv_goto (tgt := 33) C.x C.b dX0_needsOf_24 (by decide) ?_
    exact j33 σ v2 _ _ _ h (lv_sub hl [0, 1, 2] rfl) hf
  have l2 : ∀ (n2 : Nat) (v2 : Int32) (σ : PS) (H : Heap) (locs : List Loc) (ls : Array Slot), Hw D A s H locs (wX ty o ad σ ++ rs) → lv_has ls 3 [(0, .ref o), (1, .int v1), (2, .int v2)] → loop (X_needsOf_B2 v1) n2 (v2, σ) = some (r, σ') → W p l e R s m args below meth c H locs 0 0 Q (F0 m 2 ls []) := by
    intro n2
    induction n2 with
    | zero => intro v2 σ H locs ls h hl hf; exact (none_k hf).elim
    | succ n2 ih2 =>
      intro v2 σ H locs ls h hl hf
      have hf : bl (X_needsOf_B2 v1) n2 (X_needsOf_l2 v1 v2 σ) = some (r, σ') := hf
      unfold X_needsOf_l2 at hf
      refine lv_iload_n C.x C.b dX0_needsOf_2 rfl (lv_at hl 2 rfl) ?_
      refine lv_sipush (v := 300) C.x C.b dX0_needsOf_3 (by decide) ?_
      refine lv_icmp_gt (tgt := 33) C.x C.b dX0_needsOf_6 (by decide) (fun c9 => ?_) (fun c9 => ?_)
      · have hf := if_t (K := bl (X_needsOf_B2 v1) n2) c9 hf
        have hf := bl_upK (K := fun x => x) hf
        exact j33 σ v2 _ _ _ h (lv_sub hl [0, 1, 2] rfl) hf
      · have hf := if_f (K := bl (X_needsOf_B2 v1) n2) c9 hf
        refine lv_aload_n C.x C.b dX0_needsOf_9 rfl (lv_at hl 0 rfl) ?_
        refine x_g9 C h dX0_needsOf_10 ?_
        refine lv_iload_n C.x C.b dX0_needsOf_13 rfl (lv_at hl 1 rfl) ?_
        refine lv_iload_n C.x C.b dX0_needsOf_14 rfl (lv_at hl 2 rfl) ?_
        obtain ⟨hi, hf⟩ := ix_k (K := bl (X_needsOf_B2 v1) n2) rfl hf
        obtain ⟨σ_2, e9, hf⟩ := nm_k (K := bl (X_needsOf_B2 v1) n2) hf
        refine x_w9 C h hi e9 dX0_needsOf_15 (fun H locs h => ?_)
        refine lv_aload_n C.x C.b dX0_needsOf_16 rfl (lv_at hl 0 rfl) ?_
        refine lv_iload_n C.x C.b dX0_needsOf_17 rfl (lv_at hl 1 rfl) ?_
        obtain ⟨q_3, hc, hf⟩ := bd_k (K := bl (X_needsOf_B2 v1) n2) rfl hf
        refine cX_isSoundBy C h hc (Nat.le_of_ble_eq_true rfl) hl.1 (Nat.le_of_ble_eq_true rfl) dX0_needsOf_18 (fun H locs h => ?_)
        refine lv_if_eq (tgt := 27) C.x C.b dX0_needsOf_21 (by decide) (fun c9 => ?_) (fun c9 => ?_)
        · have hf := if_t (K := bl (X_needsOf_B2 v1) n2) c9 hf
          obtain ⟨v2_4, e9, hf⟩ := nm_k (K := bl (X_needsOf_B2 v1) n2) hf
          refine lv_iinc (v := v2_4) (lv' := [(2, .int v2_4), (0, .ref o), (1, .int v1)]) C.x C.b dX0_needsOf_27 hl (k := 2) rfl (iinc_e (k := 1) (by decide) e9) (by decide) rfl (fun ls hl => ?_)
          refine lv_goto (tgt := 2) C.x C.b dX0_needsOf_30 (by decide) ?_
          exact ih2 v2_4 q_3.2 _ _ _ h (lv_sub hl [1, 2, 0] rfl) hf
        · have hf := if_f (K := bl (X_needsOf_B2 v1) n2) c9 hf
          have hf := bl_upK (K := fun x => x) hf
          exact j24 q_3.2 v2 _ _ _ h (lv_sub hl [0, 1, 2] rfl) hf
  intro H locs ls h hl
  have hl : lv_has ls 3 [(0, .ref o), (1, .int v1)] := hl
  unfold X_needsOf at hf
  refine lv_iconst (v := 0) C.x C.b dX0_needsOf_0 (by decide) ?_
  refine lv_istore_n (lv' := [(2, .int 0), (0, .ref o), (1, .int v1)]) C.x C.b dX0_needsOf_1 rfl hl (by decide) rfl (fun ls hl => ?_)
  exact l2  fu 0 σ _ _ _ h (lv_sub hl [1, 2, 0] rfl) hf
theorem tX_needsOf : GoodIn lw_all (wsV RX0 339 RX0 yX0_needsOf (ws_ yX0_needsOf cX0_needsOf 3 (some .int))) := lw_V q1082 q1084 qs47 q137 q1085
theorem cX_needsOf {p : Program} {l : Launch} {e : Env} {R : Room} {s : State} {m : MethodId} {args : Array Value} {below : List Frame} {meth : Method} {c : Code} {H : Heap} {locs : List Loc} {Q : State → Prop} {cc : ByteArray} {pc : Nat} {ls : Array Slot} {st : List Value} {nL d : Nat} {D : va_G} {ty : Nat → ClassId} {A : Nat → Prop} {o : Nat} {ad : Nat → Nat} {rs : va_W} {σ : PS} {v1 : Int32} {q : (Int32 × PS)} (C : Cx p R s m args c cc nL RX0 D ty A d) (h : Hw D A s H locs (wX ty o ad σ ++ rs)) (hc : X_needsOf σ v1 = some q) (hd : 8 + 1 ≤ d) (hls : ls.size = nL) (hcat : (st.map fun v => v.category).sum ≤ 8) (dec : decode cc pc = .ok (.invokevirtual 339, 3)) (kk : ∀ (H : Heap) (locs : List Loc), Hw D A s H locs (wX ty o ad q.2 ++ rs) → W p l e R s m args below meth c H locs 0 0 Q (F0 m (pc + 3) ls (.int (q.1) :: st))) : W p l e R s m args below meth c H locs 0 0 Q (F0 m pc ls (.int v1 :: .ref o :: st)) := KI.callV (As := [.int v1]) C (kX_needsOf l hc) tX_needsOf ⟨rfl, by decide, by decide, by show _ = some 1; decide +kernel⟩ 0 0 rfl rfl rfl hd (by decide) (Nat.zero_le _) (Nat.zero_le _) h hls rfl hcat dec kk
def X_needs_j18 (σ : PS) (x0 : Int32) : Option (Int32 × PS) := some (x0, σ)
def X_needs (σ : PS) (v1 : Int32) : Option (Int32 × PS) := bd (X_asksPiece σ v1) (fun q_1 => if q_1.1 = 0 then X_needs_j18 q_1.2 ((-2)) else bd (X_needsOf q_1.2 v1) (fun q_2 => X_needs_j18 q_2.2 q_2.1))
set_option maxHeartbeats 4000000 in
theorem kX_needs (l : Launch) {D : va_G} {ty : Nat → ClassId} {A : Nat → Prop} {o : Nat} {ad : Nat → Nat} {rs : va_W} {σ : PS} {σ' : PS} {v1 : Int32} {r : Int32} (hf : X_needs σ v1 = some (r, σ')) : KI l yX0_needs cX0_needs 2 .int 9 D ty A (wX ty o ad σ ++ rs) (wX ty o ad σ' ++ rs) [.ref o, .int v1] r := by
  refine KI.of (by decide) (Nat.le_of_ble_eq_true rfl) ?_
  intro p e R s m args below meth c Q C hR
  have C : Cx p R s m args c cX0_needs 2 RX0 D ty A 9 := C
  have hR : ∀ (v : Int32) (σ2 : PS), (v, σ2) = (r, σ') → ∀ (H : Heap) (locs : List Loc) (pc : Nat) (ls : Array Slot), Hw D A s H locs (wX ty o ad σ2 ++ rs) → narrow .int (.int v) = .int v → decode cX0_needs pc = .ok (.ireturn, 1) → W p l e R s m args below meth c H locs 0 0 Q (F0 m pc ls [.int v]) := by intro v σ2 e9; cases e9; exact hR
  have j18 : ∀ (σ : PS) (x0 : Int32) (H : Heap) (locs : List Loc) (ls : Array Slot), Hw D A s H locs (wX ty o ad σ ++ rs) → lv_has ls 2 [] → X_needs_j18 σ x0 = some (r, σ') → W p l e R s m args below meth c H locs 0 0 Q (F0 m 18 ls [.int x0]) := by
    intro σ x0 H locs ls h hl hf
    unfold X_needs_j18 at hf
    exact hR _ _ (some_k hf) _ _ _ _ h rfl dX0_needs_18
  intro H locs ls h hl
  have hl : lv_has ls 2 [(0, .ref o), (1, .int v1)] := hl
  unfold X_needs at hf
  refine lv_aload_n C.x C.b dX0_needs_0 rfl (lv_at hl 0 rfl) ?_
  refine lv_iload_n C.x C.b dX0_needs_1 rfl (lv_at hl 1 rfl) ?_
  obtain ⟨q_1, hc, hf⟩ := bd_k (K := fun x => x) rfl hf
  refine cX_asksPiece C h hc (Nat.le_of_ble_eq_true rfl) hl.1 (Nat.le_of_ble_eq_true rfl) dX0_needs_2 (fun H locs h => ?_)
  refine lv_if_eq (tgt := 16) C.x C.b dX0_needs_5 (by decide) (fun c9 => ?_) (fun c9 => ?_)
  · have hf := if_t (K := fun x => x) c9 hf
    refine lv_bipush (v := (-2)) C.x C.b dX0_needs_16 (by decide) ?_
    exact j18 q_1.2 ((-2)) _ _ _ h (lv_sub hl [] rfl) hf
  · have hf := if_f (K := fun x => x) c9 hf
    refine lv_aload_n C.x C.b dX0_needs_8 rfl (lv_at hl 0 rfl) ?_
    refine lv_iload_n C.x C.b dX0_needs_9 rfl (lv_at hl 1 rfl) ?_
    obtain ⟨q_2, hc, hf⟩ := bd_k (K := fun x => x) rfl hf
    refine cX_needsOf C h hc (Nat.le_of_ble_eq_true rfl) hl.1 (Nat.le_of_ble_eq_true rfl) dX0_needs_10 (fun H locs h => ?_)
    refine lv_goto (tgt := 18) C.x C.b dX0_needs_13 (by decide) ?_
    exact j18 q_2.2 q_2.1 _ _ _ h (lv_sub hl [] rfl) hf
def X_thin_j41 (σ : PS) : Option (Int32 × PS) := some ((-1), σ)
def X_thin_j33 (σ : PS) (v2 : Int32) : Option (Int32 × PS) := some (v2, σ)
def X_thin_l14 (v1 : Int32) (v2 : Int32) (σ : PS) : Option ((Int32 × PS) ⊕ (Int32 × PS)) := if v2 ≤ 0 then up (X_thin_j41 σ) else ix v1 6 (nm (wA σ 8 v1 v2) (fun σ_1 => bd (X_isSoundBy σ_1 v1) (fun q_2 => if q_2.1 = 0 then nm (v2 + (-1)) (fun v2_3 => some (.inl (v2_3, q_2.2))) else up (X_thin_j33 q_2.2 v2))))
def X_thin_B14 (v1 : Int32) : (Int32 × PS) → Option ((Int32 × PS) ⊕ (Int32 × PS)) := fun t => X_thin_l14 v1 t.1 t.2
def X_thin (σ : PS) (v1 : Int32) : Option (Int32 × PS) := bd (X_asksPiece σ v1) (fun q_4 => if q_4.1 = 0 then some ((-2), q_4.2) else loop (X_thin_B14 v1) fu (9, q_4.2))
set_option maxHeartbeats 4000000 in
theorem kX_thin (l : Launch) {D : va_G} {ty : Nat → ClassId} {A : Nat → Prop} {o : Nat} {ad : Nat → Nat} {rs : va_W} {σ : PS} {σ' : PS} {v1 : Int32} {r : Int32} (hf : X_thin σ v1 = some (r, σ')) : KI l yX0_thin cX0_thin 3 .int 9 D ty A (wX ty o ad σ ++ rs) (wX ty o ad σ' ++ rs) [.ref o, .int v1] r := by
  refine KI.of (by decide) (Nat.le_of_ble_eq_true rfl) ?_
  intro p e R s m args below meth c Q C hR
  have C : Cx p R s m args c cX0_thin 3 RX0 D ty A 9 := C
  have hR : ∀ (v : Int32) (σ2 : PS), (v, σ2) = (r, σ') → ∀ (H : Heap) (locs : List Loc) (pc : Nat) (ls : Array Slot), Hw D A s H locs (wX ty o ad σ2 ++ rs) → narrow .int (.int v) = .int v → decode cX0_thin pc = .ok (.ireturn, 1) → W p l e R s m args below meth c H locs 0 0 Q (F0 m pc ls [.int v]) := by intro v σ2 e9; cases e9; exact hR
  have j41 : ∀ (σ : PS) (H : Heap) (locs : List Loc) (ls : Array Slot), Hw D A s H locs (wX ty o ad σ ++ rs) → lv_has ls 3 [] → X_thin_j41 σ = some (r, σ') → W p l e R s m args below meth c H locs 0 0 Q (F0 m 41 ls []) := by
    intro σ H locs ls h hl hf
    unfold X_thin_j41 at hf
    refine lv_iconst (v := (-1)) C.x C.b dX0_thin_41 (by decide) ?_
    exact hR _ _ (some_k hf) _ _ _ _ h rfl dX0_thin_42
  have j33 : ∀ (σ : PS) (v2 : Int32) (H : Heap) (locs : List Loc) (ls : Array Slot), Hw D A s H locs (wX ty o ad σ ++ rs) → lv_has ls 3 [(2, .int v2)] → X_thin_j33 σ v2 = some (r, σ') → W p l e R s m args below meth c H locs 0 0 Q (F0 m 33 ls []) := by
    intro σ v2 H locs ls h hl hf
    unfold X_thin_j33 at hf
    refine lv_iload_n C.x C.b dX0_thin_33 rfl (lv_at hl 0 rfl) ?_
    exact hR _ _ (some_k hf) _ _ _ _ h rfl dX0_thin_34
  have l14 : ∀ (n14 : Nat) (v2 : Int32) (σ : PS) (H : Heap) (locs : List Loc) (ls : Array Slot), Hw D A s H locs (wX ty o ad σ ++ rs) → lv_has ls 3 [(0, .ref o), (1, .int v1), (2, .int v2)] → loop (X_thin_B14 v1) n14 (v2, σ) = some (r, σ') → W p l e R s m args below meth c H locs 0 0 Q (F0 m 14 ls []) := by
    intro n14
    induction n14 with
    | zero => intro v2 σ H locs ls h hl hf; exact (none_k hf).elim
    | succ n14 ih14 =>
      intro v2 σ H locs ls h hl hf
      have hf : bl (X_thin_B14 v1) n14 (X_thin_l14 v1 v2 σ) = some (r, σ') := hf
      unfold X_thin_l14 at hf
      refine lv_iload_n C.x C.b dX0_thin_14 rfl (lv_at hl 2 rfl) ?_
      refine lv_if_le (tgt := 41) C.x C.b dX0_thin_15 (by decide) (fun c9 => ?_) (fun c9 => ?_)
      · have hf := if_t (K := bl (X_thin_B14 v1) n14) c9 hf
        have hf := bl_upK (K := fun x => x) hf
        exact j41 σ _ _ _ h (lv_sub hl [] rfl) hf
      · have hf := if_f (K := bl (X_thin_B14 v1) n14) c9 hf
        refine lv_aload_n C.x C.b dX0_thin_18 rfl (lv_at hl 0 rfl) ?_
        refine x_g8 C h dX0_thin_19 ?_
        refine lv_iload_n C.x C.b dX0_thin_22 rfl (lv_at hl 1 rfl) ?_
        refine lv_iload_n C.x C.b dX0_thin_23 rfl (lv_at hl 2 rfl) ?_
        obtain ⟨hi, hf⟩ := ix_k (K := bl (X_thin_B14 v1) n14) rfl hf
        obtain ⟨σ_1, e9, hf⟩ := nm_k (K := bl (X_thin_B14 v1) n14) hf
        refine x_w8 C h hi e9 dX0_thin_24 (fun H locs h => ?_)
        refine lv_aload_n C.x C.b dX0_thin_25 rfl (lv_at hl 0 rfl) ?_
        refine lv_iload_n C.x C.b dX0_thin_26 rfl (lv_at hl 1 rfl) ?_
        obtain ⟨q_2, hc, hf⟩ := bd_k (K := bl (X_thin_B14 v1) n14) rfl hf
        refine cX_isSoundBy C h hc (Nat.le_of_ble_eq_true rfl) hl.1 (Nat.le_of_ble_eq_true rfl) dX0_thin_27 (fun H locs h => ?_)
        refine lv_if_eq (tgt := 35) C.x C.b dX0_thin_30 (by decide) (fun c9 => ?_) (fun c9 => ?_)
        · have hf := if_t (K := bl (X_thin_B14 v1) n14) c9 hf
          obtain ⟨v2_3, e9, hf⟩ := nm_k (K := bl (X_thin_B14 v1) n14) hf
          refine lv_iinc (v := v2_3) (lv' := [(2, .int v2_3), (0, .ref o), (1, .int v1)]) C.x C.b dX0_thin_35 hl (k := 2) rfl (iinc_e (k := (-1)) (by decide) e9) (by decide) rfl (fun ls hl => ?_)
          refine lv_goto (tgt := 14) C.x C.b dX0_thin_38 (by decide) ?_
          exact ih14 v2_3 q_2.2 _ _ _ h (lv_sub hl [1, 2, 0] rfl) hf
        · have hf := if_f (K := bl (X_thin_B14 v1) n14) c9 hf
          have hf := bl_upK (K := fun x => x) hf
          exact j33 q_2.2 v2 _ _ _ h (lv_sub hl [2] rfl) hf
  intro H locs ls h hl
  have hl : lv_has ls 3 [(0, .ref o), (1, .int v1)] := hl
  unfold X_thin at hf
  refine lv_aload_n C.x C.b dX0_thin_0 rfl (lv_at hl 0 rfl) ?_
  refine lv_iload_n C.x C.b dX0_thin_1 rfl (lv_at hl 1 rfl) ?_
  obtain ⟨q_4, hc, hf⟩ := bd_k (K := fun x => x) rfl hf
  refine cX_asksPiece C h hc (Nat.le_of_ble_eq_true rfl) hl.1 (Nat.le_of_ble_eq_true rfl) dX0_thin_2 (fun H locs h => ?_)
  refine lv_if_ne (tgt := 11) C.x C.b dX0_thin_5 (by decide) (fun c9 => ?_) (fun c9 => ?_)
  · have hf := if_f (K := fun x => x) c9 hf
    refine lv_bipush (v := 9) C.x C.b dX0_thin_11 (by decide) ?_
    refine lv_istore_n (lv' := [(2, .int 9), (0, .ref o), (1, .int v1)]) C.x C.b dX0_thin_13 rfl hl (by decide) rfl (fun ls hl => ?_)
    exact l14  fu 9 q_4.2 _ _ _ h (lv_sub hl [1, 2, 0] rfl) hf
  · have hf := if_t (K := fun x => x) c9 hf
    refine lv_bipush (v := (-2)) C.x C.b dX0_thin_8 (by decide) ?_
    exact hR _ _ (some_k hf) _ _ _ _ h rfl dX0_thin_10
def X_paceOf_j35 (σ : PS) (v1 : Int32) : Option (Int32 × PS) := some (v1, σ)
def X_paceOf_j28 (σ : PS) (v2 : Int32) (x0 : Int32) : Option ((Int32 × Int32 × PS) ⊕ (Int32 × PS)) := nm (v2 + 1) (fun v2_1 => some (.inl (x0, v2_1, σ)))
def X_paceOf_l4 (v1 : Int32) (v2 : Int32) (σ : PS) : Option ((Int32 × Int32 × PS) ⊕ (Int32 × PS)) := if 6 < v2 then up (X_paceOf_j35 σ v1) else bd (X_soundBy σ v2) (fun q_2 => bd (X_soundBy q_2.2 v1) (fun q_3 => if q_2.1 ≤ q_3.1 then X_paceOf_j28 q_3.2 v2 v1 else X_paceOf_j28 q_3.2 v2 v2))
def X_paceOf_B4 : (Int32 × Int32 × PS) → Option ((Int32 × Int32 × PS) ⊕ (Int32 × PS)) := fun t => X_paceOf_l4 t.1 t.2.1 t.2.2
def X_paceOf (σ : PS) : Option (Int32 × PS) := loop (X_paceOf_B4) fu (1, 2, σ)
set_option maxHeartbeats 4000000 in
theorem kX_paceOf (l : Launch) {D : va_G} {ty : Nat → ClassId} {A : Nat → Prop} {o : Nat} {ad : Nat → Nat} {rs : va_W} {σ : PS} {σ' : PS} {r : Int32} (hf : X_paceOf σ = some (r, σ')) : KI l yX0_paceOf cX0_paceOf 3 .int 8 D ty A (wX ty o ad σ ++ rs) (wX ty o ad σ' ++ rs) [.ref o] r := by
  refine KI.of (by decide) (Nat.le_of_ble_eq_true rfl) ?_
  intro p e R s m args below meth c Q C hR
  have C : Cx p R s m args c cX0_paceOf 3 RX0 D ty A 8 := C
  have hR : ∀ (v : Int32) (σ2 : PS), (v, σ2) = (r, σ') → ∀ (H : Heap) (locs : List Loc) (pc : Nat) (ls : Array Slot), Hw D A s H locs (wX ty o ad σ2 ++ rs) → narrow .int (.int v) = .int v → decode cX0_paceOf pc = .ok (.ireturn, 1) → W p l e R s m args below meth c H locs 0 0 Q (F0 m pc ls [.int v]) := by intro v σ2 e9; cases e9; exact hR
  have j35 : ∀ (σ : PS) (v1 : Int32) (H : Heap) (locs : List Loc) (ls : Array Slot), Hw D A s H locs (wX ty o ad σ ++ rs) → lv_has ls 3 [(1, .int v1)] → X_paceOf_j35 σ v1 = some (r, σ') → W p l e R s m args below meth c H locs 0 0 Q (F0 m 35 ls []) := by
    intro σ v1 H locs ls h hl hf
    unfold X_paceOf_j35 at hf
    refine lv_iload_n C.x C.b dX0_paceOf_35 rfl (lv_at hl 0 rfl) ?_
    exact hR _ _ (some_k hf) _ _ _ _ h rfl dX0_paceOf_36
  have l4 : ∀ (n4 : Nat) (v1 : Int32) (v2 : Int32) (σ : PS) (H : Heap) (locs : List Loc) (ls : Array Slot), Hw D A s H locs (wX ty o ad σ ++ rs) → lv_has ls 3 [(0, .ref o), (1, .int v1), (2, .int v2)] → loop (X_paceOf_B4) n4 (v1, v2, σ) = some (r, σ') → W p l e R s m args below meth c H locs 0 0 Q (F0 m 4 ls []) := by
    intro n4
    induction n4 with
    | zero => intro v1 v2 σ H locs ls h hl hf; exact (none_k hf).elim
    | succ n4 ih4 =>
      have j28 : ∀ (σ : PS) (v2 : Int32) (x0 : Int32) (H : Heap) (locs : List Loc) (ls : Array Slot), Hw D A s H locs (wX ty o ad σ ++ rs) → lv_has ls 3 [(0, .ref o), (2, .int v2)] → bl (X_paceOf_B4) n4 (X_paceOf_j28 σ v2 x0) = some (r, σ') → W p l e R s m args below meth c H locs 0 0 Q (F0 m 28 ls [.int x0]) := by
        intro σ v2 x0 H locs ls h hl hf
        unfold X_paceOf_j28 at hf
        refine lv_istore_n (lv' := [(1, .int x0), (0, .ref o), (2, .int v2)]) C.x C.b dX0_paceOf_28 rfl hl (by decide) rfl (fun ls hl => ?_)
        obtain ⟨v2_1, e9, hf⟩ := nm_k (K := bl (X_paceOf_B4) n4) hf
        refine lv_iinc (v := v2_1) (lv' := [(2, .int v2_1), (1, .int x0), (0, .ref o)]) C.x C.b dX0_paceOf_29 hl (k := 2) rfl (iinc_e (k := 1) (by decide) e9) (by decide) rfl (fun ls hl => ?_)
        refine lv_goto (tgt := 4) C.x C.b dX0_paceOf_32 (by decide) ?_
        exact ih4 x0 v2_1 σ _ _ _ h (lv_sub hl [2, 1, 0] rfl) hf
      intro v1 v2 σ H locs ls h hl hf
      have hf : bl (X_paceOf_B4) n4 (X_paceOf_l4 v1 v2 σ) = some (r, σ') := hf
      unfold X_paceOf_l4 at hf
      refine lv_iload_n C.x C.b dX0_paceOf_4 rfl (lv_at hl 2 rfl) ?_
      refine lv_bipush (v := 6) C.x C.b dX0_paceOf_5 (by decide) ?_
      refine lv_icmp_gt (tgt := 35) C.x C.b dX0_paceOf_7 (by decide) (fun c9 => ?_) (fun c9 => ?_)
      · have hf := if_t (K := bl (X_paceOf_B4) n4) c9 hf
        have hf := bl_upK (K := fun x => x) hf
        exact j35 σ v1 _ _ _ h (lv_sub hl [1] rfl) hf
      · have hf := if_f (K := bl (X_paceOf_B4) n4) c9 hf
        refine lv_aload_n C.x C.b dX0_paceOf_10 rfl (lv_at hl 0 rfl) ?_
        refine lv_iload_n C.x C.b dX0_paceOf_11 rfl (lv_at hl 2 rfl) ?_
        obtain ⟨q_2, hc, hf⟩ := bd_k (K := bl (X_paceOf_B4) n4) rfl hf
        refine cX_soundBy C h hc (Nat.le_of_ble_eq_true rfl) hl.1 (Nat.le_of_ble_eq_true rfl) dX0_paceOf_12 (fun H locs h => ?_)
        refine lv_aload_n C.x C.b dX0_paceOf_15 rfl (lv_at hl 0 rfl) ?_
        refine lv_iload_n C.x C.b dX0_paceOf_16 rfl (lv_at hl 1 rfl) ?_
        obtain ⟨q_3, hc, hf⟩ := bd_k (K := bl (X_paceOf_B4) n4) rfl hf
        refine cX_soundBy C h hc (Nat.le_of_ble_eq_true rfl) hl.1 (Nat.le_of_ble_eq_true rfl) dX0_paceOf_17 (fun H locs h => ?_)
        refine lv_icmp_le (tgt := 27) C.x C.b dX0_paceOf_20 (by decide) (fun c9 => ?_) (fun c9 => ?_)
        · have hf := if_t (K := bl (X_paceOf_B4) n4) c9 hf
          refine lv_iload_n C.x C.b dX0_paceOf_27 rfl (lv_at hl 1 rfl) ?_
          exact j28 q_3.2 v2 v1 _ _ _ h (lv_sub hl [0, 2] rfl) hf
        · have hf := if_f (K := bl (X_paceOf_B4) n4) c9 hf
          refine lv_iload_n C.x C.b dX0_paceOf_23 rfl (lv_at hl 2 rfl) ?_
          refine lv_goto (tgt := 28) C.x C.b dX0_paceOf_24 (by decide) ?_
          exact j28 q_3.2 v2 v2 _ _ _ h (lv_sub hl [0, 2] rfl) hf
  intro H locs ls h hl
  have hl : lv_has ls 3 [(0, .ref o)] := hl
  unfold X_paceOf at hf
  refine lv_iconst (v := 1) C.x C.b dX0_paceOf_0 (by decide) ?_
  refine lv_istore_n (lv' := [(1, .int 1), (0, .ref o)]) C.x C.b dX0_paceOf_1 rfl hl (by decide) rfl (fun ls hl => ?_)
  refine lv_iconst (v := 2) C.x C.b dX0_paceOf_2 (by decide) ?_
  refine lv_istore_n (lv' := [(2, .int 2), (1, .int 1), (0, .ref o)]) C.x C.b dX0_paceOf_3 rfl hl (by decide) rfl (fun ls hl => ?_)
  exact l4  fu 1 2 σ _ _ _ h (lv_sub hl [2, 1, 0] rfl) hf
theorem tX_paceOf : GoodIn lw_all (wsV RX0 348 RX0 yX0_paceOf (ws_ yX0_paceOf cX0_paceOf 3 (some .int))) := lw_V q1102 q1104 qs49 q137 q1105
theorem cX_paceOf {p : Program} {l : Launch} {e : Env} {R : Room} {s : State} {m : MethodId} {args : Array Value} {below : List Frame} {meth : Method} {c : Code} {H : Heap} {locs : List Loc} {Q : State → Prop} {cc : ByteArray} {pc : Nat} {ls : Array Slot} {st : List Value} {nL d : Nat} {D : va_G} {ty : Nat → ClassId} {A : Nat → Prop} {o : Nat} {ad : Nat → Nat} {rs : va_W} {σ : PS} {q : (Int32 × PS)} (C : Cx p R s m args c cc nL RX0 D ty A d) (h : Hw D A s H locs (wX ty o ad σ ++ rs)) (hc : X_paceOf σ = some q) (hd : 8 + 1 ≤ d) (hls : ls.size = nL) (hcat : (st.map fun v => v.category).sum ≤ 8) (dec : decode cc pc = .ok (.invokevirtual 348, 3)) (kk : ∀ (H : Heap) (locs : List Loc), Hw D A s H locs (wX ty o ad q.2 ++ rs) → W p l e R s m args below meth c H locs 0 0 Q (F0 m (pc + 3) ls (.int (q.1) :: st))) : W p l e R s m args below meth c H locs 0 0 Q (F0 m pc ls (.ref o :: st)) := KI.callV (As := []) C (kX_paceOf l hc) tX_paceOf ⟨rfl, by decide, by decide, by show _ = some 0; decide +kernel⟩ 0 0 rfl rfl rfl hd (by decide) (Nat.zero_le _) (Nat.zero_le _) h hls rfl hcat dec kk
def X_paced_j20 (σ : PS) (x0 : Int32) : Option (Int32 × PS) := some (x0, σ)
def X_paced (σ : PS) : Option (Int32 × PS) := bd (X_asksLehr σ) (fun q_1 => if q_1.1 = 0 then X_paced_j20 q_1.2 ((-2)) else bd (X_paceOf q_1.2) (fun q_2 => bd (X_soundBy q_2.2 q_2.1) (fun q_3 => X_paced_j20 q_3.2 q_3.1)))
set_option maxHeartbeats 4000000 in
theorem kX_paced (l : Launch) {D : va_G} {ty : Nat → ClassId} {A : Nat → Prop} {o : Nat} {ad : Nat → Nat} {rs : va_W} {σ : PS} {σ' : PS} {r : Int32} (hf : X_paced σ = some (r, σ')) : KI l yX0_paced cX0_paced 1 .int 9 D ty A (wX ty o ad σ ++ rs) (wX ty o ad σ' ++ rs) [.ref o] r := by
  refine KI.of (by decide) (Nat.le_of_ble_eq_true rfl) ?_
  intro p e R s m args below meth c Q C hR
  have C : Cx p R s m args c cX0_paced 1 RX0 D ty A 9 := C
  have hR : ∀ (v : Int32) (σ2 : PS), (v, σ2) = (r, σ') → ∀ (H : Heap) (locs : List Loc) (pc : Nat) (ls : Array Slot), Hw D A s H locs (wX ty o ad σ2 ++ rs) → narrow .int (.int v) = .int v → decode cX0_paced pc = .ok (.ireturn, 1) → W p l e R s m args below meth c H locs 0 0 Q (F0 m pc ls [.int v]) := by intro v σ2 e9; cases e9; exact hR
  have j20 : ∀ (σ : PS) (x0 : Int32) (H : Heap) (locs : List Loc) (ls : Array Slot), Hw D A s H locs (wX ty o ad σ ++ rs) → lv_has ls 1 [] → X_paced_j20 σ x0 = some (r, σ') → W p l e R s m args below meth c H locs 0 0 Q (F0 m 20 ls [.int x0]) := by
    intro σ x0 H locs ls h hl hf
    unfold X_paced_j20 at hf
    exact hR _ _ (some_k hf) _ _ _ _ h rfl dX0_paced_20
  intro H locs ls h hl
  have hl : lv_has ls 1 [(0, .ref o)] := hl
  unfold X_paced at hf
  refine lv_aload_n C.x C.b dX0_paced_0 rfl (lv_at hl 0 rfl) ?_
  obtain ⟨q_1, hc, hf⟩ := bd_k (K := fun x => x) rfl hf
  refine cX_asksLehr C h hc (Nat.le_of_ble_eq_true rfl) hl.1 (Nat.le_of_ble_eq_true rfl) dX0_paced_1 (fun H locs h => ?_)
  refine lv_if_eq (tgt := 18) C.x C.b dX0_paced_4 (by decide) (fun c9 => ?_) (fun c9 => ?_)
  · have hf := if_t (K := fun x => x) c9 hf
    refine lv_bipush (v := (-2)) C.x C.b dX0_paced_18 (by decide) ?_
    exact j20 q_1.2 ((-2)) _ _ _ h (lv_sub hl [] rfl) hf
  · have hf := if_f (K := fun x => x) c9 hf
    refine lv_aload_n C.x C.b dX0_paced_7 rfl (lv_at hl 0 rfl) ?_
    refine lv_aload_n C.x C.b dX0_paced_8 rfl (lv_at hl 0 rfl) ?_
    obtain ⟨q_2, hc, hf⟩ := bd_k (K := fun x => x) rfl hf
    refine cX_paceOf C h hc (Nat.le_of_ble_eq_true rfl) hl.1 (Nat.le_of_ble_eq_true rfl) dX0_paced_9 (fun H locs h => ?_)
    obtain ⟨q_3, hc, hf⟩ := bd_k (K := fun x => x) rfl hf
    refine cX_soundBy C h hc (Nat.le_of_ble_eq_true rfl) hl.1 (Nat.le_of_ble_eq_true rfl) dX0_paced_12 (fun H locs h => ?_)
    refine lv_goto (tgt := 20) C.x C.b dX0_paced_15 (by decide) ?_
    exact j20 q_3.2 q_3.1 _ _ _ h (lv_sub hl [] rfl) hf
def X_raise_j38 (σ : PS) (x0 : Int32) : Option (Int32 × PS) := some (x0, σ)
def X_raise_j16 (σ : PS) : Option (Int32 × PS) := some ((-2), σ)
def X_raise (σ : PS) (v1 : Int32) (v2 : Int32) : Option (Int32 × PS) := bd (X_asksPiece σ v2) (fun q_1 => if q_1.1 = 0 then X_raise_j16 q_1.2 else bd (X_isZone q_1.2 v1) (fun q_2 => if q_2 = 0 then X_raise_j16 q_1.2 else bd (X_raiseOf q_1.2 v1 v2) (fun q_3 => nm (q_3.1) (fun v3_4 => if v3_4 = 1000000000 then X_raise_j38 q_3.2 ((-1)) else X_raise_j38 q_3.2 v3_4))))
set_option maxHeartbeats 4000000 in
theorem kX_raise (l : Launch) {D : va_G} {ty : Nat → ClassId} {A : Nat → Prop} {o : Nat} {ad : Nat → Nat} {rs : va_W} {σ : PS} {σ' : PS} {v1 : Int32} {v2 : Int32} {r : Int32} (hf : X_raise σ v1 v2 = some (r, σ')) : KI l yX0_raise cX0_raise 4 .int 9 D ty A (wX ty o ad σ ++ rs) (wX ty o ad σ' ++ rs) [.ref o, .int v1, .int v2] r := by
  refine KI.of (by decide) (Nat.le_of_ble_eq_true rfl) ?_
  intro p e R s m args below meth c Q C hR
  have C : Cx p R s m args c cX0_raise 4 RX0 D ty A 9 := C
  have hR : ∀ (v : Int32) (σ2 : PS), (v, σ2) = (r, σ') → ∀ (H : Heap) (locs : List Loc) (pc : Nat) (ls : Array Slot), Hw D A s H locs (wX ty o ad σ2 ++ rs) → narrow .int (.int v) = .int v → decode cX0_raise pc = .ok (.ireturn, 1) → W p l e R s m args below meth c H locs 0 0 Q (F0 m pc ls [.int v]) := by intro v σ2 e9; cases e9; exact hR
  have j38 : ∀ (σ : PS) (x0 : Int32) (H : Heap) (locs : List Loc) (ls : Array Slot), Hw D A s H locs (wX ty o ad σ ++ rs) → lv_has ls 4 [] → X_raise_j38 σ x0 = some (r, σ') → W p l e R s m args below meth c H locs 0 0 Q (F0 m 38 ls [.int x0]) := by
    intro σ x0 H locs ls h hl hf
    unfold X_raise_j38 at hf
    exact hR _ _ (some_k hf) _ _ _ _ h rfl dX0_raise_38
  have j16 : ∀ (σ : PS) (H : Heap) (locs : List Loc) (ls : Array Slot), Hw D A s H locs (wX ty o ad σ ++ rs) → lv_has ls 4 [] → X_raise_j16 σ = some (r, σ') → W p l e R s m args below meth c H locs 0 0 Q (F0 m 16 ls []) := by
    intro σ H locs ls h hl hf
    unfold X_raise_j16 at hf
    refine lv_bipush (v := (-2)) C.x C.b dX0_raise_16 (by decide) ?_
    exact hR _ _ (some_k hf) _ _ _ _ h rfl dX0_raise_18
  intro H locs ls h hl
  have hl : lv_has ls 4 [(0, .ref o), (1, .int v1), (2, .int v2)] := hl
  unfold X_raise at hf
  refine lv_aload_n C.x C.b dX0_raise_0 rfl (lv_at hl 0 rfl) ?_
  refine lv_iload_n C.x C.b dX0_raise_1 rfl (lv_at hl 2 rfl) ?_
  obtain ⟨q_1, hc, hf⟩ := bd_k (K := fun x => x) rfl hf
  refine cX_asksPiece C h hc (Nat.le_of_ble_eq_true rfl) hl.1 (Nat.le_of_ble_eq_true rfl) dX0_raise_2 (fun H locs h => ?_)
  refine lv_if_eq (tgt := 16) C.x C.b dX0_raise_5 (by decide) (fun c9 => ?_) (fun c9 => ?_)
  · have hf := if_t (K := fun x => x) c9 hf
    exact j16 q_1.2 _ _ _ h (lv_sub hl [] rfl) hf
  · have hf := if_f (K := fun x => x) c9 hf
    refine lv_aload_n C.x C.b dX0_raise_8 rfl (lv_at hl 0 rfl) ?_
    refine lv_iload_n C.x C.b dX0_raise_9 rfl (lv_at hl 1 rfl) ?_
    obtain ⟨q_2, hc, hf⟩ := bd_k (K := fun x => x) rfl hf
    refine cX_isZone C h hc (Nat.le_of_ble_eq_true rfl) hl.1 (Nat.le_of_ble_eq_true rfl) dX0_raise_10 (fun H locs h => ?_)
    refine lv_if_ne (tgt := 19) C.x C.b dX0_raise_13 (by decide) (fun c9 => ?_) (fun c9 => ?_)
    · have hf := if_f (K := fun x => x) c9 hf
      refine lv_aload_n C.x C.b dX0_raise_19 rfl (lv_at hl 0 rfl) ?_
      refine lv_iload_n C.x C.b dX0_raise_20 rfl (lv_at hl 1 rfl) ?_
      refine lv_iload_n C.x C.b dX0_raise_21 rfl (lv_at hl 2 rfl) ?_
      obtain ⟨q_3, hc, hf⟩ := bd_k (K := fun x => x) rfl hf
      refine cX_raiseOf C h hc (Nat.le_of_ble_eq_true rfl) hl.1 (Nat.le_of_ble_eq_true rfl) dX0_raise_22 (fun H locs h => ?_)
      obtain ⟨v3_4, e9, hf⟩ := nm_k (K := fun x => x) hf
      refine lv_topI e9 ?_
      refine lv_istore_n (lv' := [(3, .int v3_4), (0, .ref o), (1, .int v1), (2, .int v2)]) C.x C.b dX0_raise_25 rfl hl (by decide) rfl (fun ls hl => ?_)
      refine lv_iload_n C.x C.b dX0_raise_26 rfl (lv_at hl 0 rfl) ?_
      refine lv_ldcw (v := 1000000000) C.x C.b C.own (C.ts _ q1012) dX0_raise_27 ?_
      refine lv_icmp_ne (tgt := 37) C.x C.b dX0_raise_30 (by decide) (fun c9 => ?_) (fun c9 => ?_)
      · have hf := if_f (K := fun x => x) c9 hf
        refine lv_iload_n C.x C.b dX0_raise_37 rfl (lv_at hl 0 rfl) ?_
        exact j38 q_3.2 v3_4 _ _ _ h (lv_sub hl [] rfl) hf
      · have hf := if_t (K := fun x => x) c9 hf
        refine lv_iconst (v := (-1)) C.x C.b dX0_raise_33 (by decide) ?_
        refine lv_goto (tgt := 38) C.x C.b dX0_raise_34 (by decide) ?_
        exact j38 q_3.2 ((-1)) _ _ _ h (lv_sub hl [] rfl) hf
    · have hf := if_t (K := fun x => x) c9 hf
      exact j16 q_1.2 _ _ _ h (lv_sub hl [] rfl) hf
def X_rescue_j62 (σ : PS) (v2 : Int32) : Option (Int32 × PS) := some (v2, σ)
def X_rescue_j56 (σ : PS) (v1 : Int32) (v2 : Int32) (v3 : Int32) (v4 : Int32) : Option ((Int32 × Int32 × Int32 × PS) ⊕ (Int32 × PS)) := nm (v4 + 1) (fun v4_1 => some (.inl (v2, v3, v4_1, σ)))
def X_rescue_l20 (v1 : Int32) (v2 : Int32) (v3 : Int32) (v4 : Int32) (σ : PS) : Option ((Int32 × Int32 × Int32 × PS) ⊕ (Int32 × PS)) := if (gI σ 106) ≤ v4 then up (X_rescue_j62 σ v2) else bd (X_raiseOf σ v4 v1) (fun q_2 => nm (q_2.1) (fun v5_3 => if v5_3 < v3 then X_rescue_j56 q_2.2 v1 v4 v5_3 v4 else X_rescue_j56 q_2.2 v1 v2 v3 v4))
def X_rescue_B20 (v1 : Int32) : (Int32 × Int32 × Int32 × PS) → Option ((Int32 × Int32 × Int32 × PS) ⊕ (Int32 × PS)) := fun t => X_rescue_l20 v1 t.1 t.2.1 t.2.2.1 t.2.2.2
def X_rescue (σ : PS) (v1 : Int32) : Option (Int32 × PS) := bd (X_asksPiece σ v1) (fun q_4 => if q_4.1 = 0 then some ((-2), q_4.2) else loop (X_rescue_B20 v1) fu ((-1), 1000000000, 0, q_4.2))
set_option maxHeartbeats 4000000 in
theorem kX_rescue (l : Launch) {D : va_G} {ty : Nat → ClassId} {A : Nat → Prop} {o : Nat} {ad : Nat → Nat} {rs : va_W} {σ : PS} {σ' : PS} {v1 : Int32} {r : Int32} (hf : X_rescue σ v1 = some (r, σ')) : KI l yX0_rescue cX0_rescue 6 .int 9 D ty A (wX ty o ad σ ++ rs) (wX ty o ad σ' ++ rs) [.ref o, .int v1] r := by
  refine KI.of (by decide) (Nat.le_of_ble_eq_true rfl) ?_
  intro p e R s m args below meth c Q C hR
  have C : Cx p R s m args c cX0_rescue 6 RX0 D ty A 9 := C
  have hR : ∀ (v : Int32) (σ2 : PS), (v, σ2) = (r, σ') → ∀ (H : Heap) (locs : List Loc) (pc : Nat) (ls : Array Slot), Hw D A s H locs (wX ty o ad σ2 ++ rs) → narrow .int (.int v) = .int v → decode cX0_rescue pc = .ok (.ireturn, 1) → W p l e R s m args below meth c H locs 0 0 Q (F0 m pc ls [.int v]) := by intro v σ2 e9; cases e9; exact hR
  have j62 : ∀ (σ : PS) (v2 : Int32) (H : Heap) (locs : List Loc) (ls : Array Slot), Hw D A s H locs (wX ty o ad σ ++ rs) → lv_has ls 6 [(2, .int v2)] → X_rescue_j62 σ v2 = some (r, σ') → W p l e R s m args below meth c H locs 0 0 Q (F0 m 62 ls []) := by
    intro σ v2 H locs ls h hl hf
    unfold X_rescue_j62 at hf
    refine lv_iload_n C.x C.b dX0_rescue_62 rfl (lv_at hl 0 rfl) ?_
    exact hR _ _ (some_k hf) _ _ _ _ h rfl dX0_rescue_63
  have l20 : ∀ (n20 : Nat) (v2 : Int32) (v3 : Int32) (v4 : Int32) (σ : PS) (H : Heap) (locs : List Loc) (ls : Array Slot), Hw D A s H locs (wX ty o ad σ ++ rs) → lv_has ls 6 [(0, .ref o), (1, .int v1), (2, .int v2), (3, .int v3), (4, .int v4)] → loop (X_rescue_B20 v1) n20 (v2, v3, v4, σ) = some (r, σ') → W p l e R s m args below meth c H locs 0 0 Q (F0 m 20 ls []) := by
    intro n20
    induction n20 with
    | zero => intro v2 v3 v4 σ H locs ls h hl hf; exact (none_k hf).elim
    | succ n20 ih20 =>
      have j56 : ∀ (σ : PS) (v2 : Int32) (v3 : Int32) (v4 : Int32) (H : Heap) (locs : List Loc) (ls : Array Slot), Hw D A s H locs (wX ty o ad σ ++ rs) → lv_has ls 6 [(0, .ref o), (1, .int v1), (2, .int v2), (3, .int v3), (4, .int v4)] → bl (X_rescue_B20 v1) n20 (X_rescue_j56 σ v1 v2 v3 v4) = some (r, σ') → W p l e R s m args below meth c H locs 0 0 Q (F0 m 56 ls []) := by
        intro σ v2 v3 v4 H locs ls h hl hf
        unfold X_rescue_j56 at hf
        obtain ⟨v4_1, e9, hf⟩ := nm_k (K := bl (X_rescue_B20 v1) n20) hf
        refine lv_iinc (v := v4_1) (lv' := [(4, .int v4_1), (0, .ref o), (1, .int v1), (2, .int v2), (3, .int v3)]) C.x C.b dX0_rescue_56 hl (k := 4) rfl (iinc_e (k := 1) (by decide) e9) (by decide) rfl (fun ls hl => ?_)
        refine lv_goto (tgt := 20) C.x C.b dX0_rescue_59 (by decide) ?_
        exact ih20 v2 v3 v4_1 σ _ _ _ h (lv_sub hl [1, 2, 3, 4, 0] rfl) hf
      intro v2 v3 v4 σ H locs ls h hl hf
      have hf : bl (X_rescue_B20 v1) n20 (X_rescue_l20 v1 v2 v3 v4 σ) = some (r, σ') := hf
      unfold X_rescue_l20 at hf
      refine lv_iload C.x C.b dX0_rescue_20 (lv_at hl 4 rfl) ?_
      refine lv_aload_n C.x C.b dX0_rescue_22 rfl (lv_at hl 0 rfl) ?_
      refine x_g0 C h dX0_rescue_23 ?_
      refine x_g106 C h dX0_rescue_26 ?_
      refine lv_icmp_ge (tgt := 62) C.x C.b dX0_rescue_29 (by decide) (fun c9 => ?_) (fun c9 => ?_)
      · have hf := if_t (K := bl (X_rescue_B20 v1) n20) c9 hf
        have hf := bl_upK (K := fun x => x) hf
        exact j62 σ v2 _ _ _ h (lv_sub hl [2] rfl) hf
      · have hf := if_f (K := bl (X_rescue_B20 v1) n20) c9 hf
        refine lv_aload_n C.x C.b dX0_rescue_32 rfl (lv_at hl 0 rfl) ?_
        refine lv_iload C.x C.b dX0_rescue_33 (lv_at hl 4 rfl) ?_
        refine lv_iload_n C.x C.b dX0_rescue_35 rfl (lv_at hl 1 rfl) ?_
        obtain ⟨q_2, hc, hf⟩ := bd_k (K := bl (X_rescue_B20 v1) n20) rfl hf
        refine cX_raiseOf C h hc (Nat.le_of_ble_eq_true rfl) hl.1 (Nat.le_of_ble_eq_true rfl) dX0_rescue_36 (fun H locs h => ?_)
        obtain ⟨v5_3, e9, hf⟩ := nm_k (K := bl (X_rescue_B20 v1) n20) hf
        refine lv_topI e9 ?_
        refine lv_istore (lv' := [(5, .int v5_3), (0, .ref o), (1, .int v1), (2, .int v2), (3, .int v3), (4, .int v4)]) C.x C.b dX0_rescue_39 hl (by decide) rfl (fun ls hl => ?_)
        refine lv_iload C.x C.b dX0_rescue_41 (lv_at hl 0 rfl) ?_
        refine lv_iload_n C.x C.b dX0_rescue_43 rfl (lv_at hl 4 rfl) ?_
        refine lv_icmp_lt (tgt := 50) C.x C.b dX0_rescue_44 (by decide) (fun c9 => ?_) (fun c9 => ?_)
        · have hf := if_t (K := bl (X_rescue_B20 v1) n20) c9 hf
          refine lv_iload C.x C.b dX0_rescue_50 (lv_at hl 0 rfl) ?_
          refine lv_istore_n (lv' := [(3, .int v5_3), (5, .int v5_3), (0, .ref o), (1, .int v1), (2, .int v2), (4, .int v4)]) C.x C.b dX0_rescue_52 rfl hl (by decide) rfl (fun ls hl => ?_)
          refine lv_iload C.x C.b dX0_rescue_53 (lv_at hl 5 rfl) ?_
          refine lv_istore_n (lv' := [(2, .int v4), (3, .int v5_3), (5, .int v5_3), (0, .ref o), (1, .int v1), (4, .int v4)]) C.x C.b dX0_rescue_55 rfl hl (by decide) rfl (fun ls hl => ?_)
          exact j56 q_2.2 v4 v5_3 v4 _ _ _ h (lv_sub hl [3, 4, 0, 1, 5] rfl) hf
        · have hf := if_f (K := bl (X_rescue_B20 v1) n20) c9 hf
          refine lv_goto (tgt := 56) C.x C.b dX0_rescue_47 (by decide) ?_
          exact j56 q_2.2 v2 v3 v4 _ _ _ h (lv_sub hl [1, 2, 3, 4, 5] rfl) hf
  intro H locs ls h hl
  have hl : lv_has ls 6 [(0, .ref o), (1, .int v1)] := hl
  unfold X_rescue at hf
  refine lv_aload_n C.x C.b dX0_rescue_0 rfl (lv_at hl 0 rfl) ?_
  refine lv_iload_n C.x C.b dX0_rescue_1 rfl (lv_at hl 1 rfl) ?_
  obtain ⟨q_4, hc, hf⟩ := bd_k (K := fun x => x) rfl hf
  refine cX_asksPiece C h hc (Nat.le_of_ble_eq_true rfl) hl.1 (Nat.le_of_ble_eq_true rfl) dX0_rescue_2 (fun H locs h => ?_)
  refine lv_if_ne (tgt := 11) C.x C.b dX0_rescue_5 (by decide) (fun c9 => ?_) (fun c9 => ?_)
  · have hf := if_f (K := fun x => x) c9 hf
    refine lv_iconst (v := (-1)) C.x C.b dX0_rescue_11 (by decide) ?_
    refine lv_istore_n (lv' := [(2, .int ((-1))), (0, .ref o), (1, .int v1)]) C.x C.b dX0_rescue_12 rfl hl (by decide) rfl (fun ls hl => ?_)
    refine lv_ldcw (v := 1000000000) C.x C.b C.own (C.ts _ q1012) dX0_rescue_13 ?_
    refine lv_istore_n (lv' := [(3, .int 1000000000), (2, .int ((-1))), (0, .ref o), (1, .int v1)]) C.x C.b dX0_rescue_16 rfl hl (by decide) rfl (fun ls hl => ?_)
    refine lv_iconst (v := 0) C.x C.b dX0_rescue_17 (by decide) ?_
    refine lv_istore (lv' := [(4, .int 0), (3, .int 1000000000), (2, .int ((-1))), (0, .ref o), (1, .int v1)]) C.x C.b dX0_rescue_18 hl (by decide) rfl (fun ls hl => ?_)
    exact l20  fu ((-1)) 1000000000 0 q_4.2 _ _ _ h (lv_sub hl [3, 4, 2, 1, 0] rfl) hf
  · have hf := if_t (K := fun x => x) c9 hf
    refine lv_bipush (v := (-2)) C.x C.b dX0_rescue_8 (by decide) ?_
    exact hR _ _ (some_k hf) _ _ _ _ h rfl dX0_rescue_10
def X_swap_j101 (σ : PS) (v2 : Int32) : Option (Int32 × PS) := some (v2, σ)
def X_swap_j95 (σ : PS) (v1 : Int32) (v2 : Int32) (v3 : Int32) : Option ((Int32 × Int32 × Int32 × PS) ⊕ (Int32 × PS)) := nm (v3 + 1) (fun v3_1 => some (.inl (v1, v2, v3_1, σ)))
def X_swap_j89 (σ : PS) (v1 : Int32) (v2 : Int32) (v3 : Int32) (v4 : Int32) : Option ((Int32 × Int32 × Int32 × PS) ⊕ ((Int32 × Int32 × Int32 × PS) ⊕ (Int32 × PS))) := nm (v4 + 1) (fun v4_2 => some (.inl (v1, v2, v4_2, σ)))
def X_swap_l35 (v3 : Int32) (v1 : Int32) (v2 : Int32) (v4 : Int32) (σ : PS) : Option ((Int32 × Int32 × Int32 × PS) ⊕ ((Int32 × Int32 × Int32 × PS) ⊕ (Int32 × PS))) := if (gI σ 106) ≤ v4 then up (X_swap_j95 σ v1 v2 v3) else bd (X_changes σ v3 v4) (fun q_3 => bd (X_lays q_3) (fun q_4 => bd (X_changes q_4 v3 v4) (fun q_5 => bd (X_soundMany q_5) (fun q_6 => if v1 < q_6 then bd (X_soundMany q_5) (fun q_7 => nm ((10 * v3) + v4) (fun v2_8 => X_swap_j89 q_5 q_7 v2_8 v3 v4)) else X_swap_j89 q_5 v1 v2 v3 v4))))
def X_swap_B35 (v3 : Int32) : (Int32 × Int32 × Int32 × PS) → Option ((Int32 × Int32 × Int32 × PS) ⊕ ((Int32 × Int32 × Int32 × PS) ⊕ (Int32 × PS))) := fun t => X_swap_l35 v3 t.1 t.2.1 t.2.2.1 t.2.2.2
def X_swap_l19 (v1 : Int32) (v2 : Int32) (v3 : Int32) (σ : PS) : Option ((Int32 × Int32 × Int32 × PS) ⊕ (Int32 × PS)) := if (gI σ 106) ≤ v3 then up (X_swap_j101 σ v2) else nm (v3 + 1) (fun v4_9 => loop (X_swap_B35 v3) fu (v1, v2, v4_9, σ))
def X_swap_B19 : (Int32 × Int32 × Int32 × PS) → Option ((Int32 × Int32 × Int32 × PS) ⊕ (Int32 × PS)) := fun t => X_swap_l19 t.1 t.2.1 t.2.2.1 t.2.2.2
def X_swap (σ : PS) : Option (Int32 × PS) := bd (X_asksLehr σ) (fun q_10 => if q_10.1 = 0 then some ((-2), q_10.2) else bd (X_soundMany q_10.2) (fun q_11 => loop (X_swap_B19) fu (q_11, (-1), 0, q_10.2)))
set_option maxHeartbeats 4000000 in
theorem kX_swap (l : Launch) {D : va_G} {ty : Nat → ClassId} {A : Nat → Prop} {o : Nat} {ad : Nat → Nat} {rs : va_W} {σ : PS} {σ' : PS} {r : Int32} (hf : X_swap σ = some (r, σ')) : KI l yX0_swap cX0_swap 5 .int 8 D ty A (wX ty o ad σ ++ rs) (wX ty o ad σ' ++ rs) [.ref o] r := by
  refine KI.of (by decide) (Nat.le_of_ble_eq_true rfl) ?_
  intro p e R s m args below meth c Q C hR
  have C : Cx p R s m args c cX0_swap 5 RX0 D ty A 8 := C
  have hR : ∀ (v : Int32) (σ2 : PS), (v, σ2) = (r, σ') → ∀ (H : Heap) (locs : List Loc) (pc : Nat) (ls : Array Slot), Hw D A s H locs (wX ty o ad σ2 ++ rs) → narrow .int (.int v) = .int v → decode cX0_swap pc = .ok (.ireturn, 1) → W p l e R s m args below meth c H locs 0 0 Q (F0 m pc ls [.int v]) := by intro v σ2 e9; cases e9; exact hR
  have j101 : ∀ (σ : PS) (v2 : Int32) (H : Heap) (locs : List Loc) (ls : Array Slot), Hw D A s H locs (wX ty o ad σ ++ rs) → lv_has ls 5 [(2, .int v2)] → X_swap_j101 σ v2 = some (r, σ') → W p l e R s m args below meth c H locs 0 0 Q (F0 m 101 ls []) := by
    intro σ v2 H locs ls h hl hf
    unfold X_swap_j101 at hf
    refine lv_iload_n C.x C.b dX0_swap_101 rfl (lv_at hl 0 rfl) ?_
    exact hR _ _ (some_k hf) _ _ _ _ h rfl dX0_swap_102
  have l19 : ∀ (n19 : Nat) (v1 : Int32) (v2 : Int32) (v3 : Int32) (σ : PS) (H : Heap) (locs : List Loc) (ls : Array Slot), Hw D A s H locs (wX ty o ad σ ++ rs) → lv_has ls 5 [(0, .ref o), (1, .int v1), (2, .int v2), (3, .int v3)] → loop (X_swap_B19) n19 (v1, v2, v3, σ) = some (r, σ') → W p l e R s m args below meth c H locs 0 0 Q (F0 m 19 ls []) := by
    intro n19
    induction n19 with
    | zero => intro v1 v2 v3 σ H locs ls h hl hf; exact (none_k hf).elim
    | succ n19 ih19 =>
      have j95 : ∀ (σ : PS) (v1 : Int32) (v2 : Int32) (v3 : Int32) (H : Heap) (locs : List Loc) (ls : Array Slot), Hw D A s H locs (wX ty o ad σ ++ rs) → lv_has ls 5 [(0, .ref o), (1, .int v1), (2, .int v2), (3, .int v3)] → bl (X_swap_B19) n19 (X_swap_j95 σ v1 v2 v3) = some (r, σ') → W p l e R s m args below meth c H locs 0 0 Q (F0 m 95 ls []) := by
        intro σ v1 v2 v3 H locs ls h hl hf
        unfold X_swap_j95 at hf
        obtain ⟨v3_1, e9, hf⟩ := nm_k (K := bl (X_swap_B19) n19) hf
        refine lv_iinc (v := v3_1) (lv' := [(3, .int v3_1), (0, .ref o), (1, .int v1), (2, .int v2)]) C.x C.b dX0_swap_95 hl (k := 3) rfl (iinc_e (k := 1) (by decide) e9) (by decide) rfl (fun ls hl => ?_)
        refine lv_goto (tgt := 19) C.x C.b dX0_swap_98 (by decide) ?_
        exact ih19 v1 v2 v3_1 σ _ _ _ h (lv_sub hl [1, 2, 3, 0] rfl) hf
      have l35 : ∀ (v3 : Int32) (n35 : Nat) (v1 : Int32) (v2 : Int32) (v4 : Int32) (σ : PS) (H : Heap) (locs : List Loc) (ls : Array Slot), Hw D A s H locs (wX ty o ad σ ++ rs) → lv_has ls 5 [(0, .ref o), (1, .int v1), (2, .int v2), (3, .int v3), (4, .int v4)] → bl (X_swap_B19) n19 (loop (X_swap_B35 v3) n35 (v1, v2, v4, σ)) = some (r, σ') → W p l e R s m args below meth c H locs 0 0 Q (F0 m 35 ls []) := by
        intro v3 n35
        induction n35 with
        | zero => intro v1 v2 v4 σ H locs ls h hl hf; exact (none_k hf).elim
        | succ n35 ih35 =>
          have j89 : ∀ (σ : PS) (v1 : Int32) (v2 : Int32) (v4 : Int32) (H : Heap) (locs : List Loc) (ls : Array Slot), Hw D A s H locs (wX ty o ad σ ++ rs) → lv_has ls 5 [(0, .ref o), (1, .int v1), (2, .int v2), (3, .int v3), (4, .int v4)] → bl (X_swap_B19) n19 (bl (X_swap_B35 v3) n35 (X_swap_j89 σ v1 v2 v3 v4)) = some (r, σ') → W p l e R s m args below meth c H locs 0 0 Q (F0 m 89 ls []) := by
            intro σ v1 v2 v4 H locs ls h hl hf
            unfold X_swap_j89 at hf
            obtain ⟨v4_2, e9, hf⟩ := nm_k (K := fun x => bl (X_swap_B19) n19 (bl (X_swap_B35 v3) n35 x)) hf
            refine lv_iinc (v := v4_2) (lv' := [(4, .int v4_2), (0, .ref o), (1, .int v1), (2, .int v2), (3, .int v3)]) C.x C.b dX0_swap_89 hl (k := 4) rfl (iinc_e (k := 1) (by decide) e9) (by decide) rfl (fun ls hl => ?_)
            refine lv_goto (tgt := 35) C.x C.b dX0_swap_92 (by decide) ?_
            exact ih35 v1 v2 v4_2 σ _ _ _ h (lv_sub hl [1, 2, 3, 4, 0] rfl) hf
          intro v1 v2 v4 σ H locs ls h hl hf
          have hf : bl (X_swap_B19) n19 (bl (X_swap_B35 v3) n35 (X_swap_l35 v3 v1 v2 v4 σ)) = some (r, σ') := hf
          unfold X_swap_l35 at hf
          refine lv_iload C.x C.b dX0_swap_35 (lv_at hl 4 rfl) ?_
          refine lv_aload_n C.x C.b dX0_swap_37 rfl (lv_at hl 0 rfl) ?_
          refine x_g0 C h dX0_swap_38 ?_
          refine x_g106 C h dX0_swap_41 ?_
          refine lv_icmp_ge (tgt := 95) C.x C.b dX0_swap_44 (by decide) (fun c9 => ?_) (fun c9 => ?_)
          · have hf := if_t (K := fun x => bl (X_swap_B19) n19 (bl (X_swap_B35 v3) n35 x)) c9 hf
            have hf := bl_upK (K := bl (X_swap_B19) n19) hf
            exact j95 σ v1 v2 v3 _ _ _ h (lv_sub hl [0, 1, 2, 3] rfl) hf
          · have hf := if_f (K := fun x => bl (X_swap_B19) n19 (bl (X_swap_B35 v3) n35 x)) c9 hf
            refine lv_aload_n C.x C.b dX0_swap_47 rfl (lv_at hl 0 rfl) ?_
            refine lv_iload_n C.x C.b dX0_swap_48 rfl (lv_at hl 3 rfl) ?_
            refine lv_iload C.x C.b dX0_swap_49 (lv_at hl 4 rfl) ?_
            obtain ⟨q_3, hc, hf⟩ := bd_k (K := fun x => bl (X_swap_B19) n19 (bl (X_swap_B35 v3) n35 x)) rfl hf
            refine cX_changes C h hc (Nat.le_of_ble_eq_true rfl) hl.1 (Nat.le_of_ble_eq_true rfl) dX0_swap_51 (fun H locs h => ?_)
            refine lv_aload_n C.x C.b dX0_swap_54 rfl (lv_at hl 0 rfl) ?_
            obtain ⟨q_4, hc, hf⟩ := bd_k (K := fun x => bl (X_swap_B19) n19 (bl (X_swap_B35 v3) n35 x)) rfl hf
            refine cX_lays C h hc (Nat.le_of_ble_eq_true rfl) hl.1 (Nat.le_of_ble_eq_true rfl) dX0_swap_55 (fun H locs h => ?_)
            refine lv_aload_n C.x C.b dX0_swap_58 rfl (lv_at hl 0 rfl) ?_
            refine lv_iload_n C.x C.b dX0_swap_59 rfl (lv_at hl 3 rfl) ?_
            refine lv_iload C.x C.b dX0_swap_60 (lv_at hl 4 rfl) ?_
            obtain ⟨q_5, hc, hf⟩ := bd_k (K := fun x => bl (X_swap_B19) n19 (bl (X_swap_B35 v3) n35 x)) rfl hf
            refine cX_changes C h hc (Nat.le_of_ble_eq_true rfl) hl.1 (Nat.le_of_ble_eq_true rfl) dX0_swap_62 (fun H locs h => ?_)
            refine lv_aload_n C.x C.b dX0_swap_65 rfl (lv_at hl 0 rfl) ?_
            obtain ⟨q_6, hc, hf⟩ := bd_k (K := fun x => bl (X_swap_B19) n19 (bl (X_swap_B35 v3) n35 x)) rfl hf
            refine cX_soundMany C h hc (Nat.le_of_ble_eq_true rfl) hl.1 (Nat.le_of_ble_eq_true rfl) dX0_swap_66 (fun H locs h => ?_)
            refine lv_iload_n C.x C.b dX0_swap_69 rfl (lv_at hl 1 rfl) ?_
            refine lv_icmp_gt (tgt := 76) C.x C.b dX0_swap_70 (by decide) (fun c9 => ?_) (fun c9 => ?_)
            · have hf := if_t (K := fun x => bl (X_swap_B19) n19 (bl (X_swap_B35 v3) n35 x)) c9 hf
              refine lv_aload_n C.x C.b dX0_swap_76 rfl (lv_at hl 0 rfl) ?_
              obtain ⟨q_7, hc, hf⟩ := bd_k (K := fun x => bl (X_swap_B19) n19 (bl (X_swap_B35 v3) n35 x)) rfl hf
              refine cX_soundMany C h hc (Nat.le_of_ble_eq_true rfl) hl.1 (Nat.le_of_ble_eq_true rfl) dX0_swap_77 (fun H locs h => ?_)
              refine lv_istore_n (lv' := [(1, .int q_7), (0, .ref o), (2, .int v2), (3, .int v3), (4, .int v4)]) C.x C.b dX0_swap_80 rfl hl (by decide) rfl (fun ls hl => ?_)
              refine lv_bipush (v := 10) C.x C.b dX0_swap_81 (by decide) ?_
              refine lv_iload_n C.x C.b dX0_swap_83 rfl (lv_at hl 3 rfl) ?_
              refine lv_imul C.x C.b dX0_swap_84 ?_
              refine lv_iload C.x C.b dX0_swap_85 (lv_at hl 4 rfl) ?_
              refine lv_iadd C.x C.b dX0_swap_87 ?_
              obtain ⟨v2_8, e9, hf⟩ := nm_k (K := fun x => bl (X_swap_B19) n19 (bl (X_swap_B35 v3) n35 x)) hf
              refine lv_topI e9 ?_
              refine lv_istore_n (lv' := [(2, .int v2_8), (1, .int q_7), (0, .ref o), (3, .int v3), (4, .int v4)]) C.x C.b dX0_swap_88 rfl hl (by decide) rfl (fun ls hl => ?_)
              exact j89 q_5 q_7 v2_8 v4 _ _ _ h (lv_sub hl [2, 1, 0, 3, 4] rfl) hf
            · have hf := if_f (K := fun x => bl (X_swap_B19) n19 (bl (X_swap_B35 v3) n35 x)) c9 hf
              refine lv_goto (tgt := 89) C.x C.b dX0_swap_73 (by decide) ?_
              exact j89 q_5 v1 v2 v4 _ _ _ h (lv_sub hl [0, 1, 2, 3, 4] rfl) hf
      intro v1 v2 v3 σ H locs ls h hl hf
      have hf : bl (X_swap_B19) n19 (X_swap_l19 v1 v2 v3 σ) = some (r, σ') := hf
      unfold X_swap_l19 at hf
      refine lv_iload_n C.x C.b dX0_swap_19 rfl (lv_at hl 3 rfl) ?_
      refine lv_aload_n C.x C.b dX0_swap_20 rfl (lv_at hl 0 rfl) ?_
      refine x_g0 C h dX0_swap_21 ?_
      refine x_g106 C h dX0_swap_24 ?_
      refine lv_icmp_ge (tgt := 101) C.x C.b dX0_swap_27 (by decide) (fun c9 => ?_) (fun c9 => ?_)
      · have hf := if_t (K := bl (X_swap_B19) n19) c9 hf
        have hf := bl_upK (K := fun x => x) hf
        exact j101 σ v2 _ _ _ h (lv_sub hl [2] rfl) hf
      · have hf := if_f (K := bl (X_swap_B19) n19) c9 hf
        refine lv_iload_n C.x C.b dX0_swap_30 rfl (lv_at hl 3 rfl) ?_
        refine lv_iconst (v := 1) C.x C.b dX0_swap_31 (by decide) ?_
        refine lv_iadd C.x C.b dX0_swap_32 ?_
        obtain ⟨v4_9, e9, hf⟩ := nm_k (K := bl (X_swap_B19) n19) hf
        refine lv_topI e9 ?_
        refine lv_istore (lv' := [(4, .int v4_9), (0, .ref o), (1, .int v1), (2, .int v2), (3, .int v3)]) C.x C.b dX0_swap_33 hl (by decide) rfl (fun ls hl => ?_)
        exact l35 v3 fu v1 v2 v4_9 σ _ _ _ h (lv_sub hl [1, 2, 3, 4, 0] rfl) hf
  intro H locs ls h hl
  have hl : lv_has ls 5 [(0, .ref o)] := hl
  unfold X_swap at hf
  refine lv_aload_n C.x C.b dX0_swap_0 rfl (lv_at hl 0 rfl) ?_
  obtain ⟨q_10, hc, hf⟩ := bd_k (K := fun x => x) rfl hf
  refine cX_asksLehr C h hc (Nat.le_of_ble_eq_true rfl) hl.1 (Nat.le_of_ble_eq_true rfl) dX0_swap_1 (fun H locs h => ?_)
  refine lv_if_ne (tgt := 10) C.x C.b dX0_swap_4 (by decide) (fun c9 => ?_) (fun c9 => ?_)
  · have hf := if_f (K := fun x => x) c9 hf
    refine lv_aload_n C.x C.b dX0_swap_10 rfl (lv_at hl 0 rfl) ?_
    obtain ⟨q_11, hc, hf⟩ := bd_k (K := fun x => x) rfl hf
    refine cX_soundMany C h hc (Nat.le_of_ble_eq_true rfl) hl.1 (Nat.le_of_ble_eq_true rfl) dX0_swap_11 (fun H locs h => ?_)
    refine lv_istore_n (lv' := [(1, .int q_11), (0, .ref o)]) C.x C.b dX0_swap_14 rfl hl (by decide) rfl (fun ls hl => ?_)
    refine lv_iconst (v := (-1)) C.x C.b dX0_swap_15 (by decide) ?_
    refine lv_istore_n (lv' := [(2, .int ((-1))), (1, .int q_11), (0, .ref o)]) C.x C.b dX0_swap_16 rfl hl (by decide) rfl (fun ls hl => ?_)
    refine lv_iconst (v := 0) C.x C.b dX0_swap_17 (by decide) ?_
    refine lv_istore_n (lv' := [(3, .int 0), (2, .int ((-1))), (1, .int q_11), (0, .ref o)]) C.x C.b dX0_swap_18 rfl hl (by decide) rfl (fun ls hl => ?_)
    exact l19  fu q_11 ((-1)) 0 q_10.2 _ _ _ h (lv_sub hl [3, 2, 1, 0] rfl) hf
  · have hf := if_t (K := fun x => x) c9 hf
    refine lv_bipush (v := (-2)) C.x C.b dX0_swap_7 (by decide) ?_
    exact hR _ _ (some_k hf) _ _ _ _ h rfl dX0_swap_9
def X_skip_j111 (σ : PS) (v2 : Int32) : Option (Int32 × PS) := some (v2, σ)
def X_skip_j105 (σ : PS) (v1 : Int32) (v2 : Int32) (v3 : Int32) : Option ((Int32 × Int32 × Int32 × PS) ⊕ (Int32 × PS)) := nm (v3 + 1) (fun v3_1 => some (.inl (v1, v2, v3_1, σ)))
def X_skip_j83 (σ : PS) (v1 : Int32) (v2 : Int32) (v3 : Int32) : Option ((Int32 × Int32 × Int32 × PS) ⊕ (Int32 × PS)) := bd (X_lays σ) (fun q_2 => bd (X_soundMany q_2) (fun q_3 => if v1 < q_3 then bd (X_soundMany q_2) (fun q_4 => X_skip_j105 q_2 q_4 v3 v3) else X_skip_j105 q_2 v1 v2 v3))
def X_skip_j76 (σ : PS) (v1 : Int32) (v2 : Int32) (v3 : Int32) (v4 : Int32) (x0 : Int32) (x1 : Int32) : Option ((Int32 × PS) ⊕ ((Int32 × Int32 × Int32 × PS) ⊕ (Int32 × PS))) := ix x1 7 (nm (wA σ 7 x1 x0) (fun σ_5 => nm (v4 + 1) (fun v4_6 => some (.inl (v4_6, σ_5)))))
def X_skip_l46 (v1 : Int32) (v2 : Int32) (v3 : Int32) (v4 : Int32) (σ : PS) : Option ((Int32 × PS) ⊕ ((Int32 × Int32 × Int32 × PS) ⊕ (Int32 × PS))) := if (gI σ 10) ≤ v4 then up (X_skip_j83 σ v1 v2 v3) else if v3 ≤ v4 then X_skip_j76 σ v1 v2 v3 v4 (v4 + 1) v4 else X_skip_j76 σ v1 v2 v3 v4 v4 v4
def X_skip_B46 (v1 : Int32) (v2 : Int32) (v3 : Int32) : (Int32 × PS) → Option ((Int32 × PS) ⊕ ((Int32 × Int32 × Int32 × PS) ⊕ (Int32 × PS))) := fun t => X_skip_l46 v1 v2 v3 t.1 t.2
def X_skip_l19 (v1 : Int32) (v2 : Int32) (v3 : Int32) (σ : PS) : Option ((Int32 × Int32 × Int32 × PS) ⊕ (Int32 × PS)) := if (gI σ 106) ≤ v3 then up (X_skip_j111 σ v2) else nm (sI σ 10 ((gI σ 106) - 1)) (fun σ_7 => loop (X_skip_B46 v1 v2 v3) fu (0, σ_7))
def X_skip_B19 : (Int32 × Int32 × Int32 × PS) → Option ((Int32 × Int32 × Int32 × PS) ⊕ (Int32 × PS)) := fun t => X_skip_l19 t.1 t.2.1 t.2.2.1 t.2.2.2
def X_skip (σ : PS) : Option (Int32 × PS) := bd (X_asksLehr σ) (fun q_8 => if q_8.1 = 0 then some ((-2), q_8.2) else bd (X_soundMany q_8.2) (fun q_9 => loop (X_skip_B19) fu (q_9, (-1), 0, q_8.2)))
set_option maxHeartbeats 4000000 in
theorem kX_skip (l : Launch) {D : va_G} {ty : Nat → ClassId} {A : Nat → Prop} {o : Nat} {ad : Nat → Nat} {rs : va_W} {σ : PS} {σ' : PS} {r : Int32} (hf : X_skip σ = some (r, σ')) : KI l yX0_skip cX0_skip 5 .int 8 D ty A (wX ty o ad σ ++ rs) (wX ty o ad σ' ++ rs) [.ref o] r := by
  refine KI.of (by decide) (Nat.le_of_ble_eq_true rfl) ?_
  intro p e R s m args below meth c Q C hR
  have C : Cx p R s m args c cX0_skip 5 RX0 D ty A 8 := C
  have hR : ∀ (v : Int32) (σ2 : PS), (v, σ2) = (r, σ') → ∀ (H : Heap) (locs : List Loc) (pc : Nat) (ls : Array Slot), Hw D A s H locs (wX ty o ad σ2 ++ rs) → narrow .int (.int v) = .int v → decode cX0_skip pc = .ok (.ireturn, 1) → W p l e R s m args below meth c H locs 0 0 Q (F0 m pc ls [.int v]) := by intro v σ2 e9; cases e9; exact hR
  have j111 : ∀ (σ : PS) (v2 : Int32) (H : Heap) (locs : List Loc) (ls : Array Slot), Hw D A s H locs (wX ty o ad σ ++ rs) → lv_has ls 5 [(2, .int v2)] → X_skip_j111 σ v2 = some (r, σ') → W p l e R s m args below meth c H locs 0 0 Q (F0 m 111 ls []) := by
    intro σ v2 H locs ls h hl hf
    unfold X_skip_j111 at hf
    refine lv_iload_n C.x C.b dX0_skip_111 rfl (lv_at hl 0 rfl) ?_
    exact hR _ _ (some_k hf) _ _ _ _ h rfl dX0_skip_112
  have l19 : ∀ (n19 : Nat) (v1 : Int32) (v2 : Int32) (v3 : Int32) (σ : PS) (H : Heap) (locs : List Loc) (ls : Array Slot), Hw D A s H locs (wX ty o ad σ ++ rs) → lv_has ls 5 [(0, .ref o), (1, .int v1), (2, .int v2), (3, .int v3)] → loop (X_skip_B19) n19 (v1, v2, v3, σ) = some (r, σ') → W p l e R s m args below meth c H locs 0 0 Q (F0 m 19 ls []) := by
    intro n19
    induction n19 with
    | zero => intro v1 v2 v3 σ H locs ls h hl hf; exact (none_k hf).elim
    | succ n19 ih19 =>
      have j105 : ∀ (σ : PS) (v1 : Int32) (v2 : Int32) (v3 : Int32) (H : Heap) (locs : List Loc) (ls : Array Slot), Hw D A s H locs (wX ty o ad σ ++ rs) → lv_has ls 5 [(0, .ref o), (1, .int v1), (2, .int v2), (3, .int v3)] → bl (X_skip_B19) n19 (X_skip_j105 σ v1 v2 v3) = some (r, σ') → W p l e R s m args below meth c H locs 0 0 Q (F0 m 105 ls []) := by
        intro σ v1 v2 v3 H locs ls h hl hf
        unfold X_skip_j105 at hf
        obtain ⟨v3_1, e9, hf⟩ := nm_k (K := bl (X_skip_B19) n19) hf
        refine lv_iinc (v := v3_1) (lv' := [(3, .int v3_1), (0, .ref o), (1, .int v1), (2, .int v2)]) C.x C.b dX0_skip_105 hl (k := 3) rfl (iinc_e (k := 1) (by decide) e9) (by decide) rfl (fun ls hl => ?_)
        refine lv_goto (tgt := 19) C.x C.b dX0_skip_108 (by decide) ?_
        exact ih19 v1 v2 v3_1 σ _ _ _ h (lv_sub hl [1, 2, 3, 0] rfl) hf
      have j83 : ∀ (σ : PS) (v1 : Int32) (v2 : Int32) (v3 : Int32) (H : Heap) (locs : List Loc) (ls : Array Slot), Hw D A s H locs (wX ty o ad σ ++ rs) → lv_has ls 5 [(0, .ref o), (1, .int v1), (2, .int v2), (3, .int v3)] → bl (X_skip_B19) n19 (X_skip_j83 σ v1 v2 v3) = some (r, σ') → W p l e R s m args below meth c H locs 0 0 Q (F0 m 83 ls []) := by
        intro σ v1 v2 v3 H locs ls h hl hf
        unfold X_skip_j83 at hf
        refine lv_aload_n C.x C.b dX0_skip_83 rfl (lv_at hl 0 rfl) ?_
        obtain ⟨q_2, hc, hf⟩ := bd_k (K := bl (X_skip_B19) n19) rfl hf
        refine cX_lays C h hc (Nat.le_of_ble_eq_true rfl) hl.1 (Nat.le_of_ble_eq_true rfl) dX0_skip_84 (fun H locs h => ?_)
        refine lv_aload_n C.x C.b dX0_skip_87 rfl (lv_at hl 0 rfl) ?_
        obtain ⟨q_3, hc, hf⟩ := bd_k (K := bl (X_skip_B19) n19) rfl hf
        refine cX_soundMany C h hc (Nat.le_of_ble_eq_true rfl) hl.1 (Nat.le_of_ble_eq_true rfl) dX0_skip_88 (fun H locs h => ?_)
        refine lv_iload_n C.x C.b dX0_skip_91 rfl (lv_at hl 1 rfl) ?_
        refine lv_icmp_gt (tgt := 98) C.x C.b dX0_skip_92 (by decide) (fun c9 => ?_) (fun c9 => ?_)
        · have hf := if_t (K := bl (X_skip_B19) n19) c9 hf
          refine lv_aload_n C.x C.b dX0_skip_98 rfl (lv_at hl 0 rfl) ?_
          obtain ⟨q_4, hc, hf⟩ := bd_k (K := bl (X_skip_B19) n19) rfl hf
          refine cX_soundMany C h hc (Nat.le_of_ble_eq_true rfl) hl.1 (Nat.le_of_ble_eq_true rfl) dX0_skip_99 (fun H locs h => ?_)
          refine lv_istore_n (lv' := [(1, .int q_4), (0, .ref o), (2, .int v2), (3, .int v3)]) C.x C.b dX0_skip_102 rfl hl (by decide) rfl (fun ls hl => ?_)
          refine lv_iload_n C.x C.b dX0_skip_103 rfl (lv_at hl 3 rfl) ?_
          refine lv_istore_n (lv' := [(2, .int v3), (1, .int q_4), (0, .ref o), (3, .int v3)]) C.x C.b dX0_skip_104 rfl hl (by decide) rfl (fun ls hl => ?_)
          exact j105 q_2 q_4 v3 v3 _ _ _ h (lv_sub hl [2, 1, 0, 3] rfl) hf
        · have hf := if_f (K := bl (X_skip_B19) n19) c9 hf
          refine lv_goto (tgt := 105) C.x C.b dX0_skip_95 (by decide) ?_
          exact j105 q_2 v1 v2 v3 _ _ _ h (lv_sub hl [0, 1, 2, 3] rfl) hf
      have l46 : ∀ (v1 : Int32) (v2 : Int32) (v3 : Int32) (n46 : Nat) (v4 : Int32) (σ : PS) (H : Heap) (locs : List Loc) (ls : Array Slot), Hw D A s H locs (wX ty o ad σ ++ rs) → lv_has ls 5 [(0, .ref o), (1, .int v1), (2, .int v2), (3, .int v3), (4, .int v4)] → bl (X_skip_B19) n19 (loop (X_skip_B46 v1 v2 v3) n46 (v4, σ)) = some (r, σ') → W p l e R s m args below meth c H locs 0 0 Q (F0 m 46 ls []) := by
        intro v1 v2 v3 n46
        induction n46 with
        | zero => intro v4 σ H locs ls h hl hf; exact (none_k hf).elim
        | succ n46 ih46 =>
          have j76 : ∀ (σ : PS) (v4 : Int32) (x0 : Int32) (x1 : Int32) (H : Heap) (locs : List Loc) (ls : Array Slot), Hw D A s H locs (wX ty o ad σ ++ rs) → lv_has ls 5 [(0, .ref o), (1, .int v1), (2, .int v2), (3, .int v3), (4, .int v4)] → bl (X_skip_B19) n19 (bl (X_skip_B46 v1 v2 v3) n46 (X_skip_j76 σ v1 v2 v3 v4 x0 x1)) = some (r, σ') → W p l e R s m args below meth c H locs 0 0 Q (F0 m 76 ls [.int x0, .int x1, .ref (ad 7)]) := by
            intro σ v4 x0 x1 H locs ls h hl hf
            unfold X_skip_j76 at hf
            obtain ⟨hi, hf⟩ := ix_k (K := fun x => bl (X_skip_B19) n19 (bl (X_skip_B46 v1 v2 v3) n46 x)) rfl hf
            obtain ⟨σ_5, e9, hf⟩ := nm_k (K := fun x => bl (X_skip_B19) n19 (bl (X_skip_B46 v1 v2 v3) n46 x)) hf
            refine x_w7 C h hi e9 dX0_skip_76 (fun H locs h => ?_)
            obtain ⟨v4_6, e9, hf⟩ := nm_k (K := fun x => bl (X_skip_B19) n19 (bl (X_skip_B46 v1 v2 v3) n46 x)) hf
            refine lv_iinc (v := v4_6) (lv' := [(4, .int v4_6), (0, .ref o), (1, .int v1), (2, .int v2), (3, .int v3)]) C.x C.b dX0_skip_77 hl (k := 4) rfl (iinc_e (k := 1) (by decide) e9) (by decide) rfl (fun ls hl => ?_)
            refine lv_goto (tgt := 46) C.x C.b dX0_skip_80 (by decide) ?_
            exact ih46 v4_6 σ_5 _ _ _ h (lv_sub hl [1, 2, 3, 4, 0] rfl) hf
          intro v4 σ H locs ls h hl hf
          have hf : bl (X_skip_B19) n19 (bl (X_skip_B46 v1 v2 v3) n46 (X_skip_l46 v1 v2 v3 v4 σ)) = some (r, σ') := hf
          unfold X_skip_l46 at hf
          refine lv_iload C.x C.b dX0_skip_46 (lv_at hl 4 rfl) ?_
          refine lv_aload_n C.x C.b dX0_skip_48 rfl (lv_at hl 0 rfl) ?_
          refine x_g10 C h dX0_skip_49 ?_
          refine lv_icmp_ge (tgt := 83) C.x C.b dX0_skip_52 (by decide) (fun c9 => ?_) (fun c9 => ?_)
          · have hf := if_t (K := fun x => bl (X_skip_B19) n19 (bl (X_skip_B46 v1 v2 v3) n46 x)) c9 hf
            have hf := bl_upK (K := bl (X_skip_B19) n19) hf
            exact j83 σ v1 v2 v3 _ _ _ h (lv_sub hl [0, 1, 2, 3] rfl) hf
          · have hf := if_f (K := fun x => bl (X_skip_B19) n19 (bl (X_skip_B46 v1 v2 v3) n46 x)) c9 hf
            refine lv_aload_n C.x C.b dX0_skip_55 rfl (lv_at hl 0 rfl) ?_
            refine x_g7 C h dX0_skip_56 ?_
            refine lv_iload C.x C.b dX0_skip_59 (lv_at hl 4 rfl) ?_
            refine lv_iload C.x C.b dX0_skip_61 (lv_at hl 4 rfl) ?_
            refine lv_iload_n C.x C.b dX0_skip_63 rfl (lv_at hl 3 rfl) ?_
            refine lv_icmp_ge (tgt := 72) C.x C.b dX0_skip_64 (by decide) (fun c9 => ?_) (fun c9 => ?_)
            · have hf := if_t (K := fun x => bl (X_skip_B19) n19 (bl (X_skip_B46 v1 v2 v3) n46 x)) c9 hf
              refine lv_iload C.x C.b dX0_skip_72 (lv_at hl 4 rfl) ?_
              refine lv_iconst (v := 1) C.x C.b dX0_skip_74 (by decide) ?_
              refine lv_iadd C.x C.b dX0_skip_75 ?_
              exact j76 σ v4 (v4 + 1) v4 _ _ _ h (lv_sub hl [0, 1, 2, 3, 4] rfl) hf
            · have hf := if_f (K := fun x => bl (X_skip_B19) n19 (bl (X_skip_B46 v1 v2 v3) n46 x)) c9 hf
              refine lv_iload C.x C.b dX0_skip_67 (lv_at hl 4 rfl) ?_
              refine lv_goto (tgt := 76) C.x C.b dX0_skip_69 (by decide) ?_
              exact j76 σ v4 v4 v4 _ _ _ h (lv_sub hl [0, 1, 2, 3, 4] rfl) hf
      intro v1 v2 v3 σ H locs ls h hl hf
      have hf : bl (X_skip_B19) n19 (X_skip_l19 v1 v2 v3 σ) = some (r, σ') := hf
      unfold X_skip_l19 at hf
      refine lv_iload_n C.x C.b dX0_skip_19 rfl (lv_at hl 3 rfl) ?_
      refine lv_aload_n C.x C.b dX0_skip_20 rfl (lv_at hl 0 rfl) ?_
      refine x_g0 C h dX0_skip_21 ?_
      refine x_g106 C h dX0_skip_24 ?_
      refine lv_icmp_ge (tgt := 111) C.x C.b dX0_skip_27 (by decide) (fun c9 => ?_) (fun c9 => ?_)
      · have hf := if_t (K := bl (X_skip_B19) n19) c9 hf
        have hf := bl_upK (K := fun x => x) hf
        exact j111 σ v2 _ _ _ h (lv_sub hl [2] rfl) hf
      · have hf := if_f (K := bl (X_skip_B19) n19) c9 hf
        refine lv_aload_n C.x C.b dX0_skip_30 rfl (lv_at hl 0 rfl) ?_
        refine lv_aload_n C.x C.b dX0_skip_31 rfl (lv_at hl 0 rfl) ?_
        refine x_g0 C h dX0_skip_32 ?_
        refine x_g106 C h dX0_skip_35 ?_
        refine lv_iconst (v := 1) C.x C.b dX0_skip_38 (by decide) ?_
        refine lv_isub C.x C.b dX0_skip_39 ?_
        obtain ⟨σ_7, e9, hf⟩ := nm_k (K := bl (X_skip_B19) n19) hf
        refine x_p10 C h e9 dX0_skip_40 (fun H locs h => ?_)
        refine lv_iconst (v := 0) C.x C.b dX0_skip_43 (by decide) ?_
        refine lv_istore (lv' := [(4, .int 0), (0, .ref o), (1, .int v1), (2, .int v2), (3, .int v3)]) C.x C.b dX0_skip_44 hl (by decide) rfl (fun ls hl => ?_)
        exact l46 v1 v2 v3 fu 0 σ_7 _ _ _ h (lv_sub hl [1, 2, 3, 4, 0] rfl) hf
  intro H locs ls h hl
  have hl : lv_has ls 5 [(0, .ref o)] := hl
  unfold X_skip at hf
  refine lv_aload_n C.x C.b dX0_skip_0 rfl (lv_at hl 0 rfl) ?_
  obtain ⟨q_8, hc, hf⟩ := bd_k (K := fun x => x) rfl hf
  refine cX_asksLehr C h hc (Nat.le_of_ble_eq_true rfl) hl.1 (Nat.le_of_ble_eq_true rfl) dX0_skip_1 (fun H locs h => ?_)
  refine lv_if_ne (tgt := 10) C.x C.b dX0_skip_4 (by decide) (fun c9 => ?_) (fun c9 => ?_)
  · have hf := if_f (K := fun x => x) c9 hf
    refine lv_aload_n C.x C.b dX0_skip_10 rfl (lv_at hl 0 rfl) ?_
    obtain ⟨q_9, hc, hf⟩ := bd_k (K := fun x => x) rfl hf
    refine cX_soundMany C h hc (Nat.le_of_ble_eq_true rfl) hl.1 (Nat.le_of_ble_eq_true rfl) dX0_skip_11 (fun H locs h => ?_)
    refine lv_istore_n (lv' := [(1, .int q_9), (0, .ref o)]) C.x C.b dX0_skip_14 rfl hl (by decide) rfl (fun ls hl => ?_)
    refine lv_iconst (v := (-1)) C.x C.b dX0_skip_15 (by decide) ?_
    refine lv_istore_n (lv' := [(2, .int ((-1))), (1, .int q_9), (0, .ref o)]) C.x C.b dX0_skip_16 rfl hl (by decide) rfl (fun ls hl => ?_)
    refine lv_iconst (v := 0) C.x C.b dX0_skip_17 (by decide) ?_
    refine lv_istore_n (lv' := [(3, .int 0), (2, .int ((-1))), (1, .int q_9), (0, .ref o)]) C.x C.b dX0_skip_18 rfl hl (by decide) rfl (fun ls hl => ?_)
    exact l19  fu q_9 ((-1)) 0 q_8.2 _ _ _ h (lv_sub hl [3, 2, 1, 0] rfl) hf
  · have hf := if_t (K := fun x => x) c9 hf
    refine lv_bipush (v := (-2)) C.x C.b dX0_skip_7 (by decide) ?_
    exact hR _ _ (some_k hf) _ _ _ _ h rfl dX0_skip_9
def X_by_j24 (σ : PS) (x0 : Int32) : Option (Int32 × PS) := some (x0, σ)
def X_by_j22 (σ : PS) : Option (Int32 × PS) := X_by_j24 σ ((-2))
def X_by (σ : PS) (v1 : Int32) : Option (Int32 × PS) := bd (X_isLaw v1) (fun q_1 => if q_1 = 0 then X_by_j22 σ else bd (X_asksLehr σ) (fun q_2 => if q_2.1 = 0 then X_by_j22 q_2.2 else bd (X_soundByLaw q_2.2 v1) (fun q_3 => X_by_j24 q_3.2 q_3.1)))
set_option maxHeartbeats 4000000 in
theorem kX_by (l : Launch) {D : va_G} {ty : Nat → ClassId} {A : Nat → Prop} {o : Nat} {ad : Nat → Nat} {rs : va_W} {σ : PS} {σ' : PS} {v1 : Int32} {r : Int32} (hf : X_by σ v1 = some (r, σ')) : KI l yX0_by cX0_by 2 .int 8 D ty A (wX ty o ad σ ++ rs) (wX ty o ad σ' ++ rs) [.ref o, .int v1] r := by
  refine KI.of (by decide) (Nat.le_of_ble_eq_true rfl) ?_
  intro p e R s m args below meth c Q C hR
  have C : Cx p R s m args c cX0_by 2 RX0 D ty A 8 := C
  have hR : ∀ (v : Int32) (σ2 : PS), (v, σ2) = (r, σ') → ∀ (H : Heap) (locs : List Loc) (pc : Nat) (ls : Array Slot), Hw D A s H locs (wX ty o ad σ2 ++ rs) → narrow .int (.int v) = .int v → decode cX0_by pc = .ok (.ireturn, 1) → W p l e R s m args below meth c H locs 0 0 Q (F0 m pc ls [.int v]) := by intro v σ2 e9; cases e9; exact hR
  have j24 : ∀ (σ : PS) (x0 : Int32) (H : Heap) (locs : List Loc) (ls : Array Slot), Hw D A s H locs (wX ty o ad σ ++ rs) → lv_has ls 2 [] → X_by_j24 σ x0 = some (r, σ') → W p l e R s m args below meth c H locs 0 0 Q (F0 m 24 ls [.int x0]) := by
    intro σ x0 H locs ls h hl hf
    unfold X_by_j24 at hf
    exact hR _ _ (some_k hf) _ _ _ _ h rfl dX0_by_24
  have j22 : ∀ (σ : PS) (H : Heap) (locs : List Loc) (ls : Array Slot), Hw D A s H locs (wX ty o ad σ ++ rs) → lv_has ls 2 [] → X_by_j22 σ = some (r, σ') → W p l e R s m args below meth c H locs 0 0 Q (F0 m 22 ls []) := by
    intro σ H locs ls h hl hf
    unfold X_by_j22 at hf
    refine lv_bipush (v := (-2)) C.x C.b dX0_by_22 (by decide) ?_
    exact j24 σ ((-2)) _ _ _ h (lv_sub hl [] rfl) hf
  intro H locs ls h hl
  have hl : lv_has ls 2 [(0, .ref o), (1, .int v1)] := hl
  unfold X_by at hf
  refine lv_iload_n C.x C.b dX0_by_0 rfl (lv_at hl 1 rfl) ?_
  obtain ⟨q_1, hc, hf⟩ := bd_k (K := fun x => x) rfl hf
  refine cX_isLaw C h hc (Nat.le_of_ble_eq_true rfl) hl.1 (Nat.le_of_ble_eq_true rfl) dX0_by_1 (fun H locs h => ?_)
  refine lv_if_eq (tgt := 22) C.x C.b dX0_by_4 (by decide) (fun c9 => ?_) (fun c9 => ?_)
  · have hf := if_t (K := fun x => x) c9 hf
    exact j22 σ _ _ _ h (lv_sub hl [] rfl) hf
  · have hf := if_f (K := fun x => x) c9 hf
    refine lv_aload_n C.x C.b dX0_by_7 rfl (lv_at hl 0 rfl) ?_
    obtain ⟨q_2, hc, hf⟩ := bd_k (K := fun x => x) rfl hf
    refine cX_asksLehr C h hc (Nat.le_of_ble_eq_true rfl) hl.1 (Nat.le_of_ble_eq_true rfl) dX0_by_8 (fun H locs h => ?_)
    refine lv_if_eq (tgt := 22) C.x C.b dX0_by_11 (by decide) (fun c9 => ?_) (fun c9 => ?_)
    · have hf := if_t (K := fun x => x) c9 hf
      exact j22 q_2.2 _ _ _ h (lv_sub hl [] rfl) hf
    · have hf := if_f (K := fun x => x) c9 hf
      refine lv_aload_n C.x C.b dX0_by_14 rfl (lv_at hl 0 rfl) ?_
      refine lv_iload_n C.x C.b dX0_by_15 rfl (lv_at hl 1 rfl) ?_
      obtain ⟨q_3, hc, hf⟩ := bd_k (K := fun x => x) rfl hf
      refine cX_soundByLaw C h hc (Nat.le_of_ble_eq_true rfl) hl.1 (Nat.le_of_ble_eq_true rfl) dX0_by_16 (fun H locs h => ?_)
      refine lv_goto (tgt := 24) C.x C.b dX0_by_19 (by decide) ?_
      exact j24 q_3.2 q_3.1 _ _ _ h (lv_sub hl [] rfl) hf
def X_law_j50 (σ : PS) (v1 : Int32) : Option (Int32 × PS) := some (v1, σ)
def X_law_j43 (σ : PS) (v2 : Int32) (x0 : Int32) : Option ((Int32 × Int32 × PS) ⊕ (Int32 × PS)) := nm (v2 + 1) (fun v2_1 => some (.inl (x0, v2_1, σ)))
def X_law_l14 (v1 : Int32) (v2 : Int32) (σ : PS) : Option ((Int32 × Int32 × PS) ⊕ (Int32 × PS)) := if 4 ≤ v2 then up (X_law_j50 σ v1) else bd (X_soundByLaw σ v2) (fun q_2 => bd (J_bitCount q_2.1) (fun q_3 => bd (X_soundByLaw q_2.2 v1) (fun q_4 => bd (J_bitCount q_4.1) (fun q_5 => if q_3 ≤ q_5 then X_law_j43 q_4.2 v2 v1 else X_law_j43 q_4.2 v2 v2))))
def X_law_B14 : (Int32 × Int32 × PS) → Option ((Int32 × Int32 × PS) ⊕ (Int32 × PS)) := fun t => X_law_l14 t.1 t.2.1 t.2.2
def X_law (σ : PS) : Option (Int32 × PS) := bd (X_asksLehr σ) (fun q_6 => if q_6.1 = 0 then some ((-2), q_6.2) else loop (X_law_B14) fu (0, 1, q_6.2))
set_option maxHeartbeats 4000000 in
theorem kX_law (l : Launch) {D : va_G} {ty : Nat → ClassId} {A : Nat → Prop} {o : Nat} {ad : Nat → Nat} {rs : va_W} {σ : PS} {σ' : PS} {r : Int32} (hf : X_law σ = some (r, σ')) : KI l yX0_law cX0_law 3 .int 8 D ty A (wX ty o ad σ ++ rs) (wX ty o ad σ' ++ rs) [.ref o] r := by
  refine KI.of (by decide) (Nat.le_of_ble_eq_true rfl) ?_
  intro p e R s m args below meth c Q C hR
  have C : Cx p R s m args c cX0_law 3 RX0 D ty A 8 := C
  have hR : ∀ (v : Int32) (σ2 : PS), (v, σ2) = (r, σ') → ∀ (H : Heap) (locs : List Loc) (pc : Nat) (ls : Array Slot), Hw D A s H locs (wX ty o ad σ2 ++ rs) → narrow .int (.int v) = .int v → decode cX0_law pc = .ok (.ireturn, 1) → W p l e R s m args below meth c H locs 0 0 Q (F0 m pc ls [.int v]) := by intro v σ2 e9; cases e9; exact hR
  have j50 : ∀ (σ : PS) (v1 : Int32) (H : Heap) (locs : List Loc) (ls : Array Slot), Hw D A s H locs (wX ty o ad σ ++ rs) → lv_has ls 3 [(1, .int v1)] → X_law_j50 σ v1 = some (r, σ') → W p l e R s m args below meth c H locs 0 0 Q (F0 m 50 ls []) := by
    intro σ v1 H locs ls h hl hf
    unfold X_law_j50 at hf
    refine lv_iload_n C.x C.b dX0_law_50 rfl (lv_at hl 0 rfl) ?_
    exact hR _ _ (some_k hf) _ _ _ _ h rfl dX0_law_51
  have l14 : ∀ (n14 : Nat) (v1 : Int32) (v2 : Int32) (σ : PS) (H : Heap) (locs : List Loc) (ls : Array Slot), Hw D A s H locs (wX ty o ad σ ++ rs) → lv_has ls 3 [(0, .ref o), (1, .int v1), (2, .int v2)] → loop (X_law_B14) n14 (v1, v2, σ) = some (r, σ') → W p l e R s m args below meth c H locs 0 0 Q (F0 m 14 ls []) := by
    intro n14
    induction n14 with
    | zero => intro v1 v2 σ H locs ls h hl hf; exact (none_k hf).elim
    | succ n14 ih14 =>
      have j43 : ∀ (σ : PS) (v2 : Int32) (x0 : Int32) (H : Heap) (locs : List Loc) (ls : Array Slot), Hw D A s H locs (wX ty o ad σ ++ rs) → lv_has ls 3 [(0, .ref o), (2, .int v2)] → bl (X_law_B14) n14 (X_law_j43 σ v2 x0) = some (r, σ') → W p l e R s m args below meth c H locs 0 0 Q (F0 m 43 ls [.int x0]) := by
        intro σ v2 x0 H locs ls h hl hf
        unfold X_law_j43 at hf
        refine lv_istore_n (lv' := [(1, .int x0), (0, .ref o), (2, .int v2)]) C.x C.b dX0_law_43 rfl hl (by decide) rfl (fun ls hl => ?_)
        obtain ⟨v2_1, e9, hf⟩ := nm_k (K := bl (X_law_B14) n14) hf
        refine lv_iinc (v := v2_1) (lv' := [(2, .int v2_1), (1, .int x0), (0, .ref o)]) C.x C.b dX0_law_44 hl (k := 2) rfl (iinc_e (k := 1) (by decide) e9) (by decide) rfl (fun ls hl => ?_)
        refine lv_goto (tgt := 14) C.x C.b dX0_law_47 (by decide) ?_
        exact ih14 x0 v2_1 σ _ _ _ h (lv_sub hl [2, 1, 0] rfl) hf
      intro v1 v2 σ H locs ls h hl hf
      have hf : bl (X_law_B14) n14 (X_law_l14 v1 v2 σ) = some (r, σ') := hf
      unfold X_law_l14 at hf
      refine lv_iload_n C.x C.b dX0_law_14 rfl (lv_at hl 2 rfl) ?_
      refine lv_iconst (v := 4) C.x C.b dX0_law_15 (by decide) ?_
      refine lv_icmp_ge (tgt := 50) C.x C.b dX0_law_16 (by decide) (fun c9 => ?_) (fun c9 => ?_)
      · have hf := if_t (K := bl (X_law_B14) n14) c9 hf
        have hf := bl_upK (K := fun x => x) hf
        exact j50 σ v1 _ _ _ h (lv_sub hl [1] rfl) hf
      · have hf := if_f (K := bl (X_law_B14) n14) c9 hf
        refine lv_aload_n C.x C.b dX0_law_19 rfl (lv_at hl 0 rfl) ?_
        refine lv_iload_n C.x C.b dX0_law_20 rfl (lv_at hl 2 rfl) ?_
        obtain ⟨q_2, hc, hf⟩ := bd_k (K := bl (X_law_B14) n14) rfl hf
        refine cX_soundByLaw C h hc (Nat.le_of_ble_eq_true rfl) hl.1 (Nat.le_of_ble_eq_true rfl) dX0_law_21 (fun H locs h => ?_)
        obtain ⟨q_3, hc, hf⟩ := bd_k (K := bl (X_law_B14) n14) rfl hf
        refine cJ_bitCount_RX0 C h hc (Nat.le_of_ble_eq_true rfl) hl.1 (Nat.le_of_ble_eq_true rfl) dX0_law_24 (fun H locs h => ?_)
        refine lv_aload_n C.x C.b dX0_law_27 rfl (lv_at hl 0 rfl) ?_
        refine lv_iload_n C.x C.b dX0_law_28 rfl (lv_at hl 1 rfl) ?_
        obtain ⟨q_4, hc, hf⟩ := bd_k (K := bl (X_law_B14) n14) rfl hf
        refine cX_soundByLaw C h hc (Nat.le_of_ble_eq_true rfl) hl.1 (Nat.le_of_ble_eq_true rfl) dX0_law_29 (fun H locs h => ?_)
        obtain ⟨q_5, hc, hf⟩ := bd_k (K := bl (X_law_B14) n14) rfl hf
        refine cJ_bitCount_RX0 C h hc (Nat.le_of_ble_eq_true rfl) hl.1 (Nat.le_of_ble_eq_true rfl) dX0_law_32 (fun H locs h => ?_)
        refine lv_icmp_le (tgt := 42) C.x C.b dX0_law_35 (by decide) (fun c9 => ?_) (fun c9 => ?_)
        · have hf := if_t (K := bl (X_law_B14) n14) c9 hf
          refine lv_iload_n C.x C.b dX0_law_42 rfl (lv_at hl 1 rfl) ?_
          exact j43 q_4.2 v2 v1 _ _ _ h (lv_sub hl [0, 2] rfl) hf
        · have hf := if_f (K := bl (X_law_B14) n14) c9 hf
          refine lv_iload_n C.x C.b dX0_law_38 rfl (lv_at hl 2 rfl) ?_
          refine lv_goto (tgt := 43) C.x C.b dX0_law_39 (by decide) ?_
          exact j43 q_4.2 v2 v2 _ _ _ h (lv_sub hl [0, 2] rfl) hf
  intro H locs ls h hl
  have hl : lv_has ls 3 [(0, .ref o)] := hl
  unfold X_law at hf
  refine lv_aload_n C.x C.b dX0_law_0 rfl (lv_at hl 0 rfl) ?_
  obtain ⟨q_6, hc, hf⟩ := bd_k (K := fun x => x) rfl hf
  refine cX_asksLehr C h hc (Nat.le_of_ble_eq_true rfl) hl.1 (Nat.le_of_ble_eq_true rfl) dX0_law_1 (fun H locs h => ?_)
  refine lv_if_ne (tgt := 10) C.x C.b dX0_law_4 (by decide) (fun c9 => ?_) (fun c9 => ?_)
  · have hf := if_f (K := fun x => x) c9 hf
    refine lv_iconst (v := 0) C.x C.b dX0_law_10 (by decide) ?_
    refine lv_istore_n (lv' := [(1, .int 0), (0, .ref o)]) C.x C.b dX0_law_11 rfl hl (by decide) rfl (fun ls hl => ?_)
    refine lv_iconst (v := 1) C.x C.b dX0_law_12 (by decide) ?_
    refine lv_istore_n (lv' := [(2, .int 1), (1, .int 0), (0, .ref o)]) C.x C.b dX0_law_13 rfl hl (by decide) rfl (fun ls hl => ?_)
    exact l14  fu 0 1 q_6.2 _ _ _ h (lv_sub hl [2, 1, 0] rfl) hf
  · have hf := if_t (K := fun x => x) c9 hf
    refine lv_bipush (v := (-2)) C.x C.b dX0_law_7 (by decide) ?_
    exact hR _ _ (some_k hf) _ _ _ _ h rfl dX0_law_9
def X_worth_j31 (σ : PS) (x0 : Int32) : Option (Int32 × PS) := some (x0, σ)
def X_worth_j29 (σ : PS) : Option (Int32 × PS) := X_worth_j31 σ ((-2))
def X_worth (σ : PS) (v1 : Int32) : Option (Int32 × PS) := bd (X_asksLehr σ) (fun q_1 => if q_1.1 = 0 then X_worth_j29 q_1.2 else bd (X_everyZone q_1.2) (fun q_2 => bd (X_isIn v1.toInt64 0 q_2.toInt64) (fun q_3 => if q_3 = 0 then X_worth_j29 q_1.2 else bd (X_worthOf q_1.2 v1) (fun q_4 => X_worth_j31 q_4.2 q_4.1))))
set_option maxHeartbeats 4000000 in
theorem kX_worth (l : Launch) {D : va_G} {ty : Nat → ClassId} {A : Nat → Prop} {o : Nat} {ad : Nat → Nat} {rs : va_W} {σ : PS} {σ' : PS} {v1 : Int32} {r : Int32} (hf : X_worth σ v1 = some (r, σ')) : KI l yX0_worth cX0_worth 2 .int 8 D ty A (wX ty o ad σ ++ rs) (wX ty o ad σ' ++ rs) [.ref o, .int v1] r := by
  refine KI.of (by decide) (Nat.le_of_ble_eq_true rfl) ?_
  intro p e R s m args below meth c Q C hR
  have C : Cx p R s m args c cX0_worth 2 RX0 D ty A 8 := C
  have hR : ∀ (v : Int32) (σ2 : PS), (v, σ2) = (r, σ') → ∀ (H : Heap) (locs : List Loc) (pc : Nat) (ls : Array Slot), Hw D A s H locs (wX ty o ad σ2 ++ rs) → narrow .int (.int v) = .int v → decode cX0_worth pc = .ok (.ireturn, 1) → W p l e R s m args below meth c H locs 0 0 Q (F0 m pc ls [.int v]) := by intro v σ2 e9; cases e9; exact hR
  have j31 : ∀ (σ : PS) (x0 : Int32) (H : Heap) (locs : List Loc) (ls : Array Slot), Hw D A s H locs (wX ty o ad σ ++ rs) → lv_has ls 2 [] → X_worth_j31 σ x0 = some (r, σ') → W p l e R s m args below meth c H locs 0 0 Q (F0 m 31 ls [.int x0]) := by
    intro σ x0 H locs ls h hl hf
    unfold X_worth_j31 at hf
    exact hR _ _ (some_k hf) _ _ _ _ h rfl dX0_worth_31
  have j29 : ∀ (σ : PS) (H : Heap) (locs : List Loc) (ls : Array Slot), Hw D A s H locs (wX ty o ad σ ++ rs) → lv_has ls 2 [] → X_worth_j29 σ = some (r, σ') → W p l e R s m args below meth c H locs 0 0 Q (F0 m 29 ls []) := by
    intro σ H locs ls h hl hf
    unfold X_worth_j29 at hf
    refine lv_bipush (v := (-2)) C.x C.b dX0_worth_29 (by decide) ?_
    exact j31 σ ((-2)) _ _ _ h (lv_sub hl [] rfl) hf
  intro H locs ls h hl
  have hl : lv_has ls 2 [(0, .ref o), (1, .int v1)] := hl
  unfold X_worth at hf
  refine lv_aload_n C.x C.b dX0_worth_0 rfl (lv_at hl 0 rfl) ?_
  obtain ⟨q_1, hc, hf⟩ := bd_k (K := fun x => x) rfl hf
  refine cX_asksLehr C h hc (Nat.le_of_ble_eq_true rfl) hl.1 (Nat.le_of_ble_eq_true rfl) dX0_worth_1 (fun H locs h => ?_)
  refine lv_if_eq (tgt := 29) C.x C.b dX0_worth_4 (by decide) (fun c9 => ?_) (fun c9 => ?_)
  · have hf := if_t (K := fun x => x) c9 hf
    exact j29 q_1.2 _ _ _ h (lv_sub hl [] rfl) hf
  · have hf := if_f (K := fun x => x) c9 hf
    refine lv_iload_n C.x C.b dX0_worth_7 rfl (lv_at hl 1 rfl) ?_
    refine lv_i2l C.x C.b dX0_worth_8 rfl ?_
    refine lv_lconst (v := 0) C.x C.b dX0_worth_9 (by decide) ?_
    refine lv_aload_n C.x C.b dX0_worth_10 rfl (lv_at hl 0 rfl) ?_
    obtain ⟨q_2, hc, hf⟩ := bd_k (K := fun x => x) rfl hf
    refine cX_everyZone C h hc (Nat.le_of_ble_eq_true rfl) hl.1 (Nat.le_of_ble_eq_true rfl) dX0_worth_11 (fun H locs h => ?_)
    refine lv_i2l C.x C.b dX0_worth_14 rfl ?_
    obtain ⟨q_3, hc, hf⟩ := bd_k (K := fun x => x) rfl hf
    refine cX_isIn C h hc (Nat.le_of_ble_eq_true rfl) hl.1 (Nat.le_of_ble_eq_true rfl) dX0_worth_15 (fun H locs h => ?_)
    refine lv_if_eq (tgt := 29) C.x C.b dX0_worth_18 (by decide) (fun c9 => ?_) (fun c9 => ?_)
    · have hf := if_t (K := fun x => x) c9 hf
      exact j29 q_1.2 _ _ _ h (lv_sub hl [] rfl) hf
    · have hf := if_f (K := fun x => x) c9 hf
      refine lv_aload_n C.x C.b dX0_worth_21 rfl (lv_at hl 0 rfl) ?_
      refine lv_iload_n C.x C.b dX0_worth_22 rfl (lv_at hl 1 rfl) ?_
      obtain ⟨q_4, hc, hf⟩ := bd_k (K := fun x => x) rfl hf
      refine cX_worthOf C h hc (Nat.le_of_ble_eq_true rfl) hl.1 (Nat.le_of_ble_eq_true rfl) dX0_worth_23 (fun H locs h => ?_)
      refine lv_goto (tgt := 31) C.x C.b dX0_worth_26 (by decide) ?_
      exact j31 q_4.2 q_4.1 _ _ _ h (lv_sub hl [] rfl) hf
def X_rests_j98 (σ : PS) (v3 : Int32) : Option (Int32 × PS) := some (v3, σ)
def X_rests_j90 (σ : PS) (v1 : Int32) (v2 : Int32) (v4 : Int32) (x0 : Int32) (x1 : Int32) : Option ((Int32 × Int32 × PS) ⊕ (Int32 × PS)) := nm (x1 ||| x0) (fun v3_1 => nm (v4 + 1) (fun v4_2 => some (.inl (v3_1, v4_2, σ))))
def X_rests_j74 (σ : PS) (v1 : Int32) (v2 : Int32) (v3 : Int32) (v4 : Int32) (x0 : Int32) : Option ((Int32 × Int32 × PS) ⊕ (Int32 × PS)) := if x0 = 0 then X_rests_j90 σ v1 v2 v4 0 v3 else X_rests_j90 σ v1 v2 v4 (1 <<< (v4 &&& 31)) v3
def X_rests_j73 (σ : PS) (v1 : Int32) (v2 : Int32) (v3 : Int32) (v4 : Int32) : Option ((Int32 × Int32 × PS) ⊕ (Int32 × PS)) := X_rests_j74 σ v1 v2 v3 v4 0
def X_rests_l17 (v1 : Int32) (v2 : Int32) (v3 : Int32) (v4 : Int32) (σ : PS) : Option ((Int32 × Int32 × PS) ⊕ (Int32 × PS)) := if 4 ≤ v4 then up (X_rests_j98 σ v3) else bd (X_getsOf σ v1 v2 v4 0) (fun q_3 => bd (X_getsOf q_3.2 v1 v2 (v4 ^^^ 1) 0) (fun q_4 => if q_3.1 < q_4.1 then X_rests_j73 q_4.2 v1 v2 v3 v4 else bd (X_getsOf q_4.2 v1 v2 v4 1) (fun q_5 => bd (X_getsOf q_5.2 v1 v2 (v4 ^^^ 2) 1) (fun q_6 => if q_5.1 < q_6.1 then X_rests_j73 q_6.2 v1 v2 v3 v4 else X_rests_j74 q_6.2 v1 v2 v3 v4 1))))
def X_rests_B17 (v1 : Int32) (v2 : Int32) : (Int32 × Int32 × PS) → Option ((Int32 × Int32 × PS) ⊕ (Int32 × PS)) := fun t => X_rests_l17 v1 v2 t.1 t.2.1 t.2.2
def X_rests (σ : PS) (v1 : Int32) (v2 : Int32) : Option (Int32 × PS) := bd (X_areTwo σ v1 v2) (fun q_7 => if q_7 = 0 then some ((-2), σ) else loop (X_rests_B17 v1 v2) fu (0, 0, σ))
set_option maxHeartbeats 4000000 in
theorem kX_rests (l : Launch) {D : va_G} {ty : Nat → ClassId} {A : Nat → Prop} {o : Nat} {ad : Nat → Nat} {rs : va_W} {σ : PS} {σ' : PS} {v1 : Int32} {v2 : Int32} {r : Int32} (hf : X_rests σ v1 v2 = some (r, σ')) : KI l yX0_rests cX0_rests 6 .int 8 D ty A (wX ty o ad σ ++ rs) (wX ty o ad σ' ++ rs) [.ref o, .int v1, .int v2] r := by
  refine KI.of (by decide) (Nat.le_of_ble_eq_true rfl) ?_
  intro p e R s m args below meth c Q C hR
  have C : Cx p R s m args c cX0_rests 6 RX0 D ty A 8 := C
  have hR : ∀ (v : Int32) (σ2 : PS), (v, σ2) = (r, σ') → ∀ (H : Heap) (locs : List Loc) (pc : Nat) (ls : Array Slot), Hw D A s H locs (wX ty o ad σ2 ++ rs) → narrow .int (.int v) = .int v → decode cX0_rests pc = .ok (.ireturn, 1) → W p l e R s m args below meth c H locs 0 0 Q (F0 m pc ls [.int v]) := by intro v σ2 e9; cases e9; exact hR
  have j98 : ∀ (σ : PS) (v3 : Int32) (H : Heap) (locs : List Loc) (ls : Array Slot), Hw D A s H locs (wX ty o ad σ ++ rs) → lv_has ls 6 [(3, .int v3)] → X_rests_j98 σ v3 = some (r, σ') → W p l e R s m args below meth c H locs 0 0 Q (F0 m 98 ls []) := by
    intro σ v3 H locs ls h hl hf
    unfold X_rests_j98 at hf
    refine lv_iload_n C.x C.b dX0_rests_98 rfl (lv_at hl 0 rfl) ?_
    exact hR _ _ (some_k hf) _ _ _ _ h rfl dX0_rests_99
  have l17 : ∀ (n17 : Nat) (v3 : Int32) (v4 : Int32) (σ : PS) (H : Heap) (locs : List Loc) (ls : Array Slot), Hw D A s H locs (wX ty o ad σ ++ rs) → lv_has ls 6 [(0, .ref o), (1, .int v1), (2, .int v2), (3, .int v3), (4, .int v4)] → loop (X_rests_B17 v1 v2) n17 (v3, v4, σ) = some (r, σ') → W p l e R s m args below meth c H locs 0 0 Q (F0 m 17 ls []) := by
    intro n17
    induction n17 with
    | zero => intro v3 v4 σ H locs ls h hl hf; exact (none_k hf).elim
    | succ n17 ih17 =>
      have j90 : ∀ (σ : PS) (v4 : Int32) (x0 : Int32) (x1 : Int32) (H : Heap) (locs : List Loc) (ls : Array Slot), Hw D A s H locs (wX ty o ad σ ++ rs) → lv_has ls 6 [(0, .ref o), (1, .int v1), (2, .int v2), (4, .int v4)] → bl (X_rests_B17 v1 v2) n17 (X_rests_j90 σ v1 v2 v4 x0 x1) = some (r, σ') → W p l e R s m args below meth c H locs 0 0 Q (F0 m 90 ls [.int x0, .int x1]) := by
        intro σ v4 x0 x1 H locs ls h hl hf
        unfold X_rests_j90 at hf
        refine lv_ior C.x C.b dX0_rests_90 ?_
        obtain ⟨v3_1, e9, hf⟩ := nm_k (K := bl (X_rests_B17 v1 v2) n17) hf
        refine lv_topI e9 ?_
        refine lv_istore_n (lv' := [(3, .int v3_1), (0, .ref o), (1, .int v1), (2, .int v2), (4, .int v4)]) C.x C.b dX0_rests_91 rfl hl (by decide) rfl (fun ls hl => ?_)
        obtain ⟨v4_2, e9, hf⟩ := nm_k (K := bl (X_rests_B17 v1 v2) n17) hf
        refine lv_iinc (v := v4_2) (lv' := [(4, .int v4_2), (3, .int v3_1), (0, .ref o), (1, .int v1), (2, .int v2)]) C.x C.b dX0_rests_92 hl (k := 4) rfl (iinc_e (k := 1) (by decide) e9) (by decide) rfl (fun ls hl => ?_)
        refine lv_goto (tgt := 17) C.x C.b dX0_rests_95 (by decide) ?_
        exact ih17 v3_1 v4_2 σ _ _ _ h (lv_sub hl [2, 3, 4, 1, 0] rfl) hf
      have j74 : ∀ (σ : PS) (v3 : Int32) (v4 : Int32) (x0 : Int32) (H : Heap) (locs : List Loc) (ls : Array Slot), Hw D A s H locs (wX ty o ad σ ++ rs) → lv_has ls 6 [(0, .ref o), (1, .int v1), (2, .int v2), (3, .int v3), (4, .int v4)] → bl (X_rests_B17 v1 v2) n17 (X_rests_j74 σ v1 v2 v3 v4 x0) = some (r, σ') → W p l e R s m args below meth c H locs 0 0 Q (F0 m 74 ls [.int x0]) := by
        intro σ v3 v4 x0 H locs ls h hl hf
        unfold X_rests_j74 at hf
        refine lv_istore (lv' := [(5, .int x0), (0, .ref o), (1, .int v1), (2, .int v2), (3, .int v3), (4, .int v4)]) C.x C.b dX0_rests_74 hl (by decide) rfl (fun ls hl => ?_)
        refine lv_iload_n C.x C.b dX0_rests_76 rfl (lv_at hl 4 rfl) ?_
        refine lv_iload C.x C.b dX0_rests_77 (lv_at hl 0 rfl) ?_
        refine lv_if_eq (tgt := 89) C.x C.b dX0_rests_79 (by decide) (fun c9 => ?_) (fun c9 => ?_)
        · have hf := if_t (K := bl (X_rests_B17 v1 v2) n17) c9 hf
          refine lv_iconst (v := 0) C.x C.b dX0_rests_89 (by decide) ?_
          exact j90 σ v4 0 v3 _ _ _ h (lv_sub hl [1, 2, 3, 5] rfl) hf
        · have hf := if_f (K := bl (X_rests_B17 v1 v2) n17) c9 hf
          refine lv_iconst (v := 1) C.x C.b dX0_rests_82 (by decide) ?_
          refine lv_iload C.x C.b dX0_rests_83 (lv_at hl 5 rfl) ?_
          refine lv_ishl C.x C.b dX0_rests_85 ?_
          refine lv_goto (tgt := 90) C.x C.b dX0_rests_86 (by decide) ?_
          exact j90 σ v4 (1 <<< (v4 &&& 31)) v3 _ _ _ h (lv_sub hl [1, 2, 3, 5] rfl) hf
      have j73 : ∀ (σ : PS) (v3 : Int32) (v4 : Int32) (H : Heap) (locs : List Loc) (ls : Array Slot), Hw D A s H locs (wX ty o ad σ ++ rs) → lv_has ls 6 [(0, .ref o), (1, .int v1), (2, .int v2), (3, .int v3), (4, .int v4)] → bl (X_rests_B17 v1 v2) n17 (X_rests_j73 σ v1 v2 v3 v4) = some (r, σ') → W p l e R s m args below meth c H locs 0 0 Q (F0 m 73 ls []) := by
        intro σ v3 v4 H locs ls h hl hf
        unfold X_rests_j73 at hf
        refine lv_iconst (v := 0) C.x C.b dX0_rests_73 (by decide) ?_
        exact j74 σ v3 v4 0 _ _ _ h (lv_sub hl [0, 1, 2, 3, 4] rfl) hf
      intro v3 v4 σ H locs ls h hl hf
      have hf : bl (X_rests_B17 v1 v2) n17 (X_rests_l17 v1 v2 v3 v4 σ) = some (r, σ') := hf
      unfold X_rests_l17 at hf
      refine lv_iload C.x C.b dX0_rests_17 (lv_at hl 4 rfl) ?_
      refine lv_iconst (v := 4) C.x C.b dX0_rests_19 (by decide) ?_
      refine lv_icmp_ge (tgt := 98) C.x C.b dX0_rests_20 (by decide) (fun c9 => ?_) (fun c9 => ?_)
      · have hf := if_t (K := bl (X_rests_B17 v1 v2) n17) c9 hf
        have hf := bl_upK (K := fun x => x) hf
        exact j98 σ v3 _ _ _ h (lv_sub hl [3] rfl) hf
      · have hf := if_f (K := bl (X_rests_B17 v1 v2) n17) c9 hf
        refine lv_aload_n C.x C.b dX0_rests_23 rfl (lv_at hl 0 rfl) ?_
        refine lv_iload_n C.x C.b dX0_rests_24 rfl (lv_at hl 1 rfl) ?_
        refine lv_iload_n C.x C.b dX0_rests_25 rfl (lv_at hl 2 rfl) ?_
        refine lv_iload C.x C.b dX0_rests_26 (lv_at hl 4 rfl) ?_
        refine lv_iconst (v := 0) C.x C.b dX0_rests_28 (by decide) ?_
        obtain ⟨q_3, hc, hf⟩ := bd_k (K := bl (X_rests_B17 v1 v2) n17) rfl hf
        refine cX_getsOf C h hc (Nat.le_of_ble_eq_true rfl) hl.1 (Nat.le_of_ble_eq_true rfl) dX0_rests_29 (fun H locs h => ?_)
        refine lv_aload_n C.x C.b dX0_rests_32 rfl (lv_at hl 0 rfl) ?_
        refine lv_iload_n C.x C.b dX0_rests_33 rfl (lv_at hl 1 rfl) ?_
        refine lv_iload_n C.x C.b dX0_rests_34 rfl (lv_at hl 2 rfl) ?_
        refine lv_iload C.x C.b dX0_rests_35 (lv_at hl 4 rfl) ?_
        refine lv_iconst (v := 1) C.x C.b dX0_rests_37 (by decide) ?_
        refine lv_ixor C.x C.b dX0_rests_38 ?_
        refine lv_iconst (v := 0) C.x C.b dX0_rests_39 (by decide) ?_
        obtain ⟨q_4, hc, hf⟩ := bd_k (K := bl (X_rests_B17 v1 v2) n17) rfl hf
        refine cX_getsOf C h hc (Nat.le_of_ble_eq_true rfl) hl.1 (Nat.le_of_ble_eq_true rfl) dX0_rests_40 (fun H locs h => ?_)
        refine lv_icmp_lt (tgt := 73) C.x C.b dX0_rests_43 (by decide) (fun c9 => ?_) (fun c9 => ?_)
        · have hf := if_t (K := bl (X_rests_B17 v1 v2) n17) c9 hf
          exact j73 q_4.2 v3 v4 _ _ _ h (lv_sub hl [0, 1, 2, 3, 4] rfl) hf
        · have hf := if_f (K := bl (X_rests_B17 v1 v2) n17) c9 hf
          refine lv_aload_n C.x C.b dX0_rests_46 rfl (lv_at hl 0 rfl) ?_
          refine lv_iload_n C.x C.b dX0_rests_47 rfl (lv_at hl 1 rfl) ?_
          refine lv_iload_n C.x C.b dX0_rests_48 rfl (lv_at hl 2 rfl) ?_
          refine lv_iload C.x C.b dX0_rests_49 (lv_at hl 4 rfl) ?_
          refine lv_iconst (v := 1) C.x C.b dX0_rests_51 (by decide) ?_
          obtain ⟨q_5, hc, hf⟩ := bd_k (K := bl (X_rests_B17 v1 v2) n17) rfl hf
          refine cX_getsOf C h hc (Nat.le_of_ble_eq_true rfl) hl.1 (Nat.le_of_ble_eq_true rfl) dX0_rests_52 (fun H locs h => ?_)
          refine lv_aload_n C.x C.b dX0_rests_55 rfl (lv_at hl 0 rfl) ?_
          refine lv_iload_n C.x C.b dX0_rests_56 rfl (lv_at hl 1 rfl) ?_
          refine lv_iload_n C.x C.b dX0_rests_57 rfl (lv_at hl 2 rfl) ?_
          refine lv_iload C.x C.b dX0_rests_58 (lv_at hl 4 rfl) ?_
          refine lv_iconst (v := 2) C.x C.b dX0_rests_60 (by decide) ?_
          refine lv_ixor C.x C.b dX0_rests_61 ?_
          refine lv_iconst (v := 1) C.x C.b dX0_rests_62 (by decide) ?_
          obtain ⟨q_6, hc, hf⟩ := bd_k (K := bl (X_rests_B17 v1 v2) n17) rfl hf
          refine cX_getsOf C h hc (Nat.le_of_ble_eq_true rfl) hl.1 (Nat.le_of_ble_eq_true rfl) dX0_rests_63 (fun H locs h => ?_)
          refine lv_icmp_lt (tgt := 73) C.x C.b dX0_rests_66 (by decide) (fun c9 => ?_) (fun c9 => ?_)
          · have hf := if_t (K := bl (X_rests_B17 v1 v2) n17) c9 hf
            exact j73 q_6.2 v3 v4 _ _ _ h (lv_sub hl [0, 1, 2, 3, 4] rfl) hf
          · have hf := if_f (K := bl (X_rests_B17 v1 v2) n17) c9 hf
            refine lv_iconst (v := 1) C.x C.b dX0_rests_69 (by decide) ?_
            refine lv_goto (tgt := 74) C.x C.b dX0_rests_70 (by decide) ?_
            exact j74 q_6.2 v3 v4 1 _ _ _ h (lv_sub hl [0, 1, 2, 3, 4] rfl) hf
  intro H locs ls h hl
  have hl : lv_has ls 6 [(0, .ref o), (1, .int v1), (2, .int v2)] := hl
  unfold X_rests at hf
  refine lv_aload_n C.x C.b dX0_rests_0 rfl (lv_at hl 0 rfl) ?_
  refine lv_iload_n C.x C.b dX0_rests_1 rfl (lv_at hl 1 rfl) ?_
  refine lv_iload_n C.x C.b dX0_rests_2 rfl (lv_at hl 2 rfl) ?_
  obtain ⟨q_7, hc, hf⟩ := bd_k (K := fun x => x) rfl hf
  refine cX_areTwo C h hc (Nat.le_of_ble_eq_true rfl) hl.1 (Nat.le_of_ble_eq_true rfl) dX0_rests_3 (fun H locs h => ?_)
  refine lv_if_ne (tgt := 12) C.x C.b dX0_rests_6 (by decide) (fun c9 => ?_) (fun c9 => ?_)
  · have hf := if_f (K := fun x => x) c9 hf
    refine lv_iconst (v := 0) C.x C.b dX0_rests_12 (by decide) ?_
    refine lv_istore_n (lv' := [(3, .int 0), (0, .ref o), (1, .int v1), (2, .int v2)]) C.x C.b dX0_rests_13 rfl hl (by decide) rfl (fun ls hl => ?_)
    refine lv_iconst (v := 0) C.x C.b dX0_rests_14 (by decide) ?_
    refine lv_istore (lv' := [(4, .int 0), (3, .int 0), (0, .ref o), (1, .int v1), (2, .int v2)]) C.x C.b dX0_rests_15 hl (by decide) rfl (fun ls hl => ?_)
    exact l17  fu 0 0 σ _ _ _ h (lv_sub hl [2, 3, 4, 1, 0] rfl) hf
  · have hf := if_t (K := fun x => x) c9 hf
    refine lv_bipush (v := (-2)) C.x C.b dX0_rests_9 (by decide) ?_
    exact hR _ _ (some_k hf) _ _ _ _ h rfl dX0_rests_11
def X_chance_j25 (σ : PS) : Option (Int32 × PS) := some ((-2), σ)
def X_chance (σ : PS) (v1 : Int32) (v2 : Int32) (v3 : Int32) : Option (Int32 × PS) := bd (X_isPiece σ v1.toInt64) (fun q_1 => if q_1 = 0 then X_chance_j25 σ else bd (X_isChance σ v2) (fun q_2 => if q_2 = 0 then X_chance_j25 σ else bd (X_isOneOf v3 2) (fun q_3 => if q_3 = 0 then X_chance_j25 σ else bd (X_laysChance σ v1 v2) (fun q_4 => bd (X_part (gL q_4 28) (gL q_4 27) v3) (fun q_5 => some (q_5.toInt32, q_4))))))
set_option maxHeartbeats 4000000 in
theorem kX_chance (l : Launch) {D : va_G} {ty : Nat → ClassId} {A : Nat → Prop} {o : Nat} {ad : Nat → Nat} {rs : va_W} {σ : PS} {σ' : PS} {v1 : Int32} {v2 : Int32} {v3 : Int32} {r : Int32} (hf : X_chance σ v1 v2 v3 = some (r, σ')) : KI l yX0_chance cX0_chance 4 .int 8 D ty A (wX ty o ad σ ++ rs) (wX ty o ad σ' ++ rs) [.ref o, .int v1, .int v2, .int v3] r := by
  refine KI.of (by decide) (Nat.le_of_ble_eq_true rfl) ?_
  intro p e R s m args below meth c Q C hR
  have C : Cx p R s m args c cX0_chance 4 RX0 D ty A 8 := C
  have hR : ∀ (v : Int32) (σ2 : PS), (v, σ2) = (r, σ') → ∀ (H : Heap) (locs : List Loc) (pc : Nat) (ls : Array Slot), Hw D A s H locs (wX ty o ad σ2 ++ rs) → narrow .int (.int v) = .int v → decode cX0_chance pc = .ok (.ireturn, 1) → W p l e R s m args below meth c H locs 0 0 Q (F0 m pc ls [.int v]) := by intro v σ2 e9; cases e9; exact hR
  have j25 : ∀ (σ : PS) (H : Heap) (locs : List Loc) (ls : Array Slot), Hw D A s H locs (wX ty o ad σ ++ rs) → lv_has ls 4 [] → X_chance_j25 σ = some (r, σ') → W p l e R s m args below meth c H locs 0 0 Q (F0 m 25 ls []) := by
    intro σ H locs ls h hl hf
    unfold X_chance_j25 at hf
    refine lv_bipush (v := (-2)) C.x C.b dX0_chance_25 (by decide) ?_
    exact hR _ _ (some_k hf) _ _ _ _ h rfl dX0_chance_27
  intro H locs ls h hl
  have hl : lv_has ls 4 [(0, .ref o), (1, .int v1), (2, .int v2), (3, .int v3)] := hl
  unfold X_chance at hf
  refine lv_aload_n C.x C.b dX0_chance_0 rfl (lv_at hl 0 rfl) ?_
  refine lv_iload_n C.x C.b dX0_chance_1 rfl (lv_at hl 1 rfl) ?_
  refine lv_i2l C.x C.b dX0_chance_2 rfl ?_
  obtain ⟨q_1, hc, hf⟩ := bd_k (K := fun x => x) rfl hf
  refine cX_isPiece C h hc (Nat.le_of_ble_eq_true rfl) hl.1 (Nat.le_of_ble_eq_true rfl) dX0_chance_3 (fun H locs h => ?_)
  refine lv_if_eq (tgt := 25) C.x C.b dX0_chance_6 (by decide) (fun c9 => ?_) (fun c9 => ?_)
  · have hf := if_t (K := fun x => x) c9 hf
    exact j25 σ _ _ _ h (lv_sub hl [] rfl) hf
  · have hf := if_f (K := fun x => x) c9 hf
    refine lv_aload_n C.x C.b dX0_chance_9 rfl (lv_at hl 0 rfl) ?_
    refine lv_iload_n C.x C.b dX0_chance_10 rfl (lv_at hl 2 rfl) ?_
    obtain ⟨q_2, hc, hf⟩ := bd_k (K := fun x => x) rfl hf
    refine cX_isChance C h hc (Nat.le_of_ble_eq_true rfl) hl.1 (Nat.le_of_ble_eq_true rfl) dX0_chance_11 (fun H locs h => ?_)
    refine lv_if_eq (tgt := 25) C.x C.b dX0_chance_14 (by decide) (fun c9 => ?_) (fun c9 => ?_)
    · have hf := if_t (K := fun x => x) c9 hf
      exact j25 σ _ _ _ h (lv_sub hl [] rfl) hf
    · have hf := if_f (K := fun x => x) c9 hf
      refine lv_iload_n C.x C.b dX0_chance_17 rfl (lv_at hl 3 rfl) ?_
      refine lv_iconst (v := 2) C.x C.b dX0_chance_18 (by decide) ?_
      obtain ⟨q_3, hc, hf⟩ := bd_k (K := fun x => x) rfl hf
      refine cX_isOneOf C h hc (Nat.le_of_ble_eq_true rfl) hl.1 (Nat.le_of_ble_eq_true rfl) dX0_chance_19 (fun H locs h => ?_)
      refine lv_if_ne (tgt := 28) C.x C.b dX0_chance_22 (by decide) (fun c9 => ?_) (fun c9 => ?_)
      · have hf := if_f (K := fun x => x) c9 hf
        refine lv_aload_n C.x C.b dX0_chance_28 rfl (lv_at hl 0 rfl) ?_
        refine lv_iload_n C.x C.b dX0_chance_29 rfl (lv_at hl 1 rfl) ?_
        refine lv_iload_n C.x C.b dX0_chance_30 rfl (lv_at hl 2 rfl) ?_
        obtain ⟨q_4, hc, hf⟩ := bd_k (K := fun x => x) rfl hf
        refine cX_laysChance C h hc (Nat.le_of_ble_eq_true rfl) hl.1 (Nat.le_of_ble_eq_true rfl) dX0_chance_31 (fun H locs h => ?_)
        refine lv_aload_n C.x C.b dX0_chance_34 rfl (lv_at hl 0 rfl) ?_
        refine x_g28 C h dX0_chance_35 ?_
        refine lv_aload_n C.x C.b dX0_chance_38 rfl (lv_at hl 0 rfl) ?_
        refine x_g27 C h dX0_chance_39 ?_
        refine lv_iload_n C.x C.b dX0_chance_42 rfl (lv_at hl 3 rfl) ?_
        obtain ⟨q_5, hc, hf⟩ := bd_k (K := fun x => x) rfl hf
        refine cX_part C h hc (Nat.le_of_ble_eq_true rfl) hl.1 (Nat.le_of_ble_eq_true rfl) dX0_chance_43 (fun H locs h => ?_)
        refine lv_l2i C.x C.b dX0_chance_46 rfl ?_
        exact hR _ _ (some_k hf) _ _ _ _ h rfl dX0_chance_47
      · have hf := if_t (K := fun x => x) c9 hf
        exact j25 σ _ _ _ h (lv_sub hl [] rfl) hf
def X_drawn_j46 (σ : PS) (x0 : Int32) : Option (Int32 × PS) := some (x0, σ)
def X_drawn_j22 (σ : PS) : Option (Int32 × PS) := some ((-2), σ)
def X_drawn (σ : PS) (v1 : Int32) (v2 : Int32) : Option (Int32 × PS) := bd (X_isLehr σ) (fun q_1 => if q_1 = 0 then X_drawn_j22 σ else bd (X_isSeed v1) (fun q_2 => if q_2 = 0 then X_drawn_j22 σ else bd (X_isOneOf v2 2) (fun q_3 => if q_3 = 0 then X_drawn_j22 σ else bd (X_draws σ v1.toInt64) (fun q_4 => if v2 = 0 then X_drawn_j46 q_4 (gI q_4 12) else bd (X_soundNow q_4) (fun q_5 => X_drawn_j46 q_4 q_5)))))
set_option maxHeartbeats 4000000 in
theorem kX_drawn (l : Launch) {D : va_G} {ty : Nat → ClassId} {A : Nat → Prop} {o : Nat} {ad : Nat → Nat} {rs : va_W} {σ : PS} {σ' : PS} {v1 : Int32} {v2 : Int32} {r : Int32} (hf : X_drawn σ v1 v2 = some (r, σ')) : KI l yX0_drawn cX0_drawn 3 .int 8 D ty A (wX ty o ad σ ++ rs) (wX ty o ad σ' ++ rs) [.ref o, .int v1, .int v2] r := by
  refine KI.of (by decide) (Nat.le_of_ble_eq_true rfl) ?_
  intro p e R s m args below meth c Q C hR
  have C : Cx p R s m args c cX0_drawn 3 RX0 D ty A 8 := C
  have hR : ∀ (v : Int32) (σ2 : PS), (v, σ2) = (r, σ') → ∀ (H : Heap) (locs : List Loc) (pc : Nat) (ls : Array Slot), Hw D A s H locs (wX ty o ad σ2 ++ rs) → narrow .int (.int v) = .int v → decode cX0_drawn pc = .ok (.ireturn, 1) → W p l e R s m args below meth c H locs 0 0 Q (F0 m pc ls [.int v]) := by intro v σ2 e9; cases e9; exact hR
  have j46 : ∀ (σ : PS) (x0 : Int32) (H : Heap) (locs : List Loc) (ls : Array Slot), Hw D A s H locs (wX ty o ad σ ++ rs) → lv_has ls 3 [] → X_drawn_j46 σ x0 = some (r, σ') → W p l e R s m args below meth c H locs 0 0 Q (F0 m 46 ls [.int x0]) := by
    intro σ x0 H locs ls h hl hf
    unfold X_drawn_j46 at hf
    exact hR _ _ (some_k hf) _ _ _ _ h rfl dX0_drawn_46
  have j22 : ∀ (σ : PS) (H : Heap) (locs : List Loc) (ls : Array Slot), Hw D A s H locs (wX ty o ad σ ++ rs) → lv_has ls 3 [] → X_drawn_j22 σ = some (r, σ') → W p l e R s m args below meth c H locs 0 0 Q (F0 m 22 ls []) := by
    intro σ H locs ls h hl hf
    unfold X_drawn_j22 at hf
    refine lv_bipush (v := (-2)) C.x C.b dX0_drawn_22 (by decide) ?_
    exact hR _ _ (some_k hf) _ _ _ _ h rfl dX0_drawn_24
  intro H locs ls h hl
  have hl : lv_has ls 3 [(0, .ref o), (1, .int v1), (2, .int v2)] := hl
  unfold X_drawn at hf
  refine lv_aload_n C.x C.b dX0_drawn_0 rfl (lv_at hl 0 rfl) ?_
  obtain ⟨q_1, hc, hf⟩ := bd_k (K := fun x => x) rfl hf
  refine cX_isLehr C h hc (Nat.le_of_ble_eq_true rfl) hl.1 (Nat.le_of_ble_eq_true rfl) dX0_drawn_1 (fun H locs h => ?_)
  refine lv_if_eq (tgt := 22) C.x C.b dX0_drawn_4 (by decide) (fun c9 => ?_) (fun c9 => ?_)
  · have hf := if_t (K := fun x => x) c9 hf
    exact j22 σ _ _ _ h (lv_sub hl [] rfl) hf
  · have hf := if_f (K := fun x => x) c9 hf
    refine lv_iload_n C.x C.b dX0_drawn_7 rfl (lv_at hl 1 rfl) ?_
    obtain ⟨q_2, hc, hf⟩ := bd_k (K := fun x => x) rfl hf
    refine cX_isSeed C h hc (Nat.le_of_ble_eq_true rfl) hl.1 (Nat.le_of_ble_eq_true rfl) dX0_drawn_8 (fun H locs h => ?_)
    refine lv_if_eq (tgt := 22) C.x C.b dX0_drawn_11 (by decide) (fun c9 => ?_) (fun c9 => ?_)
    · have hf := if_t (K := fun x => x) c9 hf
      exact j22 σ _ _ _ h (lv_sub hl [] rfl) hf
    · have hf := if_f (K := fun x => x) c9 hf
      refine lv_iload_n C.x C.b dX0_drawn_14 rfl (lv_at hl 2 rfl) ?_
      refine lv_iconst (v := 2) C.x C.b dX0_drawn_15 (by decide) ?_
      obtain ⟨q_3, hc, hf⟩ := bd_k (K := fun x => x) rfl hf
      refine cX_isOneOf C h hc (Nat.le_of_ble_eq_true rfl) hl.1 (Nat.le_of_ble_eq_true rfl) dX0_drawn_16 (fun H locs h => ?_)
      refine lv_if_ne (tgt := 25) C.x C.b dX0_drawn_19 (by decide) (fun c9 => ?_) (fun c9 => ?_)
      · have hf := if_f (K := fun x => x) c9 hf
        refine lv_aload_n C.x C.b dX0_drawn_25 rfl (lv_at hl 0 rfl) ?_
        refine lv_iload_n C.x C.b dX0_drawn_26 rfl (lv_at hl 1 rfl) ?_
        refine lv_i2l C.x C.b dX0_drawn_27 rfl ?_
        obtain ⟨q_4, hc, hf⟩ := bd_k (K := fun x => x) rfl hf
        refine cX_draws C h hc (Nat.le_of_ble_eq_true rfl) hl.1 (Nat.le_of_ble_eq_true rfl) dX0_drawn_28 (fun H locs h => ?_)
        refine lv_iload_n C.x C.b dX0_drawn_31 rfl (lv_at hl 2 rfl) ?_
        refine lv_if_ne (tgt := 42) C.x C.b dX0_drawn_32 (by decide) (fun c9 => ?_) (fun c9 => ?_)
        · have hf := if_f (K := fun x => x) c9 hf
          refine lv_aload_n C.x C.b dX0_drawn_42 rfl (lv_at hl 0 rfl) ?_
          obtain ⟨q_5, hc, hf⟩ := bd_k (K := fun x => x) rfl hf
          refine cX_soundNow C h hc (Nat.le_of_ble_eq_true rfl) hl.1 (Nat.le_of_ble_eq_true rfl) dX0_drawn_43 (fun H locs h => ?_)
          exact j46 q_4 q_5 _ _ _ h (lv_sub hl [] rfl) hf
        · have hf := if_t (K := fun x => x) c9 hf
          refine lv_aload_n C.x C.b dX0_drawn_35 rfl (lv_at hl 0 rfl) ?_
          refine x_g12 C h dX0_drawn_36 ?_
          refine lv_goto (tgt := 46) C.x C.b dX0_drawn_39 (by decide) ?_
          exact j46 q_4 (gI q_4 12) _ _ _ h (lv_sub hl [] rfl) hf
      · have hf := if_t (K := fun x => x) c9 hf
        exact j22 σ _ _ _ h (lv_sub hl [] rfl) hf
def X_kept (σ : PS) (v1 : Int32) : Option (Int32 × PS) := if (gI σ 108) = 30 then some ((-5), σ) else ix (gI σ 108) 30 (nm (wA σ 114 (gI σ 108) v1) (fun σ_1 => nm (sI σ_1 108 ((gI σ_1 108) + 1)) (fun σ_2 => bd (X_asksLehr σ_2) (fun q_3 => bd (X_soundMany q_3.2) (fun q_4 => some (q_4, q_3.2))))))
set_option maxHeartbeats 4000000 in
theorem kX_kept (l : Launch) {D : va_G} {ty : Nat → ClassId} {A : Nat → Prop} {o : Nat} {ad : Nat → Nat} {rs : va_W} {σ : PS} {σ' : PS} {v1 : Int32} {r : Int32} (hf : X_kept σ v1 = some (r, σ')) : KI l yX0_kept cX0_kept 2 .int 8 D ty A (wX ty o ad σ ++ rs) (wX ty o ad σ' ++ rs) [.ref o, .int v1] r := by
  refine KI.of (by decide) (Nat.le_of_ble_eq_true rfl) ?_
  intro p e R s m args below meth c Q C hR
  have C : Cx p R s m args c cX0_kept 2 RX0 D ty A 8 := C
  have hR : ∀ (v : Int32) (σ2 : PS), (v, σ2) = (r, σ') → ∀ (H : Heap) (locs : List Loc) (pc : Nat) (ls : Array Slot), Hw D A s H locs (wX ty o ad σ2 ++ rs) → narrow .int (.int v) = .int v → decode cX0_kept pc = .ok (.ireturn, 1) → W p l e R s m args below meth c H locs 0 0 Q (F0 m pc ls [.int v]) := by intro v σ2 e9; cases e9; exact hR
  intro H locs ls h hl
  have hl : lv_has ls 2 [(0, .ref o), (1, .int v1)] := hl
  unfold X_kept at hf
  refine lv_aload_n C.x C.b dX0_kept_0 rfl (lv_at hl 0 rfl) ?_
  refine x_g0 C h dX0_kept_1 ?_
  refine x_g108 C h dX0_kept_4 ?_
  refine lv_bipush (v := 30) C.x C.b dX0_kept_7 (by decide) ?_
  refine lv_icmp_ne (tgt := 15) C.x C.b dX0_kept_9 (by decide) (fun c9 => ?_) (fun c9 => ?_)
  · have hf := if_f (K := fun x => x) c9 hf
    refine lv_aload_n C.x C.b dX0_kept_15 rfl (lv_at hl 0 rfl) ?_
    refine x_g0 C h dX0_kept_16 ?_
    refine x_g114 C h dX0_kept_19 ?_
    refine lv_aload_n C.x C.b dX0_kept_22 rfl (lv_at hl 0 rfl) ?_
    refine x_g0 C h dX0_kept_23 ?_
    refine x_g108 C h dX0_kept_26 ?_
    refine lv_iload_n C.x C.b dX0_kept_29 rfl (lv_at hl 1 rfl) ?_
    obtain ⟨hi, hf⟩ := ix_k (K := fun x => x) rfl hf
    obtain ⟨σ_1, e9, hf⟩ := nm_k (K := fun x => x) hf
    refine x_w114 C h hi e9 dX0_kept_30 (fun H locs h => ?_)
    refine lv_aload_n C.x C.b dX0_kept_31 rfl (lv_at hl 0 rfl) ?_
    refine x_g0 C h dX0_kept_32 ?_
    refine lv_dup C.x C.b dX0_kept_35 rfl ?_
    refine x_g108 C h dX0_kept_36 ?_
    refine lv_iconst (v := 1) C.x C.b dX0_kept_39 (by decide) ?_
    refine lv_iadd C.x C.b dX0_kept_40 ?_
    obtain ⟨σ_2, e9, hf⟩ := nm_k (K := fun x => x) hf
    refine x_p108 C h e9 dX0_kept_41 (fun H locs h => ?_)
    refine lv_aload_n C.x C.b dX0_kept_44 rfl (lv_at hl 0 rfl) ?_
    obtain ⟨q_3, hc, hf⟩ := bd_k (K := fun x => x) rfl hf
    refine cX_asksLehr C h hc (Nat.le_of_ble_eq_true rfl) hl.1 (Nat.le_of_ble_eq_true rfl) dX0_kept_45 (fun H locs h => ?_)
    refine lv_pop C.x C.b dX0_kept_48 rfl ?_
    refine lv_aload_n C.x C.b dX0_kept_49 rfl (lv_at hl 0 rfl) ?_
    obtain ⟨q_4, hc, hf⟩ := bd_k (K := fun x => x) rfl hf
    refine cX_soundMany C h hc (Nat.le_of_ble_eq_true rfl) hl.1 (Nat.le_of_ble_eq_true rfl) dX0_kept_50 (fun H locs h => ?_)
    exact hR _ _ (some_k hf) _ _ _ _ h rfl dX0_kept_53
  · have hf := if_t (K := fun x => x) c9 hf
    refine lv_bipush (v := (-5)) C.x C.b dX0_kept_12 (by decide) ?_
    exact hR _ _ (some_k hf) _ _ _ _ h rfl dX0_kept_14
theorem tX_kept : GoodIn lw_all (wsV RX0 464 RX0 yX0_kept (ws_ yX0_kept cX0_kept 2 (some .int))) := lw_V q1327 q1329 qs66 q137 q1330
theorem cX_kept {p : Program} {l : Launch} {e : Env} {R : Room} {s : State} {m : MethodId} {args : Array Value} {below : List Frame} {meth : Method} {c : Code} {H : Heap} {locs : List Loc} {Q : State → Prop} {cc : ByteArray} {pc : Nat} {ls : Array Slot} {st : List Value} {nL d : Nat} {D : va_G} {ty : Nat → ClassId} {A : Nat → Prop} {o : Nat} {ad : Nat → Nat} {rs : va_W} {σ : PS} {v1 : Int32} {q : (Int32 × PS)} (C : Cx p R s m args c cc nL RX0 D ty A d) (h : Hw D A s H locs (wX ty o ad σ ++ rs)) (hc : X_kept σ v1 = some q) (hd : 8 + 1 ≤ d) (hls : ls.size = nL) (hcat : (st.map fun v => v.category).sum ≤ 8) (dec : decode cc pc = .ok (.invokevirtual 464, 3)) (kk : ∀ (H : Heap) (locs : List Loc), Hw D A s H locs (wX ty o ad q.2 ++ rs) → W p l e R s m args below meth c H locs 0 0 Q (F0 m (pc + 3) ls (.int (q.1) :: st))) : W p l e R s m args below meth c H locs 0 0 Q (F0 m pc ls (.int v1 :: .ref o :: st)) := KI.callV (As := [.int v1]) C (kX_kept l hc) tX_kept ⟨rfl, by decide, by decide, by show _ = some 1; decide +kernel⟩ 0 0 rfl rfl rfl hd (by decide) (Nat.zero_le _) (Nat.zero_le _) h hls rfl hcat dec kk
def X_gusts_j18 (σ : PS) (x0 : Int32) : Option (Int32 × PS) := some (x0, σ)
def X_gusts (σ : PS) (v1 : Int32) : Option (Int32 × PS) := bd (X_isAhead σ v1) (fun q_1 => if q_1 = 0 then X_gusts_j18 σ ((-2)) else bd (X_kept σ v1) (fun q_2 => X_gusts_j18 q_2.2 q_2.1))
set_option maxHeartbeats 4000000 in
theorem kX_gusts (l : Launch) {D : va_G} {ty : Nat → ClassId} {A : Nat → Prop} {o : Nat} {ad : Nat → Nat} {rs : va_W} {σ : PS} {σ' : PS} {v1 : Int32} {r : Int32} (hf : X_gusts σ v1 = some (r, σ')) : KI l yX0_gusts cX0_gusts 2 .int 9 D ty A (wX ty o ad σ ++ rs) (wX ty o ad σ' ++ rs) [.ref o, .int v1] r := by
  refine KI.of (by decide) (Nat.le_of_ble_eq_true rfl) ?_
  intro p e R s m args below meth c Q C hR
  have C : Cx p R s m args c cX0_gusts 2 RX0 D ty A 9 := C
  have hR : ∀ (v : Int32) (σ2 : PS), (v, σ2) = (r, σ') → ∀ (H : Heap) (locs : List Loc) (pc : Nat) (ls : Array Slot), Hw D A s H locs (wX ty o ad σ2 ++ rs) → narrow .int (.int v) = .int v → decode cX0_gusts pc = .ok (.ireturn, 1) → W p l e R s m args below meth c H locs 0 0 Q (F0 m pc ls [.int v]) := by intro v σ2 e9; cases e9; exact hR
  have j18 : ∀ (σ : PS) (x0 : Int32) (H : Heap) (locs : List Loc) (ls : Array Slot), Hw D A s H locs (wX ty o ad σ ++ rs) → lv_has ls 2 [] → X_gusts_j18 σ x0 = some (r, σ') → W p l e R s m args below meth c H locs 0 0 Q (F0 m 18 ls [.int x0]) := by
    intro σ x0 H locs ls h hl hf
    unfold X_gusts_j18 at hf
    exact hR _ _ (some_k hf) _ _ _ _ h rfl dX0_gusts_18
  intro H locs ls h hl
  have hl : lv_has ls 2 [(0, .ref o), (1, .int v1)] := hl
  unfold X_gusts at hf
  refine lv_aload_n C.x C.b dX0_gusts_0 rfl (lv_at hl 0 rfl) ?_
  refine lv_iload_n C.x C.b dX0_gusts_1 rfl (lv_at hl 1 rfl) ?_
  obtain ⟨q_1, hc, hf⟩ := bd_k (K := fun x => x) rfl hf
  refine cX_isAhead C h hc (Nat.le_of_ble_eq_true rfl) hl.1 (Nat.le_of_ble_eq_true rfl) dX0_gusts_2 (fun H locs h => ?_)
  refine lv_if_eq (tgt := 16) C.x C.b dX0_gusts_5 (by decide) (fun c9 => ?_) (fun c9 => ?_)
  · have hf := if_t (K := fun x => x) c9 hf
    refine lv_bipush (v := (-2)) C.x C.b dX0_gusts_16 (by decide) ?_
    exact j18 σ ((-2)) _ _ _ h (lv_sub hl [] rfl) hf
  · have hf := if_f (K := fun x => x) c9 hf
    refine lv_aload_n C.x C.b dX0_gusts_8 rfl (lv_at hl 0 rfl) ?_
    refine lv_iload_n C.x C.b dX0_gusts_9 rfl (lv_at hl 1 rfl) ?_
    obtain ⟨q_2, hc, hf⟩ := bd_k (K := fun x => x) rfl hf
    refine cX_kept C h hc (Nat.le_of_ble_eq_true rfl) hl.1 (Nat.le_of_ble_eq_true rfl) dX0_gusts_10 (fun H locs h => ?_)
    refine lv_goto (tgt := 18) C.x C.b dX0_gusts_13 (by decide) ?_
    exact j18 q_2.2 q_2.1 _ _ _ h (lv_sub hl [] rfl) hf
def X_asksStep_j21 (σ : PS) (x0 : Int32) : Option (Int32 × PS) := tz x0 (some (x0, σ))
def X_asksStep_j20 (σ : PS) : Option (Int32 × PS) := X_asksStep_j21 σ 0
def X_asksStep (σ : PS) (v1 : Int32) : Option (Int32 × PS) := bd (X_asksLehr σ) (fun q_1 => if q_1.1 = 0 then X_asksStep_j20 q_1.2 else bd (X_isStep q_1.2 v1.toInt64) (fun q_2 => if q_2 = 0 then X_asksStep_j20 q_1.2 else X_asksStep_j21 q_1.2 1))
set_option maxHeartbeats 4000000 in
theorem kX_asksStep (l : Launch) {D : va_G} {ty : Nat → ClassId} {A : Nat → Prop} {o : Nat} {ad : Nat → Nat} {rs : va_W} {σ : PS} {σ' : PS} {v1 : Int32} {r : Int32} (hf : X_asksStep σ v1 = some (r, σ')) : KI l yX0_asksStep cX0_asksStep 2 .boolean 8 D ty A (wX ty o ad σ ++ rs) (wX ty o ad σ' ++ rs) [.ref o, .int v1] r := by
  refine KI.of (by decide) (Nat.le_of_ble_eq_true rfl) ?_
  intro p e R s m args below meth c Q C hR
  have C : Cx p R s m args c cX0_asksStep 2 RX0 D ty A 8 := C
  have hR : ∀ (v : Int32) (σ2 : PS), (v, σ2) = (r, σ') → ∀ (H : Heap) (locs : List Loc) (pc : Nat) (ls : Array Slot), Hw D A s H locs (wX ty o ad σ2 ++ rs) → narrow .boolean (.int v) = .int v → decode cX0_asksStep pc = .ok (.ireturn, 1) → W p l e R s m args below meth c H locs 0 0 Q (F0 m pc ls [.int v]) := by intro v σ2 e9; cases e9; exact hR
  have j21 : ∀ (σ : PS) (x0 : Int32) (H : Heap) (locs : List Loc) (ls : Array Slot), Hw D A s H locs (wX ty o ad σ ++ rs) → lv_has ls 2 [] → X_asksStep_j21 σ x0 = some (r, σ') → W p l e R s m args below meth c H locs 0 0 Q (F0 m 21 ls [.int x0]) := by
    intro σ x0 H locs ls h hl hf
    unfold X_asksStep_j21 at hf
    obtain ⟨hz, hf⟩ := tz_k (K := fun x => x) rfl hf
    exact hR _ _ (some_k hf) _ _ _ _ h hz dX0_asksStep_21
  have j20 : ∀ (σ : PS) (H : Heap) (locs : List Loc) (ls : Array Slot), Hw D A s H locs (wX ty o ad σ ++ rs) → lv_has ls 2 [] → X_asksStep_j20 σ = some (r, σ') → W p l e R s m args below meth c H locs 0 0 Q (F0 m 20 ls []) := by
    intro σ H locs ls h hl hf
    unfold X_asksStep_j20 at hf
    refine lv_iconst (v := 0) C.x C.b dX0_asksStep_20 (by decide) ?_
    exact j21 σ 0 _ _ _ h (lv_sub hl [] rfl) hf
  intro H locs ls h hl
  have hl : lv_has ls 2 [(0, .ref o), (1, .int v1)] := hl
  unfold X_asksStep at hf
  refine lv_aload_n C.x C.b dX0_asksStep_0 rfl (lv_at hl 0 rfl) ?_
  obtain ⟨q_1, hc, hf⟩ := bd_k (K := fun x => x) rfl hf
  refine cX_asksLehr C h hc (Nat.le_of_ble_eq_true rfl) hl.1 (Nat.le_of_ble_eq_true rfl) dX0_asksStep_1 (fun H locs h => ?_)
  refine lv_if_eq (tgt := 20) C.x C.b dX0_asksStep_4 (by decide) (fun c9 => ?_) (fun c9 => ?_)
  · have hf := if_t (K := fun x => x) c9 hf
    exact j20 q_1.2 _ _ _ h (lv_sub hl [] rfl) hf
  · have hf := if_f (K := fun x => x) c9 hf
    refine lv_aload_n C.x C.b dX0_asksStep_7 rfl (lv_at hl 0 rfl) ?_
    refine lv_iload_n C.x C.b dX0_asksStep_8 rfl (lv_at hl 1 rfl) ?_
    refine lv_i2l C.x C.b dX0_asksStep_9 rfl ?_
    obtain ⟨q_2, hc, hf⟩ := bd_k (K := fun x => x) rfl hf
    refine cX_isStep C h hc (Nat.le_of_ble_eq_true rfl) hl.1 (Nat.le_of_ble_eq_true rfl) dX0_asksStep_10 (fun H locs h => ?_)
    refine lv_if_eq (tgt := 20) C.x C.b dX0_asksStep_13 (by decide) (fun c9 => ?_) (fun c9 => ?_)
    · have hf := if_t (K := fun x => x) c9 hf
      exact j20 q_1.2 _ _ _ h (lv_sub hl [] rfl) hf
    · have hf := if_f (K := fun x => x) c9 hf
      refine lv_iconst (v := 1) C.x C.b dX0_asksStep_16 (by decide) ?_
      refine lv_goto (tgt := 21) C.x C.b dX0_asksStep_17 (by decide) ?_
      exact j21 q_1.2 1 _ _ _ h (lv_sub hl [] rfl) hf
theorem tX_asksStep : GoodIn lw_all (wsV RX0 284 RX0 yX0_asksStep (ws_ yX0_asksStep cX0_asksStep 2 (some .boolean))) := lw_V q733 q735 qs18 q137 q736
theorem cX_asksStep {p : Program} {l : Launch} {e : Env} {R : Room} {s : State} {m : MethodId} {args : Array Value} {below : List Frame} {meth : Method} {c : Code} {H : Heap} {locs : List Loc} {Q : State → Prop} {cc : ByteArray} {pc : Nat} {ls : Array Slot} {st : List Value} {nL d : Nat} {D : va_G} {ty : Nat → ClassId} {A : Nat → Prop} {o : Nat} {ad : Nat → Nat} {rs : va_W} {σ : PS} {v1 : Int32} {q : (Int32 × PS)} (C : Cx p R s m args c cc nL RX0 D ty A d) (h : Hw D A s H locs (wX ty o ad σ ++ rs)) (hc : X_asksStep σ v1 = some q) (hd : 8 + 1 ≤ d) (hls : ls.size = nL) (hcat : (st.map fun v => v.category).sum ≤ 8) (dec : decode cc pc = .ok (.invokevirtual 284, 3)) (kk : ∀ (H : Heap) (locs : List Loc), Hw D A s H locs (wX ty o ad q.2 ++ rs) → W p l e R s m args below meth c H locs 0 0 Q (F0 m (pc + 3) ls (.int (q.1) :: st))) : W p l e R s m args below meth c H locs 0 0 Q (F0 m pc ls (.int v1 :: .ref o :: st)) := KI.callV (As := [.int v1]) C (kX_asksStep l hc) tX_asksStep ⟨rfl, by decide, by decide, by show _ = some 1; decide +kernel⟩ 0 0 rfl rfl rfl hd (by decide) (Nat.zero_le _) (Nat.zero_le _) h hls rfl hcat dec kk
def X_where_j28 (σ : PS) (x0 : Int32) : Option (Int32 × PS) := some (x0, σ)
def X_where_j26 (σ : PS) : Option (Int32 × PS) := X_where_j28 σ ((-2))
def X_where (σ : PS) (v1 : Int32) (v2 : Int32) : Option (Int32 × PS) := bd (X_asksStep σ v2) (fun q_1 => if q_1.1 = 0 then X_where_j26 q_1.2 else bd (X_isPiece q_1.2 v1.toInt64) (fun q_2 => if q_2 = 0 then X_where_j26 q_1.2 else bd (X_placeOf q_1.2 v1 v2) (fun q_3 => X_where_j28 q_1.2 q_3)))
set_option maxHeartbeats 4000000 in
theorem kX_where (l : Launch) {D : va_G} {ty : Nat → ClassId} {A : Nat → Prop} {o : Nat} {ad : Nat → Nat} {rs : va_W} {σ : PS} {σ' : PS} {v1 : Int32} {v2 : Int32} {r : Int32} (hf : X_where σ v1 v2 = some (r, σ')) : KI l yX0_where cX0_where 3 .int 9 D ty A (wX ty o ad σ ++ rs) (wX ty o ad σ' ++ rs) [.ref o, .int v1, .int v2] r := by
  refine KI.of (by decide) (Nat.le_of_ble_eq_true rfl) ?_
  intro p e R s m args below meth c Q C hR
  have C : Cx p R s m args c cX0_where 3 RX0 D ty A 9 := C
  have hR : ∀ (v : Int32) (σ2 : PS), (v, σ2) = (r, σ') → ∀ (H : Heap) (locs : List Loc) (pc : Nat) (ls : Array Slot), Hw D A s H locs (wX ty o ad σ2 ++ rs) → narrow .int (.int v) = .int v → decode cX0_where pc = .ok (.ireturn, 1) → W p l e R s m args below meth c H locs 0 0 Q (F0 m pc ls [.int v]) := by intro v σ2 e9; cases e9; exact hR
  have j28 : ∀ (σ : PS) (x0 : Int32) (H : Heap) (locs : List Loc) (ls : Array Slot), Hw D A s H locs (wX ty o ad σ ++ rs) → lv_has ls 3 [] → X_where_j28 σ x0 = some (r, σ') → W p l e R s m args below meth c H locs 0 0 Q (F0 m 28 ls [.int x0]) := by
    intro σ x0 H locs ls h hl hf
    unfold X_where_j28 at hf
    exact hR _ _ (some_k hf) _ _ _ _ h rfl dX0_where_28
  have j26 : ∀ (σ : PS) (H : Heap) (locs : List Loc) (ls : Array Slot), Hw D A s H locs (wX ty o ad σ ++ rs) → lv_has ls 3 [] → X_where_j26 σ = some (r, σ') → W p l e R s m args below meth c H locs 0 0 Q (F0 m 26 ls []) := by
    intro σ H locs ls h hl hf
    unfold X_where_j26 at hf
    refine lv_bipush (v := (-2)) C.x C.b dX0_where_26 (by decide) ?_
    exact j28 σ ((-2)) _ _ _ h (lv_sub hl [] rfl) hf
  intro H locs ls h hl
  have hl : lv_has ls 3 [(0, .ref o), (1, .int v1), (2, .int v2)] := hl
  unfold X_where at hf
  refine lv_aload_n C.x C.b dX0_where_0 rfl (lv_at hl 0 rfl) ?_
  refine lv_iload_n C.x C.b dX0_where_1 rfl (lv_at hl 2 rfl) ?_
  obtain ⟨q_1, hc, hf⟩ := bd_k (K := fun x => x) rfl hf
  refine cX_asksStep C h hc (Nat.le_of_ble_eq_true rfl) hl.1 (Nat.le_of_ble_eq_true rfl) dX0_where_2 (fun H locs h => ?_)
  refine lv_if_eq (tgt := 26) C.x C.b dX0_where_5 (by decide) (fun c9 => ?_) (fun c9 => ?_)
  · have hf := if_t (K := fun x => x) c9 hf
    exact j26 q_1.2 _ _ _ h (lv_sub hl [] rfl) hf
  · have hf := if_f (K := fun x => x) c9 hf
    refine lv_aload_n C.x C.b dX0_where_8 rfl (lv_at hl 0 rfl) ?_
    refine lv_iload_n C.x C.b dX0_where_9 rfl (lv_at hl 1 rfl) ?_
    refine lv_i2l C.x C.b dX0_where_10 rfl ?_
    obtain ⟨q_2, hc, hf⟩ := bd_k (K := fun x => x) rfl hf
    refine cX_isPiece C h hc (Nat.le_of_ble_eq_true rfl) hl.1 (Nat.le_of_ble_eq_true rfl) dX0_where_11 (fun H locs h => ?_)
    refine lv_if_eq (tgt := 26) C.x C.b dX0_where_14 (by decide) (fun c9 => ?_) (fun c9 => ?_)
    · have hf := if_t (K := fun x => x) c9 hf
      exact j26 q_1.2 _ _ _ h (lv_sub hl [] rfl) hf
    · have hf := if_f (K := fun x => x) c9 hf
      refine lv_aload_n C.x C.b dX0_where_17 rfl (lv_at hl 0 rfl) ?_
      refine lv_iload_n C.x C.b dX0_where_18 rfl (lv_at hl 1 rfl) ?_
      refine lv_iload_n C.x C.b dX0_where_19 rfl (lv_at hl 2 rfl) ?_
      obtain ⟨q_3, hc, hf⟩ := bd_k (K := fun x => x) rfl hf
      refine cX_placeOf C h hc (Nat.le_of_ble_eq_true rfl) hl.1 (Nat.le_of_ble_eq_true rfl) dX0_where_20 (fun H locs h => ?_)
      refine lv_goto (tgt := 28) C.x C.b dX0_where_23 (by decide) ?_
      exact j28 q_1.2 q_3 _ _ _ h (lv_sub hl [] rfl) hf
def X_inside_j27 (σ : PS) (x0 : Int32) : Option (Int32 × PS) := some (x0, σ)
def X_inside_j25 (σ : PS) : Option (Int32 × PS) := X_inside_j27 σ ((-2))
def X_inside (σ : PS) (v1 : Int32) (v2 : Int32) : Option (Int32 × PS) := bd (X_asksStep σ v2) (fun q_1 => if q_1.1 = 0 then X_inside_j25 q_1.2 else bd (X_isZone q_1.2 v1) (fun q_2 => if q_2 = 0 then X_inside_j25 q_1.2 else bd (X_insideOf q_1.2 v1 v2) (fun q_3 => X_inside_j27 q_1.2 q_3)))
set_option maxHeartbeats 4000000 in
theorem kX_inside (l : Launch) {D : va_G} {ty : Nat → ClassId} {A : Nat → Prop} {o : Nat} {ad : Nat → Nat} {rs : va_W} {σ : PS} {σ' : PS} {v1 : Int32} {v2 : Int32} {r : Int32} (hf : X_inside σ v1 v2 = some (r, σ')) : KI l yX0_inside cX0_inside 3 .int 9 D ty A (wX ty o ad σ ++ rs) (wX ty o ad σ' ++ rs) [.ref o, .int v1, .int v2] r := by
  refine KI.of (by decide) (Nat.le_of_ble_eq_true rfl) ?_
  intro p e R s m args below meth c Q C hR
  have C : Cx p R s m args c cX0_inside 3 RX0 D ty A 9 := C
  have hR : ∀ (v : Int32) (σ2 : PS), (v, σ2) = (r, σ') → ∀ (H : Heap) (locs : List Loc) (pc : Nat) (ls : Array Slot), Hw D A s H locs (wX ty o ad σ2 ++ rs) → narrow .int (.int v) = .int v → decode cX0_inside pc = .ok (.ireturn, 1) → W p l e R s m args below meth c H locs 0 0 Q (F0 m pc ls [.int v]) := by intro v σ2 e9; cases e9; exact hR
  have j27 : ∀ (σ : PS) (x0 : Int32) (H : Heap) (locs : List Loc) (ls : Array Slot), Hw D A s H locs (wX ty o ad σ ++ rs) → lv_has ls 3 [] → X_inside_j27 σ x0 = some (r, σ') → W p l e R s m args below meth c H locs 0 0 Q (F0 m 27 ls [.int x0]) := by
    intro σ x0 H locs ls h hl hf
    unfold X_inside_j27 at hf
    exact hR _ _ (some_k hf) _ _ _ _ h rfl dX0_inside_27
  have j25 : ∀ (σ : PS) (H : Heap) (locs : List Loc) (ls : Array Slot), Hw D A s H locs (wX ty o ad σ ++ rs) → lv_has ls 3 [] → X_inside_j25 σ = some (r, σ') → W p l e R s m args below meth c H locs 0 0 Q (F0 m 25 ls []) := by
    intro σ H locs ls h hl hf
    unfold X_inside_j25 at hf
    refine lv_bipush (v := (-2)) C.x C.b dX0_inside_25 (by decide) ?_
    exact j27 σ ((-2)) _ _ _ h (lv_sub hl [] rfl) hf
  intro H locs ls h hl
  have hl : lv_has ls 3 [(0, .ref o), (1, .int v1), (2, .int v2)] := hl
  unfold X_inside at hf
  refine lv_aload_n C.x C.b dX0_inside_0 rfl (lv_at hl 0 rfl) ?_
  refine lv_iload_n C.x C.b dX0_inside_1 rfl (lv_at hl 2 rfl) ?_
  obtain ⟨q_1, hc, hf⟩ := bd_k (K := fun x => x) rfl hf
  refine cX_asksStep C h hc (Nat.le_of_ble_eq_true rfl) hl.1 (Nat.le_of_ble_eq_true rfl) dX0_inside_2 (fun H locs h => ?_)
  refine lv_if_eq (tgt := 25) C.x C.b dX0_inside_5 (by decide) (fun c9 => ?_) (fun c9 => ?_)
  · have hf := if_t (K := fun x => x) c9 hf
    exact j25 q_1.2 _ _ _ h (lv_sub hl [] rfl) hf
  · have hf := if_f (K := fun x => x) c9 hf
    refine lv_aload_n C.x C.b dX0_inside_8 rfl (lv_at hl 0 rfl) ?_
    refine lv_iload_n C.x C.b dX0_inside_9 rfl (lv_at hl 1 rfl) ?_
    obtain ⟨q_2, hc, hf⟩ := bd_k (K := fun x => x) rfl hf
    refine cX_isZone C h hc (Nat.le_of_ble_eq_true rfl) hl.1 (Nat.le_of_ble_eq_true rfl) dX0_inside_10 (fun H locs h => ?_)
    refine lv_if_eq (tgt := 25) C.x C.b dX0_inside_13 (by decide) (fun c9 => ?_) (fun c9 => ?_)
    · have hf := if_t (K := fun x => x) c9 hf
      exact j25 q_1.2 _ _ _ h (lv_sub hl [] rfl) hf
    · have hf := if_f (K := fun x => x) c9 hf
      refine lv_aload_n C.x C.b dX0_inside_16 rfl (lv_at hl 0 rfl) ?_
      refine lv_iload_n C.x C.b dX0_inside_17 rfl (lv_at hl 1 rfl) ?_
      refine lv_iload_n C.x C.b dX0_inside_18 rfl (lv_at hl 2 rfl) ?_
      obtain ⟨q_3, hc, hf⟩ := bd_k (K := fun x => x) rfl hf
      refine cX_insideOf C h hc (Nat.le_of_ble_eq_true rfl) hl.1 (Nat.le_of_ble_eq_true rfl) dX0_inside_19 (fun H locs h => ?_)
      refine lv_goto (tgt := 27) C.x C.b dX0_inside_22 (by decide) ?_
      exact j27 q_1.2 q_3 _ _ _ h (lv_sub hl [] rfl) hf
def X_out_j20 (σ : PS) (x0 : Int32) : Option (Int32 × PS) := some (x0, σ)
def X_out (σ : PS) (v1 : Int32) : Option (Int32 × PS) := bd (X_asksStep σ v1) (fun q_1 => if q_1.1 = 0 then X_out_j20 q_1.2 ((-2)) else bd (X_insideOf q_1.2 10 v1) (fun q_2 => X_out_j20 q_1.2 q_2))
set_option maxHeartbeats 4000000 in
theorem kX_out (l : Launch) {D : va_G} {ty : Nat → ClassId} {A : Nat → Prop} {o : Nat} {ad : Nat → Nat} {rs : va_W} {σ : PS} {σ' : PS} {v1 : Int32} {r : Int32} (hf : X_out σ v1 = some (r, σ')) : KI l yX0_out cX0_out 2 .int 9 D ty A (wX ty o ad σ ++ rs) (wX ty o ad σ' ++ rs) [.ref o, .int v1] r := by
  refine KI.of (by decide) (Nat.le_of_ble_eq_true rfl) ?_
  intro p e R s m args below meth c Q C hR
  have C : Cx p R s m args c cX0_out 2 RX0 D ty A 9 := C
  have hR : ∀ (v : Int32) (σ2 : PS), (v, σ2) = (r, σ') → ∀ (H : Heap) (locs : List Loc) (pc : Nat) (ls : Array Slot), Hw D A s H locs (wX ty o ad σ2 ++ rs) → narrow .int (.int v) = .int v → decode cX0_out pc = .ok (.ireturn, 1) → W p l e R s m args below meth c H locs 0 0 Q (F0 m pc ls [.int v]) := by intro v σ2 e9; cases e9; exact hR
  have j20 : ∀ (σ : PS) (x0 : Int32) (H : Heap) (locs : List Loc) (ls : Array Slot), Hw D A s H locs (wX ty o ad σ ++ rs) → lv_has ls 2 [] → X_out_j20 σ x0 = some (r, σ') → W p l e R s m args below meth c H locs 0 0 Q (F0 m 20 ls [.int x0]) := by
    intro σ x0 H locs ls h hl hf
    unfold X_out_j20 at hf
    exact hR _ _ (some_k hf) _ _ _ _ h rfl dX0_out_20
  intro H locs ls h hl
  have hl : lv_has ls 2 [(0, .ref o), (1, .int v1)] := hl
  unfold X_out at hf
  refine lv_aload_n C.x C.b dX0_out_0 rfl (lv_at hl 0 rfl) ?_
  refine lv_iload_n C.x C.b dX0_out_1 rfl (lv_at hl 1 rfl) ?_
  obtain ⟨q_1, hc, hf⟩ := bd_k (K := fun x => x) rfl hf
  refine cX_asksStep C h hc (Nat.le_of_ble_eq_true rfl) hl.1 (Nat.le_of_ble_eq_true rfl) dX0_out_2 (fun H locs h => ?_)
  refine lv_if_eq (tgt := 18) C.x C.b dX0_out_5 (by decide) (fun c9 => ?_) (fun c9 => ?_)
  · have hf := if_t (K := fun x => x) c9 hf
    refine lv_bipush (v := (-2)) C.x C.b dX0_out_18 (by decide) ?_
    exact j20 q_1.2 ((-2)) _ _ _ h (lv_sub hl [] rfl) hf
  · have hf := if_f (K := fun x => x) c9 hf
    refine lv_aload_n C.x C.b dX0_out_8 rfl (lv_at hl 0 rfl) ?_
    refine lv_bipush (v := 10) C.x C.b dX0_out_9 (by decide) ?_
    refine lv_iload_n C.x C.b dX0_out_11 rfl (lv_at hl 1 rfl) ?_
    obtain ⟨q_2, hc, hf⟩ := bd_k (K := fun x => x) rfl hf
    refine cX_insideOf C h hc (Nat.le_of_ble_eq_true rfl) hl.1 (Nat.le_of_ble_eq_true rfl) dX0_out_12 (fun H locs h => ?_)
    refine lv_goto (tgt := 20) C.x C.b dX0_out_15 (by decide) ?_
    exact j20 q_1.2 q_2 _ _ _ h (lv_sub hl [] rfl) hf
def X_leaves_j43 (σ : PS) : Option (Int32 × PS) := some ((-1), σ)
def X_leaves_j35 (σ : PS) (v2 : Int32) : Option (Int32 × PS) := some (v2, σ)
def X_leaves_l13 (σ : PS) (v1 : Int32) (v2 : Int32) : Option ((Int32) ⊕ (Int32 × PS)) := if (gI σ 100) < v2 then up (X_leaves_j43 σ) else bd (X_placeOf σ v1 v2) (fun q_1 => if q_1 = 10 then up (X_leaves_j35 σ v2) else nm (v2 + 1) (fun v2_2 => some (.inl (v2_2))))
def X_leaves_B13 (σ : PS) (v1 : Int32) : (Int32) → Option ((Int32) ⊕ (Int32 × PS)) := fun t => X_leaves_l13 σ v1 t
def X_leaves (σ : PS) (v1 : Int32) : Option (Int32 × PS) := bd (X_asksPiece σ v1) (fun q_3 => if q_3.1 = 0 then some ((-2), q_3.2) else loop (X_leaves_B13 q_3.2 v1) fu (0))
set_option maxHeartbeats 4000000 in
theorem kX_leaves (l : Launch) {D : va_G} {ty : Nat → ClassId} {A : Nat → Prop} {o : Nat} {ad : Nat → Nat} {rs : va_W} {σ : PS} {σ' : PS} {v1 : Int32} {r : Int32} (hf : X_leaves σ v1 = some (r, σ')) : KI l yX0_leaves cX0_leaves 3 .int 9 D ty A (wX ty o ad σ ++ rs) (wX ty o ad σ' ++ rs) [.ref o, .int v1] r := by
  refine KI.of (by decide) (Nat.le_of_ble_eq_true rfl) ?_
  intro p e R s m args below meth c Q C hR
  have C : Cx p R s m args c cX0_leaves 3 RX0 D ty A 9 := C
  have hR : ∀ (v : Int32) (σ2 : PS), (v, σ2) = (r, σ') → ∀ (H : Heap) (locs : List Loc) (pc : Nat) (ls : Array Slot), Hw D A s H locs (wX ty o ad σ2 ++ rs) → narrow .int (.int v) = .int v → decode cX0_leaves pc = .ok (.ireturn, 1) → W p l e R s m args below meth c H locs 0 0 Q (F0 m pc ls [.int v]) := by intro v σ2 e9; cases e9; exact hR
  have j43 : ∀ (σ : PS) (H : Heap) (locs : List Loc) (ls : Array Slot), Hw D A s H locs (wX ty o ad σ ++ rs) → lv_has ls 3 [] → X_leaves_j43 σ = some (r, σ') → W p l e R s m args below meth c H locs 0 0 Q (F0 m 43 ls []) := by
    intro σ H locs ls h hl hf
    unfold X_leaves_j43 at hf
    refine lv_iconst (v := (-1)) C.x C.b dX0_leaves_43 (by decide) ?_
    exact hR _ _ (some_k hf) _ _ _ _ h rfl dX0_leaves_44
  have j35 : ∀ (σ : PS) (v2 : Int32) (H : Heap) (locs : List Loc) (ls : Array Slot), Hw D A s H locs (wX ty o ad σ ++ rs) → lv_has ls 3 [(2, .int v2)] → X_leaves_j35 σ v2 = some (r, σ') → W p l e R s m args below meth c H locs 0 0 Q (F0 m 35 ls []) := by
    intro σ v2 H locs ls h hl hf
    unfold X_leaves_j35 at hf
    refine lv_iload_n C.x C.b dX0_leaves_35 rfl (lv_at hl 0 rfl) ?_
    exact hR _ _ (some_k hf) _ _ _ _ h rfl dX0_leaves_36
  have l13 : ∀ (σ : PS) (n13 : Nat) (v2 : Int32) (H : Heap) (locs : List Loc) (ls : Array Slot), Hw D A s H locs (wX ty o ad σ ++ rs) → lv_has ls 3 [(0, .ref o), (1, .int v1), (2, .int v2)] → loop (X_leaves_B13 σ v1) n13 (v2) = some (r, σ') → W p l e R s m args below meth c H locs 0 0 Q (F0 m 13 ls []) := by
    intro σ n13
    induction n13 with
    | zero => intro v2 H locs ls h hl hf; exact (none_k hf).elim
    | succ n13 ih13 =>
      intro v2 H locs ls h hl hf
      have hf : bl (X_leaves_B13 σ v1) n13 (X_leaves_l13 σ v1 v2) = some (r, σ') := hf
      unfold X_leaves_l13 at hf
      refine lv_iload_n C.x C.b dX0_leaves_13 rfl (lv_at hl 2 rfl) ?_
      refine lv_aload_n C.x C.b dX0_leaves_14 rfl (lv_at hl 0 rfl) ?_
      refine x_g0 C h dX0_leaves_15 ?_
      refine x_g100 C h dX0_leaves_18 ?_
      refine lv_icmp_gt (tgt := 43) C.x C.b dX0_leaves_21 (by decide) (fun c9 => ?_) (fun c9 => ?_)
      · have hf := if_t (K := bl (X_leaves_B13 σ v1) n13) c9 hf
        have hf := bl_upK (K := fun x => x) hf
        exact j43 σ _ _ _ h (lv_sub hl [] rfl) hf
      · have hf := if_f (K := bl (X_leaves_B13 σ v1) n13) c9 hf
        refine lv_aload_n C.x C.b dX0_leaves_24 rfl (lv_at hl 0 rfl) ?_
        refine lv_iload_n C.x C.b dX0_leaves_25 rfl (lv_at hl 1 rfl) ?_
        refine lv_iload_n C.x C.b dX0_leaves_26 rfl (lv_at hl 2 rfl) ?_
        obtain ⟨q_1, hc, hf⟩ := bd_k (K := bl (X_leaves_B13 σ v1) n13) rfl hf
        refine cX_placeOf C h hc (Nat.le_of_ble_eq_true rfl) hl.1 (Nat.le_of_ble_eq_true rfl) dX0_leaves_27 (fun H locs h => ?_)
        refine lv_bipush (v := 10) C.x C.b dX0_leaves_30 (by decide) ?_
        refine lv_icmp_ne (tgt := 37) C.x C.b dX0_leaves_32 (by decide) (fun c9 => ?_) (fun c9 => ?_)
        · have hf := if_f (K := bl (X_leaves_B13 σ v1) n13) c9 hf
          obtain ⟨v2_2, e9, hf⟩ := nm_k (K := bl (X_leaves_B13 σ v1) n13) hf
          refine lv_iinc (v := v2_2) (lv' := [(2, .int v2_2), (0, .ref o), (1, .int v1)]) C.x C.b dX0_leaves_37 hl (k := 2) rfl (iinc_e (k := 1) (by decide) e9) (by decide) rfl (fun ls hl => ?_)
          refine lv_goto (tgt := 13) C.x C.b dX0_leaves_40 (by decide) ?_
          exact ih13 v2_2 _ _ _ h (lv_sub hl [1, 2, 0] rfl) hf
        · have hf := if_t (K := bl (X_leaves_B13 σ v1) n13) c9 hf
          have hf := bl_upK (K := fun x => x) hf
          exact j35 σ v2 _ _ _ h (lv_sub hl [2] rfl) hf
  intro H locs ls h hl
  have hl : lv_has ls 3 [(0, .ref o), (1, .int v1)] := hl
  unfold X_leaves at hf
  refine lv_aload_n C.x C.b dX0_leaves_0 rfl (lv_at hl 0 rfl) ?_
  refine lv_iload_n C.x C.b dX0_leaves_1 rfl (lv_at hl 1 rfl) ?_
  obtain ⟨q_3, hc, hf⟩ := bd_k (K := fun x => x) rfl hf
  refine cX_asksPiece C h hc (Nat.le_of_ble_eq_true rfl) hl.1 (Nat.le_of_ble_eq_true rfl) dX0_leaves_2 (fun H locs h => ?_)
  refine lv_if_ne (tgt := 11) C.x C.b dX0_leaves_5 (by decide) (fun c9 => ?_) (fun c9 => ?_)
  · have hf := if_f (K := fun x => x) c9 hf
    refine lv_iconst (v := 0) C.x C.b dX0_leaves_11 (by decide) ?_
    refine lv_istore_n (lv' := [(2, .int 0), (0, .ref o), (1, .int v1)]) C.x C.b dX0_leaves_12 rfl hl (by decide) rfl (fun ls hl => ?_)
    exact l13 q_3.2 fu 0 _ _ _ h (lv_sub hl [1, 2, 0] rfl) hf
  · have hf := if_t (K := fun x => x) c9 hf
    refine lv_bipush (v := (-2)) C.x C.b dX0_leaves_8 (by decide) ?_
    exact hR _ _ (some_k hf) _ _ _ _ h rfl dX0_leaves_10
def X_skin_j28 (σ : PS) (x0 : Int32) : Option (Int32 × PS) := some (x0, σ)
def X_skin_j26 (σ : PS) : Option (Int32 × PS) := X_skin_j28 σ ((-2))
def X_skin (σ : PS) (v1 : Int32) (v2 : Int32) : Option (Int32 × PS) := bd (X_asksStep σ v2) (fun q_1 => if q_1.1 = 0 then X_skin_j26 q_1.2 else bd (X_isPiece q_1.2 v1.toInt64) (fun q_2 => if q_2 = 0 then X_skin_j26 q_1.2 else bd (X_skinOf q_1.2 v1 v2) (fun q_3 => X_skin_j28 q_1.2 q_3)))
set_option maxHeartbeats 4000000 in
theorem kX_skin (l : Launch) {D : va_G} {ty : Nat → ClassId} {A : Nat → Prop} {o : Nat} {ad : Nat → Nat} {rs : va_W} {σ : PS} {σ' : PS} {v1 : Int32} {v2 : Int32} {r : Int32} (hf : X_skin σ v1 v2 = some (r, σ')) : KI l yX0_skin cX0_skin 3 .int 9 D ty A (wX ty o ad σ ++ rs) (wX ty o ad σ' ++ rs) [.ref o, .int v1, .int v2] r := by
  refine KI.of (by decide) (Nat.le_of_ble_eq_true rfl) ?_
  intro p e R s m args below meth c Q C hR
  have C : Cx p R s m args c cX0_skin 3 RX0 D ty A 9 := C
  have hR : ∀ (v : Int32) (σ2 : PS), (v, σ2) = (r, σ') → ∀ (H : Heap) (locs : List Loc) (pc : Nat) (ls : Array Slot), Hw D A s H locs (wX ty o ad σ2 ++ rs) → narrow .int (.int v) = .int v → decode cX0_skin pc = .ok (.ireturn, 1) → W p l e R s m args below meth c H locs 0 0 Q (F0 m pc ls [.int v]) := by intro v σ2 e9; cases e9; exact hR
  have j28 : ∀ (σ : PS) (x0 : Int32) (H : Heap) (locs : List Loc) (ls : Array Slot), Hw D A s H locs (wX ty o ad σ ++ rs) → lv_has ls 3 [] → X_skin_j28 σ x0 = some (r, σ') → W p l e R s m args below meth c H locs 0 0 Q (F0 m 28 ls [.int x0]) := by
    intro σ x0 H locs ls h hl hf
    unfold X_skin_j28 at hf
    exact hR _ _ (some_k hf) _ _ _ _ h rfl dX0_skin_28
  have j26 : ∀ (σ : PS) (H : Heap) (locs : List Loc) (ls : Array Slot), Hw D A s H locs (wX ty o ad σ ++ rs) → lv_has ls 3 [] → X_skin_j26 σ = some (r, σ') → W p l e R s m args below meth c H locs 0 0 Q (F0 m 26 ls []) := by
    intro σ H locs ls h hl hf
    unfold X_skin_j26 at hf
    refine lv_bipush (v := (-2)) C.x C.b dX0_skin_26 (by decide) ?_
    exact j28 σ ((-2)) _ _ _ h (lv_sub hl [] rfl) hf
  intro H locs ls h hl
  have hl : lv_has ls 3 [(0, .ref o), (1, .int v1), (2, .int v2)] := hl
  unfold X_skin at hf
  refine lv_aload_n C.x C.b dX0_skin_0 rfl (lv_at hl 0 rfl) ?_
  refine lv_iload_n C.x C.b dX0_skin_1 rfl (lv_at hl 2 rfl) ?_
  obtain ⟨q_1, hc, hf⟩ := bd_k (K := fun x => x) rfl hf
  refine cX_asksStep C h hc (Nat.le_of_ble_eq_true rfl) hl.1 (Nat.le_of_ble_eq_true rfl) dX0_skin_2 (fun H locs h => ?_)
  refine lv_if_eq (tgt := 26) C.x C.b dX0_skin_5 (by decide) (fun c9 => ?_) (fun c9 => ?_)
  · have hf := if_t (K := fun x => x) c9 hf
    exact j26 q_1.2 _ _ _ h (lv_sub hl [] rfl) hf
  · have hf := if_f (K := fun x => x) c9 hf
    refine lv_aload_n C.x C.b dX0_skin_8 rfl (lv_at hl 0 rfl) ?_
    refine lv_iload_n C.x C.b dX0_skin_9 rfl (lv_at hl 1 rfl) ?_
    refine lv_i2l C.x C.b dX0_skin_10 rfl ?_
    obtain ⟨q_2, hc, hf⟩ := bd_k (K := fun x => x) rfl hf
    refine cX_isPiece C h hc (Nat.le_of_ble_eq_true rfl) hl.1 (Nat.le_of_ble_eq_true rfl) dX0_skin_11 (fun H locs h => ?_)
    refine lv_if_eq (tgt := 26) C.x C.b dX0_skin_14 (by decide) (fun c9 => ?_) (fun c9 => ?_)
    · have hf := if_t (K := fun x => x) c9 hf
      exact j26 q_1.2 _ _ _ h (lv_sub hl [] rfl) hf
    · have hf := if_f (K := fun x => x) c9 hf
      refine lv_aload_n C.x C.b dX0_skin_17 rfl (lv_at hl 0 rfl) ?_
      refine lv_iload_n C.x C.b dX0_skin_18 rfl (lv_at hl 1 rfl) ?_
      refine lv_iload_n C.x C.b dX0_skin_19 rfl (lv_at hl 2 rfl) ?_
      obtain ⟨q_3, hc, hf⟩ := bd_k (K := fun x => x) rfl hf
      refine cX_skinOf C h hc (Nat.le_of_ble_eq_true rfl) hl.1 (Nat.le_of_ble_eq_true rfl) dX0_skin_20 (fun H locs h => ?_)
      refine lv_goto (tgt := 28) C.x C.b dX0_skin_23 (by decide) ?_
      exact j28 q_1.2 q_3 _ _ _ h (lv_sub hl [] rfl) hf
def X_core_j28 (σ : PS) (x0 : Int32) : Option (Int32 × PS) := some (x0, σ)
def X_core_j26 (σ : PS) : Option (Int32 × PS) := X_core_j28 σ ((-2))
def X_core (σ : PS) (v1 : Int32) (v2 : Int32) : Option (Int32 × PS) := bd (X_asksStep σ v2) (fun q_1 => if q_1.1 = 0 then X_core_j26 q_1.2 else bd (X_isPiece q_1.2 v1.toInt64) (fun q_2 => if q_2 = 0 then X_core_j26 q_1.2 else bd (X_coreOf q_1.2 v1 v2) (fun q_3 => X_core_j28 q_1.2 q_3)))
set_option maxHeartbeats 4000000 in
theorem kX_core (l : Launch) {D : va_G} {ty : Nat → ClassId} {A : Nat → Prop} {o : Nat} {ad : Nat → Nat} {rs : va_W} {σ : PS} {σ' : PS} {v1 : Int32} {v2 : Int32} {r : Int32} (hf : X_core σ v1 v2 = some (r, σ')) : KI l yX0_core cX0_core 3 .int 9 D ty A (wX ty o ad σ ++ rs) (wX ty o ad σ' ++ rs) [.ref o, .int v1, .int v2] r := by
  refine KI.of (by decide) (Nat.le_of_ble_eq_true rfl) ?_
  intro p e R s m args below meth c Q C hR
  have C : Cx p R s m args c cX0_core 3 RX0 D ty A 9 := C
  have hR : ∀ (v : Int32) (σ2 : PS), (v, σ2) = (r, σ') → ∀ (H : Heap) (locs : List Loc) (pc : Nat) (ls : Array Slot), Hw D A s H locs (wX ty o ad σ2 ++ rs) → narrow .int (.int v) = .int v → decode cX0_core pc = .ok (.ireturn, 1) → W p l e R s m args below meth c H locs 0 0 Q (F0 m pc ls [.int v]) := by intro v σ2 e9; cases e9; exact hR
  have j28 : ∀ (σ : PS) (x0 : Int32) (H : Heap) (locs : List Loc) (ls : Array Slot), Hw D A s H locs (wX ty o ad σ ++ rs) → lv_has ls 3 [] → X_core_j28 σ x0 = some (r, σ') → W p l e R s m args below meth c H locs 0 0 Q (F0 m 28 ls [.int x0]) := by
    intro σ x0 H locs ls h hl hf
    unfold X_core_j28 at hf
    exact hR _ _ (some_k hf) _ _ _ _ h rfl dX0_core_28
  have j26 : ∀ (σ : PS) (H : Heap) (locs : List Loc) (ls : Array Slot), Hw D A s H locs (wX ty o ad σ ++ rs) → lv_has ls 3 [] → X_core_j26 σ = some (r, σ') → W p l e R s m args below meth c H locs 0 0 Q (F0 m 26 ls []) := by
    intro σ H locs ls h hl hf
    unfold X_core_j26 at hf
    refine lv_bipush (v := (-2)) C.x C.b dX0_core_26 (by decide) ?_
    exact j28 σ ((-2)) _ _ _ h (lv_sub hl [] rfl) hf
  intro H locs ls h hl
  have hl : lv_has ls 3 [(0, .ref o), (1, .int v1), (2, .int v2)] := hl
  unfold X_core at hf
  refine lv_aload_n C.x C.b dX0_core_0 rfl (lv_at hl 0 rfl) ?_
  refine lv_iload_n C.x C.b dX0_core_1 rfl (lv_at hl 2 rfl) ?_
  obtain ⟨q_1, hc, hf⟩ := bd_k (K := fun x => x) rfl hf
  refine cX_asksStep C h hc (Nat.le_of_ble_eq_true rfl) hl.1 (Nat.le_of_ble_eq_true rfl) dX0_core_2 (fun H locs h => ?_)
  refine lv_if_eq (tgt := 26) C.x C.b dX0_core_5 (by decide) (fun c9 => ?_) (fun c9 => ?_)
  · have hf := if_t (K := fun x => x) c9 hf
    exact j26 q_1.2 _ _ _ h (lv_sub hl [] rfl) hf
  · have hf := if_f (K := fun x => x) c9 hf
    refine lv_aload_n C.x C.b dX0_core_8 rfl (lv_at hl 0 rfl) ?_
    refine lv_iload_n C.x C.b dX0_core_9 rfl (lv_at hl 1 rfl) ?_
    refine lv_i2l C.x C.b dX0_core_10 rfl ?_
    obtain ⟨q_2, hc, hf⟩ := bd_k (K := fun x => x) rfl hf
    refine cX_isPiece C h hc (Nat.le_of_ble_eq_true rfl) hl.1 (Nat.le_of_ble_eq_true rfl) dX0_core_11 (fun H locs h => ?_)
    refine lv_if_eq (tgt := 26) C.x C.b dX0_core_14 (by decide) (fun c9 => ?_) (fun c9 => ?_)
    · have hf := if_t (K := fun x => x) c9 hf
      exact j26 q_1.2 _ _ _ h (lv_sub hl [] rfl) hf
    · have hf := if_f (K := fun x => x) c9 hf
      refine lv_aload_n C.x C.b dX0_core_17 rfl (lv_at hl 0 rfl) ?_
      refine lv_iload_n C.x C.b dX0_core_18 rfl (lv_at hl 1 rfl) ?_
      refine lv_iload_n C.x C.b dX0_core_19 rfl (lv_at hl 2 rfl) ?_
      obtain ⟨q_3, hc, hf⟩ := bd_k (K := fun x => x) rfl hf
      refine cX_coreOf C h hc (Nat.le_of_ble_eq_true rfl) hl.1 (Nat.le_of_ble_eq_true rfl) dX0_core_20 (fun H locs h => ?_)
      refine lv_goto (tgt := 28) C.x C.b dX0_core_23 (by decide) ?_
      exact j28 q_1.2 q_3 _ _ _ h (lv_sub hl [] rfl) hf
def X_strain_j28 (σ : PS) (x0 : Int32) : Option (Int32 × PS) := some (x0, σ)
def X_strain_j26 (σ : PS) : Option (Int32 × PS) := X_strain_j28 σ ((-2))
def X_strain (σ : PS) (v1 : Int32) (v2 : Int32) : Option (Int32 × PS) := bd (X_asksStep σ v2) (fun q_1 => if q_1.1 = 0 then X_strain_j26 q_1.2 else bd (X_isPiece q_1.2 v1.toInt64) (fun q_2 => if q_2 = 0 then X_strain_j26 q_1.2 else bd (X_strainOf q_1.2 v1 v2) (fun q_3 => X_strain_j28 q_1.2 q_3)))
set_option maxHeartbeats 4000000 in
theorem kX_strain (l : Launch) {D : va_G} {ty : Nat → ClassId} {A : Nat → Prop} {o : Nat} {ad : Nat → Nat} {rs : va_W} {σ : PS} {σ' : PS} {v1 : Int32} {v2 : Int32} {r : Int32} (hf : X_strain σ v1 v2 = some (r, σ')) : KI l yX0_strain cX0_strain 3 .int 9 D ty A (wX ty o ad σ ++ rs) (wX ty o ad σ' ++ rs) [.ref o, .int v1, .int v2] r := by
  refine KI.of (by decide) (Nat.le_of_ble_eq_true rfl) ?_
  intro p e R s m args below meth c Q C hR
  have C : Cx p R s m args c cX0_strain 3 RX0 D ty A 9 := C
  have hR : ∀ (v : Int32) (σ2 : PS), (v, σ2) = (r, σ') → ∀ (H : Heap) (locs : List Loc) (pc : Nat) (ls : Array Slot), Hw D A s H locs (wX ty o ad σ2 ++ rs) → narrow .int (.int v) = .int v → decode cX0_strain pc = .ok (.ireturn, 1) → W p l e R s m args below meth c H locs 0 0 Q (F0 m pc ls [.int v]) := by intro v σ2 e9; cases e9; exact hR
  have j28 : ∀ (σ : PS) (x0 : Int32) (H : Heap) (locs : List Loc) (ls : Array Slot), Hw D A s H locs (wX ty o ad σ ++ rs) → lv_has ls 3 [] → X_strain_j28 σ x0 = some (r, σ') → W p l e R s m args below meth c H locs 0 0 Q (F0 m 28 ls [.int x0]) := by
    intro σ x0 H locs ls h hl hf
    unfold X_strain_j28 at hf
    exact hR _ _ (some_k hf) _ _ _ _ h rfl dX0_strain_28
  have j26 : ∀ (σ : PS) (H : Heap) (locs : List Loc) (ls : Array Slot), Hw D A s H locs (wX ty o ad σ ++ rs) → lv_has ls 3 [] → X_strain_j26 σ = some (r, σ') → W p l e R s m args below meth c H locs 0 0 Q (F0 m 26 ls []) := by
    intro σ H locs ls h hl hf
    unfold X_strain_j26 at hf
    refine lv_bipush (v := (-2)) C.x C.b dX0_strain_26 (by decide) ?_
    exact j28 σ ((-2)) _ _ _ h (lv_sub hl [] rfl) hf
  intro H locs ls h hl
  have hl : lv_has ls 3 [(0, .ref o), (1, .int v1), (2, .int v2)] := hl
  unfold X_strain at hf
  refine lv_aload_n C.x C.b dX0_strain_0 rfl (lv_at hl 0 rfl) ?_
  refine lv_iload_n C.x C.b dX0_strain_1 rfl (lv_at hl 2 rfl) ?_
  obtain ⟨q_1, hc, hf⟩ := bd_k (K := fun x => x) rfl hf
  refine cX_asksStep C h hc (Nat.le_of_ble_eq_true rfl) hl.1 (Nat.le_of_ble_eq_true rfl) dX0_strain_2 (fun H locs h => ?_)
  refine lv_if_eq (tgt := 26) C.x C.b dX0_strain_5 (by decide) (fun c9 => ?_) (fun c9 => ?_)
  · have hf := if_t (K := fun x => x) c9 hf
    exact j26 q_1.2 _ _ _ h (lv_sub hl [] rfl) hf
  · have hf := if_f (K := fun x => x) c9 hf
    refine lv_aload_n C.x C.b dX0_strain_8 rfl (lv_at hl 0 rfl) ?_
    refine lv_iload_n C.x C.b dX0_strain_9 rfl (lv_at hl 1 rfl) ?_
    refine lv_i2l C.x C.b dX0_strain_10 rfl ?_
    obtain ⟨q_2, hc, hf⟩ := bd_k (K := fun x => x) rfl hf
    refine cX_isPiece C h hc (Nat.le_of_ble_eq_true rfl) hl.1 (Nat.le_of_ble_eq_true rfl) dX0_strain_11 (fun H locs h => ?_)
    refine lv_if_eq (tgt := 26) C.x C.b dX0_strain_14 (by decide) (fun c9 => ?_) (fun c9 => ?_)
    · have hf := if_t (K := fun x => x) c9 hf
      exact j26 q_1.2 _ _ _ h (lv_sub hl [] rfl) hf
    · have hf := if_f (K := fun x => x) c9 hf
      refine lv_aload_n C.x C.b dX0_strain_17 rfl (lv_at hl 0 rfl) ?_
      refine lv_iload_n C.x C.b dX0_strain_18 rfl (lv_at hl 1 rfl) ?_
      refine lv_iload_n C.x C.b dX0_strain_19 rfl (lv_at hl 2 rfl) ?_
      obtain ⟨q_3, hc, hf⟩ := bd_k (K := fun x => x) rfl hf
      refine cX_strainOf C h hc (Nat.le_of_ble_eq_true rfl) hl.1 (Nat.le_of_ble_eq_true rfl) dX0_strain_20 (fun H locs h => ?_)
      refine lv_goto (tgt := 28) C.x C.b dX0_strain_23 (by decide) ?_
      exact j28 q_1.2 q_3 _ _ _ h (lv_sub hl [] rfl) hf
def X_whole_j60 (σ : PS) (v2 : Int32) : Option (Int32 × PS) := some (v2, σ)
def X_whole_j52 (σ : PS) (v1 : Int32) (v3 : Int32) (x0 : Int32) (x1 : Int32) : Option ((Int32 × Int32) ⊕ (Int32 × PS)) := nm (x1 ||| x0) (fun v2_1 => nm (v3 + 1) (fun v3_2 => some (.inl (v2_1, v3_2))))
def X_whole_j51 (σ : PS) (v1 : Int32) (v3 : Int32) (x0 : Int32) : Option ((Int32 × Int32) ⊕ (Int32 × PS)) := X_whole_j52 σ v1 v3 0 x0
def X_whole_l15 (σ : PS) (v1 : Int32) (v2 : Int32) (v3 : Int32) : Option ((Int32 × Int32) ⊕ (Int32 × PS)) := if (gI σ 107) ≤ v3 then up (X_whole_j60 σ v2) else bd (X_hasCome σ v3 v1) (fun q_3 => if q_3 = 0 then X_whole_j51 σ v1 v3 v2 else bd (X_isWhole σ v3 v1) (fun q_4 => if q_4 = 0 then X_whole_j51 σ v1 v3 v2 else X_whole_j52 σ v1 v3 (1 <<< (v3 &&& 31)) v2))
def X_whole_B15 (σ : PS) (v1 : Int32) : (Int32 × Int32) → Option ((Int32 × Int32) ⊕ (Int32 × PS)) := fun t => X_whole_l15 σ v1 t.1 t.2
def X_whole (σ : PS) (v1 : Int32) : Option (Int32 × PS) := bd (X_asksStep σ v1) (fun q_5 => if q_5.1 = 0 then some ((-2), q_5.2) else loop (X_whole_B15 q_5.2 v1) fu (0, 0))
set_option maxHeartbeats 4000000 in
theorem kX_whole (l : Launch) {D : va_G} {ty : Nat → ClassId} {A : Nat → Prop} {o : Nat} {ad : Nat → Nat} {rs : va_W} {σ : PS} {σ' : PS} {v1 : Int32} {r : Int32} (hf : X_whole σ v1 = some (r, σ')) : KI l yX0_whole cX0_whole 4 .int 9 D ty A (wX ty o ad σ ++ rs) (wX ty o ad σ' ++ rs) [.ref o, .int v1] r := by
  refine KI.of (by decide) (Nat.le_of_ble_eq_true rfl) ?_
  intro p e R s m args below meth c Q C hR
  have C : Cx p R s m args c cX0_whole 4 RX0 D ty A 9 := C
  have hR : ∀ (v : Int32) (σ2 : PS), (v, σ2) = (r, σ') → ∀ (H : Heap) (locs : List Loc) (pc : Nat) (ls : Array Slot), Hw D A s H locs (wX ty o ad σ2 ++ rs) → narrow .int (.int v) = .int v → decode cX0_whole pc = .ok (.ireturn, 1) → W p l e R s m args below meth c H locs 0 0 Q (F0 m pc ls [.int v]) := by intro v σ2 e9; cases e9; exact hR
  have j60 : ∀ (σ : PS) (v2 : Int32) (H : Heap) (locs : List Loc) (ls : Array Slot), Hw D A s H locs (wX ty o ad σ ++ rs) → lv_has ls 4 [(2, .int v2)] → X_whole_j60 σ v2 = some (r, σ') → W p l e R s m args below meth c H locs 0 0 Q (F0 m 60 ls []) := by
    intro σ v2 H locs ls h hl hf
    unfold X_whole_j60 at hf
    refine lv_iload_n C.x C.b dX0_whole_60 rfl (lv_at hl 0 rfl) ?_
    exact hR _ _ (some_k hf) _ _ _ _ h rfl dX0_whole_61
  have l15 : ∀ (σ : PS) (n15 : Nat) (v2 : Int32) (v3 : Int32) (H : Heap) (locs : List Loc) (ls : Array Slot), Hw D A s H locs (wX ty o ad σ ++ rs) → lv_has ls 4 [(0, .ref o), (1, .int v1), (2, .int v2), (3, .int v3)] → loop (X_whole_B15 σ v1) n15 (v2, v3) = some (r, σ') → W p l e R s m args below meth c H locs 0 0 Q (F0 m 15 ls []) := by
    intro σ n15
    induction n15 with
    | zero => intro v2 v3 H locs ls h hl hf; exact (none_k hf).elim
    | succ n15 ih15 =>
      have j52 : ∀ (v3 : Int32) (x0 : Int32) (x1 : Int32) (H : Heap) (locs : List Loc) (ls : Array Slot), Hw D A s H locs (wX ty o ad σ ++ rs) → lv_has ls 4 [(0, .ref o), (1, .int v1), (3, .int v3)] → bl (X_whole_B15 σ v1) n15 (X_whole_j52 σ v1 v3 x0 x1) = some (r, σ') → W p l e R s m args below meth c H locs 0 0 Q (F0 m 52 ls [.int x0, .int x1]) := by
        intro v3 x0 x1 H locs ls h hl hf
        unfold X_whole_j52 at hf
        refine lv_ior C.x C.b dX0_whole_52 ?_
        obtain ⟨v2_1, e9, hf⟩ := nm_k (K := bl (X_whole_B15 σ v1) n15) hf
        refine lv_topI e9 ?_
        refine lv_istore_n (lv' := [(2, .int v2_1), (0, .ref o), (1, .int v1), (3, .int v3)]) C.x C.b dX0_whole_53 rfl hl (by decide) rfl (fun ls hl => ?_)
        obtain ⟨v3_2, e9, hf⟩ := nm_k (K := bl (X_whole_B15 σ v1) n15) hf
        refine lv_iinc (v := v3_2) (lv' := [(3, .int v3_2), (2, .int v2_1), (0, .ref o), (1, .int v1)]) C.x C.b dX0_whole_54 hl (k := 3) rfl (iinc_e (k := 1) (by decide) e9) (by decide) rfl (fun ls hl => ?_)
        refine lv_goto (tgt := 15) C.x C.b dX0_whole_57 (by decide) ?_
        exact ih15 v2_1 v3_2 _ _ _ h (lv_sub hl [2, 3, 1, 0] rfl) hf
      have j51 : ∀ (v3 : Int32) (x0 : Int32) (H : Heap) (locs : List Loc) (ls : Array Slot), Hw D A s H locs (wX ty o ad σ ++ rs) → lv_has ls 4 [(0, .ref o), (1, .int v1), (3, .int v3)] → bl (X_whole_B15 σ v1) n15 (X_whole_j51 σ v1 v3 x0) = some (r, σ') → W p l e R s m args below meth c H locs 0 0 Q (F0 m 51 ls [.int x0]) := by
        intro v3 x0 H locs ls h hl hf
        unfold X_whole_j51 at hf
        refine lv_iconst (v := 0) C.x C.b dX0_whole_51 (by decide) ?_
        exact j52 v3 0 x0 _ _ _ h (lv_sub hl [0, 1, 2] rfl) hf
      intro v2 v3 H locs ls h hl hf
      have hf : bl (X_whole_B15 σ v1) n15 (X_whole_l15 σ v1 v2 v3) = some (r, σ') := hf
      unfold X_whole_l15 at hf
      refine lv_iload_n C.x C.b dX0_whole_15 rfl (lv_at hl 3 rfl) ?_
      refine lv_aload_n C.x C.b dX0_whole_16 rfl (lv_at hl 0 rfl) ?_
      refine x_g0 C h dX0_whole_17 ?_
      refine x_g107 C h dX0_whole_20 ?_
      refine lv_icmp_ge (tgt := 60) C.x C.b dX0_whole_23 (by decide) (fun c9 => ?_) (fun c9 => ?_)
      · have hf := if_t (K := bl (X_whole_B15 σ v1) n15) c9 hf
        have hf := bl_upK (K := fun x => x) hf
        exact j60 σ v2 _ _ _ h (lv_sub hl [2] rfl) hf
      · have hf := if_f (K := bl (X_whole_B15 σ v1) n15) c9 hf
        refine lv_iload_n C.x C.b dX0_whole_26 rfl (lv_at hl 2 rfl) ?_
        refine lv_aload_n C.x C.b dX0_whole_27 rfl (lv_at hl 0 rfl) ?_
        refine lv_iload_n C.x C.b dX0_whole_28 rfl (lv_at hl 3 rfl) ?_
        refine lv_iload_n C.x C.b dX0_whole_29 rfl (lv_at hl 1 rfl) ?_
        obtain ⟨q_3, hc, hf⟩ := bd_k (K := bl (X_whole_B15 σ v1) n15) rfl hf
        refine cX_hasCome C h hc (Nat.le_of_ble_eq_true rfl) hl.1 (Nat.le_of_ble_eq_true rfl) dX0_whole_30 (fun H locs h => ?_)
        refine lv_if_eq (tgt := 51) C.x C.b dX0_whole_33 (by decide) (fun c9 => ?_) (fun c9 => ?_)
        · have hf := if_t (K := bl (X_whole_B15 σ v1) n15) c9 hf
          exact j51 v3 v2 _ _ _ h (lv_sub hl [0, 1, 3] rfl) hf
        · have hf := if_f (K := bl (X_whole_B15 σ v1) n15) c9 hf
          refine lv_aload_n C.x C.b dX0_whole_36 rfl (lv_at hl 0 rfl) ?_
          refine lv_iload_n C.x C.b dX0_whole_37 rfl (lv_at hl 3 rfl) ?_
          refine lv_iload_n C.x C.b dX0_whole_38 rfl (lv_at hl 1 rfl) ?_
          obtain ⟨q_4, hc, hf⟩ := bd_k (K := bl (X_whole_B15 σ v1) n15) rfl hf
          refine cX_isWhole C h hc (Nat.le_of_ble_eq_true rfl) hl.1 (Nat.le_of_ble_eq_true rfl) dX0_whole_39 (fun H locs h => ?_)
          refine lv_if_eq (tgt := 51) C.x C.b dX0_whole_42 (by decide) (fun c9 => ?_) (fun c9 => ?_)
          · have hf := if_t (K := bl (X_whole_B15 σ v1) n15) c9 hf
            exact j51 v3 v2 _ _ _ h (lv_sub hl [0, 1, 3] rfl) hf
          · have hf := if_f (K := bl (X_whole_B15 σ v1) n15) c9 hf
            refine lv_iconst (v := 1) C.x C.b dX0_whole_45 (by decide) ?_
            refine lv_iload_n C.x C.b dX0_whole_46 rfl (lv_at hl 3 rfl) ?_
            refine lv_ishl C.x C.b dX0_whole_47 ?_
            refine lv_goto (tgt := 52) C.x C.b dX0_whole_48 (by decide) ?_
            exact j52 v3 (1 <<< (v3 &&& 31)) v2 _ _ _ h (lv_sub hl [0, 1, 3] rfl) hf
  intro H locs ls h hl
  have hl : lv_has ls 4 [(0, .ref o), (1, .int v1)] := hl
  unfold X_whole at hf
  refine lv_aload_n C.x C.b dX0_whole_0 rfl (lv_at hl 0 rfl) ?_
  refine lv_iload_n C.x C.b dX0_whole_1 rfl (lv_at hl 1 rfl) ?_
  obtain ⟨q_5, hc, hf⟩ := bd_k (K := fun x => x) rfl hf
  refine cX_asksStep C h hc (Nat.le_of_ble_eq_true rfl) hl.1 (Nat.le_of_ble_eq_true rfl) dX0_whole_2 (fun H locs h => ?_)
  refine lv_if_ne (tgt := 11) C.x C.b dX0_whole_5 (by decide) (fun c9 => ?_) (fun c9 => ?_)
  · have hf := if_f (K := fun x => x) c9 hf
    refine lv_iconst (v := 0) C.x C.b dX0_whole_11 (by decide) ?_
    refine lv_istore_n (lv' := [(2, .int 0), (0, .ref o), (1, .int v1)]) C.x C.b dX0_whole_12 rfl hl (by decide) rfl (fun ls hl => ?_)
    refine lv_iconst (v := 0) C.x C.b dX0_whole_13 (by decide) ?_
    refine lv_istore_n (lv' := [(3, .int 0), (2, .int 0), (0, .ref o), (1, .int v1)]) C.x C.b dX0_whole_14 rfl hl (by decide) rfl (fun ls hl => ?_)
    exact l15 q_5.2 fu 0 0 _ _ _ h (lv_sub hl [2, 3, 1, 0] rfl) hf
  · have hf := if_t (K := fun x => x) c9 hf
    refine lv_bipush (v := (-2)) C.x C.b dX0_whole_8 (by decide) ?_
    exact hR _ _ (some_k hf) _ _ _ _ h rfl dX0_whole_10
def X_tight_j63 (σ : PS) (v2 : Int32) : Option (Int32 × PS) := some (v2, σ)
def X_tight_j57 (σ : PS) (v1 : Int32) (v2 : Int32) (v3 : Int32) : Option ((Int32 × Int32) ⊕ (Int32 × PS)) := nm (v3 + 1) (fun v3_1 => some (.inl (v2, v3_1)))
def X_tight_j55 (σ : PS) (v1 : Int32) (v3 : Int32) : Option ((Int32 × Int32) ⊕ (Int32 × PS)) := X_tight_j57 σ v1 v3 v3
def X_tight_l15 (σ : PS) (v1 : Int32) (v2 : Int32) (v3 : Int32) : Option ((Int32 × Int32) ⊕ (Int32 × PS)) := if (gI σ 107) ≤ v3 then up (X_tight_j63 σ v2) else bd (X_hasCome σ v3 v1) (fun q_2 => if q_2 = 0 then X_tight_j57 σ v1 v2 v3 else if v2 = ((-1)) then X_tight_j55 σ v1 v3 else bd (X_strainOf σ v3 v1) (fun q_3 => bd (X_strainOf σ v2 v1) (fun q_4 => if q_3 ≤ q_4 then X_tight_j57 σ v1 v2 v3 else X_tight_j55 σ v1 v3)))
def X_tight_B15 (σ : PS) (v1 : Int32) : (Int32 × Int32) → Option ((Int32 × Int32) ⊕ (Int32 × PS)) := fun t => X_tight_l15 σ v1 t.1 t.2
def X_tight (σ : PS) (v1 : Int32) : Option (Int32 × PS) := bd (X_asksStep σ v1) (fun q_5 => if q_5.1 = 0 then some ((-2), q_5.2) else loop (X_tight_B15 q_5.2 v1) fu ((-1), 0))
set_option maxHeartbeats 4000000 in
theorem kX_tight (l : Launch) {D : va_G} {ty : Nat → ClassId} {A : Nat → Prop} {o : Nat} {ad : Nat → Nat} {rs : va_W} {σ : PS} {σ' : PS} {v1 : Int32} {r : Int32} (hf : X_tight σ v1 = some (r, σ')) : KI l yX0_tight cX0_tight 4 .int 9 D ty A (wX ty o ad σ ++ rs) (wX ty o ad σ' ++ rs) [.ref o, .int v1] r := by
  refine KI.of (by decide) (Nat.le_of_ble_eq_true rfl) ?_
  intro p e R s m args below meth c Q C hR
  have C : Cx p R s m args c cX0_tight 4 RX0 D ty A 9 := C
  have hR : ∀ (v : Int32) (σ2 : PS), (v, σ2) = (r, σ') → ∀ (H : Heap) (locs : List Loc) (pc : Nat) (ls : Array Slot), Hw D A s H locs (wX ty o ad σ2 ++ rs) → narrow .int (.int v) = .int v → decode cX0_tight pc = .ok (.ireturn, 1) → W p l e R s m args below meth c H locs 0 0 Q (F0 m pc ls [.int v]) := by intro v σ2 e9; cases e9; exact hR
  have j63 : ∀ (σ : PS) (v2 : Int32) (H : Heap) (locs : List Loc) (ls : Array Slot), Hw D A s H locs (wX ty o ad σ ++ rs) → lv_has ls 4 [(2, .int v2)] → X_tight_j63 σ v2 = some (r, σ') → W p l e R s m args below meth c H locs 0 0 Q (F0 m 63 ls []) := by
    intro σ v2 H locs ls h hl hf
    unfold X_tight_j63 at hf
    refine lv_iload_n C.x C.b dX0_tight_63 rfl (lv_at hl 0 rfl) ?_
    exact hR _ _ (some_k hf) _ _ _ _ h rfl dX0_tight_64
  have l15 : ∀ (σ : PS) (n15 : Nat) (v2 : Int32) (v3 : Int32) (H : Heap) (locs : List Loc) (ls : Array Slot), Hw D A s H locs (wX ty o ad σ ++ rs) → lv_has ls 4 [(0, .ref o), (1, .int v1), (2, .int v2), (3, .int v3)] → loop (X_tight_B15 σ v1) n15 (v2, v3) = some (r, σ') → W p l e R s m args below meth c H locs 0 0 Q (F0 m 15 ls []) := by
    intro σ n15
    induction n15 with
    | zero => intro v2 v3 H locs ls h hl hf; exact (none_k hf).elim
    | succ n15 ih15 =>
      have j57 : ∀ (v2 : Int32) (v3 : Int32) (H : Heap) (locs : List Loc) (ls : Array Slot), Hw D A s H locs (wX ty o ad σ ++ rs) → lv_has ls 4 [(0, .ref o), (1, .int v1), (2, .int v2), (3, .int v3)] → bl (X_tight_B15 σ v1) n15 (X_tight_j57 σ v1 v2 v3) = some (r, σ') → W p l e R s m args below meth c H locs 0 0 Q (F0 m 57 ls []) := by
        intro v2 v3 H locs ls h hl hf
        unfold X_tight_j57 at hf
        obtain ⟨v3_1, e9, hf⟩ := nm_k (K := bl (X_tight_B15 σ v1) n15) hf
        refine lv_iinc (v := v3_1) (lv' := [(3, .int v3_1), (0, .ref o), (1, .int v1), (2, .int v2)]) C.x C.b dX0_tight_57 hl (k := 3) rfl (iinc_e (k := 1) (by decide) e9) (by decide) rfl (fun ls hl => ?_)
        refine lv_goto (tgt := 15) C.x C.b dX0_tight_60 (by decide) ?_
        exact ih15 v2 v3_1 _ _ _ h (lv_sub hl [1, 2, 3, 0] rfl) hf
      have j55 : ∀ (v3 : Int32) (H : Heap) (locs : List Loc) (ls : Array Slot), Hw D A s H locs (wX ty o ad σ ++ rs) → lv_has ls 4 [(0, .ref o), (1, .int v1), (3, .int v3)] → bl (X_tight_B15 σ v1) n15 (X_tight_j55 σ v1 v3) = some (r, σ') → W p l e R s m args below meth c H locs 0 0 Q (F0 m 55 ls []) := by
        intro v3 H locs ls h hl hf
        unfold X_tight_j55 at hf
        refine lv_iload_n C.x C.b dX0_tight_55 rfl (lv_at hl 2 rfl) ?_
        refine lv_istore_n (lv' := [(2, .int v3), (0, .ref o), (1, .int v1), (3, .int v3)]) C.x C.b dX0_tight_56 rfl hl (by decide) rfl (fun ls hl => ?_)
        exact j57 v3 v3 _ _ _ h (lv_sub hl [1, 2, 0, 3] rfl) hf
      intro v2 v3 H locs ls h hl hf
      have hf : bl (X_tight_B15 σ v1) n15 (X_tight_l15 σ v1 v2 v3) = some (r, σ') := hf
      unfold X_tight_l15 at hf
      refine lv_iload_n C.x C.b dX0_tight_15 rfl (lv_at hl 3 rfl) ?_
      refine lv_aload_n C.x C.b dX0_tight_16 rfl (lv_at hl 0 rfl) ?_
      refine x_g0 C h dX0_tight_17 ?_
      refine x_g107 C h dX0_tight_20 ?_
      refine lv_icmp_ge (tgt := 63) C.x C.b dX0_tight_23 (by decide) (fun c9 => ?_) (fun c9 => ?_)
      · have hf := if_t (K := bl (X_tight_B15 σ v1) n15) c9 hf
        have hf := bl_upK (K := fun x => x) hf
        exact j63 σ v2 _ _ _ h (lv_sub hl [2] rfl) hf
      · have hf := if_f (K := bl (X_tight_B15 σ v1) n15) c9 hf
        refine lv_aload_n C.x C.b dX0_tight_26 rfl (lv_at hl 0 rfl) ?_
        refine lv_iload_n C.x C.b dX0_tight_27 rfl (lv_at hl 3 rfl) ?_
        refine lv_iload_n C.x C.b dX0_tight_28 rfl (lv_at hl 1 rfl) ?_
        obtain ⟨q_2, hc, hf⟩ := bd_k (K := bl (X_tight_B15 σ v1) n15) rfl hf
        refine cX_hasCome C h hc (Nat.le_of_ble_eq_true rfl) hl.1 (Nat.le_of_ble_eq_true rfl) dX0_tight_29 (fun H locs h => ?_)
        refine lv_if_eq (tgt := 57) C.x C.b dX0_tight_32 (by decide) (fun c9 => ?_) (fun c9 => ?_)
        · have hf := if_t (K := bl (X_tight_B15 σ v1) n15) c9 hf
          exact j57 v2 v3 _ _ _ h (lv_sub hl [0, 1, 2, 3] rfl) hf
        · have hf := if_f (K := bl (X_tight_B15 σ v1) n15) c9 hf
          refine lv_iload_n C.x C.b dX0_tight_35 rfl (lv_at hl 2 rfl) ?_
          refine lv_iconst (v := (-1)) C.x C.b dX0_tight_36 (by decide) ?_
          refine lv_icmp_eq (tgt := 55) C.x C.b dX0_tight_37 (by decide) (fun c9 => ?_) (fun c9 => ?_)
          · have hf := if_t (K := bl (X_tight_B15 σ v1) n15) c9 hf
            exact j55 v3 _ _ _ h (lv_sub hl [0, 1, 3] rfl) hf
          · have hf := if_f (K := bl (X_tight_B15 σ v1) n15) c9 hf
            refine lv_aload_n C.x C.b dX0_tight_40 rfl (lv_at hl 0 rfl) ?_
            refine lv_iload_n C.x C.b dX0_tight_41 rfl (lv_at hl 3 rfl) ?_
            refine lv_iload_n C.x C.b dX0_tight_42 rfl (lv_at hl 1 rfl) ?_
            obtain ⟨q_3, hc, hf⟩ := bd_k (K := bl (X_tight_B15 σ v1) n15) rfl hf
            refine cX_strainOf C h hc (Nat.le_of_ble_eq_true rfl) hl.1 (Nat.le_of_ble_eq_true rfl) dX0_tight_43 (fun H locs h => ?_)
            refine lv_aload_n C.x C.b dX0_tight_46 rfl (lv_at hl 0 rfl) ?_
            refine lv_iload_n C.x C.b dX0_tight_47 rfl (lv_at hl 2 rfl) ?_
            refine lv_iload_n C.x C.b dX0_tight_48 rfl (lv_at hl 1 rfl) ?_
            obtain ⟨q_4, hc, hf⟩ := bd_k (K := bl (X_tight_B15 σ v1) n15) rfl hf
            refine cX_strainOf C h hc (Nat.le_of_ble_eq_true rfl) hl.1 (Nat.le_of_ble_eq_true rfl) dX0_tight_49 (fun H locs h => ?_)
            refine lv_icmp_le (tgt := 57) C.x C.b dX0_tight_52 (by decide) (fun c9 => ?_) (fun c9 => ?_)
            · have hf := if_t (K := bl (X_tight_B15 σ v1) n15) c9 hf
              exact j57 v2 v3 _ _ _ h (lv_sub hl [0, 1, 2, 3] rfl) hf
            · have hf := if_f (K := bl (X_tight_B15 σ v1) n15) c9 hf
              exact j55 v3 _ _ _ h (lv_sub hl [0, 1, 3] rfl) hf
  intro H locs ls h hl
  have hl : lv_has ls 4 [(0, .ref o), (1, .int v1)] := hl
  unfold X_tight at hf
  refine lv_aload_n C.x C.b dX0_tight_0 rfl (lv_at hl 0 rfl) ?_
  refine lv_iload_n C.x C.b dX0_tight_1 rfl (lv_at hl 1 rfl) ?_
  obtain ⟨q_5, hc, hf⟩ := bd_k (K := fun x => x) rfl hf
  refine cX_asksStep C h hc (Nat.le_of_ble_eq_true rfl) hl.1 (Nat.le_of_ble_eq_true rfl) dX0_tight_2 (fun H locs h => ?_)
  refine lv_if_ne (tgt := 11) C.x C.b dX0_tight_5 (by decide) (fun c9 => ?_) (fun c9 => ?_)
  · have hf := if_f (K := fun x => x) c9 hf
    refine lv_iconst (v := (-1)) C.x C.b dX0_tight_11 (by decide) ?_
    refine lv_istore_n (lv' := [(2, .int ((-1))), (0, .ref o), (1, .int v1)]) C.x C.b dX0_tight_12 rfl hl (by decide) rfl (fun ls hl => ?_)
    refine lv_iconst (v := 0) C.x C.b dX0_tight_13 (by decide) ?_
    refine lv_istore_n (lv' := [(3, .int 0), (2, .int ((-1))), (0, .ref o), (1, .int v1)]) C.x C.b dX0_tight_14 rfl hl (by decide) rfl (fun ls hl => ?_)
    exact l15 q_5.2 fu ((-1)) 0 _ _ _ h (lv_sub hl [2, 3, 1, 0] rfl) hf
  · have hf := if_t (K := fun x => x) c9 hf
    refine lv_bipush (v := (-2)) C.x C.b dX0_tight_8 (by decide) ?_
    exact hR _ _ (some_k hf) _ _ _ _ h rfl dX0_tight_10
def X_hottest_j63 (σ : PS) (v2 : Int32) : Option (Int32 × PS) := some (v2, σ)
def X_hottest_j57 (σ : PS) (v1 : Int32) (v2 : Int32) (v3 : Int32) : Option ((Int32 × Int32) ⊕ (Int32 × PS)) := nm (v3 + 1) (fun v3_1 => some (.inl (v2, v3_1)))
def X_hottest_j55 (σ : PS) (v1 : Int32) (v3 : Int32) : Option ((Int32 × Int32) ⊕ (Int32 × PS)) := X_hottest_j57 σ v1 v3 v3
def X_hottest_l15 (σ : PS) (v1 : Int32) (v2 : Int32) (v3 : Int32) : Option ((Int32 × Int32) ⊕ (Int32 × PS)) := if (gI σ 107) ≤ v3 then up (X_hottest_j63 σ v2) else bd (X_hasCome σ v3 v1) (fun q_2 => if q_2 = 0 then X_hottest_j57 σ v1 v2 v3 else if v2 = ((-1)) then X_hottest_j55 σ v1 v3 else bd (X_skinOf σ v3 v1) (fun q_3 => bd (X_skinOf σ v2 v1) (fun q_4 => if q_3 ≤ q_4 then X_hottest_j57 σ v1 v2 v3 else X_hottest_j55 σ v1 v3)))
def X_hottest_B15 (σ : PS) (v1 : Int32) : (Int32 × Int32) → Option ((Int32 × Int32) ⊕ (Int32 × PS)) := fun t => X_hottest_l15 σ v1 t.1 t.2
def X_hottest (σ : PS) (v1 : Int32) : Option (Int32 × PS) := bd (X_asksStep σ v1) (fun q_5 => if q_5.1 = 0 then some ((-2), q_5.2) else loop (X_hottest_B15 q_5.2 v1) fu ((-1), 0))
set_option maxHeartbeats 4000000 in
theorem kX_hottest (l : Launch) {D : va_G} {ty : Nat → ClassId} {A : Nat → Prop} {o : Nat} {ad : Nat → Nat} {rs : va_W} {σ : PS} {σ' : PS} {v1 : Int32} {r : Int32} (hf : X_hottest σ v1 = some (r, σ')) : KI l yX0_hottest cX0_hottest 4 .int 9 D ty A (wX ty o ad σ ++ rs) (wX ty o ad σ' ++ rs) [.ref o, .int v1] r := by
  refine KI.of (by decide) (Nat.le_of_ble_eq_true rfl) ?_
  intro p e R s m args below meth c Q C hR
  have C : Cx p R s m args c cX0_hottest 4 RX0 D ty A 9 := C
  have hR : ∀ (v : Int32) (σ2 : PS), (v, σ2) = (r, σ') → ∀ (H : Heap) (locs : List Loc) (pc : Nat) (ls : Array Slot), Hw D A s H locs (wX ty o ad σ2 ++ rs) → narrow .int (.int v) = .int v → decode cX0_hottest pc = .ok (.ireturn, 1) → W p l e R s m args below meth c H locs 0 0 Q (F0 m pc ls [.int v]) := by intro v σ2 e9; cases e9; exact hR
  have j63 : ∀ (σ : PS) (v2 : Int32) (H : Heap) (locs : List Loc) (ls : Array Slot), Hw D A s H locs (wX ty o ad σ ++ rs) → lv_has ls 4 [(2, .int v2)] → X_hottest_j63 σ v2 = some (r, σ') → W p l e R s m args below meth c H locs 0 0 Q (F0 m 63 ls []) := by
    intro σ v2 H locs ls h hl hf
    unfold X_hottest_j63 at hf
    refine lv_iload_n C.x C.b dX0_hottest_63 rfl (lv_at hl 0 rfl) ?_
    exact hR _ _ (some_k hf) _ _ _ _ h rfl dX0_hottest_64
  have l15 : ∀ (σ : PS) (n15 : Nat) (v2 : Int32) (v3 : Int32) (H : Heap) (locs : List Loc) (ls : Array Slot), Hw D A s H locs (wX ty o ad σ ++ rs) → lv_has ls 4 [(0, .ref o), (1, .int v1), (2, .int v2), (3, .int v3)] → loop (X_hottest_B15 σ v1) n15 (v2, v3) = some (r, σ') → W p l e R s m args below meth c H locs 0 0 Q (F0 m 15 ls []) := by
    intro σ n15
    induction n15 with
    | zero => intro v2 v3 H locs ls h hl hf; exact (none_k hf).elim
    | succ n15 ih15 =>
      have j57 : ∀ (v2 : Int32) (v3 : Int32) (H : Heap) (locs : List Loc) (ls : Array Slot), Hw D A s H locs (wX ty o ad σ ++ rs) → lv_has ls 4 [(0, .ref o), (1, .int v1), (2, .int v2), (3, .int v3)] → bl (X_hottest_B15 σ v1) n15 (X_hottest_j57 σ v1 v2 v3) = some (r, σ') → W p l e R s m args below meth c H locs 0 0 Q (F0 m 57 ls []) := by
        intro v2 v3 H locs ls h hl hf
        unfold X_hottest_j57 at hf
        obtain ⟨v3_1, e9, hf⟩ := nm_k (K := bl (X_hottest_B15 σ v1) n15) hf
        refine lv_iinc (v := v3_1) (lv' := [(3, .int v3_1), (0, .ref o), (1, .int v1), (2, .int v2)]) C.x C.b dX0_hottest_57 hl (k := 3) rfl (iinc_e (k := 1) (by decide) e9) (by decide) rfl (fun ls hl => ?_)
        refine lv_goto (tgt := 15) C.x C.b dX0_hottest_60 (by decide) ?_
        exact ih15 v2 v3_1 _ _ _ h (lv_sub hl [1, 2, 3, 0] rfl) hf
      have j55 : ∀ (v3 : Int32) (H : Heap) (locs : List Loc) (ls : Array Slot), Hw D A s H locs (wX ty o ad σ ++ rs) → lv_has ls 4 [(0, .ref o), (1, .int v1), (3, .int v3)] → bl (X_hottest_B15 σ v1) n15 (X_hottest_j55 σ v1 v3) = some (r, σ') → W p l e R s m args below meth c H locs 0 0 Q (F0 m 55 ls []) := by
        intro v3 H locs ls h hl hf
        unfold X_hottest_j55 at hf
        refine lv_iload_n C.x C.b dX0_hottest_55 rfl (lv_at hl 2 rfl) ?_
        refine lv_istore_n (lv' := [(2, .int v3), (0, .ref o), (1, .int v1), (3, .int v3)]) C.x C.b dX0_hottest_56 rfl hl (by decide) rfl (fun ls hl => ?_)
        exact j57 v3 v3 _ _ _ h (lv_sub hl [1, 2, 0, 3] rfl) hf
      intro v2 v3 H locs ls h hl hf
      have hf : bl (X_hottest_B15 σ v1) n15 (X_hottest_l15 σ v1 v2 v3) = some (r, σ') := hf
      unfold X_hottest_l15 at hf
      refine lv_iload_n C.x C.b dX0_hottest_15 rfl (lv_at hl 3 rfl) ?_
      refine lv_aload_n C.x C.b dX0_hottest_16 rfl (lv_at hl 0 rfl) ?_
      refine x_g0 C h dX0_hottest_17 ?_
      refine x_g107 C h dX0_hottest_20 ?_
      refine lv_icmp_ge (tgt := 63) C.x C.b dX0_hottest_23 (by decide) (fun c9 => ?_) (fun c9 => ?_)
      · have hf := if_t (K := bl (X_hottest_B15 σ v1) n15) c9 hf
        have hf := bl_upK (K := fun x => x) hf
        exact j63 σ v2 _ _ _ h (lv_sub hl [2] rfl) hf
      · have hf := if_f (K := bl (X_hottest_B15 σ v1) n15) c9 hf
        refine lv_aload_n C.x C.b dX0_hottest_26 rfl (lv_at hl 0 rfl) ?_
        refine lv_iload_n C.x C.b dX0_hottest_27 rfl (lv_at hl 3 rfl) ?_
        refine lv_iload_n C.x C.b dX0_hottest_28 rfl (lv_at hl 1 rfl) ?_
        obtain ⟨q_2, hc, hf⟩ := bd_k (K := bl (X_hottest_B15 σ v1) n15) rfl hf
        refine cX_hasCome C h hc (Nat.le_of_ble_eq_true rfl) hl.1 (Nat.le_of_ble_eq_true rfl) dX0_hottest_29 (fun H locs h => ?_)
        refine lv_if_eq (tgt := 57) C.x C.b dX0_hottest_32 (by decide) (fun c9 => ?_) (fun c9 => ?_)
        · have hf := if_t (K := bl (X_hottest_B15 σ v1) n15) c9 hf
          exact j57 v2 v3 _ _ _ h (lv_sub hl [0, 1, 2, 3] rfl) hf
        · have hf := if_f (K := bl (X_hottest_B15 σ v1) n15) c9 hf
          refine lv_iload_n C.x C.b dX0_hottest_35 rfl (lv_at hl 2 rfl) ?_
          refine lv_iconst (v := (-1)) C.x C.b dX0_hottest_36 (by decide) ?_
          refine lv_icmp_eq (tgt := 55) C.x C.b dX0_hottest_37 (by decide) (fun c9 => ?_) (fun c9 => ?_)
          · have hf := if_t (K := bl (X_hottest_B15 σ v1) n15) c9 hf
            exact j55 v3 _ _ _ h (lv_sub hl [0, 1, 3] rfl) hf
          · have hf := if_f (K := bl (X_hottest_B15 σ v1) n15) c9 hf
            refine lv_aload_n C.x C.b dX0_hottest_40 rfl (lv_at hl 0 rfl) ?_
            refine lv_iload_n C.x C.b dX0_hottest_41 rfl (lv_at hl 3 rfl) ?_
            refine lv_iload_n C.x C.b dX0_hottest_42 rfl (lv_at hl 1 rfl) ?_
            obtain ⟨q_3, hc, hf⟩ := bd_k (K := bl (X_hottest_B15 σ v1) n15) rfl hf
            refine cX_skinOf C h hc (Nat.le_of_ble_eq_true rfl) hl.1 (Nat.le_of_ble_eq_true rfl) dX0_hottest_43 (fun H locs h => ?_)
            refine lv_aload_n C.x C.b dX0_hottest_46 rfl (lv_at hl 0 rfl) ?_
            refine lv_iload_n C.x C.b dX0_hottest_47 rfl (lv_at hl 2 rfl) ?_
            refine lv_iload_n C.x C.b dX0_hottest_48 rfl (lv_at hl 1 rfl) ?_
            obtain ⟨q_4, hc, hf⟩ := bd_k (K := bl (X_hottest_B15 σ v1) n15) rfl hf
            refine cX_skinOf C h hc (Nat.le_of_ble_eq_true rfl) hl.1 (Nat.le_of_ble_eq_true rfl) dX0_hottest_49 (fun H locs h => ?_)
            refine lv_icmp_le (tgt := 57) C.x C.b dX0_hottest_52 (by decide) (fun c9 => ?_) (fun c9 => ?_)
            · have hf := if_t (K := bl (X_hottest_B15 σ v1) n15) c9 hf
              exact j57 v2 v3 _ _ _ h (lv_sub hl [0, 1, 2, 3] rfl) hf
            · have hf := if_f (K := bl (X_hottest_B15 σ v1) n15) c9 hf
              exact j55 v3 _ _ _ h (lv_sub hl [0, 1, 3] rfl) hf
  intro H locs ls h hl
  have hl : lv_has ls 4 [(0, .ref o), (1, .int v1)] := hl
  unfold X_hottest at hf
  refine lv_aload_n C.x C.b dX0_hottest_0 rfl (lv_at hl 0 rfl) ?_
  refine lv_iload_n C.x C.b dX0_hottest_1 rfl (lv_at hl 1 rfl) ?_
  obtain ⟨q_5, hc, hf⟩ := bd_k (K := fun x => x) rfl hf
  refine cX_asksStep C h hc (Nat.le_of_ble_eq_true rfl) hl.1 (Nat.le_of_ble_eq_true rfl) dX0_hottest_2 (fun H locs h => ?_)
  refine lv_if_ne (tgt := 11) C.x C.b dX0_hottest_5 (by decide) (fun c9 => ?_) (fun c9 => ?_)
  · have hf := if_f (K := fun x => x) c9 hf
    refine lv_iconst (v := (-1)) C.x C.b dX0_hottest_11 (by decide) ?_
    refine lv_istore_n (lv' := [(2, .int ((-1))), (0, .ref o), (1, .int v1)]) C.x C.b dX0_hottest_12 rfl hl (by decide) rfl (fun ls hl => ?_)
    refine lv_iconst (v := 0) C.x C.b dX0_hottest_13 (by decide) ?_
    refine lv_istore_n (lv' := [(3, .int 0), (2, .int ((-1))), (0, .ref o), (1, .int v1)]) C.x C.b dX0_hottest_14 rfl hl (by decide) rfl (fun ls hl => ?_)
    exact l15 q_5.2 fu ((-1)) 0 _ _ _ h (lv_sub hl [2, 3, 1, 0] rfl) hf
  · have hf := if_t (K := fun x => x) c9 hf
    refine lv_bipush (v := (-2)) C.x C.b dX0_hottest_8 (by decide) ?_
    exact hR _ _ (some_k hf) _ _ _ _ h rfl dX0_hottest_10
def X_glow_j54 (σ : PS) (v2 : Int32) : Option (Int32 × PS) := some (v2, σ)
def X_glow_j46 (σ : PS) (v1 : Int32) (v3 : Int32) (x0 : Int32) (x1 : Int32) : Option ((Int32 × Int32) ⊕ (Int32 × PS)) := nm (x1 + x0) (fun v2_1 => nm (v3 + 1) (fun v3_2 => some (.inl (v2_1, v3_2))))
def X_glow_l15 (σ : PS) (v1 : Int32) (v2 : Int32) (v3 : Int32) : Option ((Int32 × Int32) ⊕ (Int32 × PS)) := if (gI σ 107) ≤ v3 then up (X_glow_j54 σ v2) else bd (X_hasCome σ v3 v1) (fun q_3 => if q_3 = 0 then X_glow_j46 σ v1 v3 0 v2 else bd (X_skinOf σ v3 v1) (fun q_4 => X_glow_j46 σ v1 v3 q_4 v2))
def X_glow_B15 (σ : PS) (v1 : Int32) : (Int32 × Int32) → Option ((Int32 × Int32) ⊕ (Int32 × PS)) := fun t => X_glow_l15 σ v1 t.1 t.2
def X_glow (σ : PS) (v1 : Int32) : Option (Int32 × PS) := bd (X_asksStep σ v1) (fun q_5 => if q_5.1 = 0 then some ((-2), q_5.2) else loop (X_glow_B15 q_5.2 v1) fu (0, 0))
set_option maxHeartbeats 4000000 in
theorem kX_glow (l : Launch) {D : va_G} {ty : Nat → ClassId} {A : Nat → Prop} {o : Nat} {ad : Nat → Nat} {rs : va_W} {σ : PS} {σ' : PS} {v1 : Int32} {r : Int32} (hf : X_glow σ v1 = some (r, σ')) : KI l yX0_glow cX0_glow 4 .int 9 D ty A (wX ty o ad σ ++ rs) (wX ty o ad σ' ++ rs) [.ref o, .int v1] r := by
  refine KI.of (by decide) (Nat.le_of_ble_eq_true rfl) ?_
  intro p e R s m args below meth c Q C hR
  have C : Cx p R s m args c cX0_glow 4 RX0 D ty A 9 := C
  have hR : ∀ (v : Int32) (σ2 : PS), (v, σ2) = (r, σ') → ∀ (H : Heap) (locs : List Loc) (pc : Nat) (ls : Array Slot), Hw D A s H locs (wX ty o ad σ2 ++ rs) → narrow .int (.int v) = .int v → decode cX0_glow pc = .ok (.ireturn, 1) → W p l e R s m args below meth c H locs 0 0 Q (F0 m pc ls [.int v]) := by intro v σ2 e9; cases e9; exact hR
  have j54 : ∀ (σ : PS) (v2 : Int32) (H : Heap) (locs : List Loc) (ls : Array Slot), Hw D A s H locs (wX ty o ad σ ++ rs) → lv_has ls 4 [(2, .int v2)] → X_glow_j54 σ v2 = some (r, σ') → W p l e R s m args below meth c H locs 0 0 Q (F0 m 54 ls []) := by
    intro σ v2 H locs ls h hl hf
    unfold X_glow_j54 at hf
    refine lv_iload_n C.x C.b dX0_glow_54 rfl (lv_at hl 0 rfl) ?_
    exact hR _ _ (some_k hf) _ _ _ _ h rfl dX0_glow_55
  have l15 : ∀ (σ : PS) (n15 : Nat) (v2 : Int32) (v3 : Int32) (H : Heap) (locs : List Loc) (ls : Array Slot), Hw D A s H locs (wX ty o ad σ ++ rs) → lv_has ls 4 [(0, .ref o), (1, .int v1), (2, .int v2), (3, .int v3)] → loop (X_glow_B15 σ v1) n15 (v2, v3) = some (r, σ') → W p l e R s m args below meth c H locs 0 0 Q (F0 m 15 ls []) := by
    intro σ n15
    induction n15 with
    | zero => intro v2 v3 H locs ls h hl hf; exact (none_k hf).elim
    | succ n15 ih15 =>
      have j46 : ∀ (v3 : Int32) (x0 : Int32) (x1 : Int32) (H : Heap) (locs : List Loc) (ls : Array Slot), Hw D A s H locs (wX ty o ad σ ++ rs) → lv_has ls 4 [(0, .ref o), (1, .int v1), (3, .int v3)] → bl (X_glow_B15 σ v1) n15 (X_glow_j46 σ v1 v3 x0 x1) = some (r, σ') → W p l e R s m args below meth c H locs 0 0 Q (F0 m 46 ls [.int x0, .int x1]) := by
        intro v3 x0 x1 H locs ls h hl hf
        unfold X_glow_j46 at hf
        refine lv_iadd C.x C.b dX0_glow_46 ?_
        obtain ⟨v2_1, e9, hf⟩ := nm_k (K := bl (X_glow_B15 σ v1) n15) hf
        refine lv_topI e9 ?_
        refine lv_istore_n (lv' := [(2, .int v2_1), (0, .ref o), (1, .int v1), (3, .int v3)]) C.x C.b dX0_glow_47 rfl hl (by decide) rfl (fun ls hl => ?_)
        obtain ⟨v3_2, e9, hf⟩ := nm_k (K := bl (X_glow_B15 σ v1) n15) hf
        refine lv_iinc (v := v3_2) (lv' := [(3, .int v3_2), (2, .int v2_1), (0, .ref o), (1, .int v1)]) C.x C.b dX0_glow_48 hl (k := 3) rfl (iinc_e (k := 1) (by decide) e9) (by decide) rfl (fun ls hl => ?_)
        refine lv_goto (tgt := 15) C.x C.b dX0_glow_51 (by decide) ?_
        exact ih15 v2_1 v3_2 _ _ _ h (lv_sub hl [2, 3, 1, 0] rfl) hf
      intro v2 v3 H locs ls h hl hf
      have hf : bl (X_glow_B15 σ v1) n15 (X_glow_l15 σ v1 v2 v3) = some (r, σ') := hf
      unfold X_glow_l15 at hf
      refine lv_iload_n C.x C.b dX0_glow_15 rfl (lv_at hl 3 rfl) ?_
      refine lv_aload_n C.x C.b dX0_glow_16 rfl (lv_at hl 0 rfl) ?_
      refine x_g0 C h dX0_glow_17 ?_
      refine x_g107 C h dX0_glow_20 ?_
      refine lv_icmp_ge (tgt := 54) C.x C.b dX0_glow_23 (by decide) (fun c9 => ?_) (fun c9 => ?_)
      · have hf := if_t (K := bl (X_glow_B15 σ v1) n15) c9 hf
        have hf := bl_upK (K := fun x => x) hf
        exact j54 σ v2 _ _ _ h (lv_sub hl [2] rfl) hf
      · have hf := if_f (K := bl (X_glow_B15 σ v1) n15) c9 hf
        refine lv_iload_n C.x C.b dX0_glow_26 rfl (lv_at hl 2 rfl) ?_
        refine lv_aload_n C.x C.b dX0_glow_27 rfl (lv_at hl 0 rfl) ?_
        refine lv_iload_n C.x C.b dX0_glow_28 rfl (lv_at hl 3 rfl) ?_
        refine lv_iload_n C.x C.b dX0_glow_29 rfl (lv_at hl 1 rfl) ?_
        obtain ⟨q_3, hc, hf⟩ := bd_k (K := bl (X_glow_B15 σ v1) n15) rfl hf
        refine cX_hasCome C h hc (Nat.le_of_ble_eq_true rfl) hl.1 (Nat.le_of_ble_eq_true rfl) dX0_glow_30 (fun H locs h => ?_)
        refine lv_if_eq (tgt := 45) C.x C.b dX0_glow_33 (by decide) (fun c9 => ?_) (fun c9 => ?_)
        · have hf := if_t (K := bl (X_glow_B15 σ v1) n15) c9 hf
          refine lv_iconst (v := 0) C.x C.b dX0_glow_45 (by decide) ?_
          exact j46 v3 0 v2 _ _ _ h (lv_sub hl [0, 1, 3] rfl) hf
        · have hf := if_f (K := bl (X_glow_B15 σ v1) n15) c9 hf
          refine lv_aload_n C.x C.b dX0_glow_36 rfl (lv_at hl 0 rfl) ?_
          refine lv_iload_n C.x C.b dX0_glow_37 rfl (lv_at hl 3 rfl) ?_
          refine lv_iload_n C.x C.b dX0_glow_38 rfl (lv_at hl 1 rfl) ?_
          obtain ⟨q_4, hc, hf⟩ := bd_k (K := bl (X_glow_B15 σ v1) n15) rfl hf
          refine cX_skinOf C h hc (Nat.le_of_ble_eq_true rfl) hl.1 (Nat.le_of_ble_eq_true rfl) dX0_glow_39 (fun H locs h => ?_)
          refine lv_goto (tgt := 46) C.x C.b dX0_glow_42 (by decide) ?_
          exact j46 v3 q_4 v2 _ _ _ h (lv_sub hl [0, 1, 3] rfl) hf
  intro H locs ls h hl
  have hl : lv_has ls 4 [(0, .ref o), (1, .int v1)] := hl
  unfold X_glow at hf
  refine lv_aload_n C.x C.b dX0_glow_0 rfl (lv_at hl 0 rfl) ?_
  refine lv_iload_n C.x C.b dX0_glow_1 rfl (lv_at hl 1 rfl) ?_
  obtain ⟨q_5, hc, hf⟩ := bd_k (K := fun x => x) rfl hf
  refine cX_asksStep C h hc (Nat.le_of_ble_eq_true rfl) hl.1 (Nat.le_of_ble_eq_true rfl) dX0_glow_2 (fun H locs h => ?_)
  refine lv_if_ne (tgt := 11) C.x C.b dX0_glow_5 (by decide) (fun c9 => ?_) (fun c9 => ?_)
  · have hf := if_f (K := fun x => x) c9 hf
    refine lv_iconst (v := 0) C.x C.b dX0_glow_11 (by decide) ?_
    refine lv_istore_n (lv' := [(2, .int 0), (0, .ref o), (1, .int v1)]) C.x C.b dX0_glow_12 rfl hl (by decide) rfl (fun ls hl => ?_)
    refine lv_iconst (v := 0) C.x C.b dX0_glow_13 (by decide) ?_
    refine lv_istore_n (lv' := [(3, .int 0), (2, .int 0), (0, .ref o), (1, .int v1)]) C.x C.b dX0_glow_14 rfl hl (by decide) rfl (fun ls hl => ?_)
    exact l15 q_5.2 fu 0 0 _ _ _ h (lv_sub hl [2, 3, 1, 0] rfl) hf
  · have hf := if_t (K := fun x => x) c9 hf
    refine lv_bipush (v := (-2)) C.x C.b dX0_glow_8 (by decide) ?_
    exact hR _ _ (some_k hf) _ _ _ _ h rfl dX0_glow_10
def X_pairs_j55 (σ : PS) (v2 : Int32) : Option (Int32 × PS) := some (v2, σ)
def X_pairs_l15 (σ : PS) (v1 : Int32) (v2 : Int32) (v3 : Int32) : Option ((Int32 × Int32) ⊕ (Int32 × PS)) := if (gI σ 106) ≤ v3 then up (X_pairs_j55 σ v2) else bd (X_insideOf σ v3 v1) (fun q_1 => bd (J_bitCount q_1) (fun q_2 => nm (v2 + ((q_2 * (q_2 - 1)) / 2)) (fun v2_3 => nm (v3 + 1) (fun v3_4 => some (.inl (v2_3, v3_4))))))
def X_pairs_B15 (σ : PS) (v1 : Int32) : (Int32 × Int32) → Option ((Int32 × Int32) ⊕ (Int32 × PS)) := fun t => X_pairs_l15 σ v1 t.1 t.2
def X_pairs (σ : PS) (v1 : Int32) : Option (Int32 × PS) := bd (X_asksStep σ v1) (fun q_5 => if q_5.1 = 0 then some ((-2), q_5.2) else loop (X_pairs_B15 q_5.2 v1) fu (0, 0))
set_option maxHeartbeats 4000000 in
theorem kX_pairs (l : Launch) {D : va_G} {ty : Nat → ClassId} {A : Nat → Prop} {o : Nat} {ad : Nat → Nat} {rs : va_W} {σ : PS} {σ' : PS} {v1 : Int32} {r : Int32} (hf : X_pairs σ v1 = some (r, σ')) : KI l yX0_pairs cX0_pairs 5 .int 9 D ty A (wX ty o ad σ ++ rs) (wX ty o ad σ' ++ rs) [.ref o, .int v1] r := by
  refine KI.of (by decide) (Nat.le_of_ble_eq_true rfl) ?_
  intro p e R s m args below meth c Q C hR
  have C : Cx p R s m args c cX0_pairs 5 RX0 D ty A 9 := C
  have hR : ∀ (v : Int32) (σ2 : PS), (v, σ2) = (r, σ') → ∀ (H : Heap) (locs : List Loc) (pc : Nat) (ls : Array Slot), Hw D A s H locs (wX ty o ad σ2 ++ rs) → narrow .int (.int v) = .int v → decode cX0_pairs pc = .ok (.ireturn, 1) → W p l e R s m args below meth c H locs 0 0 Q (F0 m pc ls [.int v]) := by intro v σ2 e9; cases e9; exact hR
  have j55 : ∀ (σ : PS) (v2 : Int32) (H : Heap) (locs : List Loc) (ls : Array Slot), Hw D A s H locs (wX ty o ad σ ++ rs) → lv_has ls 5 [(2, .int v2)] → X_pairs_j55 σ v2 = some (r, σ') → W p l e R s m args below meth c H locs 0 0 Q (F0 m 55 ls []) := by
    intro σ v2 H locs ls h hl hf
    unfold X_pairs_j55 at hf
    refine lv_iload_n C.x C.b dX0_pairs_55 rfl (lv_at hl 0 rfl) ?_
    exact hR _ _ (some_k hf) _ _ _ _ h rfl dX0_pairs_56
  have l15 : ∀ (σ : PS) (n15 : Nat) (v2 : Int32) (v3 : Int32) (H : Heap) (locs : List Loc) (ls : Array Slot), Hw D A s H locs (wX ty o ad σ ++ rs) → lv_has ls 5 [(0, .ref o), (1, .int v1), (2, .int v2), (3, .int v3)] → loop (X_pairs_B15 σ v1) n15 (v2, v3) = some (r, σ') → W p l e R s m args below meth c H locs 0 0 Q (F0 m 15 ls []) := by
    intro σ n15
    induction n15 with
    | zero => intro v2 v3 H locs ls h hl hf; exact (none_k hf).elim
    | succ n15 ih15 =>
      intro v2 v3 H locs ls h hl hf
      have hf : bl (X_pairs_B15 σ v1) n15 (X_pairs_l15 σ v1 v2 v3) = some (r, σ') := hf
      unfold X_pairs_l15 at hf
      refine lv_iload_n C.x C.b dX0_pairs_15 rfl (lv_at hl 3 rfl) ?_
      refine lv_aload_n C.x C.b dX0_pairs_16 rfl (lv_at hl 0 rfl) ?_
      refine x_g0 C h dX0_pairs_17 ?_
      refine x_g106 C h dX0_pairs_20 ?_
      refine lv_icmp_ge (tgt := 55) C.x C.b dX0_pairs_23 (by decide) (fun c9 => ?_) (fun c9 => ?_)
      · have hf := if_t (K := bl (X_pairs_B15 σ v1) n15) c9 hf
        have hf := bl_upK (K := fun x => x) hf
        exact j55 σ v2 _ _ _ h (lv_sub hl [2] rfl) hf
      · have hf := if_f (K := bl (X_pairs_B15 σ v1) n15) c9 hf
        refine lv_aload_n C.x C.b dX0_pairs_26 rfl (lv_at hl 0 rfl) ?_
        refine lv_iload_n C.x C.b dX0_pairs_27 rfl (lv_at hl 3 rfl) ?_
        refine lv_iload_n C.x C.b dX0_pairs_28 rfl (lv_at hl 1 rfl) ?_
        obtain ⟨q_1, hc, hf⟩ := bd_k (K := bl (X_pairs_B15 σ v1) n15) rfl hf
        refine cX_insideOf C h hc (Nat.le_of_ble_eq_true rfl) hl.1 (Nat.le_of_ble_eq_true rfl) dX0_pairs_29 (fun H locs h => ?_)
        obtain ⟨q_2, hc, hf⟩ := bd_k (K := bl (X_pairs_B15 σ v1) n15) rfl hf
        refine cJ_bitCount_RX0 C h hc (Nat.le_of_ble_eq_true rfl) hl.1 (Nat.le_of_ble_eq_true rfl) dX0_pairs_32 (fun H locs h => ?_)
        refine lv_istore (lv' := [(4, .int q_2), (0, .ref o), (1, .int v1), (2, .int v2), (3, .int v3)]) C.x C.b dX0_pairs_35 hl (by decide) rfl (fun ls hl => ?_)
        refine lv_iload_n C.x C.b dX0_pairs_37 rfl (lv_at hl 3 rfl) ?_
        refine lv_iload C.x C.b dX0_pairs_38 (lv_at hl 0 rfl) ?_
        refine lv_iload C.x C.b dX0_pairs_40 (lv_at hl 0 rfl) ?_
        refine lv_iconst (v := 1) C.x C.b dX0_pairs_42 (by decide) ?_
        refine lv_isub C.x C.b dX0_pairs_43 ?_
        refine lv_imul C.x C.b dX0_pairs_44 ?_
        refine lv_iconst (v := 2) C.x C.b dX0_pairs_45 (by decide) ?_
        refine lv_idiv C.x C.b dX0_pairs_46 (by decide) ?_
        refine lv_iadd C.x C.b dX0_pairs_47 ?_
        obtain ⟨v2_3, e9, hf⟩ := nm_k (K := bl (X_pairs_B15 σ v1) n15) hf
        refine lv_topI e9 ?_
        refine lv_istore_n (lv' := [(2, .int v2_3), (4, .int q_2), (0, .ref o), (1, .int v1), (3, .int v3)]) C.x C.b dX0_pairs_48 rfl hl (by decide) rfl (fun ls hl => ?_)
        obtain ⟨v3_4, e9, hf⟩ := nm_k (K := bl (X_pairs_B15 σ v1) n15) hf
        refine lv_iinc (v := v3_4) (lv' := [(3, .int v3_4), (2, .int v2_3), (4, .int q_2), (0, .ref o), (1, .int v1)]) C.x C.b dX0_pairs_49 hl (k := 4) rfl (iinc_e (k := 1) (by decide) e9) (by decide) rfl (fun ls hl => ?_)
        refine lv_goto (tgt := 15) C.x C.b dX0_pairs_52 (by decide) ?_
        exact ih15 v2_3 v3_4 _ _ _ h (lv_sub hl [3, 4, 1, 0] rfl) hf
  intro H locs ls h hl
  have hl : lv_has ls 5 [(0, .ref o), (1, .int v1)] := hl
  unfold X_pairs at hf
  refine lv_aload_n C.x C.b dX0_pairs_0 rfl (lv_at hl 0 rfl) ?_
  refine lv_iload_n C.x C.b dX0_pairs_1 rfl (lv_at hl 1 rfl) ?_
  obtain ⟨q_5, hc, hf⟩ := bd_k (K := fun x => x) rfl hf
  refine cX_asksStep C h hc (Nat.le_of_ble_eq_true rfl) hl.1 (Nat.le_of_ble_eq_true rfl) dX0_pairs_2 (fun H locs h => ?_)
  refine lv_if_ne (tgt := 11) C.x C.b dX0_pairs_5 (by decide) (fun c9 => ?_) (fun c9 => ?_)
  · have hf := if_f (K := fun x => x) c9 hf
    refine lv_iconst (v := 0) C.x C.b dX0_pairs_11 (by decide) ?_
    refine lv_istore_n (lv' := [(2, .int 0), (0, .ref o), (1, .int v1)]) C.x C.b dX0_pairs_12 rfl hl (by decide) rfl (fun ls hl => ?_)
    refine lv_iconst (v := 0) C.x C.b dX0_pairs_13 (by decide) ?_
    refine lv_istore_n (lv' := [(3, .int 0), (2, .int 0), (0, .ref o), (1, .int v1)]) C.x C.b dX0_pairs_14 rfl hl (by decide) rfl (fun ls hl => ?_)
    exact l15 q_5.2 fu 0 0 _ _ _ h (lv_sub hl [2, 3, 1, 0] rfl) hf
  · have hf := if_t (K := fun x => x) c9 hf
    refine lv_bipush (v := (-2)) C.x C.b dX0_pairs_8 (by decide) ?_
    exact hR _ _ (some_k hf) _ _ _ _ h rfl dX0_pairs_10
def X_oven_j54 (σ : PS) (v2 : Int32) : Option (Int32 × PS) := some (v2, σ)
def X_oven_j48 (σ : PS) (v1 : Int32) (v2 : Int32) (v3 : Int32) : Option ((Int32 × Int32) ⊕ (Int32 × PS)) := nm (v3 + 1) (fun v3_1 => some (.inl (v2, v3_1)))
def X_oven_j46 (σ : PS) (v1 : Int32) (v3 : Int32) : Option ((Int32 × Int32) ⊕ (Int32 × PS)) := X_oven_j48 σ v1 v3 v3
def X_oven_l15 (σ : PS) (v1 : Int32) (v2 : Int32) (v3 : Int32) : Option ((Int32 × Int32) ⊕ (Int32 × PS)) := if (gI σ 106) ≤ v3 then up (X_oven_j54 σ v2) else if v2 = ((-1)) then X_oven_j46 σ v1 v3 else bd (X_airOf σ v3 v1) (fun q_2 => bd (X_airOf σ v2 v1) (fun q_3 => if q_2 ≤ q_3 then X_oven_j48 σ v1 v2 v3 else X_oven_j46 σ v1 v3))
def X_oven_B15 (σ : PS) (v1 : Int32) : (Int32 × Int32) → Option ((Int32 × Int32) ⊕ (Int32 × PS)) := fun t => X_oven_l15 σ v1 t.1 t.2
def X_oven (σ : PS) (v1 : Int32) : Option (Int32 × PS) := bd (X_asksStep σ v1) (fun q_4 => if q_4.1 = 0 then some ((-2), q_4.2) else loop (X_oven_B15 q_4.2 v1) fu ((-1), 0))
set_option maxHeartbeats 4000000 in
theorem kX_oven (l : Launch) {D : va_G} {ty : Nat → ClassId} {A : Nat → Prop} {o : Nat} {ad : Nat → Nat} {rs : va_W} {σ : PS} {σ' : PS} {v1 : Int32} {r : Int32} (hf : X_oven σ v1 = some (r, σ')) : KI l yX0_oven cX0_oven 4 .int 9 D ty A (wX ty o ad σ ++ rs) (wX ty o ad σ' ++ rs) [.ref o, .int v1] r := by
  refine KI.of (by decide) (Nat.le_of_ble_eq_true rfl) ?_
  intro p e R s m args below meth c Q C hR
  have C : Cx p R s m args c cX0_oven 4 RX0 D ty A 9 := C
  have hR : ∀ (v : Int32) (σ2 : PS), (v, σ2) = (r, σ') → ∀ (H : Heap) (locs : List Loc) (pc : Nat) (ls : Array Slot), Hw D A s H locs (wX ty o ad σ2 ++ rs) → narrow .int (.int v) = .int v → decode cX0_oven pc = .ok (.ireturn, 1) → W p l e R s m args below meth c H locs 0 0 Q (F0 m pc ls [.int v]) := by intro v σ2 e9; cases e9; exact hR
  have j54 : ∀ (σ : PS) (v2 : Int32) (H : Heap) (locs : List Loc) (ls : Array Slot), Hw D A s H locs (wX ty o ad σ ++ rs) → lv_has ls 4 [(2, .int v2)] → X_oven_j54 σ v2 = some (r, σ') → W p l e R s m args below meth c H locs 0 0 Q (F0 m 54 ls []) := by
    intro σ v2 H locs ls h hl hf
    unfold X_oven_j54 at hf
    refine lv_iload_n C.x C.b dX0_oven_54 rfl (lv_at hl 0 rfl) ?_
    exact hR _ _ (some_k hf) _ _ _ _ h rfl dX0_oven_55
  have l15 : ∀ (σ : PS) (n15 : Nat) (v2 : Int32) (v3 : Int32) (H : Heap) (locs : List Loc) (ls : Array Slot), Hw D A s H locs (wX ty o ad σ ++ rs) → lv_has ls 4 [(0, .ref o), (1, .int v1), (2, .int v2), (3, .int v3)] → loop (X_oven_B15 σ v1) n15 (v2, v3) = some (r, σ') → W p l e R s m args below meth c H locs 0 0 Q (F0 m 15 ls []) := by
    intro σ n15
    induction n15 with
    | zero => intro v2 v3 H locs ls h hl hf; exact (none_k hf).elim
    | succ n15 ih15 =>
      have j48 : ∀ (v2 : Int32) (v3 : Int32) (H : Heap) (locs : List Loc) (ls : Array Slot), Hw D A s H locs (wX ty o ad σ ++ rs) → lv_has ls 4 [(0, .ref o), (1, .int v1), (2, .int v2), (3, .int v3)] → bl (X_oven_B15 σ v1) n15 (X_oven_j48 σ v1 v2 v3) = some (r, σ') → W p l e R s m args below meth c H locs 0 0 Q (F0 m 48 ls []) := by
        intro v2 v3 H locs ls h hl hf
        unfold X_oven_j48 at hf
        obtain ⟨v3_1, e9, hf⟩ := nm_k (K := bl (X_oven_B15 σ v1) n15) hf
        refine lv_iinc (v := v3_1) (lv' := [(3, .int v3_1), (0, .ref o), (1, .int v1), (2, .int v2)]) C.x C.b dX0_oven_48 hl (k := 3) rfl (iinc_e (k := 1) (by decide) e9) (by decide) rfl (fun ls hl => ?_)
        refine lv_goto (tgt := 15) C.x C.b dX0_oven_51 (by decide) ?_
        exact ih15 v2 v3_1 _ _ _ h (lv_sub hl [1, 2, 3, 0] rfl) hf
      have j46 : ∀ (v3 : Int32) (H : Heap) (locs : List Loc) (ls : Array Slot), Hw D A s H locs (wX ty o ad σ ++ rs) → lv_has ls 4 [(0, .ref o), (1, .int v1), (3, .int v3)] → bl (X_oven_B15 σ v1) n15 (X_oven_j46 σ v1 v3) = some (r, σ') → W p l e R s m args below meth c H locs 0 0 Q (F0 m 46 ls []) := by
        intro v3 H locs ls h hl hf
        unfold X_oven_j46 at hf
        refine lv_iload_n C.x C.b dX0_oven_46 rfl (lv_at hl 2 rfl) ?_
        refine lv_istore_n (lv' := [(2, .int v3), (0, .ref o), (1, .int v1), (3, .int v3)]) C.x C.b dX0_oven_47 rfl hl (by decide) rfl (fun ls hl => ?_)
        exact j48 v3 v3 _ _ _ h (lv_sub hl [1, 2, 0, 3] rfl) hf
      intro v2 v3 H locs ls h hl hf
      have hf : bl (X_oven_B15 σ v1) n15 (X_oven_l15 σ v1 v2 v3) = some (r, σ') := hf
      unfold X_oven_l15 at hf
      refine lv_iload_n C.x C.b dX0_oven_15 rfl (lv_at hl 3 rfl) ?_
      refine lv_aload_n C.x C.b dX0_oven_16 rfl (lv_at hl 0 rfl) ?_
      refine x_g0 C h dX0_oven_17 ?_
      refine x_g106 C h dX0_oven_20 ?_
      refine lv_icmp_ge (tgt := 54) C.x C.b dX0_oven_23 (by decide) (fun c9 => ?_) (fun c9 => ?_)
      · have hf := if_t (K := bl (X_oven_B15 σ v1) n15) c9 hf
        have hf := bl_upK (K := fun x => x) hf
        exact j54 σ v2 _ _ _ h (lv_sub hl [2] rfl) hf
      · have hf := if_f (K := bl (X_oven_B15 σ v1) n15) c9 hf
        refine lv_iload_n C.x C.b dX0_oven_26 rfl (lv_at hl 2 rfl) ?_
        refine lv_iconst (v := (-1)) C.x C.b dX0_oven_27 (by decide) ?_
        refine lv_icmp_eq (tgt := 46) C.x C.b dX0_oven_28 (by decide) (fun c9 => ?_) (fun c9 => ?_)
        · have hf := if_t (K := bl (X_oven_B15 σ v1) n15) c9 hf
          exact j46 v3 _ _ _ h (lv_sub hl [0, 1, 3] rfl) hf
        · have hf := if_f (K := bl (X_oven_B15 σ v1) n15) c9 hf
          refine lv_aload_n C.x C.b dX0_oven_31 rfl (lv_at hl 0 rfl) ?_
          refine lv_iload_n C.x C.b dX0_oven_32 rfl (lv_at hl 3 rfl) ?_
          refine lv_iload_n C.x C.b dX0_oven_33 rfl (lv_at hl 1 rfl) ?_
          obtain ⟨q_2, hc, hf⟩ := bd_k (K := bl (X_oven_B15 σ v1) n15) rfl hf
          refine cX_airOf C h hc (Nat.le_of_ble_eq_true rfl) hl.1 (Nat.le_of_ble_eq_true rfl) dX0_oven_34 (fun H locs h => ?_)
          refine lv_aload_n C.x C.b dX0_oven_37 rfl (lv_at hl 0 rfl) ?_
          refine lv_iload_n C.x C.b dX0_oven_38 rfl (lv_at hl 2 rfl) ?_
          refine lv_iload_n C.x C.b dX0_oven_39 rfl (lv_at hl 1 rfl) ?_
          obtain ⟨q_3, hc, hf⟩ := bd_k (K := bl (X_oven_B15 σ v1) n15) rfl hf
          refine cX_airOf C h hc (Nat.le_of_ble_eq_true rfl) hl.1 (Nat.le_of_ble_eq_true rfl) dX0_oven_40 (fun H locs h => ?_)
          refine lv_icmp_le (tgt := 48) C.x C.b dX0_oven_43 (by decide) (fun c9 => ?_) (fun c9 => ?_)
          · have hf := if_t (K := bl (X_oven_B15 σ v1) n15) c9 hf
            exact j48 v2 v3 _ _ _ h (lv_sub hl [0, 1, 2, 3] rfl) hf
          · have hf := if_f (K := bl (X_oven_B15 σ v1) n15) c9 hf
            exact j46 v3 _ _ _ h (lv_sub hl [0, 1, 3] rfl) hf
  intro H locs ls h hl
  have hl : lv_has ls 4 [(0, .ref o), (1, .int v1)] := hl
  unfold X_oven at hf
  refine lv_aload_n C.x C.b dX0_oven_0 rfl (lv_at hl 0 rfl) ?_
  refine lv_iload_n C.x C.b dX0_oven_1 rfl (lv_at hl 1 rfl) ?_
  obtain ⟨q_4, hc, hf⟩ := bd_k (K := fun x => x) rfl hf
  refine cX_asksStep C h hc (Nat.le_of_ble_eq_true rfl) hl.1 (Nat.le_of_ble_eq_true rfl) dX0_oven_2 (fun H locs h => ?_)
  refine lv_if_ne (tgt := 11) C.x C.b dX0_oven_5 (by decide) (fun c9 => ?_) (fun c9 => ?_)
  · have hf := if_f (K := fun x => x) c9 hf
    refine lv_iconst (v := (-1)) C.x C.b dX0_oven_11 (by decide) ?_
    refine lv_istore_n (lv' := [(2, .int ((-1))), (0, .ref o), (1, .int v1)]) C.x C.b dX0_oven_12 rfl hl (by decide) rfl (fun ls hl => ?_)
    refine lv_iconst (v := 0) C.x C.b dX0_oven_13 (by decide) ?_
    refine lv_istore_n (lv' := [(3, .int 0), (2, .int ((-1))), (0, .ref o), (1, .int v1)]) C.x C.b dX0_oven_14 rfl hl (by decide) rfl (fun ls hl => ?_)
    exact l15 q_4.2 fu ((-1)) 0 _ _ _ h (lv_sub hl [2, 3, 1, 0] rfl) hf
  · have hf := if_t (K := fun x => x) c9 hf
    refine lv_bipush (v := (-2)) C.x C.b dX0_oven_8 (by decide) ?_
    exact hR _ _ (some_k hf) _ _ _ _ h rfl dX0_oven_10
def X_fall_j38 (σ : PS) (x0 : Int32) : Option (Int32 × PS) := some (x0, σ)
def X_fall_j35 (σ : PS) : Option (Int32 × PS) := X_fall_j38 σ ((-10000))
def X_fall (σ : PS) (v1 : Int32) (v2 : Int32) : Option (Int32 × PS) := bd (X_asksStep σ v2) (fun q_1 => if q_1.1 = 0 then X_fall_j35 q_1.2 else bd (X_isZone q_1.2 v1) (fun q_2 => if q_2 = 0 then X_fall_j35 q_1.2 else bd (X_isZone q_1.2 (v1 + 1)) (fun q_3 => if q_3 = 0 then X_fall_j35 q_1.2 else bd (X_fallOf q_1.2 v1 v2) (fun q_4 => X_fall_j38 q_1.2 q_4))))
set_option maxHeartbeats 4000000 in
theorem kX_fall (l : Launch) {D : va_G} {ty : Nat → ClassId} {A : Nat → Prop} {o : Nat} {ad : Nat → Nat} {rs : va_W} {σ : PS} {σ' : PS} {v1 : Int32} {v2 : Int32} {r : Int32} (hf : X_fall σ v1 v2 = some (r, σ')) : KI l yX0_fall cX0_fall 3 .int 9 D ty A (wX ty o ad σ ++ rs) (wX ty o ad σ' ++ rs) [.ref o, .int v1, .int v2] r := by
  refine KI.of (by decide) (Nat.le_of_ble_eq_true rfl) ?_
  intro p e R s m args below meth c Q C hR
  have C : Cx p R s m args c cX0_fall 3 RX0 D ty A 9 := C
  have hR : ∀ (v : Int32) (σ2 : PS), (v, σ2) = (r, σ') → ∀ (H : Heap) (locs : List Loc) (pc : Nat) (ls : Array Slot), Hw D A s H locs (wX ty o ad σ2 ++ rs) → narrow .int (.int v) = .int v → decode cX0_fall pc = .ok (.ireturn, 1) → W p l e R s m args below meth c H locs 0 0 Q (F0 m pc ls [.int v]) := by intro v σ2 e9; cases e9; exact hR
  have j38 : ∀ (σ : PS) (x0 : Int32) (H : Heap) (locs : List Loc) (ls : Array Slot), Hw D A s H locs (wX ty o ad σ ++ rs) → lv_has ls 3 [] → X_fall_j38 σ x0 = some (r, σ') → W p l e R s m args below meth c H locs 0 0 Q (F0 m 38 ls [.int x0]) := by
    intro σ x0 H locs ls h hl hf
    unfold X_fall_j38 at hf
    exact hR _ _ (some_k hf) _ _ _ _ h rfl dX0_fall_38
  have j35 : ∀ (σ : PS) (H : Heap) (locs : List Loc) (ls : Array Slot), Hw D A s H locs (wX ty o ad σ ++ rs) → lv_has ls 3 [] → X_fall_j35 σ = some (r, σ') → W p l e R s m args below meth c H locs 0 0 Q (F0 m 35 ls []) := by
    intro σ H locs ls h hl hf
    unfold X_fall_j35 at hf
    refine lv_sipush (v := (-10000)) C.x C.b dX0_fall_35 (by decide) ?_
    exact j38 σ ((-10000)) _ _ _ h (lv_sub hl [] rfl) hf
  intro H locs ls h hl
  have hl : lv_has ls 3 [(0, .ref o), (1, .int v1), (2, .int v2)] := hl
  unfold X_fall at hf
  refine lv_aload_n C.x C.b dX0_fall_0 rfl (lv_at hl 0 rfl) ?_
  refine lv_iload_n C.x C.b dX0_fall_1 rfl (lv_at hl 2 rfl) ?_
  obtain ⟨q_1, hc, hf⟩ := bd_k (K := fun x => x) rfl hf
  refine cX_asksStep C h hc (Nat.le_of_ble_eq_true rfl) hl.1 (Nat.le_of_ble_eq_true rfl) dX0_fall_2 (fun H locs h => ?_)
  refine lv_if_eq (tgt := 35) C.x C.b dX0_fall_5 (by decide) (fun c9 => ?_) (fun c9 => ?_)
  · have hf := if_t (K := fun x => x) c9 hf
    exact j35 q_1.2 _ _ _ h (lv_sub hl [] rfl) hf
  · have hf := if_f (K := fun x => x) c9 hf
    refine lv_aload_n C.x C.b dX0_fall_8 rfl (lv_at hl 0 rfl) ?_
    refine lv_iload_n C.x C.b dX0_fall_9 rfl (lv_at hl 1 rfl) ?_
    obtain ⟨q_2, hc, hf⟩ := bd_k (K := fun x => x) rfl hf
    refine cX_isZone C h hc (Nat.le_of_ble_eq_true rfl) hl.1 (Nat.le_of_ble_eq_true rfl) dX0_fall_10 (fun H locs h => ?_)
    refine lv_if_eq (tgt := 35) C.x C.b dX0_fall_13 (by decide) (fun c9 => ?_) (fun c9 => ?_)
    · have hf := if_t (K := fun x => x) c9 hf
      exact j35 q_1.2 _ _ _ h (lv_sub hl [] rfl) hf
    · have hf := if_f (K := fun x => x) c9 hf
      refine lv_aload_n C.x C.b dX0_fall_16 rfl (lv_at hl 0 rfl) ?_
      refine lv_iload_n C.x C.b dX0_fall_17 rfl (lv_at hl 1 rfl) ?_
      refine lv_iconst (v := 1) C.x C.b dX0_fall_18 (by decide) ?_
      refine lv_iadd C.x C.b dX0_fall_19 ?_
      obtain ⟨q_3, hc, hf⟩ := bd_k (K := fun x => x) rfl hf
      refine cX_isZone C h hc (Nat.le_of_ble_eq_true rfl) hl.1 (Nat.le_of_ble_eq_true rfl) dX0_fall_20 (fun H locs h => ?_)
      refine lv_if_eq (tgt := 35) C.x C.b dX0_fall_23 (by decide) (fun c9 => ?_) (fun c9 => ?_)
      · have hf := if_t (K := fun x => x) c9 hf
        exact j35 q_1.2 _ _ _ h (lv_sub hl [] rfl) hf
      · have hf := if_f (K := fun x => x) c9 hf
        refine lv_aload_n C.x C.b dX0_fall_26 rfl (lv_at hl 0 rfl) ?_
        refine lv_iload_n C.x C.b dX0_fall_27 rfl (lv_at hl 1 rfl) ?_
        refine lv_iload_n C.x C.b dX0_fall_28 rfl (lv_at hl 2 rfl) ?_
        obtain ⟨q_4, hc, hf⟩ := bd_k (K := fun x => x) rfl hf
        refine cX_fallOf C h hc (Nat.le_of_ble_eq_true rfl) hl.1 (Nat.le_of_ble_eq_true rfl) dX0_fall_29 (fun H locs h => ?_)
        refine lv_goto (tgt := 38) C.x C.b dX0_fall_32 (by decide) ?_
        exact j38 q_1.2 q_4 _ _ _ h (lv_sub hl [] rfl) hf
def X_cliff_j56 (σ : PS) (v2 : Int32) : Option (Int32 × PS) := some (v2, σ)
def X_cliff_j50 (σ : PS) (v1 : Int32) (v2 : Int32) (v3 : Int32) : Option ((Int32 × Int32) ⊕ (Int32 × PS)) := nm (v3 + 1) (fun v3_1 => some (.inl (v2, v3_1)))
def X_cliff_j48 (σ : PS) (v1 : Int32) (v3 : Int32) : Option ((Int32 × Int32) ⊕ (Int32 × PS)) := X_cliff_j50 σ v1 v3 v3
def X_cliff_l15 (σ : PS) (v1 : Int32) (v2 : Int32) (v3 : Int32) : Option ((Int32 × Int32) ⊕ (Int32 × PS)) := if (gI σ 106) ≤ (v3 + 1) then up (X_cliff_j56 σ v2) else if v2 = ((-1)) then X_cliff_j48 σ v1 v3 else bd (X_fallOf σ v3 v1) (fun q_2 => bd (X_fallOf σ v2 v1) (fun q_3 => if q_2 ≤ q_3 then X_cliff_j50 σ v1 v2 v3 else X_cliff_j48 σ v1 v3))
def X_cliff_B15 (σ : PS) (v1 : Int32) : (Int32 × Int32) → Option ((Int32 × Int32) ⊕ (Int32 × PS)) := fun t => X_cliff_l15 σ v1 t.1 t.2
def X_cliff (σ : PS) (v1 : Int32) : Option (Int32 × PS) := bd (X_asksStep σ v1) (fun q_4 => if q_4.1 = 0 then some ((-2), q_4.2) else loop (X_cliff_B15 q_4.2 v1) fu ((-1), 0))
set_option maxHeartbeats 4000000 in
theorem kX_cliff (l : Launch) {D : va_G} {ty : Nat → ClassId} {A : Nat → Prop} {o : Nat} {ad : Nat → Nat} {rs : va_W} {σ : PS} {σ' : PS} {v1 : Int32} {r : Int32} (hf : X_cliff σ v1 = some (r, σ')) : KI l yX0_cliff cX0_cliff 4 .int 9 D ty A (wX ty o ad σ ++ rs) (wX ty o ad σ' ++ rs) [.ref o, .int v1] r := by
  refine KI.of (by decide) (Nat.le_of_ble_eq_true rfl) ?_
  intro p e R s m args below meth c Q C hR
  have C : Cx p R s m args c cX0_cliff 4 RX0 D ty A 9 := C
  have hR : ∀ (v : Int32) (σ2 : PS), (v, σ2) = (r, σ') → ∀ (H : Heap) (locs : List Loc) (pc : Nat) (ls : Array Slot), Hw D A s H locs (wX ty o ad σ2 ++ rs) → narrow .int (.int v) = .int v → decode cX0_cliff pc = .ok (.ireturn, 1) → W p l e R s m args below meth c H locs 0 0 Q (F0 m pc ls [.int v]) := by intro v σ2 e9; cases e9; exact hR
  have j56 : ∀ (σ : PS) (v2 : Int32) (H : Heap) (locs : List Loc) (ls : Array Slot), Hw D A s H locs (wX ty o ad σ ++ rs) → lv_has ls 4 [(2, .int v2)] → X_cliff_j56 σ v2 = some (r, σ') → W p l e R s m args below meth c H locs 0 0 Q (F0 m 56 ls []) := by
    intro σ v2 H locs ls h hl hf
    unfold X_cliff_j56 at hf
    refine lv_iload_n C.x C.b dX0_cliff_56 rfl (lv_at hl 0 rfl) ?_
    exact hR _ _ (some_k hf) _ _ _ _ h rfl dX0_cliff_57
  have l15 : ∀ (σ : PS) (n15 : Nat) (v2 : Int32) (v3 : Int32) (H : Heap) (locs : List Loc) (ls : Array Slot), Hw D A s H locs (wX ty o ad σ ++ rs) → lv_has ls 4 [(0, .ref o), (1, .int v1), (2, .int v2), (3, .int v3)] → loop (X_cliff_B15 σ v1) n15 (v2, v3) = some (r, σ') → W p l e R s m args below meth c H locs 0 0 Q (F0 m 15 ls []) := by
    intro σ n15
    induction n15 with
    | zero => intro v2 v3 H locs ls h hl hf; exact (none_k hf).elim
    | succ n15 ih15 =>
      have j50 : ∀ (v2 : Int32) (v3 : Int32) (H : Heap) (locs : List Loc) (ls : Array Slot), Hw D A s H locs (wX ty o ad σ ++ rs) → lv_has ls 4 [(0, .ref o), (1, .int v1), (2, .int v2), (3, .int v3)] → bl (X_cliff_B15 σ v1) n15 (X_cliff_j50 σ v1 v2 v3) = some (r, σ') → W p l e R s m args below meth c H locs 0 0 Q (F0 m 50 ls []) := by
        intro v2 v3 H locs ls h hl hf
        unfold X_cliff_j50 at hf
        obtain ⟨v3_1, e9, hf⟩ := nm_k (K := bl (X_cliff_B15 σ v1) n15) hf
        refine lv_iinc (v := v3_1) (lv' := [(3, .int v3_1), (0, .ref o), (1, .int v1), (2, .int v2)]) C.x C.b dX0_cliff_50 hl (k := 3) rfl (iinc_e (k := 1) (by decide) e9) (by decide) rfl (fun ls hl => ?_)
        refine lv_goto (tgt := 15) C.x C.b dX0_cliff_53 (by decide) ?_
        exact ih15 v2 v3_1 _ _ _ h (lv_sub hl [1, 2, 3, 0] rfl) hf
      have j48 : ∀ (v3 : Int32) (H : Heap) (locs : List Loc) (ls : Array Slot), Hw D A s H locs (wX ty o ad σ ++ rs) → lv_has ls 4 [(0, .ref o), (1, .int v1), (3, .int v3)] → bl (X_cliff_B15 σ v1) n15 (X_cliff_j48 σ v1 v3) = some (r, σ') → W p l e R s m args below meth c H locs 0 0 Q (F0 m 48 ls []) := by
        intro v3 H locs ls h hl hf
        unfold X_cliff_j48 at hf
        refine lv_iload_n C.x C.b dX0_cliff_48 rfl (lv_at hl 2 rfl) ?_
        refine lv_istore_n (lv' := [(2, .int v3), (0, .ref o), (1, .int v1), (3, .int v3)]) C.x C.b dX0_cliff_49 rfl hl (by decide) rfl (fun ls hl => ?_)
        exact j50 v3 v3 _ _ _ h (lv_sub hl [1, 2, 0, 3] rfl) hf
      intro v2 v3 H locs ls h hl hf
      have hf : bl (X_cliff_B15 σ v1) n15 (X_cliff_l15 σ v1 v2 v3) = some (r, σ') := hf
      unfold X_cliff_l15 at hf
      refine lv_iload_n C.x C.b dX0_cliff_15 rfl (lv_at hl 3 rfl) ?_
      refine lv_iconst (v := 1) C.x C.b dX0_cliff_16 (by decide) ?_
      refine lv_iadd C.x C.b dX0_cliff_17 ?_
      refine lv_aload_n C.x C.b dX0_cliff_18 rfl (lv_at hl 0 rfl) ?_
      refine x_g0 C h dX0_cliff_19 ?_
      refine x_g106 C h dX0_cliff_22 ?_
      refine lv_icmp_ge (tgt := 56) C.x C.b dX0_cliff_25 (by decide) (fun c9 => ?_) (fun c9 => ?_)
      · have hf := if_t (K := bl (X_cliff_B15 σ v1) n15) c9 hf
        have hf := bl_upK (K := fun x => x) hf
        exact j56 σ v2 _ _ _ h (lv_sub hl [2] rfl) hf
      · have hf := if_f (K := bl (X_cliff_B15 σ v1) n15) c9 hf
        refine lv_iload_n C.x C.b dX0_cliff_28 rfl (lv_at hl 2 rfl) ?_
        refine lv_iconst (v := (-1)) C.x C.b dX0_cliff_29 (by decide) ?_
        refine lv_icmp_eq (tgt := 48) C.x C.b dX0_cliff_30 (by decide) (fun c9 => ?_) (fun c9 => ?_)
        · have hf := if_t (K := bl (X_cliff_B15 σ v1) n15) c9 hf
          exact j48 v3 _ _ _ h (lv_sub hl [0, 1, 3] rfl) hf
        · have hf := if_f (K := bl (X_cliff_B15 σ v1) n15) c9 hf
          refine lv_aload_n C.x C.b dX0_cliff_33 rfl (lv_at hl 0 rfl) ?_
          refine lv_iload_n C.x C.b dX0_cliff_34 rfl (lv_at hl 3 rfl) ?_
          refine lv_iload_n C.x C.b dX0_cliff_35 rfl (lv_at hl 1 rfl) ?_
          obtain ⟨q_2, hc, hf⟩ := bd_k (K := bl (X_cliff_B15 σ v1) n15) rfl hf
          refine cX_fallOf C h hc (Nat.le_of_ble_eq_true rfl) hl.1 (Nat.le_of_ble_eq_true rfl) dX0_cliff_36 (fun H locs h => ?_)
          refine lv_aload_n C.x C.b dX0_cliff_39 rfl (lv_at hl 0 rfl) ?_
          refine lv_iload_n C.x C.b dX0_cliff_40 rfl (lv_at hl 2 rfl) ?_
          refine lv_iload_n C.x C.b dX0_cliff_41 rfl (lv_at hl 1 rfl) ?_
          obtain ⟨q_3, hc, hf⟩ := bd_k (K := bl (X_cliff_B15 σ v1) n15) rfl hf
          refine cX_fallOf C h hc (Nat.le_of_ble_eq_true rfl) hl.1 (Nat.le_of_ble_eq_true rfl) dX0_cliff_42 (fun H locs h => ?_)
          refine lv_icmp_le (tgt := 50) C.x C.b dX0_cliff_45 (by decide) (fun c9 => ?_) (fun c9 => ?_)
          · have hf := if_t (K := bl (X_cliff_B15 σ v1) n15) c9 hf
            exact j50 v2 v3 _ _ _ h (lv_sub hl [0, 1, 2, 3] rfl) hf
          · have hf := if_f (K := bl (X_cliff_B15 σ v1) n15) c9 hf
            exact j48 v3 _ _ _ h (lv_sub hl [0, 1, 3] rfl) hf
  intro H locs ls h hl
  have hl : lv_has ls 4 [(0, .ref o), (1, .int v1)] := hl
  unfold X_cliff at hf
  refine lv_aload_n C.x C.b dX0_cliff_0 rfl (lv_at hl 0 rfl) ?_
  refine lv_iload_n C.x C.b dX0_cliff_1 rfl (lv_at hl 1 rfl) ?_
  obtain ⟨q_4, hc, hf⟩ := bd_k (K := fun x => x) rfl hf
  refine cX_asksStep C h hc (Nat.le_of_ble_eq_true rfl) hl.1 (Nat.le_of_ble_eq_true rfl) dX0_cliff_2 (fun H locs h => ?_)
  refine lv_if_ne (tgt := 11) C.x C.b dX0_cliff_5 (by decide) (fun c9 => ?_) (fun c9 => ?_)
  · have hf := if_f (K := fun x => x) c9 hf
    refine lv_iconst (v := (-1)) C.x C.b dX0_cliff_11 (by decide) ?_
    refine lv_istore_n (lv' := [(2, .int ((-1))), (0, .ref o), (1, .int v1)]) C.x C.b dX0_cliff_12 rfl hl (by decide) rfl (fun ls hl => ?_)
    refine lv_iconst (v := 0) C.x C.b dX0_cliff_13 (by decide) ?_
    refine lv_istore_n (lv' := [(3, .int 0), (2, .int ((-1))), (0, .ref o), (1, .int v1)]) C.x C.b dX0_cliff_14 rfl hl (by decide) rfl (fun ls hl => ?_)
    exact l15 q_4.2 fu ((-1)) 0 _ _ _ h (lv_sub hl [2, 3, 1, 0] rfl) hf
  · have hf := if_t (K := fun x => x) c9 hf
    refine lv_bipush (v := (-2)) C.x C.b dX0_cliff_8 (by decide) ?_
    exact hR _ _ (some_k hf) _ _ _ _ h rfl dX0_cliff_10
def X_spread_j87 (σ : PS) (x0 : Int32) : Option (Int32 × PS) := some (x0, σ)
def X_spread_j75 (σ : PS) (v2 : Int32) (v3 : Int32) : Option (Int32 × PS) := if v2 = ((-1)) then X_spread_j87 σ 0 else X_spread_j87 σ (v2 - v3)
def X_spread_j69 (σ : PS) (v1 : Int32) (v2 : Int32) (v3 : Int32) (v4 : Int32) : Option ((Int32 × Int32 × Int32) ⊕ (Int32 × PS)) := nm (v4 + 1) (fun v4_1 => some (.inl (v2, v3, v4_1)))
def X_spread_l20 (σ : PS) (v1 : Int32) (v2 : Int32) (v3 : Int32) (v4 : Int32) : Option ((Int32 × Int32 × Int32) ⊕ (Int32 × PS)) := if (gI σ 107) ≤ v4 then up (X_spread_j75 σ v2 v3) else bd (X_hasCome σ v4 v1) (fun q_2 => if q_2 = 0 then X_spread_j69 σ v1 v2 v3 v4 else bd (X_skinOf σ v4 v1) (fun q_3 => nm (mx v2 q_3) (fun v2_4 => bd (X_skinOf σ v4 v1) (fun q_5 => nm (mn v3 q_5) (fun v3_6 => X_spread_j69 σ v1 v2_4 v3_6 v4)))))
def X_spread_B20 (σ : PS) (v1 : Int32) : (Int32 × Int32 × Int32) → Option ((Int32 × Int32 × Int32) ⊕ (Int32 × PS)) := fun t => X_spread_l20 σ v1 t.1 t.2.1 t.2.2
def X_spread (σ : PS) (v1 : Int32) : Option (Int32 × PS) := bd (X_asksStep σ v1) (fun q_7 => if q_7.1 = 0 then some ((-2), q_7.2) else loop (X_spread_B20 q_7.2 v1) fu ((-1), 1000000000, 0))
set_option maxHeartbeats 4000000 in
theorem kX_spread (l : Launch) {D : va_G} {ty : Nat → ClassId} {A : Nat → Prop} {o : Nat} {ad : Nat → Nat} {rs : va_W} {σ : PS} {σ' : PS} {v1 : Int32} {r : Int32} (hf : X_spread σ v1 = some (r, σ')) : KI l yX0_spread cX0_spread 5 .int 9 D ty A (wX ty o ad σ ++ rs) (wX ty o ad σ' ++ rs) [.ref o, .int v1] r := by
  refine KI.of (by decide) (Nat.le_of_ble_eq_true rfl) ?_
  intro p e R s m args below meth c Q C hR
  have C : Cx p R s m args c cX0_spread 5 RX0 D ty A 9 := C
  have hR : ∀ (v : Int32) (σ2 : PS), (v, σ2) = (r, σ') → ∀ (H : Heap) (locs : List Loc) (pc : Nat) (ls : Array Slot), Hw D A s H locs (wX ty o ad σ2 ++ rs) → narrow .int (.int v) = .int v → decode cX0_spread pc = .ok (.ireturn, 1) → W p l e R s m args below meth c H locs 0 0 Q (F0 m pc ls [.int v]) := by intro v σ2 e9; cases e9; exact hR
  have j87 : ∀ (σ : PS) (x0 : Int32) (H : Heap) (locs : List Loc) (ls : Array Slot), Hw D A s H locs (wX ty o ad σ ++ rs) → lv_has ls 5 [] → X_spread_j87 σ x0 = some (r, σ') → W p l e R s m args below meth c H locs 0 0 Q (F0 m 87 ls [.int x0]) := by
    intro σ x0 H locs ls h hl hf
    unfold X_spread_j87 at hf
    exact hR _ _ (some_k hf) _ _ _ _ h rfl dX0_spread_87
  have j75 : ∀ (σ : PS) (v2 : Int32) (v3 : Int32) (H : Heap) (locs : List Loc) (ls : Array Slot), Hw D A s H locs (wX ty o ad σ ++ rs) → lv_has ls 5 [(2, .int v2), (3, .int v3)] → X_spread_j75 σ v2 v3 = some (r, σ') → W p l e R s m args below meth c H locs 0 0 Q (F0 m 75 ls []) := by
    intro σ v2 v3 H locs ls h hl hf
    unfold X_spread_j75 at hf
    refine lv_iload_n C.x C.b dX0_spread_75 rfl (lv_at hl 0 rfl) ?_
    refine lv_iconst (v := (-1)) C.x C.b dX0_spread_76 (by decide) ?_
    refine lv_icmp_ne (tgt := 84) C.x C.b dX0_spread_77 (by decide) (fun c9 => ?_) (fun c9 => ?_)
    · have hf := if_f (K := fun x => x) c9 hf
      refine lv_iload_n C.x C.b dX0_spread_84 rfl (lv_at hl 0 rfl) ?_
      refine lv_iload_n C.x C.b dX0_spread_85 rfl (lv_at hl 1 rfl) ?_
      refine lv_isub C.x C.b dX0_spread_86 ?_
      exact j87 σ (v2 - v3) _ _ _ h (lv_sub hl [] rfl) hf
    · have hf := if_t (K := fun x => x) c9 hf
      refine lv_iconst (v := 0) C.x C.b dX0_spread_80 (by decide) ?_
      refine lv_goto (tgt := 87) C.x C.b dX0_spread_81 (by decide) ?_
      exact j87 σ 0 _ _ _ h (lv_sub hl [] rfl) hf
  have l20 : ∀ (σ : PS) (n20 : Nat) (v2 : Int32) (v3 : Int32) (v4 : Int32) (H : Heap) (locs : List Loc) (ls : Array Slot), Hw D A s H locs (wX ty o ad σ ++ rs) → lv_has ls 5 [(0, .ref o), (1, .int v1), (2, .int v2), (3, .int v3), (4, .int v4)] → loop (X_spread_B20 σ v1) n20 (v2, v3, v4) = some (r, σ') → W p l e R s m args below meth c H locs 0 0 Q (F0 m 20 ls []) := by
    intro σ n20
    induction n20 with
    | zero => intro v2 v3 v4 H locs ls h hl hf; exact (none_k hf).elim
    | succ n20 ih20 =>
      have j69 : ∀ (v2 : Int32) (v3 : Int32) (v4 : Int32) (H : Heap) (locs : List Loc) (ls : Array Slot), Hw D A s H locs (wX ty o ad σ ++ rs) → lv_has ls 5 [(0, .ref o), (1, .int v1), (2, .int v2), (3, .int v3), (4, .int v4)] → bl (X_spread_B20 σ v1) n20 (X_spread_j69 σ v1 v2 v3 v4) = some (r, σ') → W p l e R s m args below meth c H locs 0 0 Q (F0 m 69 ls []) := by
        intro v2 v3 v4 H locs ls h hl hf
        unfold X_spread_j69 at hf
        obtain ⟨v4_1, e9, hf⟩ := nm_k (K := bl (X_spread_B20 σ v1) n20) hf
        refine lv_iinc (v := v4_1) (lv' := [(4, .int v4_1), (0, .ref o), (1, .int v1), (2, .int v2), (3, .int v3)]) C.x C.b dX0_spread_69 hl (k := 4) rfl (iinc_e (k := 1) (by decide) e9) (by decide) rfl (fun ls hl => ?_)
        refine lv_goto (tgt := 20) C.x C.b dX0_spread_72 (by decide) ?_
        exact ih20 v2 v3 v4_1 _ _ _ h (lv_sub hl [1, 2, 3, 4, 0] rfl) hf
      intro v2 v3 v4 H locs ls h hl hf
      have hf : bl (X_spread_B20 σ v1) n20 (X_spread_l20 σ v1 v2 v3 v4) = some (r, σ') := hf
      unfold X_spread_l20 at hf
      refine lv_iload C.x C.b dX0_spread_20 (lv_at hl 4 rfl) ?_
      refine lv_aload_n C.x C.b dX0_spread_22 rfl (lv_at hl 0 rfl) ?_
      refine x_g0 C h dX0_spread_23 ?_
      refine x_g107 C h dX0_spread_26 ?_
      refine lv_icmp_ge (tgt := 75) C.x C.b dX0_spread_29 (by decide) (fun c9 => ?_) (fun c9 => ?_)
      · have hf := if_t (K := bl (X_spread_B20 σ v1) n20) c9 hf
        have hf := bl_upK (K := fun x => x) hf
        exact j75 σ v2 v3 _ _ _ h (lv_sub hl [2, 3] rfl) hf
      · have hf := if_f (K := bl (X_spread_B20 σ v1) n20) c9 hf
        refine lv_aload_n C.x C.b dX0_spread_32 rfl (lv_at hl 0 rfl) ?_
        refine lv_iload C.x C.b dX0_spread_33 (lv_at hl 4 rfl) ?_
        refine lv_iload_n C.x C.b dX0_spread_35 rfl (lv_at hl 1 rfl) ?_
        obtain ⟨q_2, hc, hf⟩ := bd_k (K := bl (X_spread_B20 σ v1) n20) rfl hf
        refine cX_hasCome C h hc (Nat.le_of_ble_eq_true rfl) hl.1 (Nat.le_of_ble_eq_true rfl) dX0_spread_36 (fun H locs h => ?_)
        refine lv_if_ne (tgt := 45) C.x C.b dX0_spread_39 (by decide) (fun c9 => ?_) (fun c9 => ?_)
        · have hf := if_f (K := bl (X_spread_B20 σ v1) n20) c9 hf
          refine lv_iload_n C.x C.b dX0_spread_45 rfl (lv_at hl 2 rfl) ?_
          refine lv_aload_n C.x C.b dX0_spread_46 rfl (lv_at hl 0 rfl) ?_
          refine lv_iload C.x C.b dX0_spread_47 (lv_at hl 4 rfl) ?_
          refine lv_iload_n C.x C.b dX0_spread_49 rfl (lv_at hl 1 rfl) ?_
          obtain ⟨q_3, hc, hf⟩ := bd_k (K := bl (X_spread_B20 σ v1) n20) rfl hf
          refine cX_skinOf C h hc (Nat.le_of_ble_eq_true rfl) hl.1 (Nat.le_of_ble_eq_true rfl) dX0_spread_50 (fun H locs h => ?_)
          refine r_max_X0 C h hl.1 (by decide) (Nat.le_of_ble_eq_true rfl) dX0_spread_53 ?_
          obtain ⟨v2_4, e9, hf⟩ := nm_k (K := bl (X_spread_B20 σ v1) n20) hf
          refine lv_topI e9 ?_
          refine lv_istore_n (lv' := [(2, .int v2_4), (0, .ref o), (1, .int v1), (3, .int v3), (4, .int v4)]) C.x C.b dX0_spread_56 rfl hl (by decide) rfl (fun ls hl => ?_)
          refine lv_iload_n C.x C.b dX0_spread_57 rfl (lv_at hl 3 rfl) ?_
          refine lv_aload_n C.x C.b dX0_spread_58 rfl (lv_at hl 1 rfl) ?_
          refine lv_iload C.x C.b dX0_spread_59 (lv_at hl 4 rfl) ?_
          refine lv_iload_n C.x C.b dX0_spread_61 rfl (lv_at hl 2 rfl) ?_
          obtain ⟨q_5, hc, hf⟩ := bd_k (K := bl (X_spread_B20 σ v1) n20) rfl hf
          refine cX_skinOf C h hc (Nat.le_of_ble_eq_true rfl) hl.1 (Nat.le_of_ble_eq_true rfl) dX0_spread_62 (fun H locs h => ?_)
          refine r_min_X0 C h hl.1 (by decide) (Nat.le_of_ble_eq_true rfl) dX0_spread_65 ?_
          obtain ⟨v3_6, e9, hf⟩ := nm_k (K := bl (X_spread_B20 σ v1) n20) hf
          refine lv_topI e9 ?_
          refine lv_istore_n (lv' := [(3, .int v3_6), (2, .int v2_4), (0, .ref o), (1, .int v1), (4, .int v4)]) C.x C.b dX0_spread_68 rfl hl (by decide) rfl (fun ls hl => ?_)
          exact j69 v2_4 v3_6 v4 _ _ _ h (lv_sub hl [2, 3, 1, 0, 4] rfl) hf
        · have hf := if_t (K := bl (X_spread_B20 σ v1) n20) c9 hf
          refine lv_goto (tgt := 69) C.x C.b dX0_spread_42 (by decide) ?_
          exact j69 v2 v3 v4 _ _ _ h (lv_sub hl [0, 1, 2, 3, 4] rfl) hf
  intro H locs ls h hl
  have hl : lv_has ls 5 [(0, .ref o), (1, .int v1)] := hl
  unfold X_spread at hf
  refine lv_aload_n C.x C.b dX0_spread_0 rfl (lv_at hl 0 rfl) ?_
  refine lv_iload_n C.x C.b dX0_spread_1 rfl (lv_at hl 1 rfl) ?_
  obtain ⟨q_7, hc, hf⟩ := bd_k (K := fun x => x) rfl hf
  refine cX_asksStep C h hc (Nat.le_of_ble_eq_true rfl) hl.1 (Nat.le_of_ble_eq_true rfl) dX0_spread_2 (fun H locs h => ?_)
  refine lv_if_ne (tgt := 11) C.x C.b dX0_spread_5 (by decide) (fun c9 => ?_) (fun c9 => ?_)
  · have hf := if_f (K := fun x => x) c9 hf
    refine lv_iconst (v := (-1)) C.x C.b dX0_spread_11 (by decide) ?_
    refine lv_istore_n (lv' := [(2, .int ((-1))), (0, .ref o), (1, .int v1)]) C.x C.b dX0_spread_12 rfl hl (by decide) rfl (fun ls hl => ?_)
    refine lv_ldcw (v := 1000000000) C.x C.b C.own (C.ts _ q1012) dX0_spread_13 ?_
    refine lv_istore_n (lv' := [(3, .int 1000000000), (2, .int ((-1))), (0, .ref o), (1, .int v1)]) C.x C.b dX0_spread_16 rfl hl (by decide) rfl (fun ls hl => ?_)
    refine lv_iconst (v := 0) C.x C.b dX0_spread_17 (by decide) ?_
    refine lv_istore (lv' := [(4, .int 0), (3, .int 1000000000), (2, .int ((-1))), (0, .ref o), (1, .int v1)]) C.x C.b dX0_spread_18 hl (by decide) rfl (fun ls hl => ?_)
    exact l20 q_7.2 fu ((-1)) 1000000000 0 _ _ _ h (lv_sub hl [3, 4, 2, 1, 0] rfl) hf
  · have hf := if_t (K := fun x => x) c9 hf
    refine lv_bipush (v := (-2)) C.x C.b dX0_spread_8 (by decide) ?_
    exact hR _ _ (some_k hf) _ _ _ _ h rfl dX0_spread_10
def X_coming_j55 (σ : PS) (v2 : Int32) : Option (Int32 × PS) := some (v2, σ)
def X_coming_j47 (σ : PS) (v1 : Int32) (v3 : Int32) (x0 : Int32) (x1 : Int32) : Option ((Int32 × Int32) ⊕ (Int32 × PS)) := nm (x1 ||| x0) (fun v2_1 => nm (v3 + 1) (fun v3_2 => some (.inl (v2_1, v3_2))))
def X_coming_l15 (σ : PS) (v1 : Int32) (v2 : Int32) (v3 : Int32) : Option ((Int32 × Int32) ⊕ (Int32 × PS)) := if (gI σ 107) ≤ v3 then up (X_coming_j55 σ v2) else ix v3 6 (if (rA σ 113 v3) = v1 then X_coming_j47 σ v1 v3 (1 <<< (v3 &&& 31)) v2 else X_coming_j47 σ v1 v3 0 v2)
def X_coming_B15 (σ : PS) (v1 : Int32) : (Int32 × Int32) → Option ((Int32 × Int32) ⊕ (Int32 × PS)) := fun t => X_coming_l15 σ v1 t.1 t.2
def X_coming (σ : PS) (v1 : Int32) : Option (Int32 × PS) := bd (X_asksStep σ v1) (fun q_3 => if q_3.1 = 0 then some ((-2), q_3.2) else loop (X_coming_B15 q_3.2 v1) fu (0, 0))
set_option maxHeartbeats 4000000 in
theorem kX_coming (l : Launch) {D : va_G} {ty : Nat → ClassId} {A : Nat → Prop} {o : Nat} {ad : Nat → Nat} {rs : va_W} {σ : PS} {σ' : PS} {v1 : Int32} {r : Int32} (hf : X_coming σ v1 = some (r, σ')) : KI l yX0_coming cX0_coming 4 .int 9 D ty A (wX ty o ad σ ++ rs) (wX ty o ad σ' ++ rs) [.ref o, .int v1] r := by
  refine KI.of (by decide) (Nat.le_of_ble_eq_true rfl) ?_
  intro p e R s m args below meth c Q C hR
  have C : Cx p R s m args c cX0_coming 4 RX0 D ty A 9 := C
  have hR : ∀ (v : Int32) (σ2 : PS), (v, σ2) = (r, σ') → ∀ (H : Heap) (locs : List Loc) (pc : Nat) (ls : Array Slot), Hw D A s H locs (wX ty o ad σ2 ++ rs) → narrow .int (.int v) = .int v → decode cX0_coming pc = .ok (.ireturn, 1) → W p l e R s m args below meth c H locs 0 0 Q (F0 m pc ls [.int v]) := by intro v σ2 e9; cases e9; exact hR
  have j55 : ∀ (σ : PS) (v2 : Int32) (H : Heap) (locs : List Loc) (ls : Array Slot), Hw D A s H locs (wX ty o ad σ ++ rs) → lv_has ls 4 [(2, .int v2)] → X_coming_j55 σ v2 = some (r, σ') → W p l e R s m args below meth c H locs 0 0 Q (F0 m 55 ls []) := by
    intro σ v2 H locs ls h hl hf
    unfold X_coming_j55 at hf
    refine lv_iload_n C.x C.b dX0_coming_55 rfl (lv_at hl 0 rfl) ?_
    exact hR _ _ (some_k hf) _ _ _ _ h rfl dX0_coming_56
  have l15 : ∀ (σ : PS) (n15 : Nat) (v2 : Int32) (v3 : Int32) (H : Heap) (locs : List Loc) (ls : Array Slot), Hw D A s H locs (wX ty o ad σ ++ rs) → lv_has ls 4 [(0, .ref o), (1, .int v1), (2, .int v2), (3, .int v3)] → loop (X_coming_B15 σ v1) n15 (v2, v3) = some (r, σ') → W p l e R s m args below meth c H locs 0 0 Q (F0 m 15 ls []) := by
    intro σ n15
    induction n15 with
    | zero => intro v2 v3 H locs ls h hl hf; exact (none_k hf).elim
    | succ n15 ih15 =>
      have j47 : ∀ (v3 : Int32) (x0 : Int32) (x1 : Int32) (H : Heap) (locs : List Loc) (ls : Array Slot), Hw D A s H locs (wX ty o ad σ ++ rs) → lv_has ls 4 [(0, .ref o), (1, .int v1), (3, .int v3)] → bl (X_coming_B15 σ v1) n15 (X_coming_j47 σ v1 v3 x0 x1) = some (r, σ') → W p l e R s m args below meth c H locs 0 0 Q (F0 m 47 ls [.int x0, .int x1]) := by
        intro v3 x0 x1 H locs ls h hl hf
        unfold X_coming_j47 at hf
        refine lv_ior C.x C.b dX0_coming_47 ?_
        obtain ⟨v2_1, e9, hf⟩ := nm_k (K := bl (X_coming_B15 σ v1) n15) hf
        refine lv_topI e9 ?_
        refine lv_istore_n (lv' := [(2, .int v2_1), (0, .ref o), (1, .int v1), (3, .int v3)]) C.x C.b dX0_coming_48 rfl hl (by decide) rfl (fun ls hl => ?_)
        obtain ⟨v3_2, e9, hf⟩ := nm_k (K := bl (X_coming_B15 σ v1) n15) hf
        refine lv_iinc (v := v3_2) (lv' := [(3, .int v3_2), (2, .int v2_1), (0, .ref o), (1, .int v1)]) C.x C.b dX0_coming_49 hl (k := 3) rfl (iinc_e (k := 1) (by decide) e9) (by decide) rfl (fun ls hl => ?_)
        refine lv_goto (tgt := 15) C.x C.b dX0_coming_52 (by decide) ?_
        exact ih15 v2_1 v3_2 _ _ _ h (lv_sub hl [2, 3, 1, 0] rfl) hf
      intro v2 v3 H locs ls h hl hf
      have hf : bl (X_coming_B15 σ v1) n15 (X_coming_l15 σ v1 v2 v3) = some (r, σ') := hf
      unfold X_coming_l15 at hf
      refine lv_iload_n C.x C.b dX0_coming_15 rfl (lv_at hl 3 rfl) ?_
      refine lv_aload_n C.x C.b dX0_coming_16 rfl (lv_at hl 0 rfl) ?_
      refine x_g0 C h dX0_coming_17 ?_
      refine x_g107 C h dX0_coming_20 ?_
      refine lv_icmp_ge (tgt := 55) C.x C.b dX0_coming_23 (by decide) (fun c9 => ?_) (fun c9 => ?_)
      · have hf := if_t (K := bl (X_coming_B15 σ v1) n15) c9 hf
        have hf := bl_upK (K := fun x => x) hf
        exact j55 σ v2 _ _ _ h (lv_sub hl [2] rfl) hf
      · have hf := if_f (K := bl (X_coming_B15 σ v1) n15) c9 hf
        refine lv_iload_n C.x C.b dX0_coming_26 rfl (lv_at hl 2 rfl) ?_
        refine lv_aload_n C.x C.b dX0_coming_27 rfl (lv_at hl 0 rfl) ?_
        refine x_g0 C h dX0_coming_28 ?_
        refine x_g113 C h dX0_coming_31 ?_
        refine lv_iload_n C.x C.b dX0_coming_34 rfl (lv_at hl 3 rfl) ?_
        obtain ⟨hi, hf⟩ := ix_k (K := bl (X_coming_B15 σ v1) n15) rfl hf
        refine x_a113 C h hi dX0_coming_35 ?_
        refine lv_iload_n C.x C.b dX0_coming_36 rfl (lv_at hl 1 rfl) ?_
        refine lv_icmp_ne (tgt := 46) C.x C.b dX0_coming_37 (by decide) (fun c9 => ?_) (fun c9 => ?_)
        · have hf := if_f (K := bl (X_coming_B15 σ v1) n15) c9 hf
          refine lv_iconst (v := 0) C.x C.b dX0_coming_46 (by decide) ?_
          exact j47 v3 0 v2 _ _ _ h (lv_sub hl [0, 1, 3] rfl) hf
        · have hf := if_t (K := bl (X_coming_B15 σ v1) n15) c9 hf
          refine lv_iconst (v := 1) C.x C.b dX0_coming_40 (by decide) ?_
          refine lv_iload_n C.x C.b dX0_coming_41 rfl (lv_at hl 3 rfl) ?_
          refine lv_ishl C.x C.b dX0_coming_42 ?_
          refine lv_goto (tgt := 47) C.x C.b dX0_coming_43 (by decide) ?_
          exact j47 v3 (1 <<< (v3 &&& 31)) v2 _ _ _ h (lv_sub hl [0, 1, 3] rfl) hf
  intro H locs ls h hl
  have hl : lv_has ls 4 [(0, .ref o), (1, .int v1)] := hl
  unfold X_coming at hf
  refine lv_aload_n C.x C.b dX0_coming_0 rfl (lv_at hl 0 rfl) ?_
  refine lv_iload_n C.x C.b dX0_coming_1 rfl (lv_at hl 1 rfl) ?_
  obtain ⟨q_3, hc, hf⟩ := bd_k (K := fun x => x) rfl hf
  refine cX_asksStep C h hc (Nat.le_of_ble_eq_true rfl) hl.1 (Nat.le_of_ble_eq_true rfl) dX0_coming_2 (fun H locs h => ?_)
  refine lv_if_ne (tgt := 11) C.x C.b dX0_coming_5 (by decide) (fun c9 => ?_) (fun c9 => ?_)
  · have hf := if_f (K := fun x => x) c9 hf
    refine lv_iconst (v := 0) C.x C.b dX0_coming_11 (by decide) ?_
    refine lv_istore_n (lv' := [(2, .int 0), (0, .ref o), (1, .int v1)]) C.x C.b dX0_coming_12 rfl hl (by decide) rfl (fun ls hl => ?_)
    refine lv_iconst (v := 0) C.x C.b dX0_coming_13 (by decide) ?_
    refine lv_istore_n (lv' := [(3, .int 0), (2, .int 0), (0, .ref o), (1, .int v1)]) C.x C.b dX0_coming_14 rfl hl (by decide) rfl (fun ls hl => ?_)
    exact l15 q_3.2 fu 0 0 _ _ _ h (lv_sub hl [2, 3, 1, 0] rfl) hf
  · have hf := if_t (K := fun x => x) c9 hf
    refine lv_bipush (v := (-2)) C.x C.b dX0_coming_8 (by decide) ?_
    exact hR _ _ (some_k hf) _ _ _ _ h rfl dX0_coming_10
def X_cracked_j52 (σ : PS) (v2 : Int32) : Option (Int32 × PS) := some (v2, σ)
def X_cracked_j44 (σ : PS) (v1 : Int32) (v3 : Int32) (x0 : Int32) (x1 : Int32) : Option ((Int32 × Int32) ⊕ (Int32 × PS)) := nm (x1 ||| x0) (fun v2_1 => nm (v3 + 1) (fun v3_2 => some (.inl (v2_1, v3_2))))
def X_cracked_l15 (σ : PS) (v1 : Int32) (v2 : Int32) (v3 : Int32) : Option ((Int32 × Int32) ⊕ (Int32 × PS)) := if (gI σ 107) ≤ v3 then up (X_cracked_j52 σ v2) else ix v3 6 (if (rA σ 20 v3) = v1 then X_cracked_j44 σ v1 v3 (1 <<< (v3 &&& 31)) v2 else X_cracked_j44 σ v1 v3 0 v2)
def X_cracked_B15 (σ : PS) (v1 : Int32) : (Int32 × Int32) → Option ((Int32 × Int32) ⊕ (Int32 × PS)) := fun t => X_cracked_l15 σ v1 t.1 t.2
def X_cracked (σ : PS) (v1 : Int32) : Option (Int32 × PS) := bd (X_asksStep σ v1) (fun q_3 => if q_3.1 = 0 then some ((-2), q_3.2) else loop (X_cracked_B15 q_3.2 v1) fu (0, 0))
set_option maxHeartbeats 4000000 in
theorem kX_cracked (l : Launch) {D : va_G} {ty : Nat → ClassId} {A : Nat → Prop} {o : Nat} {ad : Nat → Nat} {rs : va_W} {σ : PS} {σ' : PS} {v1 : Int32} {r : Int32} (hf : X_cracked σ v1 = some (r, σ')) : KI l yX0_cracked cX0_cracked 4 .int 9 D ty A (wX ty o ad σ ++ rs) (wX ty o ad σ' ++ rs) [.ref o, .int v1] r := by
  refine KI.of (by decide) (Nat.le_of_ble_eq_true rfl) ?_
  intro p e R s m args below meth c Q C hR
  have C : Cx p R s m args c cX0_cracked 4 RX0 D ty A 9 := C
  have hR : ∀ (v : Int32) (σ2 : PS), (v, σ2) = (r, σ') → ∀ (H : Heap) (locs : List Loc) (pc : Nat) (ls : Array Slot), Hw D A s H locs (wX ty o ad σ2 ++ rs) → narrow .int (.int v) = .int v → decode cX0_cracked pc = .ok (.ireturn, 1) → W p l e R s m args below meth c H locs 0 0 Q (F0 m pc ls [.int v]) := by intro v σ2 e9; cases e9; exact hR
  have j52 : ∀ (σ : PS) (v2 : Int32) (H : Heap) (locs : List Loc) (ls : Array Slot), Hw D A s H locs (wX ty o ad σ ++ rs) → lv_has ls 4 [(2, .int v2)] → X_cracked_j52 σ v2 = some (r, σ') → W p l e R s m args below meth c H locs 0 0 Q (F0 m 52 ls []) := by
    intro σ v2 H locs ls h hl hf
    unfold X_cracked_j52 at hf
    refine lv_iload_n C.x C.b dX0_cracked_52 rfl (lv_at hl 0 rfl) ?_
    exact hR _ _ (some_k hf) _ _ _ _ h rfl dX0_cracked_53
  have l15 : ∀ (σ : PS) (n15 : Nat) (v2 : Int32) (v3 : Int32) (H : Heap) (locs : List Loc) (ls : Array Slot), Hw D A s H locs (wX ty o ad σ ++ rs) → lv_has ls 4 [(0, .ref o), (1, .int v1), (2, .int v2), (3, .int v3)] → loop (X_cracked_B15 σ v1) n15 (v2, v3) = some (r, σ') → W p l e R s m args below meth c H locs 0 0 Q (F0 m 15 ls []) := by
    intro σ n15
    induction n15 with
    | zero => intro v2 v3 H locs ls h hl hf; exact (none_k hf).elim
    | succ n15 ih15 =>
      have j44 : ∀ (v3 : Int32) (x0 : Int32) (x1 : Int32) (H : Heap) (locs : List Loc) (ls : Array Slot), Hw D A s H locs (wX ty o ad σ ++ rs) → lv_has ls 4 [(0, .ref o), (1, .int v1), (3, .int v3)] → bl (X_cracked_B15 σ v1) n15 (X_cracked_j44 σ v1 v3 x0 x1) = some (r, σ') → W p l e R s m args below meth c H locs 0 0 Q (F0 m 44 ls [.int x0, .int x1]) := by
        intro v3 x0 x1 H locs ls h hl hf
        unfold X_cracked_j44 at hf
        refine lv_ior C.x C.b dX0_cracked_44 ?_
        obtain ⟨v2_1, e9, hf⟩ := nm_k (K := bl (X_cracked_B15 σ v1) n15) hf
        refine lv_topI e9 ?_
        refine lv_istore_n (lv' := [(2, .int v2_1), (0, .ref o), (1, .int v1), (3, .int v3)]) C.x C.b dX0_cracked_45 rfl hl (by decide) rfl (fun ls hl => ?_)
        obtain ⟨v3_2, e9, hf⟩ := nm_k (K := bl (X_cracked_B15 σ v1) n15) hf
        refine lv_iinc (v := v3_2) (lv' := [(3, .int v3_2), (2, .int v2_1), (0, .ref o), (1, .int v1)]) C.x C.b dX0_cracked_46 hl (k := 3) rfl (iinc_e (k := 1) (by decide) e9) (by decide) rfl (fun ls hl => ?_)
        refine lv_goto (tgt := 15) C.x C.b dX0_cracked_49 (by decide) ?_
        exact ih15 v2_1 v3_2 _ _ _ h (lv_sub hl [2, 3, 1, 0] rfl) hf
      intro v2 v3 H locs ls h hl hf
      have hf : bl (X_cracked_B15 σ v1) n15 (X_cracked_l15 σ v1 v2 v3) = some (r, σ') := hf
      unfold X_cracked_l15 at hf
      refine lv_iload_n C.x C.b dX0_cracked_15 rfl (lv_at hl 3 rfl) ?_
      refine lv_aload_n C.x C.b dX0_cracked_16 rfl (lv_at hl 0 rfl) ?_
      refine x_g0 C h dX0_cracked_17 ?_
      refine x_g107 C h dX0_cracked_20 ?_
      refine lv_icmp_ge (tgt := 52) C.x C.b dX0_cracked_23 (by decide) (fun c9 => ?_) (fun c9 => ?_)
      · have hf := if_t (K := bl (X_cracked_B15 σ v1) n15) c9 hf
        have hf := bl_upK (K := fun x => x) hf
        exact j52 σ v2 _ _ _ h (lv_sub hl [2] rfl) hf
      · have hf := if_f (K := bl (X_cracked_B15 σ v1) n15) c9 hf
        refine lv_iload_n C.x C.b dX0_cracked_26 rfl (lv_at hl 2 rfl) ?_
        refine lv_aload_n C.x C.b dX0_cracked_27 rfl (lv_at hl 0 rfl) ?_
        refine x_g20 C h dX0_cracked_28 ?_
        refine lv_iload_n C.x C.b dX0_cracked_31 rfl (lv_at hl 3 rfl) ?_
        obtain ⟨hi, hf⟩ := ix_k (K := bl (X_cracked_B15 σ v1) n15) rfl hf
        refine x_a20 C h hi dX0_cracked_32 ?_
        refine lv_iload_n C.x C.b dX0_cracked_33 rfl (lv_at hl 1 rfl) ?_
        refine lv_icmp_ne (tgt := 43) C.x C.b dX0_cracked_34 (by decide) (fun c9 => ?_) (fun c9 => ?_)
        · have hf := if_f (K := bl (X_cracked_B15 σ v1) n15) c9 hf
          refine lv_iconst (v := 0) C.x C.b dX0_cracked_43 (by decide) ?_
          exact j44 v3 0 v2 _ _ _ h (lv_sub hl [0, 1, 3] rfl) hf
        · have hf := if_t (K := bl (X_cracked_B15 σ v1) n15) c9 hf
          refine lv_iconst (v := 1) C.x C.b dX0_cracked_37 (by decide) ?_
          refine lv_iload_n C.x C.b dX0_cracked_38 rfl (lv_at hl 3 rfl) ?_
          refine lv_ishl C.x C.b dX0_cracked_39 ?_
          refine lv_goto (tgt := 44) C.x C.b dX0_cracked_40 (by decide) ?_
          exact j44 v3 (1 <<< (v3 &&& 31)) v2 _ _ _ h (lv_sub hl [0, 1, 3] rfl) hf
  intro H locs ls h hl
  have hl : lv_has ls 4 [(0, .ref o), (1, .int v1)] := hl
  unfold X_cracked at hf
  refine lv_aload_n C.x C.b dX0_cracked_0 rfl (lv_at hl 0 rfl) ?_
  refine lv_iload_n C.x C.b dX0_cracked_1 rfl (lv_at hl 1 rfl) ?_
  obtain ⟨q_3, hc, hf⟩ := bd_k (K := fun x => x) rfl hf
  refine cX_asksStep C h hc (Nat.le_of_ble_eq_true rfl) hl.1 (Nat.le_of_ble_eq_true rfl) dX0_cracked_2 (fun H locs h => ?_)
  refine lv_if_ne (tgt := 11) C.x C.b dX0_cracked_5 (by decide) (fun c9 => ?_) (fun c9 => ?_)
  · have hf := if_f (K := fun x => x) c9 hf
    refine lv_iconst (v := 0) C.x C.b dX0_cracked_11 (by decide) ?_
    refine lv_istore_n (lv' := [(2, .int 0), (0, .ref o), (1, .int v1)]) C.x C.b dX0_cracked_12 rfl hl (by decide) rfl (fun ls hl => ?_)
    refine lv_iconst (v := 0) C.x C.b dX0_cracked_13 (by decide) ?_
    refine lv_istore_n (lv' := [(3, .int 0), (2, .int 0), (0, .ref o), (1, .int v1)]) C.x C.b dX0_cracked_14 rfl hl (by decide) rfl (fun ls hl => ?_)
    exact l15 q_3.2 fu 0 0 _ _ _ h (lv_sub hl [2, 3, 1, 0] rfl) hf
  · have hf := if_t (K := fun x => x) c9 hf
    refine lv_bipush (v := (-2)) C.x C.b dX0_cracked_8 (by decide) ?_
    exact hR _ _ (some_k hf) _ _ _ _ h rfl dX0_cracked_10
def X_kernel_j63 (σ : PS) (v2 : Int32) : Option (Int32 × PS) := some (v2, σ)
def X_kernel_j57 (σ : PS) (v1 : Int32) (v2 : Int32) (v3 : Int32) : Option ((Int32 × Int32) ⊕ (Int32 × PS)) := nm (v3 + 1) (fun v3_1 => some (.inl (v2, v3_1)))
def X_kernel_j55 (σ : PS) (v1 : Int32) (v3 : Int32) : Option ((Int32 × Int32) ⊕ (Int32 × PS)) := X_kernel_j57 σ v1 v3 v3
def X_kernel_l15 (σ : PS) (v1 : Int32) (v2 : Int32) (v3 : Int32) : Option ((Int32 × Int32) ⊕ (Int32 × PS)) := if (gI σ 107) ≤ v3 then up (X_kernel_j63 σ v2) else bd (X_hasCome σ v3 v1) (fun q_2 => if q_2 = 0 then X_kernel_j57 σ v1 v2 v3 else if v2 = ((-1)) then X_kernel_j55 σ v1 v3 else bd (X_coreOf σ v3 v1) (fun q_3 => bd (X_coreOf σ v2 v1) (fun q_4 => if q_3 ≤ q_4 then X_kernel_j57 σ v1 v2 v3 else X_kernel_j55 σ v1 v3)))
def X_kernel_B15 (σ : PS) (v1 : Int32) : (Int32 × Int32) → Option ((Int32 × Int32) ⊕ (Int32 × PS)) := fun t => X_kernel_l15 σ v1 t.1 t.2
def X_kernel (σ : PS) (v1 : Int32) : Option (Int32 × PS) := bd (X_asksStep σ v1) (fun q_5 => if q_5.1 = 0 then some ((-2), q_5.2) else loop (X_kernel_B15 q_5.2 v1) fu ((-1), 0))
set_option maxHeartbeats 4000000 in
theorem kX_kernel (l : Launch) {D : va_G} {ty : Nat → ClassId} {A : Nat → Prop} {o : Nat} {ad : Nat → Nat} {rs : va_W} {σ : PS} {σ' : PS} {v1 : Int32} {r : Int32} (hf : X_kernel σ v1 = some (r, σ')) : KI l yX0_kernel cX0_kernel 4 .int 9 D ty A (wX ty o ad σ ++ rs) (wX ty o ad σ' ++ rs) [.ref o, .int v1] r := by
  refine KI.of (by decide) (Nat.le_of_ble_eq_true rfl) ?_
  intro p e R s m args below meth c Q C hR
  have C : Cx p R s m args c cX0_kernel 4 RX0 D ty A 9 := C
  have hR : ∀ (v : Int32) (σ2 : PS), (v, σ2) = (r, σ') → ∀ (H : Heap) (locs : List Loc) (pc : Nat) (ls : Array Slot), Hw D A s H locs (wX ty o ad σ2 ++ rs) → narrow .int (.int v) = .int v → decode cX0_kernel pc = .ok (.ireturn, 1) → W p l e R s m args below meth c H locs 0 0 Q (F0 m pc ls [.int v]) := by intro v σ2 e9; cases e9; exact hR
  have j63 : ∀ (σ : PS) (v2 : Int32) (H : Heap) (locs : List Loc) (ls : Array Slot), Hw D A s H locs (wX ty o ad σ ++ rs) → lv_has ls 4 [(2, .int v2)] → X_kernel_j63 σ v2 = some (r, σ') → W p l e R s m args below meth c H locs 0 0 Q (F0 m 63 ls []) := by
    intro σ v2 H locs ls h hl hf
    unfold X_kernel_j63 at hf
    refine lv_iload_n C.x C.b dX0_kernel_63 rfl (lv_at hl 0 rfl) ?_
    exact hR _ _ (some_k hf) _ _ _ _ h rfl dX0_kernel_64
  have l15 : ∀ (σ : PS) (n15 : Nat) (v2 : Int32) (v3 : Int32) (H : Heap) (locs : List Loc) (ls : Array Slot), Hw D A s H locs (wX ty o ad σ ++ rs) → lv_has ls 4 [(0, .ref o), (1, .int v1), (2, .int v2), (3, .int v3)] → loop (X_kernel_B15 σ v1) n15 (v2, v3) = some (r, σ') → W p l e R s m args below meth c H locs 0 0 Q (F0 m 15 ls []) := by
    intro σ n15
    induction n15 with
    | zero => intro v2 v3 H locs ls h hl hf; exact (none_k hf).elim
    | succ n15 ih15 =>
      have j57 : ∀ (v2 : Int32) (v3 : Int32) (H : Heap) (locs : List Loc) (ls : Array Slot), Hw D A s H locs (wX ty o ad σ ++ rs) → lv_has ls 4 [(0, .ref o), (1, .int v1), (2, .int v2), (3, .int v3)] → bl (X_kernel_B15 σ v1) n15 (X_kernel_j57 σ v1 v2 v3) = some (r, σ') → W p l e R s m args below meth c H locs 0 0 Q (F0 m 57 ls []) := by
        intro v2 v3 H locs ls h hl hf
        unfold X_kernel_j57 at hf
        obtain ⟨v3_1, e9, hf⟩ := nm_k (K := bl (X_kernel_B15 σ v1) n15) hf
        refine lv_iinc (v := v3_1) (lv' := [(3, .int v3_1), (0, .ref o), (1, .int v1), (2, .int v2)]) C.x C.b dX0_kernel_57 hl (k := 3) rfl (iinc_e (k := 1) (by decide) e9) (by decide) rfl (fun ls hl => ?_)
        refine lv_goto (tgt := 15) C.x C.b dX0_kernel_60 (by decide) ?_
        exact ih15 v2 v3_1 _ _ _ h (lv_sub hl [1, 2, 3, 0] rfl) hf
      have j55 : ∀ (v3 : Int32) (H : Heap) (locs : List Loc) (ls : Array Slot), Hw D A s H locs (wX ty o ad σ ++ rs) → lv_has ls 4 [(0, .ref o), (1, .int v1), (3, .int v3)] → bl (X_kernel_B15 σ v1) n15 (X_kernel_j55 σ v1 v3) = some (r, σ') → W p l e R s m args below meth c H locs 0 0 Q (F0 m 55 ls []) := by
        intro v3 H locs ls h hl hf
        unfold X_kernel_j55 at hf
        refine lv_iload_n C.x C.b dX0_kernel_55 rfl (lv_at hl 2 rfl) ?_
        refine lv_istore_n (lv' := [(2, .int v3), (0, .ref o), (1, .int v1), (3, .int v3)]) C.x C.b dX0_kernel_56 rfl hl (by decide) rfl (fun ls hl => ?_)
        exact j57 v3 v3 _ _ _ h (lv_sub hl [1, 2, 0, 3] rfl) hf
      intro v2 v3 H locs ls h hl hf
      have hf : bl (X_kernel_B15 σ v1) n15 (X_kernel_l15 σ v1 v2 v3) = some (r, σ') := hf
      unfold X_kernel_l15 at hf
      refine lv_iload_n C.x C.b dX0_kernel_15 rfl (lv_at hl 3 rfl) ?_
      refine lv_aload_n C.x C.b dX0_kernel_16 rfl (lv_at hl 0 rfl) ?_
      refine x_g0 C h dX0_kernel_17 ?_
      refine x_g107 C h dX0_kernel_20 ?_
      refine lv_icmp_ge (tgt := 63) C.x C.b dX0_kernel_23 (by decide) (fun c9 => ?_) (fun c9 => ?_)
      · have hf := if_t (K := bl (X_kernel_B15 σ v1) n15) c9 hf
        have hf := bl_upK (K := fun x => x) hf
        exact j63 σ v2 _ _ _ h (lv_sub hl [2] rfl) hf
      · have hf := if_f (K := bl (X_kernel_B15 σ v1) n15) c9 hf
        refine lv_aload_n C.x C.b dX0_kernel_26 rfl (lv_at hl 0 rfl) ?_
        refine lv_iload_n C.x C.b dX0_kernel_27 rfl (lv_at hl 3 rfl) ?_
        refine lv_iload_n C.x C.b dX0_kernel_28 rfl (lv_at hl 1 rfl) ?_
        obtain ⟨q_2, hc, hf⟩ := bd_k (K := bl (X_kernel_B15 σ v1) n15) rfl hf
        refine cX_hasCome C h hc (Nat.le_of_ble_eq_true rfl) hl.1 (Nat.le_of_ble_eq_true rfl) dX0_kernel_29 (fun H locs h => ?_)
        refine lv_if_eq (tgt := 57) C.x C.b dX0_kernel_32 (by decide) (fun c9 => ?_) (fun c9 => ?_)
        · have hf := if_t (K := bl (X_kernel_B15 σ v1) n15) c9 hf
          exact j57 v2 v3 _ _ _ h (lv_sub hl [0, 1, 2, 3] rfl) hf
        · have hf := if_f (K := bl (X_kernel_B15 σ v1) n15) c9 hf
          refine lv_iload_n C.x C.b dX0_kernel_35 rfl (lv_at hl 2 rfl) ?_
          refine lv_iconst (v := (-1)) C.x C.b dX0_kernel_36 (by decide) ?_
          refine lv_icmp_eq (tgt := 55) C.x C.b dX0_kernel_37 (by decide) (fun c9 => ?_) (fun c9 => ?_)
          · have hf := if_t (K := bl (X_kernel_B15 σ v1) n15) c9 hf
            exact j55 v3 _ _ _ h (lv_sub hl [0, 1, 3] rfl) hf
          · have hf := if_f (K := bl (X_kernel_B15 σ v1) n15) c9 hf
            refine lv_aload_n C.x C.b dX0_kernel_40 rfl (lv_at hl 0 rfl) ?_
            refine lv_iload_n C.x C.b dX0_kernel_41 rfl (lv_at hl 3 rfl) ?_
            refine lv_iload_n C.x C.b dX0_kernel_42 rfl (lv_at hl 1 rfl) ?_
            obtain ⟨q_3, hc, hf⟩ := bd_k (K := bl (X_kernel_B15 σ v1) n15) rfl hf
            refine cX_coreOf C h hc (Nat.le_of_ble_eq_true rfl) hl.1 (Nat.le_of_ble_eq_true rfl) dX0_kernel_43 (fun H locs h => ?_)
            refine lv_aload_n C.x C.b dX0_kernel_46 rfl (lv_at hl 0 rfl) ?_
            refine lv_iload_n C.x C.b dX0_kernel_47 rfl (lv_at hl 2 rfl) ?_
            refine lv_iload_n C.x C.b dX0_kernel_48 rfl (lv_at hl 1 rfl) ?_
            obtain ⟨q_4, hc, hf⟩ := bd_k (K := bl (X_kernel_B15 σ v1) n15) rfl hf
            refine cX_coreOf C h hc (Nat.le_of_ble_eq_true rfl) hl.1 (Nat.le_of_ble_eq_true rfl) dX0_kernel_49 (fun H locs h => ?_)
            refine lv_icmp_le (tgt := 57) C.x C.b dX0_kernel_52 (by decide) (fun c9 => ?_) (fun c9 => ?_)
            · have hf := if_t (K := bl (X_kernel_B15 σ v1) n15) c9 hf
              exact j57 v2 v3 _ _ _ h (lv_sub hl [0, 1, 2, 3] rfl) hf
            · have hf := if_f (K := bl (X_kernel_B15 σ v1) n15) c9 hf
              exact j55 v3 _ _ _ h (lv_sub hl [0, 1, 3] rfl) hf
  intro H locs ls h hl
  have hl : lv_has ls 4 [(0, .ref o), (1, .int v1)] := hl
  unfold X_kernel at hf
  refine lv_aload_n C.x C.b dX0_kernel_0 rfl (lv_at hl 0 rfl) ?_
  refine lv_iload_n C.x C.b dX0_kernel_1 rfl (lv_at hl 1 rfl) ?_
  obtain ⟨q_5, hc, hf⟩ := bd_k (K := fun x => x) rfl hf
  refine cX_asksStep C h hc (Nat.le_of_ble_eq_true rfl) hl.1 (Nat.le_of_ble_eq_true rfl) dX0_kernel_2 (fun H locs h => ?_)
  refine lv_if_ne (tgt := 11) C.x C.b dX0_kernel_5 (by decide) (fun c9 => ?_) (fun c9 => ?_)
  · have hf := if_f (K := fun x => x) c9 hf
    refine lv_iconst (v := (-1)) C.x C.b dX0_kernel_11 (by decide) ?_
    refine lv_istore_n (lv' := [(2, .int ((-1))), (0, .ref o), (1, .int v1)]) C.x C.b dX0_kernel_12 rfl hl (by decide) rfl (fun ls hl => ?_)
    refine lv_iconst (v := 0) C.x C.b dX0_kernel_13 (by decide) ?_
    refine lv_istore_n (lv' := [(3, .int 0), (2, .int ((-1))), (0, .ref o), (1, .int v1)]) C.x C.b dX0_kernel_14 rfl hl (by decide) rfl (fun ls hl => ?_)
    exact l15 q_5.2 fu ((-1)) 0 _ _ _ h (lv_sub hl [2, 3, 1, 0] rfl) hf
  · have hf := if_t (K := fun x => x) c9 hf
    refine lv_bipush (v := (-2)) C.x C.b dX0_kernel_8 (by decide) ?_
    exact hR _ _ (some_k hf) _ _ _ _ h rfl dX0_kernel_10
def X_stiff_j67 (σ : PS) (v2 : Int32) : Option (Int32 × PS) := some (v2, σ)
def X_stiff_j59 (σ : PS) (v1 : Int32) (v3 : Int32) (x0 : Int32) (x1 : Int32) : Option ((Int32 × Int32) ⊕ (Int32 × PS)) := nm (x1 ||| x0) (fun v2_1 => nm (v3 + 1) (fun v3_2 => some (.inl (v2_1, v3_2))))
def X_stiff_j58 (σ : PS) (v1 : Int32) (v3 : Int32) (x0 : Int32) : Option ((Int32 × Int32) ⊕ (Int32 × PS)) := X_stiff_j59 σ v1 v3 0 x0
def X_stiff_l15 (σ : PS) (v1 : Int32) (v2 : Int32) (v3 : Int32) : Option ((Int32 × Int32) ⊕ (Int32 × PS)) := if (gI σ 107) ≤ v3 then up (X_stiff_j67 σ v2) else bd (X_hasCome σ v3 v1) (fun q_3 => if q_3 = 0 then X_stiff_j58 σ v1 v3 v2 else bd (X_coreOf σ v3 v1) (fun q_4 => if (gI σ 104) ≤ q_4 then X_stiff_j58 σ v1 v3 v2 else X_stiff_j59 σ v1 v3 (1 <<< (v3 &&& 31)) v2))
def X_stiff_B15 (σ : PS) (v1 : Int32) : (Int32 × Int32) → Option ((Int32 × Int32) ⊕ (Int32 × PS)) := fun t => X_stiff_l15 σ v1 t.1 t.2
def X_stiff (σ : PS) (v1 : Int32) : Option (Int32 × PS) := bd (X_asksStep σ v1) (fun q_5 => if q_5.1 = 0 then some ((-2), q_5.2) else loop (X_stiff_B15 q_5.2 v1) fu (0, 0))
set_option maxHeartbeats 4000000 in
theorem kX_stiff (l : Launch) {D : va_G} {ty : Nat → ClassId} {A : Nat → Prop} {o : Nat} {ad : Nat → Nat} {rs : va_W} {σ : PS} {σ' : PS} {v1 : Int32} {r : Int32} (hf : X_stiff σ v1 = some (r, σ')) : KI l yX0_stiff cX0_stiff 4 .int 9 D ty A (wX ty o ad σ ++ rs) (wX ty o ad σ' ++ rs) [.ref o, .int v1] r := by
  refine KI.of (by decide) (Nat.le_of_ble_eq_true rfl) ?_
  intro p e R s m args below meth c Q C hR
  have C : Cx p R s m args c cX0_stiff 4 RX0 D ty A 9 := C
  have hR : ∀ (v : Int32) (σ2 : PS), (v, σ2) = (r, σ') → ∀ (H : Heap) (locs : List Loc) (pc : Nat) (ls : Array Slot), Hw D A s H locs (wX ty o ad σ2 ++ rs) → narrow .int (.int v) = .int v → decode cX0_stiff pc = .ok (.ireturn, 1) → W p l e R s m args below meth c H locs 0 0 Q (F0 m pc ls [.int v]) := by intro v σ2 e9; cases e9; exact hR
  have j67 : ∀ (σ : PS) (v2 : Int32) (H : Heap) (locs : List Loc) (ls : Array Slot), Hw D A s H locs (wX ty o ad σ ++ rs) → lv_has ls 4 [(2, .int v2)] → X_stiff_j67 σ v2 = some (r, σ') → W p l e R s m args below meth c H locs 0 0 Q (F0 m 67 ls []) := by
    intro σ v2 H locs ls h hl hf
    unfold X_stiff_j67 at hf
    refine lv_iload_n C.x C.b dX0_stiff_67 rfl (lv_at hl 0 rfl) ?_
    exact hR _ _ (some_k hf) _ _ _ _ h rfl dX0_stiff_68
  have l15 : ∀ (σ : PS) (n15 : Nat) (v2 : Int32) (v3 : Int32) (H : Heap) (locs : List Loc) (ls : Array Slot), Hw D A s H locs (wX ty o ad σ ++ rs) → lv_has ls 4 [(0, .ref o), (1, .int v1), (2, .int v2), (3, .int v3)] → loop (X_stiff_B15 σ v1) n15 (v2, v3) = some (r, σ') → W p l e R s m args below meth c H locs 0 0 Q (F0 m 15 ls []) := by
    intro σ n15
    induction n15 with
    | zero => intro v2 v3 H locs ls h hl hf; exact (none_k hf).elim
    | succ n15 ih15 =>
      have j59 : ∀ (v3 : Int32) (x0 : Int32) (x1 : Int32) (H : Heap) (locs : List Loc) (ls : Array Slot), Hw D A s H locs (wX ty o ad σ ++ rs) → lv_has ls 4 [(0, .ref o), (1, .int v1), (3, .int v3)] → bl (X_stiff_B15 σ v1) n15 (X_stiff_j59 σ v1 v3 x0 x1) = some (r, σ') → W p l e R s m args below meth c H locs 0 0 Q (F0 m 59 ls [.int x0, .int x1]) := by
        intro v3 x0 x1 H locs ls h hl hf
        unfold X_stiff_j59 at hf
        refine lv_ior C.x C.b dX0_stiff_59 ?_
        obtain ⟨v2_1, e9, hf⟩ := nm_k (K := bl (X_stiff_B15 σ v1) n15) hf
        refine lv_topI e9 ?_
        refine lv_istore_n (lv' := [(2, .int v2_1), (0, .ref o), (1, .int v1), (3, .int v3)]) C.x C.b dX0_stiff_60 rfl hl (by decide) rfl (fun ls hl => ?_)
        obtain ⟨v3_2, e9, hf⟩ := nm_k (K := bl (X_stiff_B15 σ v1) n15) hf
        refine lv_iinc (v := v3_2) (lv' := [(3, .int v3_2), (2, .int v2_1), (0, .ref o), (1, .int v1)]) C.x C.b dX0_stiff_61 hl (k := 3) rfl (iinc_e (k := 1) (by decide) e9) (by decide) rfl (fun ls hl => ?_)
        refine lv_goto (tgt := 15) C.x C.b dX0_stiff_64 (by decide) ?_
        exact ih15 v2_1 v3_2 _ _ _ h (lv_sub hl [2, 3, 1, 0] rfl) hf
      have j58 : ∀ (v3 : Int32) (x0 : Int32) (H : Heap) (locs : List Loc) (ls : Array Slot), Hw D A s H locs (wX ty o ad σ ++ rs) → lv_has ls 4 [(0, .ref o), (1, .int v1), (3, .int v3)] → bl (X_stiff_B15 σ v1) n15 (X_stiff_j58 σ v1 v3 x0) = some (r, σ') → W p l e R s m args below meth c H locs 0 0 Q (F0 m 58 ls [.int x0]) := by
        intro v3 x0 H locs ls h hl hf
        unfold X_stiff_j58 at hf
        refine lv_iconst (v := 0) C.x C.b dX0_stiff_58 (by decide) ?_
        exact j59 v3 0 x0 _ _ _ h (lv_sub hl [0, 1, 2] rfl) hf
      intro v2 v3 H locs ls h hl hf
      have hf : bl (X_stiff_B15 σ v1) n15 (X_stiff_l15 σ v1 v2 v3) = some (r, σ') := hf
      unfold X_stiff_l15 at hf
      refine lv_iload_n C.x C.b dX0_stiff_15 rfl (lv_at hl 3 rfl) ?_
      refine lv_aload_n C.x C.b dX0_stiff_16 rfl (lv_at hl 0 rfl) ?_
      refine x_g0 C h dX0_stiff_17 ?_
      refine x_g107 C h dX0_stiff_20 ?_
      refine lv_icmp_ge (tgt := 67) C.x C.b dX0_stiff_23 (by decide) (fun c9 => ?_) (fun c9 => ?_)
      · have hf := if_t (K := bl (X_stiff_B15 σ v1) n15) c9 hf
        have hf := bl_upK (K := fun x => x) hf
        exact j67 σ v2 _ _ _ h (lv_sub hl [2] rfl) hf
      · have hf := if_f (K := bl (X_stiff_B15 σ v1) n15) c9 hf
        refine lv_iload_n C.x C.b dX0_stiff_26 rfl (lv_at hl 2 rfl) ?_
        refine lv_aload_n C.x C.b dX0_stiff_27 rfl (lv_at hl 0 rfl) ?_
        refine lv_iload_n C.x C.b dX0_stiff_28 rfl (lv_at hl 3 rfl) ?_
        refine lv_iload_n C.x C.b dX0_stiff_29 rfl (lv_at hl 1 rfl) ?_
        obtain ⟨q_3, hc, hf⟩ := bd_k (K := bl (X_stiff_B15 σ v1) n15) rfl hf
        refine cX_hasCome C h hc (Nat.le_of_ble_eq_true rfl) hl.1 (Nat.le_of_ble_eq_true rfl) dX0_stiff_30 (fun H locs h => ?_)
        refine lv_if_eq (tgt := 58) C.x C.b dX0_stiff_33 (by decide) (fun c9 => ?_) (fun c9 => ?_)
        · have hf := if_t (K := bl (X_stiff_B15 σ v1) n15) c9 hf
          exact j58 v3 v2 _ _ _ h (lv_sub hl [0, 1, 3] rfl) hf
        · have hf := if_f (K := bl (X_stiff_B15 σ v1) n15) c9 hf
          refine lv_aload_n C.x C.b dX0_stiff_36 rfl (lv_at hl 0 rfl) ?_
          refine lv_iload_n C.x C.b dX0_stiff_37 rfl (lv_at hl 3 rfl) ?_
          refine lv_iload_n C.x C.b dX0_stiff_38 rfl (lv_at hl 1 rfl) ?_
          obtain ⟨q_4, hc, hf⟩ := bd_k (K := bl (X_stiff_B15 σ v1) n15) rfl hf
          refine cX_coreOf C h hc (Nat.le_of_ble_eq_true rfl) hl.1 (Nat.le_of_ble_eq_true rfl) dX0_stiff_39 (fun H locs h => ?_)
          refine lv_aload_n C.x C.b dX0_stiff_42 rfl (lv_at hl 0 rfl) ?_
          refine x_g0 C h dX0_stiff_43 ?_
          refine x_g104 C h dX0_stiff_46 ?_
          refine lv_icmp_ge (tgt := 58) C.x C.b dX0_stiff_49 (by decide) (fun c9 => ?_) (fun c9 => ?_)
          · have hf := if_t (K := bl (X_stiff_B15 σ v1) n15) c9 hf
            exact j58 v3 v2 _ _ _ h (lv_sub hl [0, 1, 3] rfl) hf
          · have hf := if_f (K := bl (X_stiff_B15 σ v1) n15) c9 hf
            refine lv_iconst (v := 1) C.x C.b dX0_stiff_52 (by decide) ?_
            refine lv_iload_n C.x C.b dX0_stiff_53 rfl (lv_at hl 3 rfl) ?_
            refine lv_ishl C.x C.b dX0_stiff_54 ?_
            refine lv_goto (tgt := 59) C.x C.b dX0_stiff_55 (by decide) ?_
            exact j59 v3 (1 <<< (v3 &&& 31)) v2 _ _ _ h (lv_sub hl [0, 1, 3] rfl) hf
  intro H locs ls h hl
  have hl : lv_has ls 4 [(0, .ref o), (1, .int v1)] := hl
  unfold X_stiff at hf
  refine lv_aload_n C.x C.b dX0_stiff_0 rfl (lv_at hl 0 rfl) ?_
  refine lv_iload_n C.x C.b dX0_stiff_1 rfl (lv_at hl 1 rfl) ?_
  obtain ⟨q_5, hc, hf⟩ := bd_k (K := fun x => x) rfl hf
  refine cX_asksStep C h hc (Nat.le_of_ble_eq_true rfl) hl.1 (Nat.le_of_ble_eq_true rfl) dX0_stiff_2 (fun H locs h => ?_)
  refine lv_if_ne (tgt := 11) C.x C.b dX0_stiff_5 (by decide) (fun c9 => ?_) (fun c9 => ?_)
  · have hf := if_f (K := fun x => x) c9 hf
    refine lv_iconst (v := 0) C.x C.b dX0_stiff_11 (by decide) ?_
    refine lv_istore_n (lv' := [(2, .int 0), (0, .ref o), (1, .int v1)]) C.x C.b dX0_stiff_12 rfl hl (by decide) rfl (fun ls hl => ?_)
    refine lv_iconst (v := 0) C.x C.b dX0_stiff_13 (by decide) ?_
    refine lv_istore_n (lv' := [(3, .int 0), (2, .int 0), (0, .ref o), (1, .int v1)]) C.x C.b dX0_stiff_14 rfl hl (by decide) rfl (fun ls hl => ?_)
    exact l15 q_5.2 fu 0 0 _ _ _ h (lv_sub hl [2, 3, 1, 0] rfl) hf
  · have hf := if_t (K := fun x => x) c9 hf
    refine lv_bipush (v := (-2)) C.x C.b dX0_stiff_8 (by decide) ?_
    exact hR _ _ (some_k hf) _ _ _ _ h rfl dX0_stiff_10
def X_spare_j38 (σ : PS) (x0 : Int32) : Option (Int32 × PS) := some (x0, σ)
def X_spare (σ : PS) (v1 : Int32) : Option (Int32 × PS) := bd (X_asksPiece σ v1) (fun q_1 => if q_1.1 = 0 then some ((-2), q_1.2) else bd (X_isSound q_1.2 v1) (fun q_2 => if q_2 = 0 then X_spare_j38 q_1.2 ((-1)) else ix v1 6 (bd (X_needsOf q_1.2 v1) (fun q_3 => X_spare_j38 q_3.2 ((rA q_1.2 112 v1) - q_3.1)))))
set_option maxHeartbeats 4000000 in
theorem kX_spare (l : Launch) {D : va_G} {ty : Nat → ClassId} {A : Nat → Prop} {o : Nat} {ad : Nat → Nat} {rs : va_W} {σ : PS} {σ' : PS} {v1 : Int32} {r : Int32} (hf : X_spare σ v1 = some (r, σ')) : KI l yX0_spare cX0_spare 2 .int 9 D ty A (wX ty o ad σ ++ rs) (wX ty o ad σ' ++ rs) [.ref o, .int v1] r := by
  refine KI.of (by decide) (Nat.le_of_ble_eq_true rfl) ?_
  intro p e R s m args below meth c Q C hR
  have C : Cx p R s m args c cX0_spare 2 RX0 D ty A 9 := C
  have hR : ∀ (v : Int32) (σ2 : PS), (v, σ2) = (r, σ') → ∀ (H : Heap) (locs : List Loc) (pc : Nat) (ls : Array Slot), Hw D A s H locs (wX ty o ad σ2 ++ rs) → narrow .int (.int v) = .int v → decode cX0_spare pc = .ok (.ireturn, 1) → W p l e R s m args below meth c H locs 0 0 Q (F0 m pc ls [.int v]) := by intro v σ2 e9; cases e9; exact hR
  have j38 : ∀ (σ : PS) (x0 : Int32) (H : Heap) (locs : List Loc) (ls : Array Slot), Hw D A s H locs (wX ty o ad σ ++ rs) → lv_has ls 2 [] → X_spare_j38 σ x0 = some (r, σ') → W p l e R s m args below meth c H locs 0 0 Q (F0 m 38 ls [.int x0]) := by
    intro σ x0 H locs ls h hl hf
    unfold X_spare_j38 at hf
    exact hR _ _ (some_k hf) _ _ _ _ h rfl dX0_spare_38
  intro H locs ls h hl
  have hl : lv_has ls 2 [(0, .ref o), (1, .int v1)] := hl
  unfold X_spare at hf
  refine lv_aload_n C.x C.b dX0_spare_0 rfl (lv_at hl 0 rfl) ?_
  refine lv_iload_n C.x C.b dX0_spare_1 rfl (lv_at hl 1 rfl) ?_
  obtain ⟨q_1, hc, hf⟩ := bd_k (K := fun x => x) rfl hf
  refine cX_asksPiece C h hc (Nat.le_of_ble_eq_true rfl) hl.1 (Nat.le_of_ble_eq_true rfl) dX0_spare_2 (fun H locs h => ?_)
  refine lv_if_ne (tgt := 11) C.x C.b dX0_spare_5 (by decide) (fun c9 => ?_) (fun c9 => ?_)
  · have hf := if_f (K := fun x => x) c9 hf
    refine lv_aload_n C.x C.b dX0_spare_11 rfl (lv_at hl 0 rfl) ?_
    refine lv_iload_n C.x C.b dX0_spare_12 rfl (lv_at hl 1 rfl) ?_
    obtain ⟨q_2, hc, hf⟩ := bd_k (K := fun x => x) rfl hf
    refine cX_isSound C h hc (Nat.le_of_ble_eq_true rfl) hl.1 (Nat.le_of_ble_eq_true rfl) dX0_spare_13 (fun H locs h => ?_)
    refine lv_if_eq (tgt := 37) C.x C.b dX0_spare_16 (by decide) (fun c9 => ?_) (fun c9 => ?_)
    · have hf := if_t (K := fun x => x) c9 hf
      refine lv_iconst (v := (-1)) C.x C.b dX0_spare_37 (by decide) ?_
      exact j38 q_1.2 ((-1)) _ _ _ h (lv_sub hl [] rfl) hf
    · have hf := if_f (K := fun x => x) c9 hf
      refine lv_aload_n C.x C.b dX0_spare_19 rfl (lv_at hl 0 rfl) ?_
      refine x_g0 C h dX0_spare_20 ?_
      refine x_g112 C h dX0_spare_23 ?_
      refine lv_iload_n C.x C.b dX0_spare_26 rfl (lv_at hl 1 rfl) ?_
      obtain ⟨hi, hf⟩ := ix_k (K := fun x => x) rfl hf
      refine x_a112 C h hi dX0_spare_27 ?_
      refine lv_aload_n C.x C.b dX0_spare_28 rfl (lv_at hl 0 rfl) ?_
      refine lv_iload_n C.x C.b dX0_spare_29 rfl (lv_at hl 1 rfl) ?_
      obtain ⟨q_3, hc, hf⟩ := bd_k (K := fun x => x) rfl hf
      refine cX_needsOf C h hc (Nat.le_of_ble_eq_true rfl) hl.1 (Nat.le_of_ble_eq_true rfl) dX0_spare_30 (fun H locs h => ?_)
      refine lv_isub C.x C.b dX0_spare_33 ?_
      refine lv_goto (tgt := 38) C.x C.b dX0_spare_34 (by decide) ?_
      exact j38 q_3.2 ((rA q_1.2 112 v1) - q_3.1) _ _ _ h (lv_sub hl [] rfl) hf
  · have hf := if_t (K := fun x => x) c9 hf
    refine lv_bipush (v := (-2)) C.x C.b dX0_spare_8 (by decide) ?_
    exact hR _ _ (some_k hf) _ _ _ _ h rfl dX0_spare_10
def X_pace_j16 (σ : PS) (x0 : Int32) : Option (Int32 × PS) := some (x0, σ)
def X_pace (σ : PS) : Option (Int32 × PS) := bd (X_asksLehr σ) (fun q_1 => if q_1.1 = 0 then X_pace_j16 q_1.2 ((-2)) else bd (X_paceOf q_1.2) (fun q_2 => X_pace_j16 q_2.2 q_2.1))
set_option maxHeartbeats 4000000 in
theorem kX_pace (l : Launch) {D : va_G} {ty : Nat → ClassId} {A : Nat → Prop} {o : Nat} {ad : Nat → Nat} {rs : va_W} {σ : PS} {σ' : PS} {r : Int32} (hf : X_pace σ = some (r, σ')) : KI l yX0_pace cX0_pace 1 .int 9 D ty A (wX ty o ad σ ++ rs) (wX ty o ad σ' ++ rs) [.ref o] r := by
  refine KI.of (by decide) (Nat.le_of_ble_eq_true rfl) ?_
  intro p e R s m args below meth c Q C hR
  have C : Cx p R s m args c cX0_pace 1 RX0 D ty A 9 := C
  have hR : ∀ (v : Int32) (σ2 : PS), (v, σ2) = (r, σ') → ∀ (H : Heap) (locs : List Loc) (pc : Nat) (ls : Array Slot), Hw D A s H locs (wX ty o ad σ2 ++ rs) → narrow .int (.int v) = .int v → decode cX0_pace pc = .ok (.ireturn, 1) → W p l e R s m args below meth c H locs 0 0 Q (F0 m pc ls [.int v]) := by intro v σ2 e9; cases e9; exact hR
  have j16 : ∀ (σ : PS) (x0 : Int32) (H : Heap) (locs : List Loc) (ls : Array Slot), Hw D A s H locs (wX ty o ad σ ++ rs) → lv_has ls 1 [] → X_pace_j16 σ x0 = some (r, σ') → W p l e R s m args below meth c H locs 0 0 Q (F0 m 16 ls [.int x0]) := by
    intro σ x0 H locs ls h hl hf
    unfold X_pace_j16 at hf
    exact hR _ _ (some_k hf) _ _ _ _ h rfl dX0_pace_16
  intro H locs ls h hl
  have hl : lv_has ls 1 [(0, .ref o)] := hl
  unfold X_pace at hf
  refine lv_aload_n C.x C.b dX0_pace_0 rfl (lv_at hl 0 rfl) ?_
  obtain ⟨q_1, hc, hf⟩ := bd_k (K := fun x => x) rfl hf
  refine cX_asksLehr C h hc (Nat.le_of_ble_eq_true rfl) hl.1 (Nat.le_of_ble_eq_true rfl) dX0_pace_1 (fun H locs h => ?_)
  refine lv_if_eq (tgt := 14) C.x C.b dX0_pace_4 (by decide) (fun c9 => ?_) (fun c9 => ?_)
  · have hf := if_t (K := fun x => x) c9 hf
    refine lv_bipush (v := (-2)) C.x C.b dX0_pace_14 (by decide) ?_
    exact j16 q_1.2 ((-2)) _ _ _ h (lv_sub hl [] rfl) hf
  · have hf := if_f (K := fun x => x) c9 hf
    refine lv_aload_n C.x C.b dX0_pace_7 rfl (lv_at hl 0 rfl) ?_
    obtain ⟨q_2, hc, hf⟩ := bd_k (K := fun x => x) rfl hf
    refine cX_paceOf C h hc (Nat.le_of_ble_eq_true rfl) hl.1 (Nat.le_of_ble_eq_true rfl) dX0_pace_8 (fun H locs h => ?_)
    refine lv_goto (tgt := 16) C.x C.b dX0_pace_11 (by decide) ?_
    exact j16 q_2.2 q_2.1 _ _ _ h (lv_sub hl [] rfl) hf
def X_fires_j49 (σ : PS) (x0 : Int32) : Option (Int32 × PS) := some (x0, σ)
def X_fires_j47 (σ : PS) : Option (Int32 × PS) := X_fires_j49 σ ((-2))
def X_fires (σ : PS) (v1 : Int32) (v2 : Int32) (v3 : Int32) : Option (Int32 × PS) := bd (X_isZone σ v1) (fun q_1 => if q_1 = 0 then X_fires_j47 σ else bd (X_isIn v2.toInt64 1 200) (fun q_2 => if q_2 = 0 then X_fires_j47 σ else bd (X_isStep σ v3.toInt64) (fun q_3 => if q_3 = 0 then X_fires_j47 σ else bd (X_kept σ (((100000 * v2) + (100 * v1)) + v3)) (fun q_4 => X_fires_j49 q_4.2 q_4.1))))
set_option maxHeartbeats 4000000 in
theorem kX_fires (l : Launch) {D : va_G} {ty : Nat → ClassId} {A : Nat → Prop} {o : Nat} {ad : Nat → Nat} {rs : va_W} {σ : PS} {σ' : PS} {v1 : Int32} {v2 : Int32} {v3 : Int32} {r : Int32} (hf : X_fires σ v1 v2 v3 = some (r, σ')) : KI l yX0_fires cX0_fires 4 .int 9 D ty A (wX ty o ad σ ++ rs) (wX ty o ad σ' ++ rs) [.ref o, .int v1, .int v2, .int v3] r := by
  refine KI.of (by decide) (Nat.le_of_ble_eq_true rfl) ?_
  intro p e R s m args below meth c Q C hR
  have C : Cx p R s m args c cX0_fires 4 RX0 D ty A 9 := C
  have hR : ∀ (v : Int32) (σ2 : PS), (v, σ2) = (r, σ') → ∀ (H : Heap) (locs : List Loc) (pc : Nat) (ls : Array Slot), Hw D A s H locs (wX ty o ad σ2 ++ rs) → narrow .int (.int v) = .int v → decode cX0_fires pc = .ok (.ireturn, 1) → W p l e R s m args below meth c H locs 0 0 Q (F0 m pc ls [.int v]) := by intro v σ2 e9; cases e9; exact hR
  have j49 : ∀ (σ : PS) (x0 : Int32) (H : Heap) (locs : List Loc) (ls : Array Slot), Hw D A s H locs (wX ty o ad σ ++ rs) → lv_has ls 4 [] → X_fires_j49 σ x0 = some (r, σ') → W p l e R s m args below meth c H locs 0 0 Q (F0 m 49 ls [.int x0]) := by
    intro σ x0 H locs ls h hl hf
    unfold X_fires_j49 at hf
    exact hR _ _ (some_k hf) _ _ _ _ h rfl dX0_fires_49
  have j47 : ∀ (σ : PS) (H : Heap) (locs : List Loc) (ls : Array Slot), Hw D A s H locs (wX ty o ad σ ++ rs) → lv_has ls 4 [] → X_fires_j47 σ = some (r, σ') → W p l e R s m args below meth c H locs 0 0 Q (F0 m 47 ls []) := by
    intro σ H locs ls h hl hf
    unfold X_fires_j47 at hf
    refine lv_bipush (v := (-2)) C.x C.b dX0_fires_47 (by decide) ?_
    exact j49 σ ((-2)) _ _ _ h (lv_sub hl [] rfl) hf
  intro H locs ls h hl
  have hl : lv_has ls 4 [(0, .ref o), (1, .int v1), (2, .int v2), (3, .int v3)] := hl
  unfold X_fires at hf
  refine lv_aload_n C.x C.b dX0_fires_0 rfl (lv_at hl 0 rfl) ?_
  refine lv_iload_n C.x C.b dX0_fires_1 rfl (lv_at hl 1 rfl) ?_
  obtain ⟨q_1, hc, hf⟩ := bd_k (K := fun x => x) rfl hf
  refine cX_isZone C h hc (Nat.le_of_ble_eq_true rfl) hl.1 (Nat.le_of_ble_eq_true rfl) dX0_fires_2 (fun H locs h => ?_)
  refine lv_if_eq (tgt := 47) C.x C.b dX0_fires_5 (by decide) (fun c9 => ?_) (fun c9 => ?_)
  · have hf := if_t (K := fun x => x) c9 hf
    exact j47 σ _ _ _ h (lv_sub hl [] rfl) hf
  · have hf := if_f (K := fun x => x) c9 hf
    refine lv_iload_n C.x C.b dX0_fires_8 rfl (lv_at hl 2 rfl) ?_
    refine lv_i2l C.x C.b dX0_fires_9 rfl ?_
    refine lv_lconst (v := 1) C.x C.b dX0_fires_10 (by decide) ?_
    refine lv_ldc2 (v := 200) C.x C.b C.own (C.ts _ q1326) dX0_fires_11 ?_
    obtain ⟨q_2, hc, hf⟩ := bd_k (K := fun x => x) rfl hf
    refine cX_isIn C h hc (Nat.le_of_ble_eq_true rfl) hl.1 (Nat.le_of_ble_eq_true rfl) dX0_fires_14 (fun H locs h => ?_)
    refine lv_if_eq (tgt := 47) C.x C.b dX0_fires_17 (by decide) (fun c9 => ?_) (fun c9 => ?_)
    · have hf := if_t (K := fun x => x) c9 hf
      exact j47 σ _ _ _ h (lv_sub hl [] rfl) hf
    · have hf := if_f (K := fun x => x) c9 hf
      refine lv_aload_n C.x C.b dX0_fires_20 rfl (lv_at hl 0 rfl) ?_
      refine lv_iload_n C.x C.b dX0_fires_21 rfl (lv_at hl 3 rfl) ?_
      refine lv_i2l C.x C.b dX0_fires_22 rfl ?_
      obtain ⟨q_3, hc, hf⟩ := bd_k (K := fun x => x) rfl hf
      refine cX_isStep C h hc (Nat.le_of_ble_eq_true rfl) hl.1 (Nat.le_of_ble_eq_true rfl) dX0_fires_23 (fun H locs h => ?_)
      refine lv_if_eq (tgt := 47) C.x C.b dX0_fires_26 (by decide) (fun c9 => ?_) (fun c9 => ?_)
      · have hf := if_t (K := fun x => x) c9 hf
        exact j47 σ _ _ _ h (lv_sub hl [] rfl) hf
      · have hf := if_f (K := fun x => x) c9 hf
        refine lv_aload_n C.x C.b dX0_fires_29 rfl (lv_at hl 0 rfl) ?_
        refine lv_ldc (v := 100000) C.x C.b C.own (C.ts _ q794) dX0_fires_30 ?_
        refine lv_iload_n C.x C.b dX0_fires_32 rfl (lv_at hl 2 rfl) ?_
        refine lv_imul C.x C.b dX0_fires_33 ?_
        refine lv_bipush (v := 100) C.x C.b dX0_fires_34 (by decide) ?_
        refine lv_iload_n C.x C.b dX0_fires_36 rfl (lv_at hl 1 rfl) ?_
        refine lv_imul C.x C.b dX0_fires_37 ?_
        refine lv_iadd C.x C.b dX0_fires_38 ?_
        refine lv_iload_n C.x C.b dX0_fires_39 rfl (lv_at hl 3 rfl) ?_
        refine lv_iadd C.x C.b dX0_fires_40 ?_
        obtain ⟨q_4, hc, hf⟩ := bd_k (K := fun x => x) rfl hf
        refine cX_kept C h hc (Nat.le_of_ble_eq_true rfl) hl.1 (Nat.le_of_ble_eq_true rfl) dX0_fires_41 (fun H locs h => ?_)
        refine lv_goto (tgt := 49) C.x C.b dX0_fires_44 (by decide) ?_
        exact j49 q_4.2 q_4.1 _ _ _ h (lv_sub hl [] rfl) hf
def X_air_j27 (σ : PS) (x0 : Int32) : Option (Int32 × PS) := some (x0, σ)
def X_air_j25 (σ : PS) : Option (Int32 × PS) := X_air_j27 σ ((-2))
def X_air (σ : PS) (v1 : Int32) (v2 : Int32) : Option (Int32 × PS) := bd (X_asksStep σ v2) (fun q_1 => if q_1.1 = 0 then X_air_j25 q_1.2 else bd (X_isZone q_1.2 v1) (fun q_2 => if q_2 = 0 then X_air_j25 q_1.2 else bd (X_airOf q_1.2 v1 v2) (fun q_3 => X_air_j27 q_1.2 q_3)))
set_option maxHeartbeats 4000000 in
theorem kX_air (l : Launch) {D : va_G} {ty : Nat → ClassId} {A : Nat → Prop} {o : Nat} {ad : Nat → Nat} {rs : va_W} {σ : PS} {σ' : PS} {v1 : Int32} {v2 : Int32} {r : Int32} (hf : X_air σ v1 v2 = some (r, σ')) : KI l yX0_air cX0_air 3 .int 9 D ty A (wX ty o ad σ ++ rs) (wX ty o ad σ' ++ rs) [.ref o, .int v1, .int v2] r := by
  refine KI.of (by decide) (Nat.le_of_ble_eq_true rfl) ?_
  intro p e R s m args below meth c Q C hR
  have C : Cx p R s m args c cX0_air 3 RX0 D ty A 9 := C
  have hR : ∀ (v : Int32) (σ2 : PS), (v, σ2) = (r, σ') → ∀ (H : Heap) (locs : List Loc) (pc : Nat) (ls : Array Slot), Hw D A s H locs (wX ty o ad σ2 ++ rs) → narrow .int (.int v) = .int v → decode cX0_air pc = .ok (.ireturn, 1) → W p l e R s m args below meth c H locs 0 0 Q (F0 m pc ls [.int v]) := by intro v σ2 e9; cases e9; exact hR
  have j27 : ∀ (σ : PS) (x0 : Int32) (H : Heap) (locs : List Loc) (ls : Array Slot), Hw D A s H locs (wX ty o ad σ ++ rs) → lv_has ls 3 [] → X_air_j27 σ x0 = some (r, σ') → W p l e R s m args below meth c H locs 0 0 Q (F0 m 27 ls [.int x0]) := by
    intro σ x0 H locs ls h hl hf
    unfold X_air_j27 at hf
    exact hR _ _ (some_k hf) _ _ _ _ h rfl dX0_air_27
  have j25 : ∀ (σ : PS) (H : Heap) (locs : List Loc) (ls : Array Slot), Hw D A s H locs (wX ty o ad σ ++ rs) → lv_has ls 3 [] → X_air_j25 σ = some (r, σ') → W p l e R s m args below meth c H locs 0 0 Q (F0 m 25 ls []) := by
    intro σ H locs ls h hl hf
    unfold X_air_j25 at hf
    refine lv_bipush (v := (-2)) C.x C.b dX0_air_25 (by decide) ?_
    exact j27 σ ((-2)) _ _ _ h (lv_sub hl [] rfl) hf
  intro H locs ls h hl
  have hl : lv_has ls 3 [(0, .ref o), (1, .int v1), (2, .int v2)] := hl
  unfold X_air at hf
  refine lv_aload_n C.x C.b dX0_air_0 rfl (lv_at hl 0 rfl) ?_
  refine lv_iload_n C.x C.b dX0_air_1 rfl (lv_at hl 2 rfl) ?_
  obtain ⟨q_1, hc, hf⟩ := bd_k (K := fun x => x) rfl hf
  refine cX_asksStep C h hc (Nat.le_of_ble_eq_true rfl) hl.1 (Nat.le_of_ble_eq_true rfl) dX0_air_2 (fun H locs h => ?_)
  refine lv_if_eq (tgt := 25) C.x C.b dX0_air_5 (by decide) (fun c9 => ?_) (fun c9 => ?_)
  · have hf := if_t (K := fun x => x) c9 hf
    exact j25 q_1.2 _ _ _ h (lv_sub hl [] rfl) hf
  · have hf := if_f (K := fun x => x) c9 hf
    refine lv_aload_n C.x C.b dX0_air_8 rfl (lv_at hl 0 rfl) ?_
    refine lv_iload_n C.x C.b dX0_air_9 rfl (lv_at hl 1 rfl) ?_
    obtain ⟨q_2, hc, hf⟩ := bd_k (K := fun x => x) rfl hf
    refine cX_isZone C h hc (Nat.le_of_ble_eq_true rfl) hl.1 (Nat.le_of_ble_eq_true rfl) dX0_air_10 (fun H locs h => ?_)
    refine lv_if_eq (tgt := 25) C.x C.b dX0_air_13 (by decide) (fun c9 => ?_) (fun c9 => ?_)
    · have hf := if_t (K := fun x => x) c9 hf
      exact j25 q_1.2 _ _ _ h (lv_sub hl [] rfl) hf
    · have hf := if_f (K := fun x => x) c9 hf
      refine lv_aload_n C.x C.b dX0_air_16 rfl (lv_at hl 0 rfl) ?_
      refine lv_iload_n C.x C.b dX0_air_17 rfl (lv_at hl 1 rfl) ?_
      refine lv_iload_n C.x C.b dX0_air_18 rfl (lv_at hl 2 rfl) ?_
      obtain ⟨q_3, hc, hf⟩ := bd_k (K := fun x => x) rfl hf
      refine cX_airOf C h hc (Nat.le_of_ble_eq_true rfl) hl.1 (Nat.le_of_ble_eq_true rfl) dX0_air_19 (fun H locs h => ?_)
      refine lv_goto (tgt := 27) C.x C.b dX0_air_22 (by decide) ?_
      exact j27 q_1.2 q_3 _ _ _ h (lv_sub hl [] rfl) hf
