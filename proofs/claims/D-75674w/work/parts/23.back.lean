set_option maxRecDepth 100000
theorem wX_up32 {ty : Nat → ClassId} {o a : Nat} {ad : Nat → Nat} {σ : PS} : wX ty o (va_up ad 32 a) σ = wX ty o ad σ := rfl
theorem wS_up32 {ty : Nat → ClassId} {a : Nat} {ad : Nat → Nat} {τ : PS} : wS ty (va_up ad 32 a) τ = wS ty ad τ := rfl
/-- the addresses of a belt with another lehr -/
def adM (ad a2 : Nat → Nat) : Nat → Nat := fun k => if k = 0 ∨ 100 ≤ k then a2 k else ad k
/-- the picture of a belt with another lehr -/
def mrg (σ x : PS) : PS := (fun k => if 100 ≤ k then gI x k else gI σ k, σ.2.1, fun k => if 100 ≤ k then gA x k else gA σ k, σ.2.2.2)
theorem wX_mrg {ty : Nat → ClassId} {o : Nat} {ad a2 : Nat → Nat} {σ x : PS} : wX ty o (adM ad a2) (mrg σ x) = ((o, .inr (0, (fX ad σ).set 0 (.ref (a2 0)))) :: (wBelt ty o ad σ).tail) ++ wLehr ty a2 x := rfl
theorem wS_adM {ty : Nat → ClassId} {ad a2 : Nat → Nat} {τ : PS} : wS ty (adM ad a2) τ = wS ty ad τ := rfl
theorem lst3_adM {ad a2 : Nat → Nat} : lst3 (adM ad a2) = lst3 ad := rfl
theorem dat3_adM {ty : Nat → ClassId} {ad a2 : Nat → Nat} {f : Nat → Option Nat} : dat3 ty (adM ad a2) f = dat3 ty ad f := rfl
theorem wI0_adM {ty : Nat → ClassId} {ad a2 : Nat → Nat} : wI0 ty (adM ad a2) = wI0 ty ad := rfl
theorem wI1_adM {ty : Nat → ClassId} {ad a2 : Nat → Nat} {im : Nat → Option ((Nat → Nat) × PS)} : wI1 ty (adM ad a2) im = wI1 ty ad im := rfl
set_option maxHeartbeats 4000000 in
theorem kX_image_a (l : Launch) {D : va_G} {ty : Nat → ClassId} {A : Nat → Prop} {o : Nat} {ad : Nat → Nat} {rs : va_W} {σ τ : PS} {k qq : Int32} (hq : X_isIn k.toInt64 0 2 = some qq) (hq0 : ¬ qq = 0) (h0 : ¬ k < 0) (h1 : k < 3) (hi : vp_in k 10) : KIx l yX0_image cX0_image 2 .int 8 8 86 D ty A (wX ty o ad σ ++ (wS ty ad τ ++ (wI0 ty ad ++ rs))) [.ref o, .int k] (fun r (_ : Nat × (Nat → Nat)) => r = 0) (fun u => wX ty o (va_up ad 32 u.1) σ ++ (wS ty (va_up ad 32 u.1) τ ++ (wI1 ty (va_up ad 32 u.1) (va_up (fun _ => none) k.toNatClampNeg (some (u.2, cpL6 σ))) ++ rs))) := by
  refine KIx.of (by decide) (Nat.le_of_ble_eq_true rfl) ?_
  intro p e R s m args below meth c Q C hmc hms hR H locs ls h hl
  have C : Cx p R s m args c cX0_image 2 RX0 D ty A 8 := C
  have hl : lv_has ls 2 [(0, .ref o), (1, .int k)] := hl
  refine lv_iload_n C.x C.b dX0_image_0 rfl (lv_at hl 1 rfl) ?_
  refine lv_i2l C.x C.b dX0_image_1 rfl ?_
  refine lv_lconst (v := 0) C.x C.b dX0_image_2 (by decide) ?_
  refine lv_ldc2 (v := 2) C.x C.b C.own (C.ts _ q1356) dX0_image_3 ?_
  refine KI.callS (As := [.long k.toInt64, .long 0, .long 2]) (rest := []) C (kX_isIn l hq) tX_isIn ⟨by decide, by decide, by show _ = some 3; decide +kernel⟩ (Nat.le_of_ble_eq_true rfl) (by decide) (by omega) (by omega) h hl.1 rfl (Nat.le_of_ble_eq_true rfl) dX0_image_6 (fun H locs h => ?_)
  refine lv_if_ne (tgt := 15) C.x C.b dX0_image_9 (by decide) (fun c9 => ?_) (fun c9 => ?_)
  rotate_left
  · exact absurd c9 hq0
  have h : Hw D A s H locs (wX ty o ad σ ++ (wS ty ad τ ++ ([(ad 31, .inr (10, [.int 0, .ref (ty 400), .int 0]))] ++ rs))) := h
  refine lv_aload_n C.x C.b dX0_image_15 rfl (lv_at hl 0 rfl) ?_
  refine x_g31 C h dX0_image_16 ?_
  have h : Hw D A s H locs ([(ad 31, .inr (10, [.int 0, .ref (ty 400), .int 0]))] ++ (wX ty o ad σ ++ (wS ty ad τ ++ rs))) := Hw.perm ((List.Perm.append_left _ (List.perm_append_comm_assoc _ _ _)).trans (List.perm_append_comm_assoc _ _ _)) h
  refine KI.callV (As := []) (rest := []) C (kJ_size l) (lw_V q1357 q1358 q1359 q146 q1360) ⟨rfl, by decide, by decide, by show _ = some 0; decide +kernel⟩ 0 10 rfl rfl rfl (Nat.le_of_ble_eq_true rfl) (by decide) (by omega) (by omega) h hl.1 rfl (Nat.le_of_ble_eq_true rfl) dX0_image_19 (fun H locs h => ?_)
  have h : Hw D A s H locs (wX ty o ad σ ++ (wS ty ad τ ++ ([(ad 31, .inr (10, [.int 0, .ref (ty 400), .int 0]))] ++ rs))) := Hw.perm ((List.perm_append_comm_assoc _ _ _).trans (List.Perm.append_left _ (List.perm_append_comm_assoc _ _ _))) h
  refine lv_iconst (v := 3) C.x C.b dX0_image_22 (by decide) ?_
  refine lv_icmp_ge (tgt := 38) C.x C.b dX0_image_23 (by decide) (fun c9 => ?_) (fun c9 => ?_)
  · exact absurd c9 (by decide)
  refine lv_aload_n C.x C.b dX0_image_26 rfl (lv_at hl 0 rfl) ?_
  refine x_g31 C h dX0_image_27 ?_
  refine lv_null C.x C.b dX0_image_30 ?_
  have h : Hw D A s H locs (wX ty o ad σ ++ (wS ty ad τ ++ ([(ad 31, .inr (10, [.int 0, .ref (ty 400), .int 0]))] ++ (rs ++ [])))) := by simp only [List.append_nil]; exact h
  have h : Hw D A s H locs (wX ty o ad σ ++ (wS ty ad τ ++ (rs ++ ([(ad 31, .inr (10, [.int 0, .ref (ty 400), .int 0]))] ++ [])))) := Hw.perm (List.Perm.append_left _ (List.Perm.append_left _ (List.perm_append_comm_assoc _ _ _))) h
  have h : Hw D A s H locs ((wX ty o ad σ ++ (wS ty ad τ ++ rs)) ++ [(ad 31, .inr (10, [.int 0, .ref (ty 400), .int 0]))]) := by simpa only [List.append_assoc, List.append_nil] using h
  refine KIx.callVf (wr := wX ty o ad σ ++ (wS ty ad τ ++ rs)) (As := [.null]) (rest := []) C (fun A => kJ_add0 l) (lw_V q1361 q1362 q1363 q146 q1364) ⟨rfl, by decide, by decide, by show _ = some 1; decide +kernel⟩ 0 10 rfl rfl rfl (Nat.le_of_ble_eq_true rfl) (by decide) (by omega) (by omega) h hl.1 rfl (Nat.le_of_ble_eq_true rfl) dX0_image_31 (fun r9 a H locs hr9 h => ?_)
  have h : Hw D A s H locs ((wX ty o ad σ ++ (wS ty ad τ ++ rs)) ++ [(ad 31, .inr (10, [.int 1, .ref a, .int 1])), (a, .inl (ty 7, 10, .inr (.inr (.inr (.inr (va_up (fun _ => none) 0 none))))))]) := h
  have h : Hw D A s H locs (wX ty o ad σ ++ (wS ty ad τ ++ (rs ++ ([(ad 31, .inr (10, [.int 1, .ref a, .int 1]))] ++ ([(a, .inl (ty 7, 10, .inr (.inr (.inr (.inr (va_up (fun _ => none) 0 none))))))] ++ []))))) := by simpa only [List.append_assoc, List.append_nil, List.cons_append, List.nil_append] using h
  have h : Hw D A s H locs (wX ty o ad σ ++ (wS ty ad τ ++ ([(ad 31, .inr (10, [.int 1, .ref a, .int 1]))] ++ ([(a, .inl (ty 7, 10, .inr (.inr (.inr (.inr (va_up (fun _ => none) 0 none))))))] ++ (rs ++ []))))) := Hw.perm (List.Perm.append_left _ (List.Perm.append_left _ ((List.perm_append_comm_assoc _ _ _).trans (List.Perm.append_left _ (List.perm_append_comm_assoc _ _ _))))) h
  have h : Hw D A s H locs (wX ty o ad σ ++ (wS ty ad τ ++ ([(ad 31, .inr (10, [.int 1, .ref a, .int 1]))] ++ ([(a, .inl (ty 7, 10, .inr (.inr (.inr (.inr (va_up (fun _ => none) 0 none))))))] ++ rs)))) := by simpa only [List.append_nil] using h
  refine lv_pop C.x C.b dX0_image_34 rfl ?_
  refine lv_goto (tgt := 15) C.x C.b dX0_image_35 (by decide) ?_
  refine lv_aload_n C.x C.b dX0_image_15 rfl (lv_at hl 0 rfl) ?_
  refine x_g31 C h dX0_image_16 ?_
  have h : Hw D A s H locs ([(ad 31, .inr (10, [.int 1, .ref a, .int 1]))] ++ (wX ty o ad σ ++ (wS ty ad τ ++ ([(a, .inl (ty 7, 10, .inr (.inr (.inr (.inr (va_up (fun _ => none) 0 none))))))] ++ rs)))) := Hw.perm ((List.Perm.append_left _ (List.perm_append_comm_assoc _ _ _)).trans (List.perm_append_comm_assoc _ _ _)) h
  refine KI.callV (As := []) (rest := []) C (kJ_size l) (lw_V q1357 q1358 q1359 q146 q1360) ⟨rfl, by decide, by decide, by show _ = some 0; decide +kernel⟩ 0 10 rfl rfl rfl (Nat.le_of_ble_eq_true rfl) (by decide) (by omega) (by omega) h hl.1 rfl (Nat.le_of_ble_eq_true rfl) dX0_image_19 (fun H locs h => ?_)
  have h : Hw D A s H locs (wX ty o ad σ ++ (wS ty ad τ ++ ([(ad 31, .inr (10, [.int 1, .ref a, .int 1]))] ++ ([(a, .inl (ty 7, 10, .inr (.inr (.inr (.inr (va_up (fun _ => none) 0 none))))))] ++ rs)))) := Hw.perm ((List.perm_append_comm_assoc _ _ _).trans (List.Perm.append_left _ (List.perm_append_comm_assoc _ _ _))) h
  refine lv_iconst (v := 3) C.x C.b dX0_image_22 (by decide) ?_
  refine lv_icmp_ge (tgt := 38) C.x C.b dX0_image_23 (by decide) (fun c9 => ?_) (fun c9 => ?_)
  · exact absurd c9 (by decide)
  refine lv_aload_n C.x C.b dX0_image_26 rfl (lv_at hl 0 rfl) ?_
  refine x_g31 C h dX0_image_27 ?_
  refine lv_null C.x C.b dX0_image_30 ?_
  have h : Hw D A s H locs (wX ty o ad σ ++ (wS ty ad τ ++ ([(ad 31, .inr (10, [.int 1, .ref a, .int 1]))] ++ ([(a, .inl (ty 7, 10, .inr (.inr (.inr (.inr (va_up (fun _ => none) 0 none))))))] ++ (rs ++ []))))) := by simp only [List.append_nil]; exact h
  have h : Hw D A s H locs (wX ty o ad σ ++ (wS ty ad τ ++ (rs ++ ([(ad 31, .inr (10, [.int 1, .ref a, .int 1]))] ++ ([(a, .inl (ty 7, 10, .inr (.inr (.inr (.inr (va_up (fun _ => none) 0 none))))))] ++ []))))) := Hw.perm (List.Perm.append_left _ (List.Perm.append_left _ ((List.Perm.append_left _ (List.perm_append_comm_assoc _ _ _)).trans (List.perm_append_comm_assoc _ _ _)))) h
  have h : Hw D A s H locs ((wX ty o ad σ ++ (wS ty ad τ ++ rs)) ++ [(ad 31, .inr (10, [.int 1, .ref a, .int 1])), (a, .inl (ty 7, 10, .inr (.inr (.inr (.inr (va_up (fun _ => none) 0 none))))))]) := by simpa only [List.append_assoc, List.append_nil, List.cons_append, List.nil_append] using h
  refine KIx.callVf (wr := wX ty o ad σ ++ (wS ty ad τ ++ rs)) (As := [.null]) (rest := []) C (fun A => kJ_add1 l (n := 1) (by unfold vp_in; decide) (by decide)) (lw_V q1361 q1362 q1363 q146 q1364) ⟨rfl, by decide, by decide, by show _ = some 1; decide +kernel⟩ 0 10 rfl rfl rfl (Nat.le_of_ble_eq_true rfl) (by decide) (by omega) (by omega) h hl.1 rfl (Nat.le_of_ble_eq_true rfl) dX0_image_31 (fun r9 _ H locs hr9 h => ?_)
  have h : Hw D A s H locs ((wX ty o ad σ ++ (wS ty ad τ ++ rs)) ++ [(ad 31, .inr (10, [.int 2, .ref a, .int 2])), (a, .inl (ty 7, 10, .inr (.inr (.inr (.inr (va_up (va_up (fun _ => none) 0 none) 1 none))))))]) := h
  have h : Hw D A s H locs (wX ty o ad σ ++ (wS ty ad τ ++ (rs ++ ([(ad 31, .inr (10, [.int 2, .ref a, .int 2]))] ++ ([(a, .inl (ty 7, 10, .inr (.inr (.inr (.inr (va_up (va_up (fun _ => none) 0 none) 1 none))))))] ++ []))))) := by simpa only [List.append_assoc, List.append_nil, List.cons_append, List.nil_append] using h
  have h : Hw D A s H locs (wX ty o ad σ ++ (wS ty ad τ ++ ([(ad 31, .inr (10, [.int 2, .ref a, .int 2]))] ++ ([(a, .inl (ty 7, 10, .inr (.inr (.inr (.inr (va_up (va_up (fun _ => none) 0 none) 1 none))))))] ++ (rs ++ []))))) := Hw.perm (List.Perm.append_left _ (List.Perm.append_left _ ((List.perm_append_comm_assoc _ _ _).trans (List.Perm.append_left _ (List.perm_append_comm_assoc _ _ _))))) h
  have h : Hw D A s H locs (wX ty o ad σ ++ (wS ty ad τ ++ ([(ad 31, .inr (10, [.int 2, .ref a, .int 2]))] ++ ([(a, .inl (ty 7, 10, .inr (.inr (.inr (.inr (va_up (va_up (fun _ => none) 0 none) 1 none))))))] ++ rs)))) := by simpa only [List.append_nil] using h
  refine lv_pop C.x C.b dX0_image_34 rfl ?_
  refine lv_goto (tgt := 15) C.x C.b dX0_image_35 (by decide) ?_
  refine lv_aload_n C.x C.b dX0_image_15 rfl (lv_at hl 0 rfl) ?_
  refine x_g31 C h dX0_image_16 ?_
  have h : Hw D A s H locs ([(ad 31, .inr (10, [.int 2, .ref a, .int 2]))] ++ (wX ty o ad σ ++ (wS ty ad τ ++ ([(a, .inl (ty 7, 10, .inr (.inr (.inr (.inr (va_up (va_up (fun _ => none) 0 none) 1 none))))))] ++ rs)))) := Hw.perm ((List.Perm.append_left _ (List.perm_append_comm_assoc _ _ _)).trans (List.perm_append_comm_assoc _ _ _)) h
  refine KI.callV (As := []) (rest := []) C (kJ_size l) (lw_V q1357 q1358 q1359 q146 q1360) ⟨rfl, by decide, by decide, by show _ = some 0; decide +kernel⟩ 0 10 rfl rfl rfl (Nat.le_of_ble_eq_true rfl) (by decide) (by omega) (by omega) h hl.1 rfl (Nat.le_of_ble_eq_true rfl) dX0_image_19 (fun H locs h => ?_)
  have h : Hw D A s H locs (wX ty o ad σ ++ (wS ty ad τ ++ ([(ad 31, .inr (10, [.int 2, .ref a, .int 2]))] ++ ([(a, .inl (ty 7, 10, .inr (.inr (.inr (.inr (va_up (va_up (fun _ => none) 0 none) 1 none))))))] ++ rs)))) := Hw.perm ((List.perm_append_comm_assoc _ _ _).trans (List.Perm.append_left _ (List.perm_append_comm_assoc _ _ _))) h
  refine lv_iconst (v := 3) C.x C.b dX0_image_22 (by decide) ?_
  refine lv_icmp_ge (tgt := 38) C.x C.b dX0_image_23 (by decide) (fun c9 => ?_) (fun c9 => ?_)
  · exact absurd c9 (by decide)
  refine lv_aload_n C.x C.b dX0_image_26 rfl (lv_at hl 0 rfl) ?_
  refine x_g31 C h dX0_image_27 ?_
  refine lv_null C.x C.b dX0_image_30 ?_
  have h : Hw D A s H locs (wX ty o ad σ ++ (wS ty ad τ ++ ([(ad 31, .inr (10, [.int 2, .ref a, .int 2]))] ++ ([(a, .inl (ty 7, 10, .inr (.inr (.inr (.inr (va_up (va_up (fun _ => none) 0 none) 1 none))))))] ++ (rs ++ []))))) := by simp only [List.append_nil]; exact h
  have h : Hw D A s H locs (wX ty o ad σ ++ (wS ty ad τ ++ (rs ++ ([(ad 31, .inr (10, [.int 2, .ref a, .int 2]))] ++ ([(a, .inl (ty 7, 10, .inr (.inr (.inr (.inr (va_up (va_up (fun _ => none) 0 none) 1 none))))))] ++ []))))) := Hw.perm (List.Perm.append_left _ (List.Perm.append_left _ ((List.Perm.append_left _ (List.perm_append_comm_assoc _ _ _)).trans (List.perm_append_comm_assoc _ _ _)))) h
  have h : Hw D A s H locs ((wX ty o ad σ ++ (wS ty ad τ ++ rs)) ++ [(ad 31, .inr (10, [.int 2, .ref a, .int 2])), (a, .inl (ty 7, 10, .inr (.inr (.inr (.inr (va_up (va_up (fun _ => none) 0 none) 1 none))))))]) := by simpa only [List.append_assoc, List.append_nil, List.cons_append, List.nil_append] using h
  refine KIx.callVf (wr := wX ty o ad σ ++ (wS ty ad τ ++ rs)) (As := [.null]) (rest := []) C (fun A => kJ_add1 l (n := 2) (by unfold vp_in; decide) (by decide)) (lw_V q1361 q1362 q1363 q146 q1364) ⟨rfl, by decide, by decide, by show _ = some 1; decide +kernel⟩ 0 10 rfl rfl rfl (Nat.le_of_ble_eq_true rfl) (by decide) (by omega) (by omega) h hl.1 rfl (Nat.le_of_ble_eq_true rfl) dX0_image_31 (fun r9 _ H locs hr9 h => ?_)
  have h : Hw D A s H locs ((wX ty o ad σ ++ (wS ty ad τ ++ rs)) ++ [(ad 31, .inr (10, [.int 3, .ref a, .int 3])), (a, .inl (ty 7, 10, .inr (.inr (.inr (.inr (va_up (va_up (va_up (fun _ => none) 0 none) 1 none) 2 none))))))]) := h
  have h : Hw D A s H locs (wX ty o ad σ ++ (wS ty ad τ ++ (rs ++ ([(ad 31, .inr (10, [.int 3, .ref a, .int 3]))] ++ ([(a, .inl (ty 7, 10, .inr (.inr (.inr (.inr (va_up (va_up (va_up (fun _ => none) 0 none) 1 none) 2 none))))))] ++ []))))) := by simpa only [List.append_assoc, List.append_nil, List.cons_append, List.nil_append] using h
  have h : Hw D A s H locs (wX ty o ad σ ++ (wS ty ad τ ++ ([(ad 31, .inr (10, [.int 3, .ref a, .int 3]))] ++ ([(a, .inl (ty 7, 10, .inr (.inr (.inr (.inr (va_up (va_up (va_up (fun _ => none) 0 none) 1 none) 2 none))))))] ++ (rs ++ []))))) := Hw.perm (List.Perm.append_left _ (List.Perm.append_left _ ((List.perm_append_comm_assoc _ _ _).trans (List.Perm.append_left _ (List.perm_append_comm_assoc _ _ _))))) h
  have h : Hw D A s H locs (wX ty o ad σ ++ (wS ty ad τ ++ ([(ad 31, .inr (10, [.int 3, .ref a, .int 3]))] ++ ([(a, .inl (ty 7, 10, .inr (.inr (.inr (.inr (va_up (va_up (va_up (fun _ => none) 0 none) 1 none) 2 none))))))] ++ rs)))) := by simpa only [List.append_nil] using h
  refine lv_pop C.x C.b dX0_image_34 rfl ?_
  refine lv_goto (tgt := 15) C.x C.b dX0_image_35 (by decide) ?_
  have h : Hw D A s H locs ([(a, .inl (ty 7, 10, .inr (.inr (.inr (.inr (va_up (va_up (va_up (fun _ => none) 0 none) 1 none) 2 none))))))] ++ (wX ty o ad σ ++ (wS ty ad τ ++ ([(ad 31, .inr (10, [.int 3, .ref a, .int 3]))] ++ rs)))) := Hw.perm ((List.Perm.append_left _ ((List.Perm.append_left _ (List.perm_append_comm_assoc _ _ _)).trans (List.perm_append_comm_assoc _ _ _))).trans (List.perm_append_comm_assoc _ _ _)) h
  have e10 : ∀ j, j < 10 → (va_up (va_up (va_up (fun _ => none) 0 none) 1 none) 2 none : Nat → Option Nat) j = fImg (fun _ => none) j := by
    intro j hj
    have e9 : fImg (fun _ => none) j = none := by unfold fImg; split <;> rfl
    rw [e9]
    unfold va_up
    split
    · rfl
    split
    · rfl
    split
    · rfl
    rfl
  have h : Hw D A s H locs ([(a, .inl (ty 7, 10, .inr (.inr (.inr (.inr (fImg (fun _ => none)))))))] ++ (wX ty o ad σ ++ (wS ty ad τ ++ ([(ad 31, .inr (10, [.int 3, .ref a, .int 3]))] ++ rs)))) := h.refn 0 rfl e10
  have h : Hw D A s H locs (wX ty o ad σ ++ (wS ty ad τ ++ ([(ad 31, .inr (10, [.int 3, .ref a, .int 3]))] ++ ([(a, .inl (ty 7, 10, .inr (.inr (.inr (.inr (fImg (fun _ => none)))))))] ++ rs)))) := Hw.perm ((List.perm_append_comm_assoc _ _ _).trans (List.Perm.append_left _ ((List.perm_append_comm_assoc _ _ _).trans (List.Perm.append_left _ (List.perm_append_comm_assoc _ _ _))))) h
  obtain ⟨adn, eadn⟩ : ∃ f, f = va_up ad 32 a := ⟨_, rfl⟩
  have h : Hw D A s H locs (wX ty o adn σ ++ (wS ty adn τ ++ ([lst3 adn] ++ ([dat3 ty adn (fImg (fun _ => none))] ++ ((wLo ty ((fun _ => none : Nat → Option ((Nat → Nat) × PS)) 0)) ++ ((wLo ty ((fun _ => none : Nat → Option ((Nat → Nat) × PS)) 1)) ++ ((wLo ty ((fun _ => none : Nat → Option ((Nat → Nat) × PS)) 2)) ++ rs))))))) := by rw [eadn]; exact h
  refine lv_aload_n C.x C.b dX0_image_15 rfl (lv_at hl 0 rfl) ?_
  refine x_g31 C h dX0_image_16 ?_
  have h : Hw D A s H locs ([lst3 adn] ++ (wX ty o adn σ ++ (wS ty adn τ ++ ([dat3 ty adn (fImg (fun _ => none))] ++ ((wLo ty ((fun _ => none : Nat → Option ((Nat → Nat) × PS)) 0)) ++ ((wLo ty ((fun _ => none : Nat → Option ((Nat → Nat) × PS)) 1)) ++ ((wLo ty ((fun _ => none : Nat → Option ((Nat → Nat) × PS)) 2)) ++ rs))))))) := Hw.perm ((List.Perm.append_left _ (List.perm_append_comm_assoc _ _ _)).trans (List.perm_append_comm_assoc _ _ _)) h
  refine KI.callV (As := []) (rest := []) C (kJ_size l) (lw_V q1357 q1358 q1359 q146 q1360) ⟨rfl, by decide, by decide, by show _ = some 0; decide +kernel⟩ 0 10 rfl rfl rfl (Nat.le_of_ble_eq_true rfl) (by decide) (by omega) (by omega) h hl.1 rfl (Nat.le_of_ble_eq_true rfl) dX0_image_19 (fun H locs h => ?_)
  have h : Hw D A s H locs (wX ty o adn σ ++ (wS ty adn τ ++ ([lst3 adn] ++ ([dat3 ty adn (fImg (fun _ => none))] ++ ((wLo ty ((fun _ => none : Nat → Option ((Nat → Nat) × PS)) 0)) ++ ((wLo ty ((fun _ => none : Nat → Option ((Nat → Nat) × PS)) 1)) ++ ((wLo ty ((fun _ => none : Nat → Option ((Nat → Nat) × PS)) 2)) ++ rs))))))) := Hw.perm ((List.perm_append_comm_assoc _ _ _).trans (List.Perm.append_left _ (List.perm_append_comm_assoc _ _ _))) h
  refine lv_iconst (v := 3) C.x C.b dX0_image_22 (by decide) ?_
  refine lv_icmp_ge (tgt := 38) C.x C.b dX0_image_23 (by decide) (fun c9 => ?_) (fun c9 => ?_)
  rotate_left
  · exact absurd (by decide) c9
  refine lv_aload_n C.x C.b dX0_image_38 rfl (lv_at hl 0 rfl) ?_
  refine x_g31 C h dX0_image_39 ?_
  refine lv_iload_n C.x C.b dX0_image_42 rfl (lv_at hl 1 rfl) ?_
  refine lv_aload_n C.x C.b dX0_image_43 rfl (lv_at hl 0 rfl) ?_
  refine x_g0 C h dX0_image_44 ?_
  have h : Hw D A s H locs (wBelt ty o adn σ ++ (wLehr ty adn σ ++ (wS ty adn τ ++ ([lst3 adn] ++ ([dat3 ty adn (fImg (fun _ => none))] ++ ((wLo ty ((fun _ => none : Nat → Option ((Nat → Nat) × PS)) 0)) ++ ((wLo ty ((fun _ => none : Nat → Option ((Nat → Nat) × PS)) 1)) ++ ((wLo ty ((fun _ => none : Nat → Option ((Nat → Nat) × PS)) 2)) ++ rs)))))))) := by rw [wX_split, List.append_assoc] at h; exact h
  have h : Hw D A s H locs (wBelt ty o adn σ ++ (wLehr ty adn σ ++ (wS ty adn τ ++ ([lst3 adn] ++ ([dat3 ty adn (fImg (fun _ => none))] ++ ((wLo ty ((fun _ => none : Nat → Option ((Nat → Nat) × PS)) 0)) ++ ((wLo ty ((fun _ => none : Nat → Option ((Nat → Nat) × PS)) 1)) ++ ((wLo ty ((fun _ => none : Nat → Option ((Nat → Nat) × PS)) 2)) ++ (rs ++ []))))))))) := by simp only [List.append_nil]; exact h
  have h : Hw D A s H locs (wBelt ty o adn σ ++ (wS ty adn τ ++ ([lst3 adn] ++ ([dat3 ty adn (fImg (fun _ => none))] ++ ((wLo ty ((fun _ => none : Nat → Option ((Nat → Nat) × PS)) 0)) ++ ((wLo ty ((fun _ => none : Nat → Option ((Nat → Nat) × PS)) 1)) ++ ((wLo ty ((fun _ => none : Nat → Option ((Nat → Nat) × PS)) 2)) ++ (rs ++ (wLehr ty adn σ ++ []))))))))) := Hw.perm (List.Perm.append_left _ ((List.perm_append_comm_assoc _ _ _).trans (List.Perm.append_left _ ((List.perm_append_comm_assoc _ _ _).trans (List.Perm.append_left _ ((List.perm_append_comm_assoc _ _ _).trans (List.Perm.append_left _ ((List.perm_append_comm_assoc _ _ _).trans (List.Perm.append_left _ ((List.perm_append_comm_assoc _ _ _).trans (List.Perm.append_left _ ((List.perm_append_comm_assoc _ _ _).trans (List.Perm.append_left _ (List.perm_append_comm_assoc _ _ _)))))))))))))) h
  have h : Hw D A s H locs ((wBelt ty o adn σ ++ (wS ty adn τ ++ ([lst3 adn] ++ ([dat3 ty adn (fImg (fun _ => none))] ++ ((wLo ty ((fun _ => none : Nat → Option ((Nat → Nat) × PS)) 0)) ++ ((wLo ty ((fun _ => none : Nat → Option ((Nat → Nat) × PS)) 1)) ++ ((wLo ty ((fun _ => none : Nat → Option ((Nat → Nat) × PS)) 2)) ++ rs))))))) ++ (wLehr ty adn σ ++ [])) := by simpa only [List.append_assoc] using h
  refine KRx.callVf (wr := wBelt ty o adn σ ++ (wS ty adn τ ++ ([lst3 adn] ++ ([dat3 ty adn (fImg (fun _ => none))] ++ ((wLo ty ((fun _ => none : Nat → Option ((Nat → Nat) × PS)) 0)) ++ ((wLo ty ((fun _ => none : Nat → Option ((Nat → Nat) × PS)) 1)) ++ ((wLo ty ((fun _ => none : Nat → Option ((Nat → Nat) × PS)) 2)) ++ rs))))))) (As := []) (rest := [.int k, .ref (adn 31)]) C (fun A => kL_copy l (rs := [])) (lw_V q1418 q1419 q1420 q138 q1421) ⟨rfl, by decide, by decide, by show _ = some 0; decide +kernel⟩ 0 1 rfl rfl rfl (Nat.le_of_ble_eq_true rfl) (by decide) (by omega) (by omega) h hl.1 rfl (Nat.le_of_ble_eq_true rfl) dX0_image_47 (fun a9 ra H locs _ h => ?_)
  obtain ⟨a2, ea2⟩ : ∃ f, f = va_up a9 0 ra := ⟨_, rfl⟩
  have ha2 : a2 0 = ra := by rw [ea2]; rfl
  rw [← ea2] at h
  rw [← ha2]
  have h : Hw D A s H locs (wBelt ty o adn σ ++ (wS ty adn τ ++ ([lst3 adn] ++ ([dat3 ty adn (fImg (fun _ => none))] ++ ((wLo ty ((fun _ => none : Nat → Option ((Nat → Nat) × PS)) 0)) ++ ((wLo ty ((fun _ => none : Nat → Option ((Nat → Nat) × PS)) 1)) ++ ((wLo ty ((fun _ => none : Nat → Option ((Nat → Nat) × PS)) 2)) ++ (rs ++ (wLehr ty adn σ ++ (wLehr ty a2 (cpL6 σ) ++ [])))))))))) := by simpa only [List.append_assoc] using h
  have h : Hw D A s H locs (wBelt ty o adn σ ++ (wS ty adn τ ++ ([lst3 adn] ++ ([dat3 ty adn (fImg (fun _ => none))] ++ ((wLo ty ((fun _ => none : Nat → Option ((Nat → Nat) × PS)) 0)) ++ ((wLo ty ((fun _ => none : Nat → Option ((Nat → Nat) × PS)) 1)) ++ ((wLo ty ((fun _ => none : Nat → Option ((Nat → Nat) × PS)) 2)) ++ (rs ++ (wLehr ty adn σ ++ ([(a2 0, .inr (1, fL a2 (cpL6 σ)))] ++ ((wLehr ty a2 (cpL6 σ)).tail ++ []))))))))))) := h
  have h : Hw D A s H locs (wBelt ty o adn σ ++ (wS ty adn τ ++ ((wLo ty ((fun _ => none : Nat → Option ((Nat → Nat) × PS)) 0)) ++ ((wLo ty ((fun _ => none : Nat → Option ((Nat → Nat) × PS)) 1)) ++ ((wLo ty ((fun _ => none : Nat → Option ((Nat → Nat) × PS)) 2)) ++ (rs ++ (wLehr ty adn σ ++ ((wLehr ty a2 (cpL6 σ)).tail ++ ([lst3 adn] ++ ([dat3 ty adn (fImg (fun _ => none))] ++ ([(a2 0, .inr (1, fL a2 (cpL6 σ)))] ++ []))))))))))) := Hw.perm (List.Perm.append_left _ (List.Perm.append_left _ (((List.Perm.append_left _ (List.perm_append_comm_assoc _ _ _)).trans (List.perm_append_comm_assoc _ _ _)).trans (List.Perm.append_left _ (((List.Perm.append_left _ (List.perm_append_comm_assoc _ _ _)).trans (List.perm_append_comm_assoc _ _ _)).trans (List.Perm.append_left _ (((List.Perm.append_left _ (List.perm_append_comm_assoc _ _ _)).trans (List.perm_append_comm_assoc _ _ _)).trans (List.Perm.append_left _ (((List.Perm.append_left _ (List.perm_append_comm_assoc _ _ _)).trans (List.perm_append_comm_assoc _ _ _)).trans (List.Perm.append_left _ (((List.Perm.append_left _ (List.perm_append_comm_assoc _ _ _)).trans (List.perm_append_comm_assoc _ _ _)).trans (List.Perm.append_left _ ((List.Perm.append_left _ ((List.Perm.append_left _ (List.perm_append_comm_assoc _ _ _)).trans (List.perm_append_comm_assoc _ _ _))).trans (List.perm_append_comm_assoc _ _ _)))))))))))))) h
  have h : Hw D A s H locs ((wBelt ty o adn σ ++ (wS ty adn τ ++ ((wLo ty ((fun _ => none : Nat → Option ((Nat → Nat) × PS)) 0)) ++ ((wLo ty ((fun _ => none : Nat → Option ((Nat → Nat) × PS)) 1)) ++ ((wLo ty ((fun _ => none : Nat → Option ((Nat → Nat) × PS)) 2)) ++ (rs ++ (wLehr ty adn σ ++ (wLehr ty a2 (cpL6 σ)).tail))))))) ++ [(adn 31, .inr (10, [.int 3, .ref (adn 32), .int 3])), (adn 32, .inl (ty 7, 10, .inr (.inr (.inr (.inr (fImg (fun _ => none))))))), (a2 0, .inr (1, fL a2 (cpL6 σ)))]) := by simpa only [List.append_assoc, List.append_nil, List.cons_append, List.nil_append, lst3, dat3] using h
  refine KQx.callV (wr := wBelt ty o adn σ ++ (wS ty adn τ ++ ((wLo ty ((fun _ => none : Nat → Option ((Nat → Nat) × PS)) 0)) ++ ((wLo ty ((fun _ => none : Nat → Option ((Nat → Nat) × PS)) 1)) ++ ((wLo ty ((fun _ => none : Nat → Option ((Nat → Nat) × PS)) 2)) ++ (rs ++ (wLehr ty adn σ ++ (wLehr ty a2 (cpL6 σ)).tail))))))) (As := [.int k, .ref (a2 0)]) (rest := []) C (fun A => kJ_set l h0 h1 hi) (lw_V q1425 q1426 q1427 q146 q1428) ⟨rfl, by decide, by decide, by show _ = some 2; decide +kernel⟩ 0 10 rfl rfl rfl (Nat.le_of_ble_eq_true rfl) (by decide) (by omega) (by omega) h hl.1 rfl (Nat.le_of_ble_eq_true rfl) dX0_image_50 (fun r9 _ H locs _ h => ?_)
  refine lv_pop C.x C.b dX0_image_53 (by cases r9 <;> rfl) ?_
  refine lv_iconst (v := 0) C.x C.b dX0_image_54 (by decide) ?_
  have hk3 : k.toNatClampNeg < 3 := k3_of hi h1
  obtain ⟨j, ej⟩ : ∃ j, j = k.toNatClampNeg := ⟨_, rfl⟩
  rw [← ej] at h hk3
  rw [fImg_up hk3 a2 (cpL6 σ)] at h
  have h : Hw D A s H locs (wBelt ty o adn σ ++ (wS ty adn τ ++ ((wLo ty ((fun _ => none : Nat → Option ((Nat → Nat) × PS)) 0)) ++ ((wLo ty ((fun _ => none : Nat → Option ((Nat → Nat) × PS)) 1)) ++ ((wLo ty ((fun _ => none : Nat → Option ((Nat → Nat) × PS)) 2)) ++ (rs ++ (wLehr ty adn σ ++ ((wLehr ty a2 (cpL6 σ)).tail ++ ([lst3 adn] ++ ([dat3 ty adn (fImg (va_up (fun _ => none) j (some (a2, cpL6 σ))))] ++ ([(a2 0, .inr (1, fL a2 (cpL6 σ)))] ++ []))))))))))) := by simpa only [List.append_assoc, List.append_nil, List.cons_append, List.nil_append, lst3, dat3] using h
  refine hR 0 (a, a2) _ _ _ _ rfl ?_ (vp_nar_int _) dX0_image_55
  rw [← ej, ← eadn]
  have h4 : j = 0 ∨ j = 1 ∨ j = 2 := by omega
  rcases h4 with h4 | h4 | h4
  · subst h4
    have h : Hw D A s H locs (wBelt ty o adn σ ++ (wLehr ty adn σ ++ (wS ty adn τ ++ ([lst3 adn] ++ ([dat3 ty adn (fImg (va_up (fun _ => none) 0 (some (a2, cpL6 σ))))] ++ ([(a2 0, .inr (1, fL a2 (cpL6 σ)))] ++ ((wLehr ty a2 (cpL6 σ)).tail ++ ((wLo ty ((fun _ => none : Nat → Option ((Nat → Nat) × PS)) 1)) ++ ((wLo ty ((fun _ => none : Nat → Option ((Nat → Nat) × PS)) 2)) ++ (rs ++ ((wLo ty ((fun _ => none : Nat → Option ((Nat → Nat) × PS)) 0)) ++ []))))))))))) := Hw.perm (List.Perm.append_left _ (((List.Perm.append_left _ ((List.Perm.append_left _ ((List.Perm.append_left _ ((List.Perm.append_left _ (List.perm_append_comm_assoc _ _ _)).trans (List.perm_append_comm_assoc _ _ _))).trans (List.perm_append_comm_assoc _ _ _))).trans (List.perm_append_comm_assoc _ _ _))).trans (List.perm_append_comm_assoc _ _ _)).trans (List.Perm.append_left _ (List.Perm.append_left _ (((List.Perm.append_left _ ((List.Perm.append_left _ ((List.Perm.append_left _ ((List.Perm.append_left _ (List.perm_append_comm_assoc _ _ _)).trans (List.perm_append_comm_assoc _ _ _))).trans (List.perm_append_comm_assoc _ _ _))).trans (List.perm_append_comm_assoc _ _ _))).trans (List.perm_append_comm_assoc _ _ _)).trans (List.Perm.append_left _ (((List.Perm.append_left _ ((List.Perm.append_left _ ((List.Perm.append_left _ ((List.Perm.append_left _ (List.perm_append_comm_assoc _ _ _)).trans (List.perm_append_comm_assoc _ _ _))).trans (List.perm_append_comm_assoc _ _ _))).trans (List.perm_append_comm_assoc _ _ _))).trans (List.perm_append_comm_assoc _ _ _)).trans (List.Perm.append_left _ (((List.Perm.append_left _ ((List.Perm.append_left _ ((List.Perm.append_left _ ((List.Perm.append_left _ (List.perm_append_comm_assoc _ _ _)).trans (List.perm_append_comm_assoc _ _ _))).trans (List.perm_append_comm_assoc _ _ _))).trans (List.perm_append_comm_assoc _ _ _))).trans (List.perm_append_comm_assoc _ _ _)).trans (List.Perm.append_left _ (((List.Perm.append_left _ ((List.Perm.append_left _ ((List.Perm.append_left _ (List.perm_append_comm_assoc _ _ _)).trans (List.perm_append_comm_assoc _ _ _))).trans (List.perm_append_comm_assoc _ _ _))).trans (List.perm_append_comm_assoc _ _ _)).trans (List.Perm.append_left _ ((List.perm_append_comm_assoc _ _ _).trans (List.Perm.append_left _ ((List.perm_append_comm_assoc _ _ _).trans (List.Perm.append_left _ (List.perm_append_comm_assoc _ _ _))))))))))))))))) h
    have h : Hw D A s H locs ((wBelt ty o adn σ ++ (wLehr ty adn σ ++ (wS ty adn τ ++ ([lst3 adn] ++ ([dat3 ty adn (fImg (va_up (fun _ => none) 0 (some (a2, cpL6 σ))))] ++ ([(a2 0, .inr (1, fL a2 (cpL6 σ)))] ++ ((wLehr ty a2 (cpL6 σ)).tail ++ ((wLo ty ((fun _ => none : Nat → Option ((Nat → Nat) × PS)) 1)) ++ ((wLo ty ((fun _ => none : Nat → Option ((Nat → Nat) × PS)) 2)) ++ rs))))))))) ++ (wLo ty ((fun _ => none : Nat → Option ((Nat → Nat) × PS)) 0))) := by simpa only [List.append_assoc, List.append_nil] using h
    have h := h.left
    show Hw D A s H locs (wX ty o adn σ ++ (wS ty adn τ ++ (([lst3 adn, dat3 ty adn (fImg (va_up (fun _ => none) 0 (some (a2, cpL6 σ))))] ++ (wLehr ty a2 (cpL6 σ) ++ ((wLo ty ((fun _ => none : Nat → Option ((Nat → Nat) × PS)) 1)) ++ (wLo ty ((fun _ => none : Nat → Option ((Nat → Nat) × PS)) 2))))) ++ rs)))
    rw [wX_split]
    simp only [List.append_assoc]
    exact h
  · subst h4
    have h : Hw D A s H locs (wBelt ty o adn σ ++ (wLehr ty adn σ ++ (wS ty adn τ ++ ([lst3 adn] ++ ([dat3 ty adn (fImg (va_up (fun _ => none) 1 (some (a2, cpL6 σ))))] ++ ((wLo ty ((fun _ => none : Nat → Option ((Nat → Nat) × PS)) 0)) ++ ([(a2 0, .inr (1, fL a2 (cpL6 σ)))] ++ ((wLehr ty a2 (cpL6 σ)).tail ++ ((wLo ty ((fun _ => none : Nat → Option ((Nat → Nat) × PS)) 2)) ++ (rs ++ ((wLo ty ((fun _ => none : Nat → Option ((Nat → Nat) × PS)) 1)) ++ []))))))))))) := Hw.perm (List.Perm.append_left _ (((List.Perm.append_left _ ((List.Perm.append_left _ ((List.Perm.append_left _ ((List.Perm.append_left _ (List.perm_append_comm_assoc _ _ _)).trans (List.perm_append_comm_assoc _ _ _))).trans (List.perm_append_comm_assoc _ _ _))).trans (List.perm_append_comm_assoc _ _ _))).trans (List.perm_append_comm_assoc _ _ _)).trans (List.Perm.append_left _ (List.Perm.append_left _ (((List.Perm.append_left _ ((List.Perm.append_left _ ((List.Perm.append_left _ ((List.Perm.append_left _ (List.perm_append_comm_assoc _ _ _)).trans (List.perm_append_comm_assoc _ _ _))).trans (List.perm_append_comm_assoc _ _ _))).trans (List.perm_append_comm_assoc _ _ _))).trans (List.perm_append_comm_assoc _ _ _)).trans (List.Perm.append_left _ (((List.Perm.append_left _ ((List.Perm.append_left _ ((List.Perm.append_left _ ((List.Perm.append_left _ (List.perm_append_comm_assoc _ _ _)).trans (List.perm_append_comm_assoc _ _ _))).trans (List.perm_append_comm_assoc _ _ _))).trans (List.perm_append_comm_assoc _ _ _))).trans (List.perm_append_comm_assoc _ _ _)).trans (List.Perm.append_left _ (List.Perm.append_left _ (((List.Perm.append_left _ ((List.Perm.append_left _ ((List.Perm.append_left _ (List.perm_append_comm_assoc _ _ _)).trans (List.perm_append_comm_assoc _ _ _))).trans (List.perm_append_comm_assoc _ _ _))).trans (List.perm_append_comm_assoc _ _ _)).trans (List.Perm.append_left _ (((List.Perm.append_left _ ((List.Perm.append_left _ (List.perm_append_comm_assoc _ _ _)).trans (List.perm_append_comm_assoc _ _ _))).trans (List.perm_append_comm_assoc _ _ _)).trans (List.Perm.append_left _ ((List.perm_append_comm_assoc _ _ _).trans (List.Perm.append_left _ (List.perm_append_comm_assoc _ _ _)))))))))))))))) h
    have h : Hw D A s H locs ((wBelt ty o adn σ ++ (wLehr ty adn σ ++ (wS ty adn τ ++ ([lst3 adn] ++ ([dat3 ty adn (fImg (va_up (fun _ => none) 1 (some (a2, cpL6 σ))))] ++ ((wLo ty ((fun _ => none : Nat → Option ((Nat → Nat) × PS)) 0)) ++ ([(a2 0, .inr (1, fL a2 (cpL6 σ)))] ++ ((wLehr ty a2 (cpL6 σ)).tail ++ ((wLo ty ((fun _ => none : Nat → Option ((Nat → Nat) × PS)) 2)) ++ rs))))))))) ++ (wLo ty ((fun _ => none : Nat → Option ((Nat → Nat) × PS)) 1))) := by simpa only [List.append_assoc, List.append_nil] using h
    have h := h.left
    show Hw D A s H locs (wX ty o adn σ ++ (wS ty adn τ ++ (([lst3 adn, dat3 ty adn (fImg (va_up (fun _ => none) 1 (some (a2, cpL6 σ))))] ++ ((wLo ty ((fun _ => none : Nat → Option ((Nat → Nat) × PS)) 0)) ++ (wLehr ty a2 (cpL6 σ) ++ (wLo ty ((fun _ => none : Nat → Option ((Nat → Nat) × PS)) 2))))) ++ rs)))
    rw [wX_split]
    simp only [List.append_assoc]
    exact h
  · subst h4
    have h : Hw D A s H locs (wBelt ty o adn σ ++ (wLehr ty adn σ ++ (wS ty adn τ ++ ([lst3 adn] ++ ([dat3 ty adn (fImg (va_up (fun _ => none) 2 (some (a2, cpL6 σ))))] ++ ((wLo ty ((fun _ => none : Nat → Option ((Nat → Nat) × PS)) 0)) ++ ((wLo ty ((fun _ => none : Nat → Option ((Nat → Nat) × PS)) 1)) ++ ([(a2 0, .inr (1, fL a2 (cpL6 σ)))] ++ ((wLehr ty a2 (cpL6 σ)).tail ++ (rs ++ ((wLo ty ((fun _ => none : Nat → Option ((Nat → Nat) × PS)) 2)) ++ []))))))))))) := Hw.perm (List.Perm.append_left _ (((List.Perm.append_left _ ((List.Perm.append_left _ ((List.Perm.append_left _ ((List.Perm.append_left _ (List.perm_append_comm_assoc _ _ _)).trans (List.perm_append_comm_assoc _ _ _))).trans (List.perm_append_comm_assoc _ _ _))).trans (List.perm_append_comm_assoc _ _ _))).trans (List.perm_append_comm_assoc _ _ _)).trans (List.Perm.append_left _ (List.Perm.append_left _ (((List.Perm.append_left _ ((List.Perm.append_left _ ((List.Perm.append_left _ ((List.Perm.append_left _ (List.perm_append_comm_assoc _ _ _)).trans (List.perm_append_comm_assoc _ _ _))).trans (List.perm_append_comm_assoc _ _ _))).trans (List.perm_append_comm_assoc _ _ _))).trans (List.perm_append_comm_assoc _ _ _)).trans (List.Perm.append_left _ (((List.Perm.append_left _ ((List.Perm.append_left _ ((List.Perm.append_left _ ((List.Perm.append_left _ (List.perm_append_comm_assoc _ _ _)).trans (List.perm_append_comm_assoc _ _ _))).trans (List.perm_append_comm_assoc _ _ _))).trans (List.perm_append_comm_assoc _ _ _))).trans (List.perm_append_comm_assoc _ _ _)).trans (List.Perm.append_left _ (List.Perm.append_left _ (List.Perm.append_left _ (((List.Perm.append_left _ ((List.Perm.append_left _ (List.perm_append_comm_assoc _ _ _)).trans (List.perm_append_comm_assoc _ _ _))).trans (List.perm_append_comm_assoc _ _ _)).trans (List.Perm.append_left _ (((List.Perm.append_left _ (List.perm_append_comm_assoc _ _ _)).trans (List.perm_append_comm_assoc _ _ _)).trans (List.Perm.append_left _ (List.perm_append_comm_assoc _ _ _))))))))))))))) h
    have h : Hw D A s H locs ((wBelt ty o adn σ ++ (wLehr ty adn σ ++ (wS ty adn τ ++ ([lst3 adn] ++ ([dat3 ty adn (fImg (va_up (fun _ => none) 2 (some (a2, cpL6 σ))))] ++ ((wLo ty ((fun _ => none : Nat → Option ((Nat → Nat) × PS)) 0)) ++ ((wLo ty ((fun _ => none : Nat → Option ((Nat → Nat) × PS)) 1)) ++ ([(a2 0, .inr (1, fL a2 (cpL6 σ)))] ++ ((wLehr ty a2 (cpL6 σ)).tail ++ rs))))))))) ++ (wLo ty ((fun _ => none : Nat → Option ((Nat → Nat) × PS)) 2))) := by simpa only [List.append_assoc, List.append_nil] using h
    have h := h.left
    show Hw D A s H locs (wX ty o adn σ ++ (wS ty adn τ ++ (([lst3 adn, dat3 ty adn (fImg (va_up (fun _ => none) 2 (some (a2, cpL6 σ))))] ++ ((wLo ty ((fun _ => none : Nat → Option ((Nat → Nat) × PS)) 0)) ++ ((wLo ty ((fun _ => none : Nat → Option ((Nat → Nat) × PS)) 1)) ++ wLehr ty a2 (cpL6 σ)))) ++ rs)))
    rw [wX_split]
    simp only [List.append_assoc]
    exact h
theorem kX_back_e (l : Launch) {D : va_G} {ty : Nat → ClassId} {A : Nat → Prop} {o : Nat} {ad : Nat → Nat} {rs : va_W} {σ τ : PS} {k qq : Int32} (hq : X_isIn k.toInt64 0 2 = some qq) (hq0 : ¬ qq = 0) (h0 : ¬ k < 0) (h1 : k < 3) (hi : vp_in k 10) : KIx l yX0_back cX0_back 2 .int 4 0 0 D ty A (wX ty o ad σ ++ (wS ty ad τ ++ (wI0 ty ad ++ rs))) [.ref o, .int k] (fun r (_ : Unit) => r = -6) (fun _ => wX ty o ad σ ++ (wS ty ad τ ++ (wI0 ty ad ++ rs))) := by
  refine KIx.of (by decide) (Nat.le_of_ble_eq_true rfl) ?_
  intro p e R s m args below meth c Q C hmc hms hR H locs ls h hl
  have C : Cx p R s m args c cX0_back 2 RX0 D ty A 4 := C
  have hl : lv_has ls 2 [(0, .ref o), (1, .int k)] := hl
  refine lv_iload_n C.x C.b dX0_back_0 rfl (lv_at hl 1 rfl) ?_
  refine lv_i2l C.x C.b dX0_back_1 rfl ?_
  refine lv_lconst (v := 0) C.x C.b dX0_back_2 (by decide) ?_
  refine lv_ldc2 (v := 2) C.x C.b C.own (C.ts _ q1356) dX0_back_3 ?_
  refine KI.callS (As := [.long k.toInt64, .long 0, .long 2]) (rest := []) C (kX_isIn l hq) tX_isIn ⟨by decide, by decide, by show _ = some 3; decide +kernel⟩ (Nat.le_of_ble_eq_true rfl) (by decide) (by omega) (by omega) h hl.1 rfl (Nat.le_of_ble_eq_true rfl) dX0_back_6 (fun H locs h => ?_)
  refine lv_if_ne (tgt := 15) C.x C.b dX0_back_9 (by decide) (fun c9 => ?_) (fun c9 => ?_)
  rotate_left
  · exact absurd c9 hq0
  have h : Hw D A s H locs (wX ty o ad σ ++ (wS ty ad τ ++ ([(ad 31, .inr (10, [.int 0, .ref (ty 400), .int 0]))] ++ rs))) := h
  refine lv_aload_n C.x C.b dX0_back_15 rfl (lv_at hl 0 rfl) ?_
  refine x_g31 C h dX0_back_16 ?_
  have h : Hw D A s H locs ([(ad 31, .inr (10, [.int 0, .ref (ty 400), .int 0]))] ++ (wX ty o ad σ ++ (wS ty ad τ ++ rs))) := Hw.perm ((List.Perm.append_left _ (List.perm_append_comm_assoc _ _ _)).trans (List.perm_append_comm_assoc _ _ _)) h
  refine KI.callV (As := []) (rest := []) C (kJ_isEmpty0 l (by decide)) (lw_V q1441 q1442 q1443 q146 q1444) ⟨rfl, by decide, by decide, by show _ = some 0; decide +kernel⟩ 0 10 rfl rfl rfl (Nat.le_of_ble_eq_true rfl) (by decide) (by omega) (by omega) h hl.1 rfl (Nat.le_of_ble_eq_true rfl) dX0_back_19 (fun H locs h => ?_)
  have h : Hw D A s H locs (wX ty o ad σ ++ (wS ty ad τ ++ ([(ad 31, .inr (10, [.int 0, .ref (ty 400), .int 0]))] ++ rs))) := Hw.perm ((List.perm_append_comm_assoc _ _ _).trans (List.Perm.append_left _ (List.perm_append_comm_assoc _ _ _))) h
  refine lv_if_ne (tgt := 36) C.x C.b dX0_back_22 (by decide) (fun c9 => ?_) (fun c9 => ?_)
  rotate_left
  · exact absurd c9 (by decide)
  refine lv_bipush (v := (-6)) C.x C.b dX0_back_36 (by decide) ?_
  exact hR _ () _ _ _ _ rfl h (vp_nar_int _) dX0_back_38
set_option maxHeartbeats 4000000 in
theorem kX_back_n (l : Launch) {D : va_G} {ty : Nat → ClassId} {A : Nat → Prop} {o : Nat} {ad : Nat → Nat} {rs : va_W} {σ τ : PS} {im : Nat → Option ((Nat → Nat) × PS)} {k qq : Int32} (hq : X_isIn k.toInt64 0 2 = some qq) (hq0 : ¬ qq = 0) (h0 : ¬ k < 0) (h1 : k < 3) (hi : vp_in k 10) (hn : im k.toNatClampNeg = none) : KIx l yX0_back cX0_back 2 .int 5 0 0 D ty A (wX ty o ad σ ++ (wS ty ad τ ++ (wI1 ty ad im ++ rs))) [.ref o, .int k] (fun r (_ : Unit) => r = -6) (fun _ => (wX ty o ad σ ++ (wS ty ad τ ++ (wI1 ty ad im ++ rs)))) := by
  refine KIx.of (by decide) (Nat.le_of_ble_eq_true rfl) ?_
  intro p e R s m args below meth c Q C hmc hms hR H locs ls h hl
  have C : Cx p R s m args c cX0_back 2 RX0 D ty A 5 := C
  have hl : lv_has ls 2 [(0, .ref o), (1, .int k)] := hl
  refine lv_iload_n C.x C.b dX0_back_0 rfl (lv_at hl 1 rfl) ?_
  refine lv_i2l C.x C.b dX0_back_1 rfl ?_
  refine lv_lconst (v := 0) C.x C.b dX0_back_2 (by decide) ?_
  refine lv_ldc2 (v := 2) C.x C.b C.own (C.ts _ q1356) dX0_back_3 ?_
  refine KI.callS (As := [.long k.toInt64, .long 0, .long 2]) (rest := []) C (kX_isIn l hq) tX_isIn ⟨by decide, by decide, by show _ = some 3; decide +kernel⟩ (Nat.le_of_ble_eq_true rfl) (by decide) (by omega) (by omega) h hl.1 rfl (Nat.le_of_ble_eq_true rfl) dX0_back_6 (fun H locs h => ?_)
  refine lv_if_ne (tgt := 15) C.x C.b dX0_back_9 (by decide) (fun c9 => ?_) (fun c9 => ?_)
  rotate_left
  · exact absurd c9 hq0
  have h : Hw D A s H locs (wX ty o ad σ ++ (wS ty ad τ ++ ([lst3 ad] ++ ([dat3 ty ad (fImg im)] ++ ((wLo ty (im 0)) ++ ((wLo ty (im 1)) ++ ((wLo ty (im 2)) ++ rs))))))) := by simpa only [wI1, List.append_assoc, List.cons_append, List.nil_append] using h
  refine lv_aload_n C.x C.b dX0_back_15 rfl (lv_at hl 0 rfl) ?_
  refine x_g31 C h dX0_back_16 ?_
  have h : Hw D A s H locs ([lst3 ad] ++ (wX ty o ad σ ++ (wS ty ad τ ++ ([dat3 ty ad (fImg im)] ++ ((wLo ty (im 0)) ++ ((wLo ty (im 1)) ++ ((wLo ty (im 2)) ++ rs))))))) := Hw.perm ((List.Perm.append_left _ (List.perm_append_comm_assoc _ _ _)).trans (List.perm_append_comm_assoc _ _ _)) h
  refine KI.callV (As := []) (rest := []) C (kJ_isEmpty1 l (by decide)) (lw_V q1441 q1442 q1443 q146 q1444) ⟨rfl, by decide, by decide, by show _ = some 0; decide +kernel⟩ 0 10 rfl rfl rfl (Nat.le_of_ble_eq_true rfl) (by decide) (by omega) (by omega) h hl.1 rfl (Nat.le_of_ble_eq_true rfl) dX0_back_19 (fun H locs h => ?_)
  have h : Hw D A s H locs (wX ty o ad σ ++ (wS ty ad τ ++ ([lst3 ad] ++ ([dat3 ty ad (fImg im)] ++ ((wLo ty (im 0)) ++ ((wLo ty (im 1)) ++ ((wLo ty (im 2)) ++ rs))))))) := Hw.perm ((List.perm_append_comm_assoc _ _ _).trans (List.Perm.append_left _ (List.perm_append_comm_assoc _ _ _))) h
  refine lv_if_ne (tgt := 36) C.x C.b dX0_back_22 (by decide) (fun c9 => ?_) (fun c9 => ?_)
  · exact absurd (by decide) c9
  refine lv_aload_n C.x C.b dX0_back_25 rfl (lv_at hl 0 rfl) ?_
  refine x_g31 C h dX0_back_26 ?_
  refine lv_iload_n C.x C.b dX0_back_29 rfl (lv_at hl 1 rfl) ?_
  have h : Hw D A s H locs (wX ty o ad σ ++ (wS ty ad τ ++ ([lst3 ad] ++ ([dat3 ty ad (fImg im)] ++ ((wLo ty (im 0)) ++ ((wLo ty (im 1)) ++ ((wLo ty (im 2)) ++ (rs ++ [])))))))) := by simp only [List.append_nil]; exact h
  have h : Hw D A s H locs (wX ty o ad σ ++ (wS ty ad τ ++ ((wLo ty (im 0)) ++ ((wLo ty (im 1)) ++ ((wLo ty (im 2)) ++ (rs ++ ([lst3 ad] ++ ([dat3 ty ad (fImg im)] ++ [])))))))) := Hw.perm (List.Perm.append_left _ (List.Perm.append_left _ (((List.Perm.append_left _ (List.perm_append_comm_assoc _ _ _)).trans (List.perm_append_comm_assoc _ _ _)).trans (List.Perm.append_left _ (((List.Perm.append_left _ (List.perm_append_comm_assoc _ _ _)).trans (List.perm_append_comm_assoc _ _ _)).trans (List.Perm.append_left _ (((List.Perm.append_left _ (List.perm_append_comm_assoc _ _ _)).trans (List.perm_append_comm_assoc _ _ _)).trans (List.Perm.append_left _ ((List.Perm.append_left _ (List.perm_append_comm_assoc _ _ _)).trans (List.perm_append_comm_assoc _ _ _)))))))))) h
  have h : Hw D A s H locs ((wX ty o ad σ ++ (wS ty ad τ ++ ((wLo ty (im 0)) ++ ((wLo ty (im 1)) ++ ((wLo ty (im 2)) ++ rs))))) ++ [(ad 31, .inr (10, [.int 3, .ref (ad 32), .int 3])), (ad 32, .inl (ty 7, 10, .inr (.inr (.inr (.inr (fImg im))))))]) := by simpa only [List.append_assoc, List.append_nil, List.cons_append, List.nil_append, lst3, dat3] using h
  refine KQx.callV (wr := wX ty o ad σ ++ (wS ty ad τ ++ ((wLo ty (im 0)) ++ ((wLo ty (im 1)) ++ ((wLo ty (im 2)) ++ rs))))) (As := [.int k]) (rest := []) C (fun A => kJ_get l h0 h1 hi) (lw_V q1445 q1446 q1447 q146 q1448) ⟨rfl, by decide, by decide, by show _ = some 1; decide +kernel⟩ 0 10 rfl rfl rfl (Nat.le_of_ble_eq_true rfl) (by decide) (by omega) (by omega) h hl.1 rfl (Nat.le_of_ble_eq_true rfl) dX0_back_30 (fun r9 _ H locs hr9 h => ?_)
  have h : Hw D A s H locs (wX ty o ad σ ++ (wS ty ad τ ++ ((wLo ty (im 0)) ++ ((wLo ty (im 1)) ++ ((wLo ty (im 2)) ++ (rs ++ ([lst3 ad] ++ ([dat3 ty ad (fImg im)] ++ [])))))))) := by simpa only [List.append_assoc, List.append_nil, List.cons_append, List.nil_append, lst3, dat3] using h
  have h : Hw D A s H locs (wX ty o ad σ ++ (wS ty ad τ ++ ([lst3 ad] ++ ([dat3 ty ad (fImg im)] ++ ((wLo ty (im 0)) ++ ((wLo ty (im 1)) ++ ((wLo ty (im 2)) ++ (rs ++ [])))))))) := Hw.perm (List.Perm.append_left _ (List.Perm.append_left _ (((List.Perm.append_left _ ((List.Perm.append_left _ ((List.Perm.append_left _ (List.perm_append_comm_assoc _ _ _)).trans (List.perm_append_comm_assoc _ _ _))).trans (List.perm_append_comm_assoc _ _ _))).trans (List.perm_append_comm_assoc _ _ _)).trans (List.Perm.append_left _ ((List.Perm.append_left _ ((List.Perm.append_left _ ((List.Perm.append_left _ (List.perm_append_comm_assoc _ _ _)).trans (List.perm_append_comm_assoc _ _ _))).trans (List.perm_append_comm_assoc _ _ _))).trans (List.perm_append_comm_assoc _ _ _)))))) h
  have h : Hw D A s H locs (wX ty o ad σ ++ (wS ty ad τ ++ ([lst3 ad] ++ ([dat3 ty ad (fImg im)] ++ ((wLo ty (im 0)) ++ ((wLo ty (im 1)) ++ ((wLo ty (im 2)) ++ rs))))))) := by simpa only [List.append_nil] using h
  have e9 : r9 = none := by rw [hr9]; unfold fImg; rw [if_pos (k3_of hi h1), hn]; rfl
  subst e9
  refine lv_ifnonnullN C.x C.b dX0_back_33 ?_
  refine lv_bipush (v := (-6)) C.x C.b dX0_back_36 (by decide) ?_
  exact hR _ () _ _ _ _ rfl (by simpa only [wI1, List.append_assoc, List.cons_append, List.nil_append] using h) (vp_nar_int _) dX0_back_38
set_option maxHeartbeats 4000000 in
theorem kX_back_s (l : Launch) {D : va_G} {ty : Nat → ClassId} {A : Nat → Prop} {o : Nat} {ad : Nat → Nat} {rs : va_W} {σ τ : PS} {im : Nat → Option ((Nat → Nat) × PS)} {k qq : Int32} (hq : X_isIn k.toInt64 0 2 = some qq) (hq0 : ¬ qq = 0) (h0 : ¬ k < 0) (h1 : k < 3) (hi : vp_in k 10) {a : Nat → Nat} {x : PS} (hn : im k.toNatClampNeg = some (a, x)) : KIx l yX0_back cX0_back 2 .int 6 7 76 D ty A (wX ty o ad σ ++ (wS ty ad τ ++ (wI1 ty ad im ++ rs))) [.ref o, .int k] (fun r (_ : Nat → Nat) => r = 0) (fun a2 => wX ty o (adM ad a2) (mrg σ (cpL6 x)) ++ (wS ty (adM ad a2) τ ++ (wI1 ty (adM ad a2) im ++ rs))) := by
  refine KIx.of (by decide) (Nat.le_of_ble_eq_true rfl) ?_
  intro p e R s m args below meth c Q C hmc hms hR H locs ls h hl
  have C : Cx p R s m args c cX0_back 2 RX0 D ty A 6 := C
  have hl : lv_has ls 2 [(0, .ref o), (1, .int k)] := hl
  refine lv_iload_n C.x C.b dX0_back_0 rfl (lv_at hl 1 rfl) ?_
  refine lv_i2l C.x C.b dX0_back_1 rfl ?_
  refine lv_lconst (v := 0) C.x C.b dX0_back_2 (by decide) ?_
  refine lv_ldc2 (v := 2) C.x C.b C.own (C.ts _ q1356) dX0_back_3 ?_
  refine KI.callS (As := [.long k.toInt64, .long 0, .long 2]) (rest := []) C (kX_isIn l hq) tX_isIn ⟨by decide, by decide, by show _ = some 3; decide +kernel⟩ (Nat.le_of_ble_eq_true rfl) (by decide) (by omega) (by omega) h hl.1 rfl (Nat.le_of_ble_eq_true rfl) dX0_back_6 (fun H locs h => ?_)
  refine lv_if_ne (tgt := 15) C.x C.b dX0_back_9 (by decide) (fun c9 => ?_) (fun c9 => ?_)
  rotate_left
  · exact absurd c9 hq0
  have h : Hw D A s H locs (wX ty o ad σ ++ (wS ty ad τ ++ ([lst3 ad] ++ ([dat3 ty ad (fImg im)] ++ ((wLo ty (im 0)) ++ ((wLo ty (im 1)) ++ ((wLo ty (im 2)) ++ rs))))))) := by simpa only [wI1, List.append_assoc, List.cons_append, List.nil_append] using h
  refine lv_aload_n C.x C.b dX0_back_15 rfl (lv_at hl 0 rfl) ?_
  refine x_g31 C h dX0_back_16 ?_
  have h : Hw D A s H locs ([lst3 ad] ++ (wX ty o ad σ ++ (wS ty ad τ ++ ([dat3 ty ad (fImg im)] ++ ((wLo ty (im 0)) ++ ((wLo ty (im 1)) ++ ((wLo ty (im 2)) ++ rs))))))) := Hw.perm ((List.Perm.append_left _ (List.perm_append_comm_assoc _ _ _)).trans (List.perm_append_comm_assoc _ _ _)) h
  refine KI.callV (As := []) (rest := []) C (kJ_isEmpty1 l (by decide)) (lw_V q1441 q1442 q1443 q146 q1444) ⟨rfl, by decide, by decide, by show _ = some 0; decide +kernel⟩ 0 10 rfl rfl rfl (Nat.le_of_ble_eq_true rfl) (by decide) (by omega) (by omega) h hl.1 rfl (Nat.le_of_ble_eq_true rfl) dX0_back_19 (fun H locs h => ?_)
  have h : Hw D A s H locs (wX ty o ad σ ++ (wS ty ad τ ++ ([lst3 ad] ++ ([dat3 ty ad (fImg im)] ++ ((wLo ty (im 0)) ++ ((wLo ty (im 1)) ++ ((wLo ty (im 2)) ++ rs))))))) := Hw.perm ((List.perm_append_comm_assoc _ _ _).trans (List.Perm.append_left _ (List.perm_append_comm_assoc _ _ _))) h
  refine lv_if_ne (tgt := 36) C.x C.b dX0_back_22 (by decide) (fun c9 => ?_) (fun c9 => ?_)
  · exact absurd (by decide) c9
  refine lv_aload_n C.x C.b dX0_back_25 rfl (lv_at hl 0 rfl) ?_
  refine x_g31 C h dX0_back_26 ?_
  refine lv_iload_n C.x C.b dX0_back_29 rfl (lv_at hl 1 rfl) ?_
  have h : Hw D A s H locs (wX ty o ad σ ++ (wS ty ad τ ++ ([lst3 ad] ++ ([dat3 ty ad (fImg im)] ++ ((wLo ty (im 0)) ++ ((wLo ty (im 1)) ++ ((wLo ty (im 2)) ++ (rs ++ [])))))))) := by simp only [List.append_nil]; exact h
  have h : Hw D A s H locs (wX ty o ad σ ++ (wS ty ad τ ++ ((wLo ty (im 0)) ++ ((wLo ty (im 1)) ++ ((wLo ty (im 2)) ++ (rs ++ ([lst3 ad] ++ ([dat3 ty ad (fImg im)] ++ [])))))))) := Hw.perm (List.Perm.append_left _ (List.Perm.append_left _ (((List.Perm.append_left _ (List.perm_append_comm_assoc _ _ _)).trans (List.perm_append_comm_assoc _ _ _)).trans (List.Perm.append_left _ (((List.Perm.append_left _ (List.perm_append_comm_assoc _ _ _)).trans (List.perm_append_comm_assoc _ _ _)).trans (List.Perm.append_left _ (((List.Perm.append_left _ (List.perm_append_comm_assoc _ _ _)).trans (List.perm_append_comm_assoc _ _ _)).trans (List.Perm.append_left _ ((List.Perm.append_left _ (List.perm_append_comm_assoc _ _ _)).trans (List.perm_append_comm_assoc _ _ _)))))))))) h
  have h : Hw D A s H locs ((wX ty o ad σ ++ (wS ty ad τ ++ ((wLo ty (im 0)) ++ ((wLo ty (im 1)) ++ ((wLo ty (im 2)) ++ rs))))) ++ [(ad 31, .inr (10, [.int 3, .ref (ad 32), .int 3])), (ad 32, .inl (ty 7, 10, .inr (.inr (.inr (.inr (fImg im))))))]) := by simpa only [List.append_assoc, List.append_nil, List.cons_append, List.nil_append, lst3, dat3] using h
  refine KQx.callV (wr := wX ty o ad σ ++ (wS ty ad τ ++ ((wLo ty (im 0)) ++ ((wLo ty (im 1)) ++ ((wLo ty (im 2)) ++ rs))))) (As := [.int k]) (rest := []) C (fun A => kJ_get l h0 h1 hi) (lw_V q1445 q1446 q1447 q146 q1448) ⟨rfl, by decide, by decide, by show _ = some 1; decide +kernel⟩ 0 10 rfl rfl rfl (Nat.le_of_ble_eq_true rfl) (by decide) (by omega) (by omega) h hl.1 rfl (Nat.le_of_ble_eq_true rfl) dX0_back_30 (fun r9 _ H locs hr9 h => ?_)
  have h : Hw D A s H locs (wX ty o ad σ ++ (wS ty ad τ ++ ((wLo ty (im 0)) ++ ((wLo ty (im 1)) ++ ((wLo ty (im 2)) ++ (rs ++ ([lst3 ad] ++ ([dat3 ty ad (fImg im)] ++ [])))))))) := by simpa only [List.append_assoc, List.append_nil, List.cons_append, List.nil_append, lst3, dat3] using h
  have h : Hw D A s H locs (wX ty o ad σ ++ (wS ty ad τ ++ ([lst3 ad] ++ ([dat3 ty ad (fImg im)] ++ ((wLo ty (im 0)) ++ ((wLo ty (im 1)) ++ ((wLo ty (im 2)) ++ (rs ++ [])))))))) := Hw.perm (List.Perm.append_left _ (List.Perm.append_left _ (((List.Perm.append_left _ ((List.Perm.append_left _ ((List.Perm.append_left _ (List.perm_append_comm_assoc _ _ _)).trans (List.perm_append_comm_assoc _ _ _))).trans (List.perm_append_comm_assoc _ _ _))).trans (List.perm_append_comm_assoc _ _ _)).trans (List.Perm.append_left _ ((List.Perm.append_left _ ((List.Perm.append_left _ ((List.Perm.append_left _ (List.perm_append_comm_assoc _ _ _)).trans (List.perm_append_comm_assoc _ _ _))).trans (List.perm_append_comm_assoc _ _ _))).trans (List.perm_append_comm_assoc _ _ _)))))) h
  have h : Hw D A s H locs (wX ty o ad σ ++ (wS ty ad τ ++ ([lst3 ad] ++ ([dat3 ty ad (fImg im)] ++ ((wLo ty (im 0)) ++ ((wLo ty (im 1)) ++ ((wLo ty (im 2)) ++ rs))))))) := by simpa only [List.append_nil] using h
  have e9 : r9 = some (a 0) := by rw [hr9]; unfold fImg; rw [if_pos (k3_of hi h1), hn]; rfl
  subst e9
  refine lv_ifnonnull (tgt := 39) C.x C.b dX0_back_33 (by decide) ?_
  refine lv_aload_n C.x C.b dX0_back_39 rfl (lv_at hl 0 rfl) ?_
  refine lv_aload_n C.x C.b dX0_back_40 rfl (lv_at hl 0 rfl) ?_
  refine x_g31 C h dX0_back_41 ?_
  refine lv_iload_n C.x C.b dX0_back_44 rfl (lv_at hl 1 rfl) ?_
  have h : Hw D A s H locs (wX ty o ad σ ++ (wS ty ad τ ++ ([lst3 ad] ++ ([dat3 ty ad (fImg im)] ++ ((wLo ty (im 0)) ++ ((wLo ty (im 1)) ++ ((wLo ty (im 2)) ++ (rs ++ [])))))))) := by simp only [List.append_nil]; exact h
  have h : Hw D A s H locs (wX ty o ad σ ++ (wS ty ad τ ++ ((wLo ty (im 0)) ++ ((wLo ty (im 1)) ++ ((wLo ty (im 2)) ++ (rs ++ ([lst3 ad] ++ ([dat3 ty ad (fImg im)] ++ [])))))))) := Hw.perm (List.Perm.append_left _ (List.Perm.append_left _ (((List.Perm.append_left _ (List.perm_append_comm_assoc _ _ _)).trans (List.perm_append_comm_assoc _ _ _)).trans (List.Perm.append_left _ (((List.Perm.append_left _ (List.perm_append_comm_assoc _ _ _)).trans (List.perm_append_comm_assoc _ _ _)).trans (List.Perm.append_left _ (((List.Perm.append_left _ (List.perm_append_comm_assoc _ _ _)).trans (List.perm_append_comm_assoc _ _ _)).trans (List.Perm.append_left _ ((List.Perm.append_left _ (List.perm_append_comm_assoc _ _ _)).trans (List.perm_append_comm_assoc _ _ _)))))))))) h
  have h : Hw D A s H locs ((wX ty o ad σ ++ (wS ty ad τ ++ ((wLo ty (im 0)) ++ ((wLo ty (im 1)) ++ ((wLo ty (im 2)) ++ rs))))) ++ [(ad 31, .inr (10, [.int 3, .ref (ad 32), .int 3])), (ad 32, .inl (ty 7, 10, .inr (.inr (.inr (.inr (fImg im))))))]) := by simpa only [List.append_assoc, List.append_nil, List.cons_append, List.nil_append, lst3, dat3] using h
  refine KQx.callV (wr := wX ty o ad σ ++ (wS ty ad τ ++ ((wLo ty (im 0)) ++ ((wLo ty (im 1)) ++ ((wLo ty (im 2)) ++ rs))))) (As := [.int k]) (rest := [.ref o]) C (fun A => kJ_get l h0 h1 hi) (lw_V q1445 q1446 q1447 q146 q1448) ⟨rfl, by decide, by decide, by show _ = some 1; decide +kernel⟩ 0 10 rfl rfl rfl (Nat.le_of_ble_eq_true rfl) (by decide) (by omega) (by omega) h hl.1 rfl (Nat.le_of_ble_eq_true rfl) dX0_back_45 (fun r9 _ H locs hr9 h => ?_)
  have h : Hw D A s H locs (wX ty o ad σ ++ (wS ty ad τ ++ ((wLo ty (im 0)) ++ ((wLo ty (im 1)) ++ ((wLo ty (im 2)) ++ (rs ++ ([lst3 ad] ++ ([dat3 ty ad (fImg im)] ++ [])))))))) := by simpa only [List.append_assoc, List.append_nil, List.cons_append, List.nil_append, lst3, dat3] using h
  have h : Hw D A s H locs (wX ty o ad σ ++ (wS ty ad τ ++ ([lst3 ad] ++ ([dat3 ty ad (fImg im)] ++ ((wLo ty (im 0)) ++ ((wLo ty (im 1)) ++ ((wLo ty (im 2)) ++ (rs ++ [])))))))) := Hw.perm (List.Perm.append_left _ (List.Perm.append_left _ (((List.Perm.append_left _ ((List.Perm.append_left _ ((List.Perm.append_left _ (List.perm_append_comm_assoc _ _ _)).trans (List.perm_append_comm_assoc _ _ _))).trans (List.perm_append_comm_assoc _ _ _))).trans (List.perm_append_comm_assoc _ _ _)).trans (List.Perm.append_left _ ((List.Perm.append_left _ ((List.Perm.append_left _ ((List.Perm.append_left _ (List.perm_append_comm_assoc _ _ _)).trans (List.perm_append_comm_assoc _ _ _))).trans (List.perm_append_comm_assoc _ _ _))).trans (List.perm_append_comm_assoc _ _ _)))))) h
  have h : Hw D A s H locs (wX ty o ad σ ++ (wS ty ad τ ++ ([lst3 ad] ++ ([dat3 ty ad (fImg im)] ++ ((wLo ty (im 0)) ++ ((wLo ty (im 1)) ++ ((wLo ty (im 2)) ++ rs))))))) := by simpa only [List.append_nil] using h
  have e9 : r9 = some (a 0) := by rw [hr9]; unfold fImg; rw [if_pos (k3_of hi h1), hn]; rfl
  subst e9
  obtain ⟨wo, hwo⟩ : ∃ wo, (wX ty o ad σ ++ (wS ty ad τ ++ ([lst3 ad] ++ ([dat3 ty ad (fImg im)] ++ ((wLo ty (im 0)) ++ ((wLo ty (im 1)) ++ ((wLo ty (im 2)) ++ rs))))))).Perm (wLehr ty a x ++ wo) := by
    have h4 : k.toNatClampNeg = 0 ∨ k.toNatClampNeg = 1 ∨ k.toNatClampNeg = 2 := by have := k3_of hi h1; omega
    rcases h4 with h4 | h4 | h4
    · refine ⟨wX ty o ad σ ++ (wS ty ad τ ++ ([lst3 ad] ++ ([dat3 ty ad (fImg im)] ++ ((wLo ty (im 1)) ++ ((wLo ty (im 2)) ++ rs))))), ?_⟩
      have e8 : wLo ty (im 0) = wLehr ty a x := by rw [← h4, hn]; rfl
      rw [← e8]
      exact (List.Perm.append_left _ ((List.Perm.append_left _ ((List.Perm.append_left _ (List.perm_append_comm_assoc _ _ _)).trans (List.perm_append_comm_assoc _ _ _))).trans (List.perm_append_comm_assoc _ _ _))).trans (List.perm_append_comm_assoc _ _ _)
    · refine ⟨wX ty o ad σ ++ (wS ty ad τ ++ ([lst3 ad] ++ ([dat3 ty ad (fImg im)] ++ ((wLo ty (im 0)) ++ ((wLo ty (im 2)) ++ rs))))), ?_⟩
      have e8 : wLo ty (im 1) = wLehr ty a x := by rw [← h4, hn]; rfl
      rw [← e8]
      exact (List.Perm.append_left _ ((List.Perm.append_left _ ((List.Perm.append_left _ ((List.Perm.append_left _ (List.perm_append_comm_assoc _ _ _)).trans (List.perm_append_comm_assoc _ _ _))).trans (List.perm_append_comm_assoc _ _ _))).trans (List.perm_append_comm_assoc _ _ _))).trans (List.perm_append_comm_assoc _ _ _)
    · refine ⟨wX ty o ad σ ++ (wS ty ad τ ++ ([lst3 ad] ++ ([dat3 ty ad (fImg im)] ++ ((wLo ty (im 0)) ++ ((wLo ty (im 1)) ++ rs))))), ?_⟩
      have e8 : wLo ty (im 2) = wLehr ty a x := by rw [← h4, hn]; rfl
      rw [← e8]
      exact (List.Perm.append_left _ ((List.Perm.append_left _ ((List.Perm.append_left _ ((List.Perm.append_left _ ((List.Perm.append_left _ (List.perm_append_comm_assoc _ _ _)).trans (List.perm_append_comm_assoc _ _ _))).trans (List.perm_append_comm_assoc _ _ _))).trans (List.perm_append_comm_assoc _ _ _))).trans (List.perm_append_comm_assoc _ _ _))).trans (List.perm_append_comm_assoc _ _ _)
  have h : Hw D A s H locs (wLehr ty a x ++ wo) := h.perm hwo
  refine va_castS C.x C.b C.own (C.ts _ q178) (C.K.1 1 _ rfl).2 (va_recv (ci := 1) C.K h.1 rfl (q0 := 0) rfl) dX0_back_48 ?_
  have h : Hw D A s H locs (wo ++ (wLehr ty a x ++ [])) := by rw [List.append_nil]; exact h.swap
  refine KRx.callVf (wr := wo) (As := []) (rest := [.ref o]) C (fun A => kL_copy l (rs := [])) (lw_V q1418 q1419 q1420 q138 q1421) ⟨rfl, by decide, by decide, by show _ = some 0; decide +kernel⟩ 0 1 rfl rfl rfl (Nat.le_of_ble_eq_true rfl) (by decide) (by omega) (by omega) h hl.1 rfl (Nat.le_of_ble_eq_true rfl) dX0_back_51 (fun a9 ra H locs _ h => ?_)
  obtain ⟨a2, ea2⟩ : ∃ f, f = va_up a9 0 ra := ⟨_, rfl⟩
  have ha2 : a2 0 = ra := by rw [ea2]; rfl
  rw [← ea2] at h
  rw [← ha2]
  have h : Hw D A s H locs ((wLehr ty a x ++ wo) ++ wLehr ty a2 (cpL6 x)) := by
    rw [List.append_nil] at h
    exact h.perm (by rw [← List.append_assoc]; exact List.Perm.append_right _ List.perm_append_comm)
  have h : Hw D A s H locs ((wX ty o ad σ ++ (wS ty ad τ ++ ([lst3 ad] ++ ([dat3 ty ad (fImg im)] ++ ((wLo ty (im 0)) ++ ((wLo ty (im 1)) ++ ((wLo ty (im 2)) ++ rs))))))) ++ wLehr ty a2 (cpL6 x)) := h.perm (List.Perm.append_right _ hwo.symm)
  rw [wX_split, List.append_assoc, List.append_assoc] at h
  have h : Hw D A s H locs (wBelt ty o ad σ ++ (wLehr ty ad σ ++ (wS ty ad τ ++ ([lst3 ad] ++ ([dat3 ty ad (fImg im)] ++ ((wLo ty (im 0)) ++ ((wLo ty (im 1)) ++ ((wLo ty (im 2)) ++ (rs ++ (wLehr ty a2 (cpL6 x))))))))))) := by simpa only [List.append_assoc] using h
  have h : Hw D A s H locs ([(o, .inr (0, fX ad σ))] ++ ((wBelt ty o ad σ).tail ++ (wLehr ty ad σ ++ (wS ty ad τ ++ ([lst3 ad] ++ ([dat3 ty ad (fImg im)] ++ ((wLo ty (im 0)) ++ ((wLo ty (im 1)) ++ ((wLo ty (im 2)) ++ (rs ++ wLehr ty a2 (cpL6 x))))))))))) := h
  refine va_put (D := D) (ci := 0) (ty := .object "LehrBelt$Lehr") (v := .ref (a2 0)) (fs := fX ad σ) C.x C.b C.ts in_X0 tyX0 tyX0_ok nmX0 C.own C.K h.1 h.2.1 h.2.2 0 rfl rfl 0 (by decide) (C.ts _ q344) (fun _ h9 => h9) rfl (by decide +kernel) rfl rfl (Nat.le_of_ble_eq_true rfl) dX0_back_54 (fun H locs hP hD hS => ?_)
  have h : Hw D A s H locs ([(o, .inr (0, (fX ad σ).set 0 (.ref (a2 0))))] ++ ((wBelt ty o ad σ).tail ++ (wLehr ty ad σ ++ (wS ty ad τ ++ ([lst3 ad] ++ ([dat3 ty ad (fImg im)] ++ ((wLo ty (im 0)) ++ ((wLo ty (im 1)) ++ ((wLo ty (im 2)) ++ (rs ++ wLehr ty a2 (cpL6 x))))))))))) := ⟨hP, hD, hS⟩
  refine lv_iconst (v := 0) C.x C.b dX0_back_57 (by decide) ?_
  have h : Hw D A s H locs ([(o, .inr (0, (fX ad σ).set 0 (.ref (a2 0))))] ++ ((wBelt ty o ad σ).tail ++ (wLehr ty ad σ ++ (wS ty ad τ ++ ([lst3 ad] ++ ([dat3 ty ad (fImg im)] ++ ((wLo ty (im 0)) ++ ((wLo ty (im 1)) ++ ((wLo ty (im 2)) ++ (rs ++ (wLehr ty a2 (cpL6 x) ++ []))))))))))) := by simp only [List.append_nil]; exact h
  have h : Hw D A s H locs ([(o, .inr (0, (fX ad σ).set 0 (.ref (a2 0))))] ++ ((wBelt ty o ad σ).tail ++ (wLehr ty a2 (cpL6 x) ++ (wS ty ad τ ++ ([lst3 ad] ++ ([dat3 ty ad (fImg im)] ++ ((wLo ty (im 0)) ++ ((wLo ty (im 1)) ++ ((wLo ty (im 2)) ++ (rs ++ (wLehr ty ad σ ++ []))))))))))) := Hw.perm (List.Perm.append_left _ (List.Perm.append_left _ (((List.Perm.append_left _ ((List.Perm.append_left _ ((List.Perm.append_left _ ((List.Perm.append_left _ ((List.Perm.append_left _ ((List.Perm.append_left _ ((List.Perm.append_left _ (List.perm_append_comm_assoc _ _ _)).trans (List.perm_append_comm_assoc _ _ _))).trans (List.perm_append_comm_assoc _ _ _))).trans (List.perm_append_comm_assoc _ _ _))).trans (List.perm_append_comm_assoc _ _ _))).trans (List.perm_append_comm_assoc _ _ _))).trans (List.perm_append_comm_assoc _ _ _))).trans (List.perm_append_comm_assoc _ _ _)).trans (List.Perm.append_left _ ((List.perm_append_comm_assoc _ _ _).trans (List.Perm.append_left _ ((List.perm_append_comm_assoc _ _ _).trans (List.Perm.append_left _ ((List.perm_append_comm_assoc _ _ _).trans (List.Perm.append_left _ ((List.perm_append_comm_assoc _ _ _).trans (List.Perm.append_left _ ((List.perm_append_comm_assoc _ _ _).trans (List.Perm.append_left _ ((List.perm_append_comm_assoc _ _ _).trans (List.Perm.append_left _ (List.perm_append_comm_assoc _ _ _))))))))))))))))) h
  have h : Hw D A s H locs (([(o, .inr (0, (fX ad σ).set 0 (.ref (a2 0))))] ++ ((wBelt ty o ad σ).tail ++ (wLehr ty a2 (cpL6 x) ++ (wS ty ad τ ++ ([lst3 ad] ++ ([dat3 ty ad (fImg im)] ++ ((wLo ty (im 0)) ++ ((wLo ty (im 1)) ++ ((wLo ty (im 2)) ++ rs))))))))) ++ wLehr ty ad σ) := by simpa only [List.append_assoc, List.append_nil] using h
  have h := h.left
  refine hR 0 a2 _ _ _ _ rfl ?_ (vp_nar_int _) dX0_back_58
  rw [wX_mrg, wS_adM, wI1_adM]
  simpa only [wI1, List.append_assoc, List.cons_append, List.nil_append] using h
