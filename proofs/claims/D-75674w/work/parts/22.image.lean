set_option maxRecDepth 100000
/-- a lehr that is there or not -/
def wLo (ty : Nat → ClassId) : Option ((Nat → Nat) × PS) → va_W
  | none => []
  | some x => wLehr ty x.1 x.2
/-- the row of a list of images -/
def fImg (im : Nat → Option ((Nat → Nat) × PS)) : Nat → Option Nat := fun j => if j < 3 then (im j).map (fun x => x.1 0) else none
def lst3 (ad : Nat → Nat) : Nat × va_E := (ad 31, .inr (10, [.int 3, .ref (ad 32), .int 3]))
def dat3 (ty : Nat → ClassId) (ad : Nat → Nat) (f : Nat → Option Nat) : Nat × va_E := (ad 32, .inl (ty 7, 10, .inr (.inr (.inr (.inr f)))))
/-- the list of images, made -/
def wI1 (ty : Nat → ClassId) (ad : Nat → Nat) (im : Nat → Option ((Nat → Nat) × PS)) : va_W := [lst3 ad, dat3 ty ad (fImg im)] ++ (wLo ty (im 0) ++ (wLo ty (im 1) ++ wLo ty (im 2)))
theorem fImg_up {im : Nat → Option ((Nat → Nat) × PS)} {j : Nat} (hj : j < 3) (a2 : Nat → Nat) (x : PS) : va_up (fImg im) j (some (a2 0)) = fImg (va_up im j (some (a2, x))) := by
  funext i
  unfold fImg va_up
  by_cases h : i = j
  · rw [if_pos h, if_pos h, if_pos (by omega)]; rfl
  · rw [if_neg h, if_neg h]
theorem k3_of {k : Int32} (hi : vp_in k 10) (h1 : k < 3) : k.toNatClampNeg < 3 := by
  obtain ⟨j, hj, rfl⟩ := vp_in_of hi (by decide)
  rw [nI_clamp (by omega)]
  rw [show (3 : Int32) = nI 3 from rfl] at h1
  exact (nI_ltI (by omega) (by omega)).mp h1
theorem Hw.sub {D : va_G} {A : Nat → Prop} {s : State} {H : Heap} {locs : List Loc} {w1 w2 : va_W} (hs : w2.Sublist w1) (h : Hw D A s H locs w1) : Hw D A s H locs w2 := by
  have h2 := va_D.nodup.mp h.2.1
  exact ⟨h.1.ofMem (fun q hq => hs.subset hq), va_D.nodup.mpr ⟨(hs.map Prod.fst).nodup h2.1, fun q hq => h2.2 q (hs.subset hq)⟩, h.2.2⟩
theorem kX_image_0 (l : Launch) {D : va_G} {ty : Nat → ClassId} {A : Nat → Prop} {o : Nat} {ad : Nat → Nat} {rs : va_W} {σ : PS} {k qq : Int32} (hq : X_isIn k.toInt64 0 2 = some qq) (hq0 : qq = 0) : KIx l yX0_image cX0_image 2 .int 2 0 0 D ty A (wX ty o ad σ ++ rs) [.ref o, .int k] (fun r (_ : Unit) => r = -2) (fun _ => wX ty o ad σ ++ rs) := by
  refine KIx.of (by decide) (Nat.le_of_ble_eq_true rfl) ?_
  intro p e R s m args below meth c Q C hmc hms hR H locs ls h hl
  have C : Cx p R s m args c cX0_image 2 RX0 D ty A 2 := C
  have hl : lv_has ls 2 [(0, .ref o), (1, .int k)] := hl
  refine lv_iload_n C.x C.b dX0_image_0 rfl (lv_at hl 1 rfl) ?_
  refine lv_i2l C.x C.b dX0_image_1 rfl ?_
  refine lv_lconst (v := 0) C.x C.b dX0_image_2 (by decide) ?_
  refine lv_ldc2 (v := 2) C.x C.b C.own (C.ts _ q1356) dX0_image_3 ?_
  refine KI.callS (As := [.long k.toInt64, .long 0, .long 2]) (rest := []) C (kX_isIn l hq) tX_isIn ⟨by decide, by decide, by show _ = some 3; decide +kernel⟩ (Nat.le_of_ble_eq_true rfl) (by decide) (by omega) (by omega) h hl.1 rfl (Nat.le_of_ble_eq_true rfl) dX0_image_6 (fun H locs h => ?_)
  refine lv_if_ne (tgt := 15) C.x C.b dX0_image_9 (by decide) (fun c9 => ?_) (fun c9 => ?_)
  · exact absurd hq0 c9
  refine lv_bipush (v := (-2)) C.x C.b dX0_image_12 (by decide) ?_
  exact hR _ () _ _ _ _ rfl h (vp_nar_int _) dX0_image_14
theorem kX_back_0 (l : Launch) {D : va_G} {ty : Nat → ClassId} {A : Nat → Prop} {o : Nat} {ad : Nat → Nat} {rs : va_W} {σ : PS} {k qq : Int32} (hq : X_isIn k.toInt64 0 2 = some qq) (hq0 : qq = 0) : KIx l yX0_back cX0_back 2 .int 2 0 0 D ty A (wX ty o ad σ ++ rs) [.ref o, .int k] (fun r (_ : Unit) => r = -2) (fun _ => wX ty o ad σ ++ rs) := by
  refine KIx.of (by decide) (Nat.le_of_ble_eq_true rfl) ?_
  intro p e R s m args below meth c Q C hmc hms hR H locs ls h hl
  have C : Cx p R s m args c cX0_back 2 RX0 D ty A 2 := C
  have hl : lv_has ls 2 [(0, .ref o), (1, .int k)] := hl
  refine lv_iload_n C.x C.b dX0_back_0 rfl (lv_at hl 1 rfl) ?_
  refine lv_i2l C.x C.b dX0_back_1 rfl ?_
  refine lv_lconst (v := 0) C.x C.b dX0_back_2 (by decide) ?_
  refine lv_ldc2 (v := 2) C.x C.b C.own (C.ts _ q1356) dX0_back_3 ?_
  refine KI.callS (As := [.long k.toInt64, .long 0, .long 2]) (rest := []) C (kX_isIn l hq) tX_isIn ⟨by decide, by decide, by show _ = some 3; decide +kernel⟩ (Nat.le_of_ble_eq_true rfl) (by decide) (by omega) (by omega) h hl.1 rfl (Nat.le_of_ble_eq_true rfl) dX0_back_6 (fun H locs h => ?_)
  refine lv_if_ne (tgt := 15) C.x C.b dX0_back_9 (by decide) (fun c9 => ?_) (fun c9 => ?_)
  · exact absurd hq0 c9
  refine lv_bipush (v := (-2)) C.x C.b dX0_back_12 (by decide) ?_
  exact hR _ () _ _ _ _ rfl h (vp_nar_int _) dX0_back_14
set_option maxHeartbeats 4000000 in
theorem kX_image_b (l : Launch) {D : va_G} {ty : Nat → ClassId} {A : Nat → Prop} {o : Nat} {ad : Nat → Nat} {rs : va_W} {σ τ : PS} {im : Nat → Option ((Nat → Nat) × PS)} {k qq : Int32} (hq : X_isIn k.toInt64 0 2 = some qq) (hq0 : ¬ qq = 0) (h0 : ¬ k < 0) (h1 : k < 3) (hi : vp_in k 10) : KIx l yX0_image cX0_image 2 .int 7 7 76 D ty A (wX ty o ad σ ++ (wS ty ad τ ++ (wI1 ty ad im ++ rs))) [.ref o, .int k] (fun r (_ : Nat → Nat) => r = 0) (fun a2 => wX ty o ad σ ++ (wS ty ad τ ++ (wI1 ty ad (va_up im k.toNatClampNeg (some (a2, cpL6 σ))) ++ rs))) := by
  refine KIx.of (by decide) (Nat.le_of_ble_eq_true rfl) ?_
  intro p e R s m args below meth c Q C hmc hms hR H locs ls h hl
  have C : Cx p R s m args c cX0_image 2 RX0 D ty A 7 := C
  have hl : lv_has ls 2 [(0, .ref o), (1, .int k)] := hl
  refine lv_iload_n C.x C.b dX0_image_0 rfl (lv_at hl 1 rfl) ?_
  refine lv_i2l C.x C.b dX0_image_1 rfl ?_
  refine lv_lconst (v := 0) C.x C.b dX0_image_2 (by decide) ?_
  refine lv_ldc2 (v := 2) C.x C.b C.own (C.ts _ q1356) dX0_image_3 ?_
  refine KI.callS (As := [.long k.toInt64, .long 0, .long 2]) (rest := []) C (kX_isIn l hq) tX_isIn ⟨by decide, by decide, by show _ = some 3; decide +kernel⟩ (Nat.le_of_ble_eq_true rfl) (by decide) (by omega) (by omega) h hl.1 rfl (Nat.le_of_ble_eq_true rfl) dX0_image_6 (fun H locs h => ?_)
  refine lv_if_ne (tgt := 15) C.x C.b dX0_image_9 (by decide) (fun c9 => ?_) (fun c9 => ?_)
  rotate_left
  · exact absurd c9 hq0
  have h : Hw D A s H locs (wX ty o ad σ ++ (wS ty ad τ ++ ([lst3 ad] ++ ([dat3 ty ad (fImg im)] ++ ((wLo ty (im 0)) ++ ((wLo ty (im 1)) ++ ((wLo ty (im 2)) ++ rs))))))) := by simpa only [wI1, List.append_assoc, List.cons_append, List.nil_append] using h
  refine lv_aload_n C.x C.b dX0_image_15 rfl (lv_at hl 0 rfl) ?_
  refine x_g31 C h dX0_image_16 ?_
  have h : Hw D A s H locs ([lst3 ad] ++ (wX ty o ad σ ++ (wS ty ad τ ++ ([dat3 ty ad (fImg im)] ++ ((wLo ty (im 0)) ++ ((wLo ty (im 1)) ++ ((wLo ty (im 2)) ++ rs))))))) := Hw.perm ((List.Perm.append_left _ (List.perm_append_comm_assoc _ _ _)).trans (List.perm_append_comm_assoc _ _ _)) h
  refine KI.callV (As := []) (rest := []) C (kJ_size l) (lw_V q1357 q1358 q1359 q146 q1360) ⟨rfl, by decide, by decide, by show _ = some 0; decide +kernel⟩ 0 10 rfl rfl rfl (Nat.le_of_ble_eq_true rfl) (by decide) (by omega) (by omega) h hl.1 rfl (Nat.le_of_ble_eq_true rfl) dX0_image_19 (fun H locs h => ?_)
  have h : Hw D A s H locs (wX ty o ad σ ++ (wS ty ad τ ++ ([lst3 ad] ++ ([dat3 ty ad (fImg im)] ++ ((wLo ty (im 0)) ++ ((wLo ty (im 1)) ++ ((wLo ty (im 2)) ++ rs))))))) := Hw.perm ((List.perm_append_comm_assoc _ _ _).trans (List.Perm.append_left _ (List.perm_append_comm_assoc _ _ _))) h
  refine lv_iconst (v := 3) C.x C.b dX0_image_22 (by decide) ?_
  refine lv_icmp_ge (tgt := 38) C.x C.b dX0_image_23 (by decide) (fun c9 => ?_) (fun c9 => ?_)
  rotate_left
  · exact absurd (by decide) c9
  refine lv_aload_n C.x C.b dX0_image_38 rfl (lv_at hl 0 rfl) ?_
  refine x_g31 C h dX0_image_39 ?_
  refine lv_iload_n C.x C.b dX0_image_42 rfl (lv_at hl 1 rfl) ?_
  refine lv_aload_n C.x C.b dX0_image_43 rfl (lv_at hl 0 rfl) ?_
  refine x_g0 C h dX0_image_44 ?_
  have h : Hw D A s H locs (wBelt ty o ad σ ++ (wLehr ty ad σ ++ (wS ty ad τ ++ ([lst3 ad] ++ ([dat3 ty ad (fImg im)] ++ ((wLo ty (im 0)) ++ ((wLo ty (im 1)) ++ ((wLo ty (im 2)) ++ rs)))))))) := by rw [wX_split, List.append_assoc] at h; exact h
  have h : Hw D A s H locs (wBelt ty o ad σ ++ (wLehr ty ad σ ++ (wS ty ad τ ++ ([lst3 ad] ++ ([dat3 ty ad (fImg im)] ++ ((wLo ty (im 0)) ++ ((wLo ty (im 1)) ++ ((wLo ty (im 2)) ++ (rs ++ []))))))))) := by simp only [List.append_nil]; exact h
  have h : Hw D A s H locs (wBelt ty o ad σ ++ (wS ty ad τ ++ ([lst3 ad] ++ ([dat3 ty ad (fImg im)] ++ ((wLo ty (im 0)) ++ ((wLo ty (im 1)) ++ ((wLo ty (im 2)) ++ (rs ++ (wLehr ty ad σ ++ []))))))))) := Hw.perm (List.Perm.append_left _ ((List.perm_append_comm_assoc _ _ _).trans (List.Perm.append_left _ ((List.perm_append_comm_assoc _ _ _).trans (List.Perm.append_left _ ((List.perm_append_comm_assoc _ _ _).trans (List.Perm.append_left _ ((List.perm_append_comm_assoc _ _ _).trans (List.Perm.append_left _ ((List.perm_append_comm_assoc _ _ _).trans (List.Perm.append_left _ ((List.perm_append_comm_assoc _ _ _).trans (List.Perm.append_left _ (List.perm_append_comm_assoc _ _ _)))))))))))))) h
  have h : Hw D A s H locs ((wBelt ty o ad σ ++ (wS ty ad τ ++ ([lst3 ad] ++ ([dat3 ty ad (fImg im)] ++ ((wLo ty (im 0)) ++ ((wLo ty (im 1)) ++ ((wLo ty (im 2)) ++ rs))))))) ++ (wLehr ty ad σ ++ [])) := by simpa only [List.append_assoc] using h
  refine KRx.callVf (wr := wBelt ty o ad σ ++ (wS ty ad τ ++ ([lst3 ad] ++ ([dat3 ty ad (fImg im)] ++ ((wLo ty (im 0)) ++ ((wLo ty (im 1)) ++ ((wLo ty (im 2)) ++ rs))))))) (As := []) (rest := [.int k, .ref (ad 31)]) C (fun A => kL_copy l (rs := [])) (lw_V q1418 q1419 q1420 q138 q1421) ⟨rfl, by decide, by decide, by show _ = some 0; decide +kernel⟩ 0 1 rfl rfl rfl (Nat.le_of_ble_eq_true rfl) (by decide) (by omega) (by omega) h hl.1 rfl (Nat.le_of_ble_eq_true rfl) dX0_image_47 (fun a9 ra H locs _ h => ?_)
  obtain ⟨a2, ea2⟩ : ∃ f, f = va_up a9 0 ra := ⟨_, rfl⟩
  have ha2 : a2 0 = ra := by rw [ea2]; rfl
  rw [← ea2] at h
  rw [← ha2]
  have h : Hw D A s H locs (wBelt ty o ad σ ++ (wS ty ad τ ++ ([lst3 ad] ++ ([dat3 ty ad (fImg im)] ++ ((wLo ty (im 0)) ++ ((wLo ty (im 1)) ++ ((wLo ty (im 2)) ++ (rs ++ (wLehr ty ad σ ++ (wLehr ty a2 (cpL6 σ) ++ [])))))))))) := by simpa only [List.append_assoc] using h
  have h : Hw D A s H locs (wBelt ty o ad σ ++ (wS ty ad τ ++ ([lst3 ad] ++ ([dat3 ty ad (fImg im)] ++ ((wLo ty (im 0)) ++ ((wLo ty (im 1)) ++ ((wLo ty (im 2)) ++ (rs ++ (wLehr ty ad σ ++ ([(a2 0, .inr (1, fL a2 (cpL6 σ)))] ++ ((wLehr ty a2 (cpL6 σ)).tail ++ []))))))))))) := h
  have h : Hw D A s H locs (wBelt ty o ad σ ++ (wS ty ad τ ++ ((wLo ty (im 0)) ++ ((wLo ty (im 1)) ++ ((wLo ty (im 2)) ++ (rs ++ (wLehr ty ad σ ++ ((wLehr ty a2 (cpL6 σ)).tail ++ ([lst3 ad] ++ ([dat3 ty ad (fImg im)] ++ ([(a2 0, .inr (1, fL a2 (cpL6 σ)))] ++ []))))))))))) := Hw.perm (List.Perm.append_left _ (List.Perm.append_left _ (((List.Perm.append_left _ (List.perm_append_comm_assoc _ _ _)).trans (List.perm_append_comm_assoc _ _ _)).trans (List.Perm.append_left _ (((List.Perm.append_left _ (List.perm_append_comm_assoc _ _ _)).trans (List.perm_append_comm_assoc _ _ _)).trans (List.Perm.append_left _ (((List.Perm.append_left _ (List.perm_append_comm_assoc _ _ _)).trans (List.perm_append_comm_assoc _ _ _)).trans (List.Perm.append_left _ (((List.Perm.append_left _ (List.perm_append_comm_assoc _ _ _)).trans (List.perm_append_comm_assoc _ _ _)).trans (List.Perm.append_left _ (((List.Perm.append_left _ (List.perm_append_comm_assoc _ _ _)).trans (List.perm_append_comm_assoc _ _ _)).trans (List.Perm.append_left _ ((List.Perm.append_left _ ((List.Perm.append_left _ (List.perm_append_comm_assoc _ _ _)).trans (List.perm_append_comm_assoc _ _ _))).trans (List.perm_append_comm_assoc _ _ _)))))))))))))) h
  have h : Hw D A s H locs ((wBelt ty o ad σ ++ (wS ty ad τ ++ ((wLo ty (im 0)) ++ ((wLo ty (im 1)) ++ ((wLo ty (im 2)) ++ (rs ++ (wLehr ty ad σ ++ (wLehr ty a2 (cpL6 σ)).tail))))))) ++ [(ad 31, .inr (10, [.int 3, .ref (ad 32), .int 3])), (ad 32, .inl (ty 7, 10, .inr (.inr (.inr (.inr (fImg im)))))), (a2 0, .inr (1, fL a2 (cpL6 σ)))]) := by simpa only [List.append_assoc, List.append_nil, List.cons_append, List.nil_append, lst3, dat3] using h
  refine KQx.callV (wr := wBelt ty o ad σ ++ (wS ty ad τ ++ ((wLo ty (im 0)) ++ ((wLo ty (im 1)) ++ ((wLo ty (im 2)) ++ (rs ++ (wLehr ty ad σ ++ (wLehr ty a2 (cpL6 σ)).tail))))))) (As := [.int k, .ref (a2 0)]) (rest := []) C (fun A => kJ_set l h0 h1 hi) (lw_V q1425 q1426 q1427 q146 q1428) ⟨rfl, by decide, by decide, by show _ = some 2; decide +kernel⟩ 0 10 rfl rfl rfl (Nat.le_of_ble_eq_true rfl) (by decide) (by omega) (by omega) h hl.1 rfl (Nat.le_of_ble_eq_true rfl) dX0_image_50 (fun r9 _ H locs _ h => ?_)
  refine lv_pop C.x C.b dX0_image_53 (by cases r9 <;> rfl) ?_
  refine lv_iconst (v := 0) C.x C.b dX0_image_54 (by decide) ?_
  have hk3 : k.toNatClampNeg < 3 := k3_of hi h1
  obtain ⟨j, ej⟩ : ∃ j, j = k.toNatClampNeg := ⟨_, rfl⟩
  rw [← ej] at h hk3
  rw [fImg_up hk3 a2 (cpL6 σ)] at h
  have h : Hw D A s H locs (wBelt ty o ad σ ++ (wS ty ad τ ++ ((wLo ty (im 0)) ++ ((wLo ty (im 1)) ++ ((wLo ty (im 2)) ++ (rs ++ (wLehr ty ad σ ++ ((wLehr ty a2 (cpL6 σ)).tail ++ ([lst3 ad] ++ ([dat3 ty ad (fImg (va_up im j (some (a2, cpL6 σ))))] ++ ([(a2 0, .inr (1, fL a2 (cpL6 σ)))] ++ []))))))))))) := by simpa only [List.append_assoc, List.append_nil, List.cons_append, List.nil_append, lst3, dat3] using h
  refine hR 0 a2 _ _ _ _ rfl ?_ (vp_nar_int _) dX0_image_55
  rw [← ej]
  have h4 : j = 0 ∨ j = 1 ∨ j = 2 := by omega
  rcases h4 with h4 | h4 | h4
  · subst h4
    have h : Hw D A s H locs (wBelt ty o ad σ ++ (wLehr ty ad σ ++ (wS ty ad τ ++ ([lst3 ad] ++ ([dat3 ty ad (fImg (va_up im 0 (some (a2, cpL6 σ))))] ++ ([(a2 0, .inr (1, fL a2 (cpL6 σ)))] ++ ((wLehr ty a2 (cpL6 σ)).tail ++ ((wLo ty (im 1)) ++ ((wLo ty (im 2)) ++ (rs ++ ((wLo ty (im 0)) ++ []))))))))))) := Hw.perm (List.Perm.append_left _ (((List.Perm.append_left _ ((List.Perm.append_left _ ((List.Perm.append_left _ ((List.Perm.append_left _ (List.perm_append_comm_assoc _ _ _)).trans (List.perm_append_comm_assoc _ _ _))).trans (List.perm_append_comm_assoc _ _ _))).trans (List.perm_append_comm_assoc _ _ _))).trans (List.perm_append_comm_assoc _ _ _)).trans (List.Perm.append_left _ (List.Perm.append_left _ (((List.Perm.append_left _ ((List.Perm.append_left _ ((List.Perm.append_left _ ((List.Perm.append_left _ (List.perm_append_comm_assoc _ _ _)).trans (List.perm_append_comm_assoc _ _ _))).trans (List.perm_append_comm_assoc _ _ _))).trans (List.perm_append_comm_assoc _ _ _))).trans (List.perm_append_comm_assoc _ _ _)).trans (List.Perm.append_left _ (((List.Perm.append_left _ ((List.Perm.append_left _ ((List.Perm.append_left _ ((List.Perm.append_left _ (List.perm_append_comm_assoc _ _ _)).trans (List.perm_append_comm_assoc _ _ _))).trans (List.perm_append_comm_assoc _ _ _))).trans (List.perm_append_comm_assoc _ _ _))).trans (List.perm_append_comm_assoc _ _ _)).trans (List.Perm.append_left _ (((List.Perm.append_left _ ((List.Perm.append_left _ ((List.Perm.append_left _ ((List.Perm.append_left _ (List.perm_append_comm_assoc _ _ _)).trans (List.perm_append_comm_assoc _ _ _))).trans (List.perm_append_comm_assoc _ _ _))).trans (List.perm_append_comm_assoc _ _ _))).trans (List.perm_append_comm_assoc _ _ _)).trans (List.Perm.append_left _ (((List.Perm.append_left _ ((List.Perm.append_left _ ((List.Perm.append_left _ (List.perm_append_comm_assoc _ _ _)).trans (List.perm_append_comm_assoc _ _ _))).trans (List.perm_append_comm_assoc _ _ _))).trans (List.perm_append_comm_assoc _ _ _)).trans (List.Perm.append_left _ ((List.perm_append_comm_assoc _ _ _).trans (List.Perm.append_left _ ((List.perm_append_comm_assoc _ _ _).trans (List.Perm.append_left _ (List.perm_append_comm_assoc _ _ _))))))))))))))))) h
    have h : Hw D A s H locs ((wBelt ty o ad σ ++ (wLehr ty ad σ ++ (wS ty ad τ ++ ([lst3 ad] ++ ([dat3 ty ad (fImg (va_up im 0 (some (a2, cpL6 σ))))] ++ ([(a2 0, .inr (1, fL a2 (cpL6 σ)))] ++ ((wLehr ty a2 (cpL6 σ)).tail ++ ((wLo ty (im 1)) ++ ((wLo ty (im 2)) ++ rs))))))))) ++ (wLo ty (im 0))) := by simpa only [List.append_assoc, List.append_nil] using h
    have h := h.left
    show Hw D A s H locs (wX ty o ad σ ++ (wS ty ad τ ++ (([lst3 ad, dat3 ty ad (fImg (va_up im 0 (some (a2, cpL6 σ))))] ++ (wLehr ty a2 (cpL6 σ) ++ ((wLo ty (im 1)) ++ (wLo ty (im 2))))) ++ rs)))
    rw [wX_split]
    simp only [List.append_assoc]
    exact h
  · subst h4
    have h : Hw D A s H locs (wBelt ty o ad σ ++ (wLehr ty ad σ ++ (wS ty ad τ ++ ([lst3 ad] ++ ([dat3 ty ad (fImg (va_up im 1 (some (a2, cpL6 σ))))] ++ ((wLo ty (im 0)) ++ ([(a2 0, .inr (1, fL a2 (cpL6 σ)))] ++ ((wLehr ty a2 (cpL6 σ)).tail ++ ((wLo ty (im 2)) ++ (rs ++ ((wLo ty (im 1)) ++ []))))))))))) := Hw.perm (List.Perm.append_left _ (((List.Perm.append_left _ ((List.Perm.append_left _ ((List.Perm.append_left _ ((List.Perm.append_left _ (List.perm_append_comm_assoc _ _ _)).trans (List.perm_append_comm_assoc _ _ _))).trans (List.perm_append_comm_assoc _ _ _))).trans (List.perm_append_comm_assoc _ _ _))).trans (List.perm_append_comm_assoc _ _ _)).trans (List.Perm.append_left _ (List.Perm.append_left _ (((List.Perm.append_left _ ((List.Perm.append_left _ ((List.Perm.append_left _ ((List.Perm.append_left _ (List.perm_append_comm_assoc _ _ _)).trans (List.perm_append_comm_assoc _ _ _))).trans (List.perm_append_comm_assoc _ _ _))).trans (List.perm_append_comm_assoc _ _ _))).trans (List.perm_append_comm_assoc _ _ _)).trans (List.Perm.append_left _ (((List.Perm.append_left _ ((List.Perm.append_left _ ((List.Perm.append_left _ ((List.Perm.append_left _ (List.perm_append_comm_assoc _ _ _)).trans (List.perm_append_comm_assoc _ _ _))).trans (List.perm_append_comm_assoc _ _ _))).trans (List.perm_append_comm_assoc _ _ _))).trans (List.perm_append_comm_assoc _ _ _)).trans (List.Perm.append_left _ (List.Perm.append_left _ (((List.Perm.append_left _ ((List.Perm.append_left _ ((List.Perm.append_left _ (List.perm_append_comm_assoc _ _ _)).trans (List.perm_append_comm_assoc _ _ _))).trans (List.perm_append_comm_assoc _ _ _))).trans (List.perm_append_comm_assoc _ _ _)).trans (List.Perm.append_left _ (((List.Perm.append_left _ ((List.Perm.append_left _ (List.perm_append_comm_assoc _ _ _)).trans (List.perm_append_comm_assoc _ _ _))).trans (List.perm_append_comm_assoc _ _ _)).trans (List.Perm.append_left _ ((List.perm_append_comm_assoc _ _ _).trans (List.Perm.append_left _ (List.perm_append_comm_assoc _ _ _)))))))))))))))) h
    have h : Hw D A s H locs ((wBelt ty o ad σ ++ (wLehr ty ad σ ++ (wS ty ad τ ++ ([lst3 ad] ++ ([dat3 ty ad (fImg (va_up im 1 (some (a2, cpL6 σ))))] ++ ((wLo ty (im 0)) ++ ([(a2 0, .inr (1, fL a2 (cpL6 σ)))] ++ ((wLehr ty a2 (cpL6 σ)).tail ++ ((wLo ty (im 2)) ++ rs))))))))) ++ (wLo ty (im 1))) := by simpa only [List.append_assoc, List.append_nil] using h
    have h := h.left
    show Hw D A s H locs (wX ty o ad σ ++ (wS ty ad τ ++ (([lst3 ad, dat3 ty ad (fImg (va_up im 1 (some (a2, cpL6 σ))))] ++ ((wLo ty (im 0)) ++ (wLehr ty a2 (cpL6 σ) ++ (wLo ty (im 2))))) ++ rs)))
    rw [wX_split]
    simp only [List.append_assoc]
    exact h
  · subst h4
    have h : Hw D A s H locs (wBelt ty o ad σ ++ (wLehr ty ad σ ++ (wS ty ad τ ++ ([lst3 ad] ++ ([dat3 ty ad (fImg (va_up im 2 (some (a2, cpL6 σ))))] ++ ((wLo ty (im 0)) ++ ((wLo ty (im 1)) ++ ([(a2 0, .inr (1, fL a2 (cpL6 σ)))] ++ ((wLehr ty a2 (cpL6 σ)).tail ++ (rs ++ ((wLo ty (im 2)) ++ []))))))))))) := Hw.perm (List.Perm.append_left _ (((List.Perm.append_left _ ((List.Perm.append_left _ ((List.Perm.append_left _ ((List.Perm.append_left _ (List.perm_append_comm_assoc _ _ _)).trans (List.perm_append_comm_assoc _ _ _))).trans (List.perm_append_comm_assoc _ _ _))).trans (List.perm_append_comm_assoc _ _ _))).trans (List.perm_append_comm_assoc _ _ _)).trans (List.Perm.append_left _ (List.Perm.append_left _ (((List.Perm.append_left _ ((List.Perm.append_left _ ((List.Perm.append_left _ ((List.Perm.append_left _ (List.perm_append_comm_assoc _ _ _)).trans (List.perm_append_comm_assoc _ _ _))).trans (List.perm_append_comm_assoc _ _ _))).trans (List.perm_append_comm_assoc _ _ _))).trans (List.perm_append_comm_assoc _ _ _)).trans (List.Perm.append_left _ (((List.Perm.append_left _ ((List.Perm.append_left _ ((List.Perm.append_left _ ((List.Perm.append_left _ (List.perm_append_comm_assoc _ _ _)).trans (List.perm_append_comm_assoc _ _ _))).trans (List.perm_append_comm_assoc _ _ _))).trans (List.perm_append_comm_assoc _ _ _))).trans (List.perm_append_comm_assoc _ _ _)).trans (List.Perm.append_left _ (List.Perm.append_left _ (List.Perm.append_left _ (((List.Perm.append_left _ ((List.Perm.append_left _ (List.perm_append_comm_assoc _ _ _)).trans (List.perm_append_comm_assoc _ _ _))).trans (List.perm_append_comm_assoc _ _ _)).trans (List.Perm.append_left _ (((List.Perm.append_left _ (List.perm_append_comm_assoc _ _ _)).trans (List.perm_append_comm_assoc _ _ _)).trans (List.Perm.append_left _ (List.perm_append_comm_assoc _ _ _))))))))))))))) h
    have h : Hw D A s H locs ((wBelt ty o ad σ ++ (wLehr ty ad σ ++ (wS ty ad τ ++ ([lst3 ad] ++ ([dat3 ty ad (fImg (va_up im 2 (some (a2, cpL6 σ))))] ++ ((wLo ty (im 0)) ++ ((wLo ty (im 1)) ++ ([(a2 0, .inr (1, fL a2 (cpL6 σ)))] ++ ((wLehr ty a2 (cpL6 σ)).tail ++ rs))))))))) ++ (wLo ty (im 2))) := by simpa only [List.append_assoc, List.append_nil] using h
    have h := h.left
    show Hw D A s H locs (wX ty o ad σ ++ (wS ty ad τ ++ (([lst3 ad, dat3 ty ad (fImg (va_up im 2 (some (a2, cpL6 σ))))] ++ ((wLo ty (im 0)) ++ ((wLo ty (im 1)) ++ wLehr ty a2 (cpL6 σ)))) ++ rs)))
    rw [wX_split]
    simp only [List.append_assoc]
    exact h
