set_option maxRecDepth 100000
abbrev FT : Type := Int32 × Int32 × PS
/-- the token is known -/
def tkg {α : Type} (k : Int32) (x : Option α) : Option α := if k = 0 ∨ k = 1 ∨ k = 2 ∨ k = 3 ∨ k = 4 then x else none
theorem tkg_k {α : Type} {k : Int32} {x : Option α} {f : α} (h : tkg k x = some f) : tkn k ∧ x = some f := by
  unfold tkg at h
  by_cases c : k = 0 ∨ k = 1 ∨ k = 2 ∨ k = 3 ∨ k = 4
  · rw [if_pos c] at h; exact ⟨c, h⟩
  · rw [if_neg c] at h; cases h
/-- goes on, or the fault goes through -/
def bf {α β : Type} (x : Option (α ⊕ FT)) (f : α → Option (β ⊕ FT)) : Option (β ⊕ FT) := match x with
  | none => none
  | some (.inl a) => f a
  | some (.inr u) => some (.inr u)
theorem bf_k {α β : Type} {x : Option (α ⊕ FT)} {f : α → Option (β ⊕ FT)} {res : β ⊕ FT} (h : bf x f = some res) : (∃ a, x = some (.inl a) ∧ f a = some res) ∨ (∃ u, x = some (.inr u) ∧ .inr u = res) := by
  match x, h with
  | some (.inl a), h => exact Or.inl ⟨a, rfl, h⟩
  | some (.inr u), h => exact Or.inr ⟨u, rfl, some_k h⟩
theorem bd_k1 {α β : Type} {x : Option α} {f : α → Option β} {r : β} (h : bd x f = some r) : ∃ a, x = some a ∧ f a = some r := by
  match x, h with
  | some a, h => exact ⟨a, rfl, h⟩
theorem ix_k1 {α : Type} {i : Int32} {n : Nat} {x : Option α} {f : α} (h : ix i n x = some f) : vp_in i n ∧ x = some f := ix_k (K := fun x => x) rfl h
def R_isL (τ σ : PS) (i : Nat) : Nat → Nat → Option Int32
  | 0, _ => none
  | n + 1, k => if nI (strLen.getD i 0) ≤ nI k then some 1 else ix (gI σ 203 + nI k) 600 (if rA τ 1 (gI σ 203 + nI k) = chr i k then R_isL τ σ i n (k + 1) else some 0)
def R_is (τ σ : PS) (i : Nat) : Option Int32 := tkg (gI σ 205) (if gI σ 205 = 1 then (if gI σ 202 - gI σ 203 = nI (strLen.getD i 0) then R_isL τ σ i 6 0 else some 0) else some 0)
def R_takes (τ σ : PS) (i : Nat) : Option (Int32 × PS) := bd (R_is τ σ i) (fun q => if q = 0 then some (q, σ) else bd (R_next τ σ) (fun σ1 => some (q, σ1)))
def R_expects (τ σ : PS) (i : Nat) : Option (PS ⊕ FT) := bd (R_takes τ σ i) (fun q => if q.1 = 0 then some (.inr (1, gI q.2 203, q.2)) else some (.inl q.2))
def R_number (τ σ : PS) (v1 v2 : Int32) : Option ((Int32 × PS) ⊕ FT) := tkg (gI σ 205) (if gI σ 205 = 2 then bd (X_isIn (gI σ 204).toInt64 v1.toInt64 v2.toInt64) (fun q => if q = 0 then some (.inr (2, gI σ 203, σ)) else bd (R_next τ σ) (fun σ1 => some (.inl (gI σ 204, σ1)))) else some (.inr (1, gI σ 203, σ)))
def R_told (τ σ : PS) (i : Nat) (v2 v3 : Int32) : Option ((Int32 × PS) ⊕ FT) := bf (R_expects τ σ i) (fun σ1 => R_number τ σ1 v2 v3)
def R_head (τ σ : PS) : Option (PS ⊕ FT) := bf (R_expects τ σ 0) (fun σ1 => bf (R_told τ σ1 1 1 14) (fun q2 => bf (R_told τ (sI q2.2 100 q2.1) 2 0 3) (fun q3 => bf (R_told τ (sI q3.2 101 q3.1) 3 0 10) (fun q4 => bf (R_told τ (sI q4.2 102 q4.1) 4 1 4) (fun q5 => bf (R_told τ (sI q5.2 103 q5.1) 5 0 600) (fun q6 => some (.inl (sI q6.2 104 q6.1))))))))
def R_newZone (τ σ : PS) : Option (PS ⊕ FT) := bf (R_number τ σ 0 600) (fun q => ix (gI σ 106) 7 (some (.inl (sI (wA q.2 109 (gI σ 106) q.1) 106 (gI (wA q.2 109 (gI σ 106) q.1) 106 + 1)))))
def R_newPiece (τ σ : PS) : Option (PS ⊕ FT) := bf (R_told τ σ 8 0 600) (fun q1 => ix (gI σ 107) 6 (bf (R_told τ (wA q1.2 110 (gI σ 107) q1.1) 9 1 9) (fun q2 => bf (R_told τ (wA q2.2 111 (gI σ 107) q2.1) 10 0 300) (fun q3 => bf (R_told τ (wA q3.2 112 (gI σ 107) q3.1) 11 0 14) (fun q4 => some (.inl (sI (wA q4.2 113 (gI σ 107) q4.1) 107 (gI (wA q4.2 113 (gI σ 107) q4.1) 107 + 1))))))))
def R_begins (τ σ : PS) (i : Nat) (f : Int32) : Option ((Int32 × PS) ⊕ FT) := bd (R_is τ σ i) (fun q => if q = 0 then bd (R_takes τ σ i) (fun q2 => some (.inl q2)) else if f = 0 then bd (R_takes τ σ i) (fun q2 => some (.inl q2)) else some (.inr (3, gI σ 203, σ)))
def R_line (τ σ : PS) : Option (PS ⊕ FT) := bf (R_begins τ σ 6 (if gI σ 106 = 7 then 1 else 0)) (fun q => if q.1 = 0 then bf (R_begins τ q.2 7 (if gI q.2 107 = 6 then 1 else 0)) (fun q2 => if q2.1 = 0 then some (.inr (1, gI q2.2 203, q2.2)) else R_newPiece τ q2.2) else R_newZone τ q.2)
def R_whole (τ : PS) : Nat → PS → Option (PS ⊕ FT)
  | 0, _ => none
  | n + 1, σ => tkg (gI σ 205) (if gI σ 205 = 0 then some (.inl σ) else bf (if gI σ 105 = 0 then R_head τ σ else R_line τ σ) (fun σ1 => tkg (gI σ1 205) (if gI σ1 205 = 3 then bd (R_next τ σ1) (fun σ2 => R_whole τ n (sI σ2 105 (gI σ2 105 + 1))) else some (.inr (1, gI σ1 203, σ1)))))
set_option maxHeartbeats 1000000 in
theorem kR_is (l : Launch) {D : va_G} {ty : Nat → ClassId} {A : Nat → Prop} {b o : Nat} {ad ad2 : Nat → Nat} {rs : va_W} {σ τ : PS} {i : Nat} (hi : i < 12) {r : Int32} (hf : R_is τ σ i = some r) : KI l yX8_is cX8_is 3 .boolean 5 D ty A (wRd ty b o ad2 σ ++ (wBelt ty o ad τ ++ rs)) (wRd ty b o ad2 σ ++ (wBelt ty o ad τ ++ rs)) [.ref b, .ref (ty (200 + i))] r := by
  refine KI.of (by decide) (Nat.le_of_ble_eq_true rfl) ?_
  intro p e R s m args below meth c Q C hR H locs ls h hl
  have C : Cx p R s m args c cX8_is 3 RX8 D ty A 5 := C
  have hl : lv_has ls 3 [(0, .ref b), (1, .ref (ty (200 + i)))] := hl
  obtain ⟨ht, hf⟩ := tkg_k hf
  have hlen := str_len i hi
  have loop : ∀ (n k : Nat) (H : Heap) (locs : List Loc) (ls : Array Slot), Hw D A s H locs (wRd ty b o ad2 σ ++ (wBelt ty o ad τ ++ rs)) → lv_has ls 3 [(2, .int (nI k)), (0, .ref b), (1, .ref (ty (200 + i)))] → k ≤ strLen.getD i 0 → R_isL τ σ i n k = some r → W p l e R s m args below meth c H locs 0 0 Q (F0 m 30 ls []) := by
    intro n
    induction n with
    | zero => intro k H locs ls h hl hk hf; cases hf
    | succ n ih =>
      intro k H locs ls h hl hk hf
      unfold R_isL at hf
      refine lv_iload_n C.x C.b dX8_is_30 rfl (lv_at hl 0 rfl) ?_
      refine lv_aload_n C.x C.b dX8_is_31 rfl (lv_at hl 2 rfl) ?_
      refine KI.callVr (As := []) (rest := [.int (nI k)]) C (kT_length l hi) (lw_V q538 q539 q540 q152 q541) ⟨rfl, by decide, by decide, by show _ = some 0; decide +kernel⟩ (vk_recv (adK := fun i => ty (200 + i)) (i := i) C.E.2.2.2.2.1 hi h.2.2) (Nat.le_of_ble_eq_true rfl) (by decide) (by omega) (by omega) h hl.1 rfl (Nat.le_of_ble_eq_true rfl) dX8_is_32 (fun H locs h => ?_)
      refine lv_icmp_ge (tgt := 68) C.x C.b dX8_is_35 (by decide) (fun c9 => ?_) (fun c9 => ?_)
      · rw [if_pos c9] at hf
        refine lv_iconst (v := 1) C.x C.b dX8_is_68 (by decide) ?_
        cases (some_k hf)
        exact hR _ _ _ _ h (by decide) dX8_is_69
      · rw [if_neg c9] at hf
        obtain ⟨hx, hf⟩ := ix_k1 hf
        have hkl : k < strLen.getD i 0 := Nat.lt_of_not_le (fun h9 => c9 (nI_le h9 (by omega)))
        refine lv_aload_n C.x C.b dX8_is_38 rfl (lv_at hl 1 rfl) ?_
        refine r_g6 C h dX8_is_39 ?_
        refine r_o1 C h dX8_is_42 ?_
        refine lv_aload_n C.x C.b dX8_is_45 rfl (lv_at hl 1 rfl) ?_
        refine r_g3 C h dX8_is_46 ?_
        refine lv_iload_n C.x C.b dX8_is_49 rfl (lv_at hl 0 rfl) ?_
        refine lv_iadd C.x C.b dX8_is_50 ?_
        refine r_tape C h hx dX8_is_51 ?_
        refine lv_aload_n C.x C.b dX8_is_52 rfl (lv_at hl 2 rfl) ?_
        refine lv_iload_n C.x C.b dX8_is_53 rfl (lv_at hl 0 rfl) ?_
        refine KI.callVr (As := [.int (nI k)]) (rest := [.int (rA τ 1 (gI σ 203 + nI k))]) C (kT_charAt l hi hkl) (lw_V q548 q549 q550 q152 q551) ⟨rfl, by decide, by decide, by show _ = some 1; decide +kernel⟩ (vk_recv (adK := fun i => ty (200 + i)) (i := i) C.E.2.2.2.2.1 hi h.2.2) (Nat.le_of_ble_eq_true rfl) (by decide) (by omega) (by omega) h hl.1 rfl (Nat.le_of_ble_eq_true rfl) dX8_is_54 (fun H locs h => ?_)
        refine lv_icmp_eq (tgt := 62) C.x C.b dX8_is_57 (by decide) (fun c8 => ?_) (fun c8 => ?_)
        · rw [if_pos c8] at hf
          refine lv_iinc (v := nI (k + 1)) (lv' := [(2, .int (nI (k + 1))), (0, .ref b), (1, .ref (ty (200 + i)))]) C.x C.b dX8_is_62 hl (k := 0) rfl (iinc_e (k := 1) (by decide) (nI_succ k)) (by decide) rfl (fun ls hl => ?_)
          refine lv_goto (tgt := 30) C.x C.b dX8_is_65 (by decide) ?_
          exact ih (k + 1) _ _ _ h hl hkl hf
        · rw [if_neg c8] at hf
          refine lv_iconst (v := 0) C.x C.b dX8_is_60 (by decide) ?_
          cases (some_k hf)
          exact hR _ _ _ _ h (by decide) dX8_is_61
  refine lv_aload_n C.x C.b dX8_is_0 rfl (lv_at hl 0 rfl) ?_
  refine r_g5 C h dX8_is_1 ?_
  refine r_tok1 C h dX8_is_4 ?_
  refine lv_acmp_ne (rx := tokO ty (gI σ 205)) (ry := tokO ty 1) (tgt := 26) C.x C.b dX8_is_7 (by decide) (fun c9 => ?_) (fun c9 => ?_)
  · rw [if_neg (fun h9 => c9 (by rw [h9]))] at hf
    refine lv_iconst (v := 0) C.x C.b dX8_is_26 (by decide) ?_
    cases (some_k hf)
    exact hR _ _ _ _ h (by decide) dX8_is_27
  · have c8 : gI σ 205 = 1 := (tok_inj C.E.2.2.2.1 ht (by unfold tkn; decide)).mp c9
    rw [if_pos c8] at hf
    refine lv_aload_n C.x C.b dX8_is_10 rfl (lv_at hl 0 rfl) ?_
    refine r_g2 C h dX8_is_11 ?_
    refine lv_aload_n C.x C.b dX8_is_14 rfl (lv_at hl 0 rfl) ?_
    refine r_g3 C h dX8_is_15 ?_
    refine lv_isub C.x C.b dX8_is_18 ?_
    refine lv_aload_n C.x C.b dX8_is_19 rfl (lv_at hl 1 rfl) ?_
    refine KI.callVr (As := []) (rest := [.int ((gI σ 202) - (gI σ 203))]) C (kT_length l hi) (lw_V q538 q539 q540 q152 q541) ⟨rfl, by decide, by decide, by show _ = some 0; decide +kernel⟩ (vk_recv (adK := fun i => ty (200 + i)) (i := i) C.E.2.2.2.2.1 hi h.2.2) (Nat.le_of_ble_eq_true rfl) (by decide) (by omega) (by omega) h hl.1 rfl (Nat.le_of_ble_eq_true rfl) dX8_is_20 (fun H locs h => ?_)
    refine lv_icmp_eq (tgt := 28) C.x C.b dX8_is_23 (by decide) (fun c7 => ?_) (fun c7 => ?_)
    · rw [if_pos c7] at hf
      refine lv_iconst (v := 0) C.x C.b dX8_is_28 (by decide) ?_
      refine lv_istore_n (lv' := [(2, .int 0), (0, .ref b), (1, .ref (ty (200 + i)))]) C.x C.b dX8_is_29 rfl hl (by decide) rfl (fun ls hl => ?_)
      exact loop 6 0 _ _ _ h hl (Nat.zero_le _) hf
    · rw [if_neg c7] at hf
      refine lv_iconst (v := 0) C.x C.b dX8_is_26 (by decide) ?_
      cases (some_k hf)
      exact hR _ _ _ _ h (by decide) dX8_is_27
theorem R_isL_01 {τ σ : PS} {i : Nat} {r : Int32} : ∀ (n k : Nat), R_isL τ σ i n k = some r → r = 0 ∨ r = 1 := by
  intro n
  induction n with
  | zero => intro k h; cases h
  | succ n ih =>
    intro k h
    unfold R_isL at h
    by_cases c1 : nI (strLen.getD i 0) ≤ nI k
    · rw [if_pos c1] at h; cases h; exact Or.inr rfl
    · rw [if_neg c1] at h
      obtain ⟨-, h⟩ := ix_k1 h
      by_cases c2 : rA τ 1 (gI σ 203 + nI k) = chr i k
      · rw [if_pos c2] at h; exact ih _ h
      · rw [if_neg c2] at h; cases h; exact Or.inl rfl
theorem R_is_01 {τ σ : PS} {i : Nat} {r : Int32} (h : R_is τ σ i = some r) : r = 0 ∨ r = 1 := by
  obtain ⟨-, h⟩ := tkg_k h
  by_cases c1 : gI σ 205 = 1
  · rw [if_pos c1] at h
    by_cases c2 : gI σ 202 - gI σ 203 = nI (strLen.getD i 0)
    · rw [if_pos c2] at h; exact R_isL_01 _ _ h
    · rw [if_neg c2] at h; cases h; exact Or.inl rfl
  · rw [if_neg c1] at h; cases h; exact Or.inl rfl
theorem R_is_nar {τ σ : PS} {i : Nat} {r : Int32} (h : R_is τ σ i = some r) : narrow .boolean (.int r) = .int r := by
  rcases R_is_01 h with h | h <;> (subst h; decide)
theorem kR_takes (l : Launch) {D : va_G} {ty : Nat → ClassId} {A : Nat → Prop} {b o : Nat} {ad ad2 : Nat → Nat} {rs : va_W} {σ τ : PS} {i : Nat} (hi : i < 12) {q : Int32 × PS} (hf : R_takes τ σ i = some q) : KI l yX8_takes cX8_takes 3 .boolean 6 D ty A (wRd ty b o ad2 σ ++ (wBelt ty o ad τ ++ rs)) (wRd ty b o ad2 q.2 ++ (wBelt ty o ad τ ++ rs)) [.ref b, .ref (ty (200 + i))] q.1 := by
  refine KI.of (by decide) (Nat.le_of_ble_eq_true rfl) ?_
  intro p e R s m args below meth c Q C hR H locs ls h hl
  have C : Cx p R s m args c cX8_takes 3 RX8 D ty A 6 := C
  have hl : lv_has ls 3 [(0, .ref b), (1, .ref (ty (200 + i)))] := hl
  obtain ⟨v, hc, hf⟩ := bd_k1 hf
  refine lv_aload_n C.x C.b dX8_takes_0 rfl (lv_at hl 0 rfl) ?_
  refine lv_aload_n C.x C.b dX8_takes_1 rfl (lv_at hl 1 rfl) ?_
  refine KI.callV (As := [.ref (ty (200 + i))]) (rest := []) C (kR_is l hi hc) (lw_V q534 q536 qs6 q148 q537) ⟨rfl, by decide, by decide, by show _ = some 1; decide +kernel⟩ 0 8 rfl rfl rfl (Nat.le_of_ble_eq_true rfl) (by decide) (by omega) (by omega) h hl.1 rfl (Nat.le_of_ble_eq_true rfl) dX8_takes_2 (fun H locs h => ?_)
  refine lv_istore_n (lv' := [(2, .int v), (0, .ref b), (1, .ref (ty (200 + i)))]) C.x C.b dX8_takes_5 rfl hl (by decide) rfl (fun ls hl => ?_)
  refine lv_iload_n C.x C.b dX8_takes_6 rfl (lv_at hl 0 rfl) ?_
  have hz : narrow .boolean (.int v) = .int v := R_is_nar hc
  refine lv_if_eq (tgt := 14) C.x C.b dX8_takes_7 (by decide) (fun c9 => ?_) (fun c9 => ?_)
  · rw [if_pos c9] at hf
    refine lv_iload_n C.x C.b dX8_takes_14 rfl (lv_at hl 0 rfl) ?_
    cases (some_k hf)
    exact hR _ _ _ _ h hz dX8_takes_15
  · rw [if_neg c9] at hf
    obtain ⟨σ1, hc2, hf⟩ := bd_k1 hf
    refine lv_aload_n C.x C.b dX8_takes_10 rfl (lv_at hl 1 rfl) ?_
    refine cR_next C h hc2 (Nat.le_of_ble_eq_true rfl) hl.1 (Nat.le_of_ble_eq_true rfl) dX8_takes_11 (fun H locs h => ?_)
    refine lv_iload_n C.x C.b dX8_takes_14 rfl (lv_at hl 0 rfl) ?_
    cases (some_k hf)
    exact hR _ _ _ _ h hz dX8_takes_15
theorem kR_wrong (l : Launch) {D : va_G} {ty : Nat → ClassId} {A : Nat → Prop} {b o : Nat} {ad ad2 : Nat → Nat} {rs : va_W} {σ τ : PS} {k : Int32} : KRx l yX8_wrong cX8_wrong 2 (.object "LehrBelt$Fault") 4 1 8 D ty A (wRd ty b o ad2 σ ++ (wBelt ty o ad τ ++ rs)) [.ref b, .int k] (fun (_ : Unit) => True) (fun _ a => (wRd ty b o ad2 σ ++ (wBelt ty o ad τ ++ rs)) ++ [cFault a k (gI σ 203)]) := by
  refine KRx.of (by decide) (Or.inl ⟨_, rfl⟩) (Nat.le_of_ble_eq_true rfl) ?_
  intro p e R s m args below meth c Q C hmc hms hR H locs ls h hl
  have C : Cx p R s m args c cX8_wrong 2 RX8 D ty A 4 := C
  have hl : lv_has ls 2 [(0, .ref b), (1, .int k)] := hl
  refine va_new (ci := 9) (fs := [.null, .null, .null, .null, .null, .int 0, .int 0, .int 0]) (C := RX9) (T := TX9) (N := 8) C.x C.b C.ts in_X9 tyX9 tyX9_ok C.own (C.ts _ q590) (C.ts _ q591) (C.ts _ q158) C.K h.1 h.2.1 h.2.2 C.2.2.1 rfl (by decide +kernel) (by omega) (by omega) dX8_wrong_0 (fun a H hP hD hS => ?_)
  have h : Hw D A s H locs ((wRd ty b o ad2 σ ++ (wBelt ty o ad τ ++ rs)) ++ [(a, .inr (9, [.null, .null, .null, .null, .null, .int 0, .int 0, .int 0]))]) := ⟨hP, hD, hS⟩
  refine lv_dup C.x C.b dX8_wrong_3 rfl ?_
  refine lv_iload_n C.x C.b dX8_wrong_4 rfl (lv_at hl 1 rfl) ?_
  refine lv_aload_n C.x C.b dX8_wrong_5 rfl (lv_at hl 0 rfl) ?_
  have h : Hw D A s H locs (wRd ty b o ad2 σ ++ (wBelt ty o ad τ ++ (rs ++ [(a, .inr (9, [.null, .null, .null, .null, .null, .int 0, .int 0, .int 0]))]))) := by simpa only [List.append_assoc] using h
  refine r_g3 C h dX8_wrong_6 ?_
  have h : Hw D A s H locs ((wRd ty b o ad2 σ ++ (wBelt ty o ad τ ++ rs)) ++ [(a, .inr (9, [.null, .null, .null, .null, .null, .int 0, .int 0, .int 0]))]) := by simpa only [List.append_assoc] using h
  refine KVx.callI (As := [.int k, .int (gI σ 203)]) (rest := [.ref a]) C (fun A => kF_init l) q646 q158 q644 q645 rfl ⟨by decide, by decide, by show _ = some 2; decide +kernel⟩ (Nat.le_of_ble_eq_true rfl) (by decide) (by omega) (by omega) h hl.1 rfl (Nat.le_of_ble_eq_true rfl) dX8_wrong_9 (fun _ H locs _ h => ?_)
  exact hR () a _ _ _ _ trivial h dX8_wrong_12
set_option maxHeartbeats 1000000 in
theorem kR_expects (l : Launch) {D : va_G} {ty : Nat → ClassId} {A : Nat → Prop} {b o : Nat} {ad ad2 : Nat → Nat} {rs : va_W} {σ τ : PS} {i : Nat} (hi : i < 12) {res : (PS ⊕ FT)} (hf : R_expects τ σ i = some res) : KFv l yX8_expects cX8_expects 2 7 D ty A (wRd ty b o ad2 σ ++ (wBelt ty o ad τ ++ rs)) [.ref b, .ref (ty (200 + i))] (fun x => (wRd ty b o ad2 x ++ (wBelt ty o ad τ ++ rs))) res := by
  refine KFv.of (by decide) (Nat.le_of_ble_eq_true rfl) ?_
  intro p e R s m args below meth c Q C hmc hms hR hX H locs ls h hl
  have C : Cx p R s m args c cX8_expects 2 RX8 D ty A 7 := C
  have hl : lv_has ls 2 [(0, .ref b), (1, .ref (ty (200 + i)))] := hl
  obtain ⟨q1, hc, hf⟩ := bd_k1 hf
  refine lv_aload_n C.x C.b dX8_expects_0 rfl (lv_at hl 0 rfl) ?_
  refine lv_aload_n C.x C.b dX8_expects_1 rfl (lv_at hl 1 rfl) ?_
  refine KI.callV (As := [.ref (ty (200 + i))]) (rest := []) C (kR_takes l hi hc) (lw_V q530 q532 qs5 q148 q533) ⟨rfl, by decide, by decide, by show _ = some 1; decide +kernel⟩ 0 8 rfl rfl rfl (Nat.le_of_ble_eq_true rfl) (by decide) (Nat.zero_le _) (Nat.zero_le _) h hl.1 rfl (Nat.le_of_ble_eq_true rfl) dX8_expects_2 (fun H locs h => ?_)
  refine lv_if_ne (tgt := 14) C.x C.b dX8_expects_5 (by decide) (fun c9 => ?_) (fun c9 => ?_)
  · rw [if_neg c9] at hf
    cases (some_k hf)
    exact hR _ _ _ _ _ rfl h dX8_expects_14
  · rw [if_pos c9] at hf
    cases (some_k hf)
    refine lv_aload_n C.x C.b dX8_expects_8 rfl (lv_at hl 0 rfl) ?_
    refine lv_iconst (v := 1) C.x C.b dX8_expects_9 (by decide) ?_
    have hmc : 1 ≤ R.cells := hmc
    have hms : 8 ≤ R.slots := hms
    have h : Hw D A s H locs ([] ++ (wRd ty b o ad2 q1.2 ++ (wBelt ty o ad τ ++ rs))) := h
    refine KRx.callVf (wr := []) (As := [.int 1]) (rest := []) C (fun A => kR_wrong l) (lw_V q586 q588 qs7 q148 q589) ⟨rfl, by decide, by decide, by show _ = some 1; decide +kernel⟩ 0 8 rfl rfl rfl (Nat.le_of_ble_eq_true rfl) (by decide) (by omega) (by omega) h hl.1 rfl (Nat.le_of_ble_eq_true rfl) dX8_expects_10 (fun _ q9 H locs _ h => ?_)
    exact vx_athrow C.x C.b dX8_expects_13 (hX (1, gI q1.2 203, q1.2) H locs _ _ _ q9 rfl h)
set_option maxHeartbeats 1000000 in
theorem kR_number (l : Launch) {D : va_G} {ty : Nat → ClassId} {A : Nat → Prop} {b o : Nat} {ad ad2 : Nat → Nat} {rs : va_W} {σ τ : PS} {v1 v2 : Int32} {res : ((Int32 × PS) ⊕ FT)} (hf : R_number τ σ v1 v2 = some res) : KFi l yX8_number cX8_number 4 .int 6 D ty A (wRd ty b o ad2 σ ++ (wBelt ty o ad τ ++ rs)) [.ref b, .int v1, .int v2] (fun x => (wRd ty b o ad2 x ++ (wBelt ty o ad τ ++ rs))) res := by
  refine KFi.of (by decide) (Nat.le_of_ble_eq_true rfl) ?_
  intro p e R s m args below meth c Q C hmc hms hR hX H locs ls h hl
  have C : Cx p R s m args c cX8_number 4 RX8 D ty A 6 := C
  have hl : lv_has ls 4 [(0, .ref b), (1, .int v1), (2, .int v2)] := hl
  obtain ⟨ht, hf⟩ := tkg_k hf
  refine lv_aload_n C.x C.b dX8_number_0 rfl (lv_at hl 0 rfl) ?_
  refine r_g5 C h dX8_number_1 ?_
  refine r_tok2 C h dX8_number_4 ?_
  refine lv_acmp_eq (rx := tokO ty (gI σ 205)) (ry := tokO ty 2) (tgt := 16) C.x C.b dX8_number_7 (by decide) (fun c9 => ?_) (fun c9 => ?_)
  rotate_left
  · rw [if_neg (fun h9 => c9 (by rw [h9]))] at hf
    cases (some_k hf)
    refine lv_aload_n C.x C.b dX8_number_10 rfl (lv_at hl 0 rfl) ?_
    refine lv_iconst (v := 1) C.x C.b dX8_number_11 (by decide) ?_
    have hmc : 1 ≤ R.cells := hmc
    have hms : 8 ≤ R.slots := hms
    have h : Hw D A s H locs ([] ++ (wRd ty b o ad2 σ ++ (wBelt ty o ad τ ++ rs))) := h
    refine KRx.callVf (wr := []) (As := [.int 1]) (rest := []) C (fun A => kR_wrong l) (lw_V q586 q588 qs7 q148 q589) ⟨rfl, by decide, by decide, by show _ = some 1; decide +kernel⟩ 0 8 rfl rfl rfl (Nat.le_of_ble_eq_true rfl) (by decide) (by omega) (by omega) h hl.1 rfl (Nat.le_of_ble_eq_true rfl) dX8_number_12 (fun _ q9 H locs _ h => ?_)
    exact vx_athrow C.x C.b dX8_number_15 (hX (1, gI σ 203, σ) H locs _ _ _ q9 rfl h)
  have c8 : gI σ 205 = 2 := (tok_inj C.E.2.2.2.1 ht (by unfold tkn; decide)).mp c9
  rw [if_pos c8] at hf
  obtain ⟨q1, hc, hf⟩ := bd_k1 hf
  refine lv_aload_n C.x C.b dX8_number_16 rfl (lv_at hl 0 rfl) ?_
  refine r_g4 C h dX8_number_17 ?_
  refine lv_i2l C.x C.b dX8_number_20 rfl ?_
  refine lv_iload_n C.x C.b dX8_number_21 rfl (lv_at hl 1 rfl) ?_
  refine lv_i2l C.x C.b dX8_number_22 rfl ?_
  refine lv_iload_n C.x C.b dX8_number_23 rfl (lv_at hl 2 rfl) ?_
  refine lv_i2l C.x C.b dX8_number_24 rfl ?_
  refine cX_isIn_RX8 C h hc (Nat.le_of_ble_eq_true rfl) hl.1 (Nat.le_of_ble_eq_true rfl) dX8_number_25 (fun H locs h => ?_)
  refine lv_if_ne (tgt := 37) C.x C.b dX8_number_28 (by decide) (fun c9 => ?_) (fun c9 => ?_)
  · rw [if_neg c9] at hf
    obtain ⟨σ1, hc2, hf⟩ := bd_k1 hf
    refine lv_aload_n C.x C.b dX8_number_37 rfl (lv_at hl 0 rfl) ?_
    refine r_g4 C h dX8_number_38 ?_
    refine lv_istore_n (lv' := [(3, .int (gI σ 204)), (0, .ref b), (1, .int v1), (2, .int v2)]) C.x C.b dX8_number_41 rfl hl (by decide) rfl (fun ls hl => ?_)
    refine lv_aload_n C.x C.b dX8_number_42 rfl (lv_at hl 1 rfl) ?_
    refine cR_next C h hc2 (Nat.le_of_ble_eq_true rfl) hl.1 (Nat.le_of_ble_eq_true rfl) dX8_number_43 (fun H locs h => ?_)
    refine lv_iload_n C.x C.b dX8_number_46 rfl (lv_at hl 0 rfl) ?_
    cases (some_k hf)
    exact hR _ _ _ _ _ _ rfl h (vp_nar_int _) dX8_number_47
  · rw [if_pos c9] at hf
    cases (some_k hf)
    refine lv_aload_n C.x C.b dX8_number_31 rfl (lv_at hl 0 rfl) ?_
    refine lv_iconst (v := 2) C.x C.b dX8_number_32 (by decide) ?_
    have hmc : 1 ≤ R.cells := hmc
    have hms : 8 ≤ R.slots := hms
    have h : Hw D A s H locs ([] ++ (wRd ty b o ad2 σ ++ (wBelt ty o ad τ ++ rs))) := h
    refine KRx.callVf (wr := []) (As := [.int 2]) (rest := []) C (fun A => kR_wrong l) (lw_V q586 q588 qs7 q148 q589) ⟨rfl, by decide, by decide, by show _ = some 1; decide +kernel⟩ 0 8 rfl rfl rfl (Nat.le_of_ble_eq_true rfl) (by decide) (by omega) (by omega) h hl.1 rfl (Nat.le_of_ble_eq_true rfl) dX8_number_33 (fun _ q9 H locs _ h => ?_)
    exact vx_athrow C.x C.b dX8_number_36 (hX (2, gI σ 203, σ) H locs _ _ _ q9 rfl h)
set_option maxHeartbeats 1000000 in
theorem kR_told (l : Launch) {D : va_G} {ty : Nat → ClassId} {A : Nat → Prop} {b o : Nat} {ad ad2 : Nat → Nat} {rs : va_W} {σ τ : PS} {i : Nat} (hi : i < 12) {v2 v3 : Int32} {res : ((Int32 × PS) ⊕ FT)} (hf : R_told τ σ i v2 v3 = some res) : KFi l yX8_told cX8_told 4 .int 8 D ty A (wRd ty b o ad2 σ ++ (wBelt ty o ad τ ++ rs)) [.ref b, .ref (ty (200 + i)), .int v2, .int v3] (fun x => (wRd ty b o ad2 x ++ (wBelt ty o ad τ ++ rs))) res := by
  refine KFi.of (by decide) (Nat.le_of_ble_eq_true rfl) ?_
  intro p e R s m args below meth c Q C hmc hms hR hX H locs ls h hl
  have C : Cx p R s m args c cX8_told 4 RX8 D ty A 8 := C
  have hl : lv_has ls 4 [(0, .ref b), (1, .ref (ty (200 + i))), (2, .int v2), (3, .int v3)] := hl
  unfold R_told at hf
  refine lv_aload_n C.x C.b dX8_told_0 rfl (lv_at hl 0 rfl) ?_
  refine lv_aload_n C.x C.b dX8_told_1 rfl (lv_at hl 1 rfl) ?_
  rcases bf_k hf with ⟨σ1, hc, hf⟩ | ⟨u, hc, hu⟩
  rotate_left
  · subst hu
    have hmc : 1 ≤ R.cells := hmc
    have hms : 8 ≤ R.slots := hms
    exact KFv.callX (As := [.ref (ty (200 + i))]) (rest := []) (wf := (fun x => (wRd ty b o ad2 x ++ (wBelt ty o ad τ ++ rs)))) C (kR_expects l hi hc) (lw_V q526 q528 qs4 q148 q529) ⟨rfl, by decide, by decide, by show _ = some 1; decide +kernel⟩ 0 8 rfl rfl rfl (Nat.le_of_ble_eq_true rfl) (by decide) (by omega) (by omega) h hl.1 rfl (Nat.le_of_ble_eq_true rfl) dX8_told_2 (fun H locs q9 h => hX u H locs _ _ _ q9 rfl h)
  refine KFv.callOk (As := [.ref (ty (200 + i))]) (rest := []) (wf := (fun x => (wRd ty b o ad2 x ++ (wBelt ty o ad τ ++ rs)))) C (kR_expects l hi hc) (lw_V q526 q528 qs4 q148 q529) ⟨rfl, by decide, by decide, by show _ = some 1; decide +kernel⟩ 0 8 rfl rfl rfl (Nat.le_of_ble_eq_true rfl) (by decide) (Nat.zero_le _) (Nat.zero_le _) h hl.1 rfl (Nat.le_of_ble_eq_true rfl) dX8_told_2 (fun H locs h => ?_)
  refine lv_aload_n C.x C.b dX8_told_5 rfl (lv_at hl 0 rfl) ?_
  refine lv_iload_n C.x C.b dX8_told_6 rfl (lv_at hl 2 rfl) ?_
  refine lv_iload_n C.x C.b dX8_told_7 rfl (lv_at hl 3 rfl) ?_
  cases res with
  | inr u =>
    have hmc : 1 ≤ R.cells := hmc
    have hms : 8 ≤ R.slots := hms
    exact KFi.callX (As := [.int v2, .int v3]) (rest := []) (wf := (fun x => (wRd ty b o ad2 x ++ (wBelt ty o ad τ ++ rs)))) C (kR_number l hf) (lw_V q679 q681 qs11 q148 q682) ⟨rfl, by decide, by decide, by show _ = some 2; decide +kernel⟩ 0 8 rfl rfl rfl (Nat.le_of_ble_eq_true rfl) (by decide) (by omega) (by omega) h hl.1 rfl (Nat.le_of_ble_eq_true rfl) dX8_told_8 (fun H locs q9 h => hX u H locs _ _ _ q9 rfl h)
  | inl q2 =>
    refine KFi.callOk (As := [.int v2, .int v3]) (rest := []) (wf := (fun x => (wRd ty b o ad2 x ++ (wBelt ty o ad τ ++ rs)))) C (kR_number l hf) (lw_V q679 q681 qs11 q148 q682) ⟨rfl, by decide, by decide, by show _ = some 2; decide +kernel⟩ 0 8 rfl rfl rfl (Nat.le_of_ble_eq_true rfl) (by decide) (Nat.zero_le _) (Nat.zero_le _) h hl.1 rfl (Nat.le_of_ble_eq_true rfl) dX8_told_8 (fun H locs h => ?_)
    exact hR _ _ _ _ _ _ rfl h (vp_nar_int _) dX8_told_11
set_option maxHeartbeats 1000000 in
theorem kR_head (l : Launch) {D : va_G} {ty : Nat → ClassId} {A : Nat → Prop} {b o : Nat} {ad ad2 : Nat → Nat} {rs : va_W} {σ τ : PS} {res : (PS ⊕ FT)} (hf : R_head τ σ = some res) : KFv l yX8_head cX8_head 1 9 D ty A (wRd ty b o ad2 σ ++ (wBelt ty o ad τ ++ rs)) [.ref b] (fun x => (wRd ty b o ad2 x ++ (wBelt ty o ad τ ++ rs))) res := by
  refine KFv.of (by decide) (Nat.le_of_ble_eq_true rfl) ?_
  intro p e R s m args below meth c Q C hmc hms hR hX H locs ls h hl
  have C : Cx p R s m args c cX8_head 1 RX8 D ty A 9 := C
  have hl : lv_has ls 1 [(0, .ref b)] := hl
  unfold R_head at hf
  refine lv_aload_n C.x C.b dX8_head_0 rfl (lv_at hl 0 rfl) ?_
  refine va_ldcS C.x C.b C.own (C.E.2.2.2.2.2.1 0 (by decide)) dX8_head_1 ?_
  rcases bf_k hf with ⟨σ1, hc, hf⟩ | ⟨u, hc, hu⟩
  rotate_left
  · subst hu
    have hmc : 1 ≤ R.cells := hmc
    have hms : 8 ≤ R.slots := hms
    exact KFv.callX (As := [.ref (ty (200 + 0))]) (rest := []) (wf := (fun x => (wRd ty b o ad2 x ++ (wBelt ty o ad τ ++ rs)))) C (kR_expects l (by decide) hc) (lw_V q526 q528 qs4 q148 q529) ⟨rfl, by decide, by decide, by show _ = some 1; decide +kernel⟩ 0 8 rfl rfl rfl (Nat.le_of_ble_eq_true rfl) (by decide) (by omega) (by omega) h hl.1 rfl (Nat.le_of_ble_eq_true rfl) dX8_head_3 (fun H locs q9 h => hX u H locs _ _ _ q9 rfl h)
  refine KFv.callOk (As := [.ref (ty (200 + 0))]) (rest := []) (wf := (fun x => (wRd ty b o ad2 x ++ (wBelt ty o ad τ ++ rs)))) C (kR_expects l (by decide) hc) (lw_V q526 q528 qs4 q148 q529) ⟨rfl, by decide, by decide, by show _ = some 1; decide +kernel⟩ 0 8 rfl rfl rfl (Nat.le_of_ble_eq_true rfl) (by decide) (Nat.zero_le _) (Nat.zero_le _) h hl.1 rfl (Nat.le_of_ble_eq_true rfl) dX8_head_3 (fun H locs h => ?_)
  refine lv_aload_n C.x C.b dX8_head_6 rfl (lv_at hl 0 rfl) ?_
  refine r_g1 C h dX8_head_7 ?_
  refine lv_aload_n C.x C.b dX8_head_10 rfl (lv_at hl 0 rfl) ?_
  refine va_ldcS C.x C.b C.own (C.E.2.2.2.2.2.1 1 (by decide)) dX8_head_11 ?_
  refine lv_iconst (v := 1) C.x C.b dX8_head_13 (by decide) ?_
  refine lv_bipush (v := 14) C.x C.b dX8_head_14 (by decide) ?_
  rcases bf_k hf with ⟨q2, hc, hf⟩ | ⟨u, hc, hu⟩
  rotate_left
  · subst hu
    have hmc : 1 ≤ R.cells := hmc
    have hms : 8 ≤ R.slots := hms
    exact KFi.callX (As := [.ref (ty (200 + 1)), .int 1, .int 14]) (rest := [.ref (ad2 0)]) (wf := (fun x => (wRd ty b o ad2 x ++ (wBelt ty o ad τ ++ rs)))) C (kR_told l (by decide) hc) (lw_V q675 q677 qs10 q148 q678) ⟨rfl, by decide, by decide, by show _ = some 3; decide +kernel⟩ 0 8 rfl rfl rfl (Nat.le_of_ble_eq_true rfl) (by decide) (by omega) (by omega) h hl.1 rfl (Nat.le_of_ble_eq_true rfl) dX8_head_16 (fun H locs q9 h => hX u H locs _ _ _ q9 rfl h)
  refine KFi.callOk (As := [.ref (ty (200 + 1)), .int 1, .int 14]) (rest := [.ref (ad2 0)]) (wf := (fun x => (wRd ty b o ad2 x ++ (wBelt ty o ad τ ++ rs)))) C (kR_told l (by decide) hc) (lw_V q675 q677 qs10 q148 q678) ⟨rfl, by decide, by decide, by show _ = some 3; decide +kernel⟩ 0 8 rfl rfl rfl (Nat.le_of_ble_eq_true rfl) (by decide) (Nat.zero_le _) (Nat.zero_le _) h hl.1 rfl (Nat.le_of_ble_eq_true rfl) dX8_head_16 (fun H locs h => ?_)
  refine r_p100 C h rfl dX8_head_19 (fun H locs h => ?_)
  refine lv_aload_n C.x C.b dX8_head_22 rfl (lv_at hl 0 rfl) ?_
  refine r_g1 C h dX8_head_23 ?_
  refine lv_aload_n C.x C.b dX8_head_26 rfl (lv_at hl 0 rfl) ?_
  refine va_ldcS C.x C.b C.own (C.E.2.2.2.2.2.1 2 (by decide)) dX8_head_27 ?_
  refine lv_iconst (v := 0) C.x C.b dX8_head_29 (by decide) ?_
  refine lv_iconst (v := 3) C.x C.b dX8_head_30 (by decide) ?_
  rcases bf_k hf with ⟨q3, hc, hf⟩ | ⟨u, hc, hu⟩
  rotate_left
  · subst hu
    have hmc : 1 ≤ R.cells := hmc
    have hms : 8 ≤ R.slots := hms
    exact KFi.callX (As := [.ref (ty (200 + 2)), .int 0, .int 3]) (rest := [.ref (ad2 0)]) (wf := (fun x => (wRd ty b o ad2 x ++ (wBelt ty o ad τ ++ rs)))) C (kR_told l (by decide) hc) (lw_V q675 q677 qs10 q148 q678) ⟨rfl, by decide, by decide, by show _ = some 3; decide +kernel⟩ 0 8 rfl rfl rfl (Nat.le_of_ble_eq_true rfl) (by decide) (by omega) (by omega) h hl.1 rfl (Nat.le_of_ble_eq_true rfl) dX8_head_31 (fun H locs q9 h => hX u H locs _ _ _ q9 rfl h)
  refine KFi.callOk (As := [.ref (ty (200 + 2)), .int 0, .int 3]) (rest := [.ref (ad2 0)]) (wf := (fun x => (wRd ty b o ad2 x ++ (wBelt ty o ad τ ++ rs)))) C (kR_told l (by decide) hc) (lw_V q675 q677 qs10 q148 q678) ⟨rfl, by decide, by decide, by show _ = some 3; decide +kernel⟩ 0 8 rfl rfl rfl (Nat.le_of_ble_eq_true rfl) (by decide) (Nat.zero_le _) (Nat.zero_le _) h hl.1 rfl (Nat.le_of_ble_eq_true rfl) dX8_head_31 (fun H locs h => ?_)
  refine r_p101 C h rfl dX8_head_34 (fun H locs h => ?_)
  refine lv_aload_n C.x C.b dX8_head_37 rfl (lv_at hl 0 rfl) ?_
  refine r_g1 C h dX8_head_38 ?_
  refine lv_aload_n C.x C.b dX8_head_41 rfl (lv_at hl 0 rfl) ?_
  refine va_ldcS C.x C.b C.own (C.E.2.2.2.2.2.1 3 (by decide)) dX8_head_42 ?_
  refine lv_iconst (v := 0) C.x C.b dX8_head_44 (by decide) ?_
  refine lv_bipush (v := 10) C.x C.b dX8_head_45 (by decide) ?_
  rcases bf_k hf with ⟨q4, hc, hf⟩ | ⟨u, hc, hu⟩
  rotate_left
  · subst hu
    have hmc : 1 ≤ R.cells := hmc
    have hms : 8 ≤ R.slots := hms
    exact KFi.callX (As := [.ref (ty (200 + 3)), .int 0, .int 10]) (rest := [.ref (ad2 0)]) (wf := (fun x => (wRd ty b o ad2 x ++ (wBelt ty o ad τ ++ rs)))) C (kR_told l (by decide) hc) (lw_V q675 q677 qs10 q148 q678) ⟨rfl, by decide, by decide, by show _ = some 3; decide +kernel⟩ 0 8 rfl rfl rfl (Nat.le_of_ble_eq_true rfl) (by decide) (by omega) (by omega) h hl.1 rfl (Nat.le_of_ble_eq_true rfl) dX8_head_47 (fun H locs q9 h => hX u H locs _ _ _ q9 rfl h)
  refine KFi.callOk (As := [.ref (ty (200 + 3)), .int 0, .int 10]) (rest := [.ref (ad2 0)]) (wf := (fun x => (wRd ty b o ad2 x ++ (wBelt ty o ad τ ++ rs)))) C (kR_told l (by decide) hc) (lw_V q675 q677 qs10 q148 q678) ⟨rfl, by decide, by decide, by show _ = some 3; decide +kernel⟩ 0 8 rfl rfl rfl (Nat.le_of_ble_eq_true rfl) (by decide) (Nat.zero_le _) (Nat.zero_le _) h hl.1 rfl (Nat.le_of_ble_eq_true rfl) dX8_head_47 (fun H locs h => ?_)
  refine r_p102 C h rfl dX8_head_50 (fun H locs h => ?_)
  refine lv_aload_n C.x C.b dX8_head_53 rfl (lv_at hl 0 rfl) ?_
  refine r_g1 C h dX8_head_54 ?_
  refine lv_aload_n C.x C.b dX8_head_57 rfl (lv_at hl 0 rfl) ?_
  refine va_ldcS C.x C.b C.own (C.E.2.2.2.2.2.1 4 (by decide)) dX8_head_58 ?_
  refine lv_iconst (v := 1) C.x C.b dX8_head_60 (by decide) ?_
  refine lv_iconst (v := 4) C.x C.b dX8_head_61 (by decide) ?_
  rcases bf_k hf with ⟨q5, hc, hf⟩ | ⟨u, hc, hu⟩
  rotate_left
  · subst hu
    have hmc : 1 ≤ R.cells := hmc
    have hms : 8 ≤ R.slots := hms
    exact KFi.callX (As := [.ref (ty (200 + 4)), .int 1, .int 4]) (rest := [.ref (ad2 0)]) (wf := (fun x => (wRd ty b o ad2 x ++ (wBelt ty o ad τ ++ rs)))) C (kR_told l (by decide) hc) (lw_V q675 q677 qs10 q148 q678) ⟨rfl, by decide, by decide, by show _ = some 3; decide +kernel⟩ 0 8 rfl rfl rfl (Nat.le_of_ble_eq_true rfl) (by decide) (by omega) (by omega) h hl.1 rfl (Nat.le_of_ble_eq_true rfl) dX8_head_62 (fun H locs q9 h => hX u H locs _ _ _ q9 rfl h)
  refine KFi.callOk (As := [.ref (ty (200 + 4)), .int 1, .int 4]) (rest := [.ref (ad2 0)]) (wf := (fun x => (wRd ty b o ad2 x ++ (wBelt ty o ad τ ++ rs)))) C (kR_told l (by decide) hc) (lw_V q675 q677 qs10 q148 q678) ⟨rfl, by decide, by decide, by show _ = some 3; decide +kernel⟩ 0 8 rfl rfl rfl (Nat.le_of_ble_eq_true rfl) (by decide) (Nat.zero_le _) (Nat.zero_le _) h hl.1 rfl (Nat.le_of_ble_eq_true rfl) dX8_head_62 (fun H locs h => ?_)
  refine r_p103 C h rfl dX8_head_65 (fun H locs h => ?_)
  refine lv_aload_n C.x C.b dX8_head_68 rfl (lv_at hl 0 rfl) ?_
  refine r_g1 C h dX8_head_69 ?_
  refine lv_aload_n C.x C.b dX8_head_72 rfl (lv_at hl 0 rfl) ?_
  refine va_ldcS C.x C.b C.own (C.E.2.2.2.2.2.1 5 (by decide)) dX8_head_73 ?_
  refine lv_iconst (v := 0) C.x C.b dX8_head_75 (by decide) ?_
  refine lv_sipush (v := 600) C.x C.b dX8_head_76 (by decide) ?_
  rcases bf_k hf with ⟨q6, hc, hf⟩ | ⟨u, hc, hu⟩
  rotate_left
  · subst hu
    have hmc : 1 ≤ R.cells := hmc
    have hms : 8 ≤ R.slots := hms
    exact KFi.callX (As := [.ref (ty (200 + 5)), .int 0, .int 600]) (rest := [.ref (ad2 0)]) (wf := (fun x => (wRd ty b o ad2 x ++ (wBelt ty o ad τ ++ rs)))) C (kR_told l (by decide) hc) (lw_V q675 q677 qs10 q148 q678) ⟨rfl, by decide, by decide, by show _ = some 3; decide +kernel⟩ 0 8 rfl rfl rfl (Nat.le_of_ble_eq_true rfl) (by decide) (by omega) (by omega) h hl.1 rfl (Nat.le_of_ble_eq_true rfl) dX8_head_79 (fun H locs q9 h => hX u H locs _ _ _ q9 rfl h)
  refine KFi.callOk (As := [.ref (ty (200 + 5)), .int 0, .int 600]) (rest := [.ref (ad2 0)]) (wf := (fun x => (wRd ty b o ad2 x ++ (wBelt ty o ad τ ++ rs)))) C (kR_told l (by decide) hc) (lw_V q675 q677 qs10 q148 q678) ⟨rfl, by decide, by decide, by show _ = some 3; decide +kernel⟩ 0 8 rfl rfl rfl (Nat.le_of_ble_eq_true rfl) (by decide) (Nat.zero_le _) (Nat.zero_le _) h hl.1 rfl (Nat.le_of_ble_eq_true rfl) dX8_head_79 (fun H locs h => ?_)
  refine r_p104 C h rfl dX8_head_82 (fun H locs h => ?_)
  cases (some_k hf)
  exact hR _ _ _ _ _ rfl h dX8_head_85
set_option maxHeartbeats 1000000 in
theorem kR_newZone (l : Launch) {D : va_G} {ty : Nat → ClassId} {A : Nat → Prop} {b o : Nat} {ad ad2 : Nat → Nat} {rs : va_W} {σ τ : PS} {res : (PS ⊕ FT)} (hf : R_newZone τ σ = some res) : KFv l yX8_newZone cX8_newZone 1 7 D ty A (wRd ty b o ad2 σ ++ (wBelt ty o ad τ ++ rs)) [.ref b] (fun x => (wRd ty b o ad2 x ++ (wBelt ty o ad τ ++ rs))) res := by
  refine KFv.of (by decide) (Nat.le_of_ble_eq_true rfl) ?_
  intro p e R s m args below meth c Q C hmc hms hR hX H locs ls h hl
  have C : Cx p R s m args c cX8_newZone 1 RX8 D ty A 7 := C
  have hl : lv_has ls 1 [(0, .ref b)] := hl
  unfold R_newZone at hf
  refine lv_aload_n C.x C.b dX8_newZone_0 rfl (lv_at hl 0 rfl) ?_
  refine r_g1 C h dX8_newZone_1 ?_
  refine r_g109 C h dX8_newZone_4 ?_
  refine lv_aload_n C.x C.b dX8_newZone_7 rfl (lv_at hl 0 rfl) ?_
  refine r_g1 C h dX8_newZone_8 ?_
  refine r_g106 C h dX8_newZone_11 ?_
  refine lv_aload_n C.x C.b dX8_newZone_14 rfl (lv_at hl 0 rfl) ?_
  refine lv_iconst (v := 0) C.x C.b dX8_newZone_15 (by decide) ?_
  refine lv_sipush (v := 600) C.x C.b dX8_newZone_16 (by decide) ?_
  rcases bf_k hf with ⟨q1, hc, hf⟩ | ⟨u, hc, hu⟩
  rotate_left
  · subst hu
    have hmc : 1 ≤ R.cells := hmc
    have hms : 8 ≤ R.slots := hms
    exact KFi.callX (As := [.int 0, .int 600]) (rest := [.int (gI σ 106), .ref (ad2 109)]) (wf := (fun x => (wRd ty b o ad2 x ++ (wBelt ty o ad τ ++ rs)))) C (kR_number l hc) (lw_V q679 q681 qs11 q148 q682) ⟨rfl, by decide, by decide, by show _ = some 2; decide +kernel⟩ 0 8 rfl rfl rfl (Nat.le_of_ble_eq_true rfl) (by decide) (by omega) (by omega) h hl.1 rfl (Nat.le_of_ble_eq_true rfl) dX8_newZone_19 (fun H locs q9 h => hX u H locs _ _ _ q9 rfl h)
  refine KFi.callOk (As := [.int 0, .int 600]) (rest := [.int (gI σ 106), .ref (ad2 109)]) (wf := (fun x => (wRd ty b o ad2 x ++ (wBelt ty o ad τ ++ rs)))) C (kR_number l hc) (lw_V q679 q681 qs11 q148 q682) ⟨rfl, by decide, by decide, by show _ = some 2; decide +kernel⟩ 0 8 rfl rfl rfl (Nat.le_of_ble_eq_true rfl) (by decide) (Nat.zero_le _) (Nat.zero_le _) h hl.1 rfl (Nat.le_of_ble_eq_true rfl) dX8_newZone_19 (fun H locs h => ?_)
  obtain ⟨hx, hf⟩ := ix_k1 hf
  refine r_w109 C h hx rfl dX8_newZone_22 (fun H locs h => ?_)
  refine lv_aload_n C.x C.b dX8_newZone_23 rfl (lv_at hl 0 rfl) ?_
  refine r_g1 C h dX8_newZone_24 ?_
  refine lv_dup C.x C.b dX8_newZone_27 rfl ?_
  refine r_g106 C h dX8_newZone_28 ?_
  refine lv_iconst (v := 1) C.x C.b dX8_newZone_31 (by decide) ?_
  refine lv_iadd C.x C.b dX8_newZone_32 ?_
  refine r_p106 C h rfl dX8_newZone_33 (fun H locs h => ?_)
  cases (some_k hf)
  exact hR _ _ _ _ _ rfl h dX8_newZone_36
set_option maxHeartbeats 1000000 in
theorem kR_newPiece (l : Launch) {D : va_G} {ty : Nat → ClassId} {A : Nat → Prop} {b o : Nat} {ad ad2 : Nat → Nat} {rs : va_W} {σ τ : PS} {res : (PS ⊕ FT)} (hf : R_newPiece τ σ = some res) : KFv l yX8_newPiece cX8_newPiece 2 9 D ty A (wRd ty b o ad2 σ ++ (wBelt ty o ad τ ++ rs)) [.ref b] (fun x => (wRd ty b o ad2 x ++ (wBelt ty o ad τ ++ rs))) res := by
  refine KFv.of (by decide) (Nat.le_of_ble_eq_true rfl) ?_
  intro p e R s m args below meth c Q C hmc hms hR hX H locs ls h hl
  have C : Cx p R s m args c cX8_newPiece 2 RX8 D ty A 9 := C
  have hl : lv_has ls 2 [(0, .ref b)] := hl
  unfold R_newPiece at hf
  refine lv_aload_n C.x C.b dX8_newPiece_0 rfl (lv_at hl 0 rfl) ?_
  refine r_g1 C h dX8_newPiece_1 ?_
  refine r_g107 C h dX8_newPiece_4 ?_
  refine lv_istore_n (lv' := [(1, .int (gI σ 107)), (0, .ref b)]) C.x C.b dX8_newPiece_7 rfl hl (by decide) rfl (fun ls hl => ?_)
  refine lv_aload_n C.x C.b dX8_newPiece_8 rfl (lv_at hl 1 rfl) ?_
  refine r_g1 C h dX8_newPiece_9 ?_
  refine r_g110 C h dX8_newPiece_12 ?_
  refine lv_iload_n C.x C.b dX8_newPiece_15 rfl (lv_at hl 0 rfl) ?_
  refine lv_aload_n C.x C.b dX8_newPiece_16 rfl (lv_at hl 1 rfl) ?_
  refine va_ldcS C.x C.b C.own (C.E.2.2.2.2.2.1 8 (by decide)) dX8_newPiece_17 ?_
  refine lv_iconst (v := 0) C.x C.b dX8_newPiece_19 (by decide) ?_
  refine lv_sipush (v := 600) C.x C.b dX8_newPiece_20 (by decide) ?_
  rcases bf_k hf with ⟨q1, hc, hf⟩ | ⟨u, hc, hu⟩
  rotate_left
  · subst hu
    have hmc : 1 ≤ R.cells := hmc
    have hms : 8 ≤ R.slots := hms
    exact KFi.callX (As := [.ref (ty (200 + 8)), .int 0, .int 600]) (rest := [.int (gI σ 107), .ref (ad2 110)]) (wf := (fun x => (wRd ty b o ad2 x ++ (wBelt ty o ad τ ++ rs)))) C (kR_told l (by decide) hc) (lw_V q675 q677 qs10 q148 q678) ⟨rfl, by decide, by decide, by show _ = some 3; decide +kernel⟩ 0 8 rfl rfl rfl (Nat.le_of_ble_eq_true rfl) (by decide) (by omega) (by omega) h hl.1 rfl (Nat.le_of_ble_eq_true rfl) dX8_newPiece_23 (fun H locs q9 h => hX u H locs _ _ _ q9 rfl h)
  refine KFi.callOk (As := [.ref (ty (200 + 8)), .int 0, .int 600]) (rest := [.int (gI σ 107), .ref (ad2 110)]) (wf := (fun x => (wRd ty b o ad2 x ++ (wBelt ty o ad τ ++ rs)))) C (kR_told l (by decide) hc) (lw_V q675 q677 qs10 q148 q678) ⟨rfl, by decide, by decide, by show _ = some 3; decide +kernel⟩ 0 8 rfl rfl rfl (Nat.le_of_ble_eq_true rfl) (by decide) (Nat.zero_le _) (Nat.zero_le _) h hl.1 rfl (Nat.le_of_ble_eq_true rfl) dX8_newPiece_23 (fun H locs h => ?_)
  obtain ⟨hx, hf⟩ := ix_k1 hf
  refine r_w110 C h hx rfl dX8_newPiece_26 (fun H locs h => ?_)
  refine lv_aload_n C.x C.b dX8_newPiece_27 rfl (lv_at hl 1 rfl) ?_
  refine r_g1 C h dX8_newPiece_28 ?_
  refine r_g111 C h dX8_newPiece_31 ?_
  refine lv_iload_n C.x C.b dX8_newPiece_34 rfl (lv_at hl 0 rfl) ?_
  refine lv_aload_n C.x C.b dX8_newPiece_35 rfl (lv_at hl 1 rfl) ?_
  refine va_ldcS C.x C.b C.own (C.E.2.2.2.2.2.1 9 (by decide)) dX8_newPiece_36 ?_
  refine lv_iconst (v := 1) C.x C.b dX8_newPiece_38 (by decide) ?_
  refine lv_bipush (v := 9) C.x C.b dX8_newPiece_39 (by decide) ?_
  rcases bf_k hf with ⟨q2, hc, hf⟩ | ⟨u, hc, hu⟩
  rotate_left
  · subst hu
    have hmc : 1 ≤ R.cells := hmc
    have hms : 8 ≤ R.slots := hms
    exact KFi.callX (As := [.ref (ty (200 + 9)), .int 1, .int 9]) (rest := [.int (gI σ 107), .ref (ad2 111)]) (wf := (fun x => (wRd ty b o ad2 x ++ (wBelt ty o ad τ ++ rs)))) C (kR_told l (by decide) hc) (lw_V q675 q677 qs10 q148 q678) ⟨rfl, by decide, by decide, by show _ = some 3; decide +kernel⟩ 0 8 rfl rfl rfl (Nat.le_of_ble_eq_true rfl) (by decide) (by omega) (by omega) h hl.1 rfl (Nat.le_of_ble_eq_true rfl) dX8_newPiece_41 (fun H locs q9 h => hX u H locs _ _ _ q9 rfl h)
  refine KFi.callOk (As := [.ref (ty (200 + 9)), .int 1, .int 9]) (rest := [.int (gI σ 107), .ref (ad2 111)]) (wf := (fun x => (wRd ty b o ad2 x ++ (wBelt ty o ad τ ++ rs)))) C (kR_told l (by decide) hc) (lw_V q675 q677 qs10 q148 q678) ⟨rfl, by decide, by decide, by show _ = some 3; decide +kernel⟩ 0 8 rfl rfl rfl (Nat.le_of_ble_eq_true rfl) (by decide) (Nat.zero_le _) (Nat.zero_le _) h hl.1 rfl (Nat.le_of_ble_eq_true rfl) dX8_newPiece_41 (fun H locs h => ?_)
  refine r_w111 C h hx rfl dX8_newPiece_44 (fun H locs h => ?_)
  refine lv_aload_n C.x C.b dX8_newPiece_45 rfl (lv_at hl 1 rfl) ?_
  refine r_g1 C h dX8_newPiece_46 ?_
  refine r_g112 C h dX8_newPiece_49 ?_
  refine lv_iload_n C.x C.b dX8_newPiece_52 rfl (lv_at hl 0 rfl) ?_
  refine lv_aload_n C.x C.b dX8_newPiece_53 rfl (lv_at hl 1 rfl) ?_
  refine va_ldcS C.x C.b C.own (C.E.2.2.2.2.2.1 10 (by decide)) dX8_newPiece_54 ?_
  refine lv_iconst (v := 0) C.x C.b dX8_newPiece_56 (by decide) ?_
  refine lv_sipush (v := 300) C.x C.b dX8_newPiece_57 (by decide) ?_
  rcases bf_k hf with ⟨q3, hc, hf⟩ | ⟨u, hc, hu⟩
  rotate_left
  · subst hu
    have hmc : 1 ≤ R.cells := hmc
    have hms : 8 ≤ R.slots := hms
    exact KFi.callX (As := [.ref (ty (200 + 10)), .int 0, .int 300]) (rest := [.int (gI σ 107), .ref (ad2 112)]) (wf := (fun x => (wRd ty b o ad2 x ++ (wBelt ty o ad τ ++ rs)))) C (kR_told l (by decide) hc) (lw_V q675 q677 qs10 q148 q678) ⟨rfl, by decide, by decide, by show _ = some 3; decide +kernel⟩ 0 8 rfl rfl rfl (Nat.le_of_ble_eq_true rfl) (by decide) (by omega) (by omega) h hl.1 rfl (Nat.le_of_ble_eq_true rfl) dX8_newPiece_60 (fun H locs q9 h => hX u H locs _ _ _ q9 rfl h)
  refine KFi.callOk (As := [.ref (ty (200 + 10)), .int 0, .int 300]) (rest := [.int (gI σ 107), .ref (ad2 112)]) (wf := (fun x => (wRd ty b o ad2 x ++ (wBelt ty o ad τ ++ rs)))) C (kR_told l (by decide) hc) (lw_V q675 q677 qs10 q148 q678) ⟨rfl, by decide, by decide, by show _ = some 3; decide +kernel⟩ 0 8 rfl rfl rfl (Nat.le_of_ble_eq_true rfl) (by decide) (Nat.zero_le _) (Nat.zero_le _) h hl.1 rfl (Nat.le_of_ble_eq_true rfl) dX8_newPiece_60 (fun H locs h => ?_)
  refine r_w112 C h hx rfl dX8_newPiece_63 (fun H locs h => ?_)
  refine lv_aload_n C.x C.b dX8_newPiece_64 rfl (lv_at hl 1 rfl) ?_
  refine r_g1 C h dX8_newPiece_65 ?_
  refine r_g113 C h dX8_newPiece_68 ?_
  refine lv_iload_n C.x C.b dX8_newPiece_71 rfl (lv_at hl 0 rfl) ?_
  refine lv_aload_n C.x C.b dX8_newPiece_72 rfl (lv_at hl 1 rfl) ?_
  refine va_ldcS C.x C.b C.own (C.E.2.2.2.2.2.1 11 (by decide)) dX8_newPiece_73 ?_
  refine lv_iconst (v := 0) C.x C.b dX8_newPiece_75 (by decide) ?_
  refine lv_bipush (v := 14) C.x C.b dX8_newPiece_76 (by decide) ?_
  rcases bf_k hf with ⟨q4, hc, hf⟩ | ⟨u, hc, hu⟩
  rotate_left
  · subst hu
    have hmc : 1 ≤ R.cells := hmc
    have hms : 8 ≤ R.slots := hms
    exact KFi.callX (As := [.ref (ty (200 + 11)), .int 0, .int 14]) (rest := [.int (gI σ 107), .ref (ad2 113)]) (wf := (fun x => (wRd ty b o ad2 x ++ (wBelt ty o ad τ ++ rs)))) C (kR_told l (by decide) hc) (lw_V q675 q677 qs10 q148 q678) ⟨rfl, by decide, by decide, by show _ = some 3; decide +kernel⟩ 0 8 rfl rfl rfl (Nat.le_of_ble_eq_true rfl) (by decide) (by omega) (by omega) h hl.1 rfl (Nat.le_of_ble_eq_true rfl) dX8_newPiece_78 (fun H locs q9 h => hX u H locs _ _ _ q9 rfl h)
  refine KFi.callOk (As := [.ref (ty (200 + 11)), .int 0, .int 14]) (rest := [.int (gI σ 107), .ref (ad2 113)]) (wf := (fun x => (wRd ty b o ad2 x ++ (wBelt ty o ad τ ++ rs)))) C (kR_told l (by decide) hc) (lw_V q675 q677 qs10 q148 q678) ⟨rfl, by decide, by decide, by show _ = some 3; decide +kernel⟩ 0 8 rfl rfl rfl (Nat.le_of_ble_eq_true rfl) (by decide) (Nat.zero_le _) (Nat.zero_le _) h hl.1 rfl (Nat.le_of_ble_eq_true rfl) dX8_newPiece_78 (fun H locs h => ?_)
  refine r_w113 C h hx rfl dX8_newPiece_81 (fun H locs h => ?_)
  refine lv_aload_n C.x C.b dX8_newPiece_82 rfl (lv_at hl 1 rfl) ?_
  refine r_g1 C h dX8_newPiece_83 ?_
  refine lv_dup C.x C.b dX8_newPiece_86 rfl ?_
  refine r_g107 C h dX8_newPiece_87 ?_
  refine lv_iconst (v := 1) C.x C.b dX8_newPiece_90 (by decide) ?_
  refine lv_iadd C.x C.b dX8_newPiece_91 ?_
  refine r_p107 C h rfl dX8_newPiece_92 (fun H locs h => ?_)
  cases (some_k hf)
  exact hR _ _ _ _ _ rfl h dX8_newPiece_95
theorem R_takes_nar {τ σ : PS} {i : Nat} {q : Int32 × PS} (h : R_takes τ σ i = some q) : narrow .boolean (.int q.1) = .int q.1 := by
  obtain ⟨v, hc, h⟩ := bd_k1 h
  have hz := R_is_nar hc
  by_cases c : v = 0
  · rw [if_pos c] at h; cases (some_k h); exact hz
  · rw [if_neg c] at h; obtain ⟨σ1, -, h⟩ := bd_k1 h; cases (some_k h); exact hz
set_option maxHeartbeats 1000000 in
theorem kR_begins (l : Launch) {D : va_G} {ty : Nat → ClassId} {A : Nat → Prop} {b o : Nat} {ad ad2 : Nat → Nat} {rs : va_W} {σ τ : PS} {i : Nat} (hi : i < 12) {f : Int32} {res : ((Int32 × PS) ⊕ FT)} (hf : R_begins τ σ i f = some res) : KFi l yX8_begins cX8_begins 3 .boolean 7 D ty A (wRd ty b o ad2 σ ++ (wBelt ty o ad τ ++ rs)) [.ref b, .ref (ty (200 + i)), .int f] (fun x => (wRd ty b o ad2 x ++ (wBelt ty o ad τ ++ rs))) res := by
  refine KFi.of (by decide) (Nat.le_of_ble_eq_true rfl) ?_
  intro p e R s m args below meth c Q C hmc hms hR hX H locs ls h hl
  have C : Cx p R s m args c cX8_begins 3 RX8 D ty A 7 := C
  have hl : lv_has ls 3 [(0, .ref b), (1, .ref (ty (200 + i))), (2, .int f)] := hl
  obtain ⟨q0, hc0, hf⟩ := bd_k1 hf
  refine lv_aload_n C.x C.b dX8_begins_0 rfl (lv_at hl 0 rfl) ?_
  refine lv_aload_n C.x C.b dX8_begins_1 rfl (lv_at hl 1 rfl) ?_
  have hc := hc0
  refine KI.callV (As := [.ref (ty (200 + i))]) (rest := []) C (kR_is l hi hc) (lw_V q534 q536 qs6 q148 q537) ⟨rfl, by decide, by decide, by show _ = some 1; decide +kernel⟩ 0 8 rfl rfl rfl (Nat.le_of_ble_eq_true rfl) (by decide) (by omega) (by omega) h hl.1 rfl (Nat.le_of_ble_eq_true rfl) dX8_begins_2 (fun H locs h => ?_)
  refine lv_if_eq (tgt := 18) C.x C.b dX8_begins_5 (by decide) (fun c9 => ?_) (fun c9 => ?_)
  · rw [if_pos c9] at hf
    obtain ⟨q2, hc, hf⟩ := bd_k1 hf
    refine lv_aload_n C.x C.b dX8_begins_18 rfl (lv_at hl 0 rfl) ?_
    refine lv_aload_n C.x C.b dX8_begins_19 rfl (lv_at hl 1 rfl) ?_
    refine KI.callV (As := [.ref (ty (200 + i))]) (rest := []) C (kR_takes l hi hc) (lw_V q530 q532 qs5 q148 q533) ⟨rfl, by decide, by decide, by show _ = some 1; decide +kernel⟩ 0 8 rfl rfl rfl (Nat.le_of_ble_eq_true rfl) (by decide) (Nat.zero_le _) (Nat.zero_le _) h hl.1 rfl (Nat.le_of_ble_eq_true rfl) dX8_begins_20 (fun H locs h => ?_)
    cases (some_k hf)
    exact hR _ _ _ _ _ _ rfl h (R_takes_nar hc) dX8_begins_23
  · rw [if_neg c9] at hf
    refine lv_iload_n C.x C.b dX8_begins_8 rfl (lv_at hl 2 rfl) ?_
    refine lv_if_eq (tgt := 18) C.x C.b dX8_begins_9 (by decide) (fun c8 => ?_) (fun c8 => ?_)
    · rw [if_pos c8] at hf
      obtain ⟨q2, hc, hf⟩ := bd_k1 hf
      refine lv_aload_n C.x C.b dX8_begins_18 rfl (lv_at hl 0 rfl) ?_
      refine lv_aload_n C.x C.b dX8_begins_19 rfl (lv_at hl 1 rfl) ?_
      refine KI.callV (As := [.ref (ty (200 + i))]) (rest := []) C (kR_takes l hi hc) (lw_V q530 q532 qs5 q148 q533) ⟨rfl, by decide, by decide, by show _ = some 1; decide +kernel⟩ 0 8 rfl rfl rfl (Nat.le_of_ble_eq_true rfl) (by decide) (Nat.zero_le _) (Nat.zero_le _) h hl.1 rfl (Nat.le_of_ble_eq_true rfl) dX8_begins_20 (fun H locs h => ?_)
      cases (some_k hf)
      exact hR _ _ _ _ _ _ rfl h (R_takes_nar hc) dX8_begins_23
    · rw [if_neg c8] at hf
      cases (some_k hf)
      refine lv_aload_n C.x C.b dX8_begins_12 rfl (lv_at hl 0 rfl) ?_
      refine lv_iconst (v := 3) C.x C.b dX8_begins_13 (by decide) ?_
      have hmc : 1 ≤ R.cells := hmc
      have hms : 8 ≤ R.slots := hms
      have h : Hw D A s H locs ([] ++ (wRd ty b o ad2 σ ++ (wBelt ty o ad τ ++ rs))) := h
      refine KRx.callVf (wr := []) (As := [.int 3]) (rest := []) C (fun A => kR_wrong l) (lw_V q586 q588 qs7 q148 q589) ⟨rfl, by decide, by decide, by show _ = some 1; decide +kernel⟩ 0 8 rfl rfl rfl (Nat.le_of_ble_eq_true rfl) (by decide) (by omega) (by omega) h hl.1 rfl (Nat.le_of_ble_eq_true rfl) dX8_begins_14 (fun _ q9 H locs _ h => ?_)
      exact vx_athrow C.x C.b dX8_begins_17 (hX (3, gI σ 203, σ) H locs _ _ _ q9 rfl h)
set_option maxHeartbeats 1000000 in
theorem kR_line (l : Launch) {D : va_G} {ty : Nat → ClassId} {A : Nat → Prop} {b o : Nat} {ad ad2 : Nat → Nat} {rs : va_W} {σ τ : PS} {res : (PS ⊕ FT)} (hf : R_line τ σ = some res) : KFv l yX8_line cX8_line 1 10 D ty A (wRd ty b o ad2 σ ++ (wBelt ty o ad τ ++ rs)) [.ref b] (fun x => (wRd ty b o ad2 x ++ (wBelt ty o ad τ ++ rs))) res := by
  refine KFv.of (by decide) (Nat.le_of_ble_eq_true rfl) ?_
  intro p e R s m args below meth c Q C hmc hms hR hX H locs ls h hl
  have C : Cx p R s m args c cX8_line 1 RX8 D ty A 10 := C
  have hl : lv_has ls 1 [(0, .ref b)] := hl
  unfold R_line at hf
  refine lv_aload_n C.x C.b dX8_line_0 rfl (lv_at hl 0 rfl) ?_
  refine va_ldcS C.x C.b C.own (C.E.2.2.2.2.2.1 6 (by decide)) dX8_line_1 ?_
  refine lv_aload_n C.x C.b dX8_line_3 rfl (lv_at hl 0 rfl) ?_
  refine r_g1 C h dX8_line_4 ?_
  refine r_g106 C h dX8_line_7 ?_
  refine lv_bipush (v := 7) C.x C.b dX8_line_10 (by decide) ?_
  obtain ⟨f, ef⟩ : ∃ f : Int32, f = if gI σ 106 = 7 then 1 else 0 := ⟨_, rfl⟩
  rw [← ef] at hf
  have jn : ∀ (H : Heap) (locs : List Loc), Hw D A s H locs (wRd ty b o ad2 σ ++ (wBelt ty o ad τ ++ rs)) → W p l e R s m args below meth c H locs 0 0 Q (F0 m 20 ls [.int f, .ref (ty (200 + 6)), .ref b]) := by
    intro H locs h
    rcases bf_k hf with ⟨q1, hc, hf⟩ | ⟨u, hc, hu⟩
    rotate_left
    · subst hu
      have hmc : 1 ≤ R.cells := hmc
      have hms : 8 ≤ R.slots := hms
      exact KFi.callX (As := [.ref (ty (200 + 6)), .int f]) (rest := []) (wf := (fun x => (wRd ty b o ad2 x ++ (wBelt ty o ad τ ++ rs)))) C (kR_begins l (by decide) hc) (lw_V q692 q694 qs13 q148 q695) ⟨rfl, by decide, by decide, by show _ = some 2; decide +kernel⟩ 0 8 rfl rfl rfl (Nat.le_of_ble_eq_true rfl) (by decide) (by omega) (by omega) h hl.1 rfl (Nat.le_of_ble_eq_true rfl) dX8_line_20 (fun H locs q9 h => hX u H locs _ _ _ q9 rfl h)
    refine KFi.callOk (As := [.ref (ty (200 + 6)), .int f]) (rest := []) (wf := (fun x => (wRd ty b o ad2 x ++ (wBelt ty o ad τ ++ rs)))) C (kR_begins l (by decide) hc) (lw_V q692 q694 qs13 q148 q695) ⟨rfl, by decide, by decide, by show _ = some 2; decide +kernel⟩ 0 8 rfl rfl rfl (Nat.le_of_ble_eq_true rfl) (by decide) (Nat.zero_le _) (Nat.zero_le _) h hl.1 rfl (Nat.le_of_ble_eq_true rfl) dX8_line_20 (fun H locs h => ?_)
    refine lv_if_eq (tgt := 33) C.x C.b dX8_line_23 (by decide) (fun c8 => ?_) (fun c8 => ?_)
    · rw [if_pos c8] at hf
      refine lv_aload_n C.x C.b dX8_line_33 rfl (lv_at hl 0 rfl) ?_
      refine va_ldcS C.x C.b C.own (C.E.2.2.2.2.2.1 7 (by decide)) dX8_line_34 ?_
      refine lv_aload_n C.x C.b dX8_line_36 rfl (lv_at hl 0 rfl) ?_
      refine r_g1 C h dX8_line_37 ?_
      refine r_g107 C h dX8_line_40 ?_
      refine lv_bipush (v := 6) C.x C.b dX8_line_43 (by decide) ?_
      obtain ⟨f, ef⟩ : ∃ f : Int32, f = if gI q1.2 107 = 6 then 1 else 0 := ⟨_, rfl⟩
      rw [← ef] at hf
      have jn : ∀ (H : Heap) (locs : List Loc), Hw D A s H locs (wRd ty b o ad2 q1.2 ++ (wBelt ty o ad τ ++ rs)) → W p l e R s m args below meth c H locs 0 0 Q (F0 m 53 ls [.int f, .ref (ty (200 + 7)), .ref b]) := by
        intro H locs h
        rcases bf_k hf with ⟨q2, hc, hf⟩ | ⟨u, hc, hu⟩
        rotate_left
        · subst hu
          have hmc : 1 ≤ R.cells := hmc
          have hms : 8 ≤ R.slots := hms
          exact KFi.callX (As := [.ref (ty (200 + 7)), .int f]) (rest := []) (wf := (fun x => (wRd ty b o ad2 x ++ (wBelt ty o ad τ ++ rs)))) C (kR_begins l (by decide) hc) (lw_V q692 q694 qs13 q148 q695) ⟨rfl, by decide, by decide, by show _ = some 2; decide +kernel⟩ 0 8 rfl rfl rfl (Nat.le_of_ble_eq_true rfl) (by decide) (by omega) (by omega) h hl.1 rfl (Nat.le_of_ble_eq_true rfl) dX8_line_53 (fun H locs q9 h => hX u H locs _ _ _ q9 rfl h)
        refine KFi.callOk (As := [.ref (ty (200 + 7)), .int f]) (rest := []) (wf := (fun x => (wRd ty b o ad2 x ++ (wBelt ty o ad τ ++ rs)))) C (kR_begins l (by decide) hc) (lw_V q692 q694 qs13 q148 q695) ⟨rfl, by decide, by decide, by show _ = some 2; decide +kernel⟩ 0 8 rfl rfl rfl (Nat.le_of_ble_eq_true rfl) (by decide) (Nat.zero_le _) (Nat.zero_le _) h hl.1 rfl (Nat.le_of_ble_eq_true rfl) dX8_line_53 (fun H locs h => ?_)
        refine lv_if_eq (tgt := 66) C.x C.b dX8_line_56 (by decide) (fun c8 => ?_) (fun c8 => ?_)
        · rw [if_pos c8] at hf
          cases (some_k hf)
          refine lv_aload_n C.x C.b dX8_line_66 rfl (lv_at hl 0 rfl) ?_
          refine lv_iconst (v := 1) C.x C.b dX8_line_67 (by decide) ?_
          have hmc : 1 ≤ R.cells := hmc
          have hms : 8 ≤ R.slots := hms
          have h : Hw D A s H locs ([] ++ (wRd ty b o ad2 q2.2 ++ (wBelt ty o ad τ ++ rs))) := h
          refine KRx.callVf (wr := []) (As := [.int 1]) (rest := []) C (fun A => kR_wrong l) (lw_V q586 q588 qs7 q148 q589) ⟨rfl, by decide, by decide, by show _ = some 1; decide +kernel⟩ 0 8 rfl rfl rfl (Nat.le_of_ble_eq_true rfl) (by decide) (by omega) (by omega) h hl.1 rfl (Nat.le_of_ble_eq_true rfl) dX8_line_68 (fun _ q9 H locs _ h => ?_)
          exact vx_athrow C.x C.b dX8_line_71 (hX (1, gI q2.2 203, q2.2) H locs _ _ _ q9 rfl h)
        · rw [if_neg c8] at hf
          refine lv_aload_n C.x C.b dX8_line_59 rfl (lv_at hl 0 rfl) ?_
          cases res with
          | inr u =>
            have hmc : 1 ≤ R.cells := hmc
            have hms : 8 ≤ R.slots := hms
            exact KFv.callX (As := []) (rest := []) (wf := (fun x => (wRd ty b o ad2 x ++ (wBelt ty o ad τ ++ rs)))) C (kR_newPiece l hf) (lw_V q701 q703 qs15 q148 q704) ⟨rfl, by decide, by decide, by show _ = some 0; decide +kernel⟩ 0 8 rfl rfl rfl (Nat.le_of_ble_eq_true rfl) (by decide) (by omega) (by omega) h hl.1 rfl (Nat.le_of_ble_eq_true rfl) dX8_line_60 (fun H locs q9 h => hX u H locs _ _ _ q9 rfl h)
          | inl x =>
            refine KFv.callOk (As := []) (rest := []) (wf := (fun x => (wRd ty b o ad2 x ++ (wBelt ty o ad τ ++ rs)))) C (kR_newPiece l hf) (lw_V q701 q703 qs15 q148 q704) ⟨rfl, by decide, by decide, by show _ = some 0; decide +kernel⟩ 0 8 rfl rfl rfl (Nat.le_of_ble_eq_true rfl) (by decide) (Nat.zero_le _) (Nat.zero_le _) h hl.1 rfl (Nat.le_of_ble_eq_true rfl) dX8_line_60 (fun H locs h => ?_)
            refine lv_goto (tgt := 72) C.x C.b dX8_line_63 (by decide) ?_
            exact hR _ _ _ _ _ rfl h dX8_line_72
      refine lv_icmp_ne (tgt := 52) C.x C.b dX8_line_45 (by decide) (fun c9 => ?_) (fun c9 => ?_)
      · rw [if_neg c9] at ef
        subst ef
        refine lv_iconst (v := 0) C.x C.b dX8_line_52 (by decide) ?_
        exact jn _ _ h
      · rw [if_pos c9] at ef
        subst ef
        refine lv_iconst (v := 1) C.x C.b dX8_line_48 (by decide) ?_
        refine lv_goto (tgt := 53) C.x C.b dX8_line_49 (by decide) ?_
        exact jn _ _ h
    · rw [if_neg c8] at hf
      refine lv_aload_n C.x C.b dX8_line_26 rfl (lv_at hl 0 rfl) ?_
      cases res with
      | inr u =>
        have hmc : 1 ≤ R.cells := hmc
        have hms : 8 ≤ R.slots := hms
        exact KFv.callX (As := []) (rest := []) (wf := (fun x => (wRd ty b o ad2 x ++ (wBelt ty o ad τ ++ rs)))) C (kR_newZone l hf) (lw_V q696 q698 qs14 q148 q699) ⟨rfl, by decide, by decide, by show _ = some 0; decide +kernel⟩ 0 8 rfl rfl rfl (Nat.le_of_ble_eq_true rfl) (by decide) (by omega) (by omega) h hl.1 rfl (Nat.le_of_ble_eq_true rfl) dX8_line_27 (fun H locs q9 h => hX u H locs _ _ _ q9 rfl h)
      | inl x =>
        refine KFv.callOk (As := []) (rest := []) (wf := (fun x => (wRd ty b o ad2 x ++ (wBelt ty o ad τ ++ rs)))) C (kR_newZone l hf) (lw_V q696 q698 qs14 q148 q699) ⟨rfl, by decide, by decide, by show _ = some 0; decide +kernel⟩ 0 8 rfl rfl rfl (Nat.le_of_ble_eq_true rfl) (by decide) (Nat.zero_le _) (Nat.zero_le _) h hl.1 rfl (Nat.le_of_ble_eq_true rfl) dX8_line_27 (fun H locs h => ?_)
        refine lv_goto (tgt := 72) C.x C.b dX8_line_30 (by decide) ?_
        exact hR _ _ _ _ _ rfl h dX8_line_72
  refine lv_icmp_ne (tgt := 19) C.x C.b dX8_line_12 (by decide) (fun c9 => ?_) (fun c9 => ?_)
  · rw [if_neg c9] at ef
    subst ef
    refine lv_iconst (v := 0) C.x C.b dX8_line_19 (by decide) ?_
    exact jn _ _ h
  · rw [if_pos c9] at ef
    subst ef
    refine lv_iconst (v := 1) C.x C.b dX8_line_15 (by decide) ?_
    refine lv_goto (tgt := 20) C.x C.b dX8_line_16 (by decide) ?_
    exact jn _ _ h
def KFq (l : Launch) (y : MethodName) (cc : ByteArray) (nL : Nat) (rt : FieldType) (d : Nat) (D : va_G) (ty : Nat → ClassId) (A : Nat → Prop) (ws : va_W) (As : List Value) (wf : PS → va_W) (ra : Nat) (res : (PS ⊕ (Int32 × Int32 × PS))) : Prop :=
  ∀ sz : Nat, (∀ q : Nat, sz ≤ q → A q) → vy_Met l y (ws_ y cc nL (some rt)) (rmG d (cmc res) (cms res)) (KP D ty A sz ws As) (va_Qq (fun r (x : PS) => r = some ra ∧ res = .inl x) (fun x t => va_P D vwCl (wf x) t.heap ∧ va_D A (wf x)) A) (vy_X (fun (u : Int32 × Int32 × PS) => res = .inr u) (fun E q u t => E = "LehrBelt$Fault" ∧ va_P D vwCl (wf u.2.2 ++ [cFault q u.1 u.2.1]) t.heap ∧ va_D A (wf u.2.2 ++ [cFault q u.1 u.2.1])) A) (cmc res) (cms res) A
theorem KFq.of {l : Launch} {y : MethodName} {cc : ByteArray} {nL d : Nat} {rt : FieldType} {D : va_G} {ty : Nat → ClassId} {A : Nat → Prop} {ws : va_W} {As : List Value} {wf : PS → va_W} {ra : Nat} {res : (PS ⊕ (Int32 × Int32 × PS))} (hy : plainName y.cls = true) (hrt : (∃ n, rt = .object n) ∨ ∃ t, rt = .array t) (hn : (lg_sl As).length ≤ nL)
    (body : ∀ (p : Program) (e : Env) (R : Room) (s : State) (m : MethodId) (args : Array Value) (below : List Frame) (meth : Method) (c : Code) (Q : State → Prop), Cx p R s m args c cc nL y.cls D ty A d → cmc res ≤ R.cells → cms res ≤ R.slots →
      (∀ (x : PS) (H : Heap) (locs : List Loc) (pc : Nat) (ls : Array Slot), res = .inl x → Hw D A s H locs (wf x) → decode cc pc = .ok (.areturn, 1) → W p l e R s m args below meth c H locs (cmc res) (cms res) Q (F0 m pc ls [.ref ra])) → (∀ (u : Int32 × Int32 × PS) (H : Heap) (locs : List Loc) (pc : Nat) (ls : Array Slot) (rest : List Value) (q9 : Nat), res = .inr u → Hw D A s H locs (wf u.2.2 ++ [cFault q9 u.1 u.2.1]) → vx_W p l e R s m args below meth c H locs (cmc res) (cms res) Q (F0 m pc ls rest) q9) →
      ∀ (H : Heap) (locs : List Loc) (ls : Array Slot), Hw D A s H locs ws → lv_has ls nL (lv_args 0 As) → W p l e R s m args below meth c H locs 0 0 Q (F0 m 0 ls [])) : KFq l y cc nL rt d D ty A ws As wf ra res := by
  intro sz hA
  refine vy_ofW (cc := cc) (maxL := nL) (ret := some rt) hy rfl ?_
  intro p e s m args below meth c s₁ B hml htab hv
  obtain ⟨rfl, hsz, hP, hK, hD⟩ := hv
  subst hsz
  have hts := atoms_spec (ws := ws_ y cc nL (some rt)) B.pre
  have hts : ∀ w ∈ lw_all, w.before _ s = true := fun w h => hts w (List.mem_cons_of_mem _ h)
  rw [lg_entry_eq]
  refine body p e _ s m As.toArray below meth c _ ⟨⟨B.exec, B.bytes, hml, findClass_of_methodNamed B.named, hts⟩, hK, hA, Nat.le_refl _, Nat.le_refl _⟩ (Nat.le_refl _) (Nat.le_refl _) ?_ ?_ s.heap [] _ ⟨hP, hD, va_S.rf⟩ (lv_entry As hn)
  · intro x H locs pc ls hx h hd
    exact vy_ret (W.aret (v := .ref ra) B.exec B.bytes B.returns hrt (Or.inr ⟨ra, rfl⟩) (fun t ht hW => ⟨⟨some ra, x, rfl, ⟨rfl, hx⟩, by rw [ht]; exact h.1, h.2.1⟩, h.2.2.F ht⟩) h.2.2.2.2 hd)
  · intro u H locs pc ls rest q9 hu h
    obtain ⟨cell, g1, g2, g3⟩ := fault_cell hK.1 h
    exact vy_out (fun x hx => (htab x hx).elim) B.notSynchronized g1 g2 g3 (fun t ht hW => ⟨u, hu, ⟨rfl, by rw [ht]; exact h.1, h.2.1⟩, h.2.2.F ht⟩) h.2.2.2.2 (Nat.le_refl _) (Nat.le_refl _)
set_option maxHeartbeats 1000000 in
theorem kR_whole (l : Launch) {D : va_G} {ty : Nat → ClassId} {A : Nat → Prop} {b o : Nat} {ad ad2 : Nat → Nat} {rs : va_W} {σ τ : PS} {res : (PS ⊕ FT)} {n : Nat} (hf : R_whole τ n σ = some res) : KFq l yX8_whole cX8_whole 1 (.object "LehrBelt$Lehr") 11 D ty A (wRd ty b o ad2 σ ++ (wBelt ty o ad τ ++ rs)) [.ref b] (fun x => (wRd ty b o ad2 x ++ (wBelt ty o ad τ ++ rs))) (ad2 0) res := by
  refine KFq.of (by decide) (Or.inl ⟨_, rfl⟩) (Nat.le_of_ble_eq_true rfl) ?_
  intro p e R s m args below meth c Q C hmc hms hR hX H locs ls h hl
  have C : Cx p R s m args c cX8_whole 1 RX8 D ty A 11 := C
  have hl : lv_has ls 1 [(0, .ref b)] := hl
  have loop : ∀ (n : Nat) (σ : PS) (H : Heap) (locs : List Loc) (ls : Array Slot), Hw D A s H locs (wRd ty b o ad2 σ ++ (wBelt ty o ad τ ++ rs)) → lv_has ls 1 [(0, .ref b)] → R_whole τ n σ = some res → W p l e R s m args below meth c H locs 0 0 Q (F0 m 0 ls []) := by
    intro n
    induction n with
    | zero => intro σ H locs ls h hl hf; cases hf
    | succ n ih =>
      intro σ H locs ls h hl hf
      unfold R_whole at hf
      obtain ⟨ht, hf⟩ := tkg_k hf
      refine lv_aload_n C.x C.b dX8_whole_0 rfl (lv_at hl 0 rfl) ?_
      refine r_g5 C h dX8_whole_1 ?_
      refine r_tok0 C h dX8_whole_4 ?_
      refine lv_acmp_eq (rx := tokO ty (gI σ 205)) (ry := tokO ty 0) (tgt := 67) C.x C.b dX8_whole_7 (by decide) (fun c9 => ?_) (fun c9 => ?_)
      · have c8 : gI σ 205 = 0 := (tok_inj C.E.2.2.2.1 ht (by unfold tkn; decide)).mp c9
        rw [if_pos c8] at hf
        cases (some_k hf)
        refine lv_aload_n C.x C.b dX8_whole_67 rfl (lv_at hl 0 rfl) ?_
        refine r_g1 C h dX8_whole_68 ?_
        exact hR _ _ _ _ _ rfl h dX8_whole_71
      · rw [if_neg (fun h9 => c9 (by rw [h9]))] at hf
        refine lv_aload_n C.x C.b dX8_whole_10 rfl (lv_at hl 0 rfl) ?_
        refine r_g1 C h dX8_whole_11 ?_
        refine r_g105 C h dX8_whole_14 ?_
        have jn : ∀ (σ1 : PS) (H : Heap) (locs : List Loc), Hw D A s H locs (wRd ty b o ad2 σ1 ++ (wBelt ty o ad τ ++ rs)) → tkg (gI σ1 205) (if gI σ1 205 = 3 then bd (R_next τ σ1) (fun σ2 => R_whole τ n (sI σ2 105 (gI σ2 105 + 1))) else some (.inr (1, gI σ1 203, σ1))) = some res → W p l e R s m args below meth c H locs 0 0 Q (F0 m 31 ls []) := by
          intro σ1 H locs h hf
          obtain ⟨ht, hf⟩ := tkg_k hf
          refine lv_aload_n C.x C.b dX8_whole_31 rfl (lv_at hl 0 rfl) ?_
          refine r_g5 C h dX8_whole_32 ?_
          refine r_tok3 C h dX8_whole_35 ?_
          refine lv_acmp_eq (rx := tokO ty (gI σ1 205)) (ry := tokO ty 3) (tgt := 47) C.x C.b dX8_whole_38 (by decide) (fun c9 => ?_) (fun c9 => ?_)
          rotate_left
          · rw [if_neg (fun h9 => c9 (by rw [h9]))] at hf
            cases (some_k hf)
            refine lv_aload_n C.x C.b dX8_whole_41 rfl (lv_at hl 0 rfl) ?_
            refine lv_iconst (v := 1) C.x C.b dX8_whole_42 (by decide) ?_
            have hmc : 1 ≤ R.cells := hmc
            have hms : 8 ≤ R.slots := hms
            have h : Hw D A s H locs ([] ++ (wRd ty b o ad2 σ1 ++ (wBelt ty o ad τ ++ rs))) := h
            refine KRx.callVf (wr := []) (As := [.int 1]) (rest := []) C (fun A => kR_wrong l) (lw_V q586 q588 qs7 q148 q589) ⟨rfl, by decide, by decide, by show _ = some 1; decide +kernel⟩ 0 8 rfl rfl rfl (Nat.le_of_ble_eq_true rfl) (by decide) (by omega) (by omega) h hl.1 rfl (Nat.le_of_ble_eq_true rfl) dX8_whole_43 (fun _ q9 H locs _ h => ?_)
            exact vx_athrow C.x C.b dX8_whole_46 (hX (1, gI σ1 203, σ1) H locs _ _ _ q9 rfl h)
          have c8 : gI σ1 205 = 3 := (tok_inj C.E.2.2.2.1 ht (by unfold tkn; decide)).mp c9
          rw [if_pos c8] at hf
          obtain ⟨σ2, hc2, hf⟩ := bd_k1 hf
          refine lv_aload_n C.x C.b dX8_whole_47 rfl (lv_at hl 0 rfl) ?_
          refine cR_next C h hc2 (Nat.le_of_ble_eq_true rfl) hl.1 (Nat.le_of_ble_eq_true rfl) dX8_whole_48 (fun H locs h => ?_)
          refine lv_aload_n C.x C.b dX8_whole_51 rfl (lv_at hl 0 rfl) ?_
          refine r_g1 C h dX8_whole_52 ?_
          refine lv_dup C.x C.b dX8_whole_55 rfl ?_
          refine r_g105 C h dX8_whole_56 ?_
          refine lv_iconst (v := 1) C.x C.b dX8_whole_59 (by decide) ?_
          refine lv_iadd C.x C.b dX8_whole_60 ?_
          refine r_p105 C h rfl dX8_whole_61 (fun H locs h => ?_)
          refine lv_goto (tgt := 0) C.x C.b dX8_whole_64 (by decide) ?_
          exact ih _ _ _ _ h hl hf
        refine lv_if_ne (tgt := 27) C.x C.b dX8_whole_17 (by decide) (fun c7 => ?_) (fun c7 => ?_)
        · rw [if_neg c7] at hf
          refine lv_aload_n C.x C.b dX8_whole_27 rfl (lv_at hl 0 rfl) ?_
          rcases bf_k hf with ⟨σ1, hc, hf⟩ | ⟨u, hc, hu⟩
          rotate_left
          · subst hu
            have hmc : 1 ≤ R.cells := hmc
            have hms : 8 ≤ R.slots := hms
            exact KFv.callX (As := []) (rest := []) (wf := (fun x => (wRd ty b o ad2 x ++ (wBelt ty o ad τ ++ rs)))) C (kR_line l hc) (lw_V q687 q689 qs12 q148 q690) ⟨rfl, by decide, by decide, by show _ = some 0; decide +kernel⟩ 0 8 rfl rfl rfl (Nat.le_of_ble_eq_true rfl) (by decide) (by omega) (by omega) h hl.1 rfl (Nat.le_of_ble_eq_true rfl) dX8_whole_28 (fun H locs q9 h => hX u H locs _ _ _ q9 rfl h)
          refine KFv.callOk (As := []) (rest := []) (wf := (fun x => (wRd ty b o ad2 x ++ (wBelt ty o ad τ ++ rs)))) C (kR_line l hc) (lw_V q687 q689 qs12 q148 q690) ⟨rfl, by decide, by decide, by show _ = some 0; decide +kernel⟩ 0 8 rfl rfl rfl (Nat.le_of_ble_eq_true rfl) (by decide) (Nat.zero_le _) (Nat.zero_le _) h hl.1 rfl (Nat.le_of_ble_eq_true rfl) dX8_whole_28 (fun H locs h => ?_)
          exact jn σ1 _ _ h hf
        · rw [if_pos c7] at hf
          refine lv_aload_n C.x C.b dX8_whole_20 rfl (lv_at hl 0 rfl) ?_
          rcases bf_k hf with ⟨σ1, hc, hf⟩ | ⟨u, hc, hu⟩
          rotate_left
          · subst hu
            have hmc : 1 ≤ R.cells := hmc
            have hms : 8 ≤ R.slots := hms
            exact KFv.callX (As := []) (rest := []) (wf := (fun x => (wRd ty b o ad2 x ++ (wBelt ty o ad τ ++ rs)))) C (kR_head l hc) (lw_V q521 q523 qs3 q148 q524) ⟨rfl, by decide, by decide, by show _ = some 0; decide +kernel⟩ 0 8 rfl rfl rfl (Nat.le_of_ble_eq_true rfl) (by decide) (by omega) (by omega) h hl.1 rfl (Nat.le_of_ble_eq_true rfl) dX8_whole_21 (fun H locs q9 h => hX u H locs _ _ _ q9 rfl h)
          refine KFv.callOk (As := []) (rest := []) (wf := (fun x => (wRd ty b o ad2 x ++ (wBelt ty o ad τ ++ rs)))) C (kR_head l hc) (lw_V q521 q523 qs3 q148 q524) ⟨rfl, by decide, by decide, by show _ = some 0; decide +kernel⟩ 0 8 rfl rfl rfl (Nat.le_of_ble_eq_true rfl) (by decide) (Nat.zero_le _) (Nat.zero_le _) h hl.1 rfl (Nat.le_of_ble_eq_true rfl) dX8_whole_21 (fun H locs h => ?_)
          refine lv_goto (tgt := 31) C.x C.b dX8_whole_24 (by decide) ?_
          exact jn σ1 _ _ h hf
  exact loop n σ H locs ls h hl hf
