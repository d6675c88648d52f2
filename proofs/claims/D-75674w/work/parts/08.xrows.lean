set_option maxRecDepth 100000
/-- the kind of cooling by its number -/
def lawV (ad : Nat → Nat) (k : Int32) : Value := if k = 0 then .ref (ad 40) else if k = 1 then .ref (ad 41) else if k = 2 then .ref (ad 42) else if k = 3 then .ref (ad 43) else .null
/-- four cells by their numbers from b on -/
def f4 (ad : Nat → Nat) (b : Nat) : Nat → Option Nat := fun j => some (if j = 0 then ad b else if j = 1 then ad (b + 1) else if j = 2 then ad (b + 2) else ad (b + 3))
theorem f4_at {ad : Nat → Nat} {b : Nat} {i : Int32} (hi : vp_in i 4) : va_rf (f4 ad b i.toNatClampNeg) = .ref (ad (b + i.toNatClampNeg)) := by
  obtain ⟨j, hj, rfl⟩ := vp_in_of hi (by decide)
  rw [nI_clamp (by omega)]
  have h4 : j = 0 ∨ j = 1 ∨ j = 2 ∨ j = 3 := by omega
  rcases h4 with h | h | h | h <;> (subst h; rfl)
def fX (ad : Nat → Nat) (σ : PS) : List Value := [.ref (ad 0), .ref (ad 1), .int (gI σ 2), .int (gI σ 3), .int (gI σ 4), .ref (ad 5), .ref (ad 6), .ref (ad 7), .ref (ad 8), .ref (ad 9), .int (gI σ 10), .int (gI σ 11), .int (gI σ 12), lawV ad (gI σ 13), .ref (ad 14), .ref (ad 15), .ref (ad 16), .ref (ad 17), .ref (ad 18), .ref (ad 19), .ref (ad 20), .ref (ad 21), .ref (ad 22), .ref (ad 23), .ref (ad 24), .int (gI σ 25), .ref (ad 26), .long (gL σ 27), .long (gL σ 28), .long (gL σ 29), .ref (ad 30), .ref (ad 31)]
def fL (ad : Nat → Nat) (σ : PS) : List Value := [.int (gI σ 100), .int (gI σ 101), .int (gI σ 102), .int (gI σ 103), .int (gI σ 104), .int (gI σ 105), .int (gI σ 106), .int (gI σ 107), .int (gI σ 108), .ref (ad 109), .ref (ad 110), .ref (ad 111), .ref (ad 112), .ref (ad 113), .ref (ad 114)]
/-- a lehr and its rows -/
def wLehr (ty : Nat → ClassId) (ad : Nat → Nat) (σ : PS) : va_W := [(ad 0, .inr (1, fL ad σ)), (ad 109, .inl (ty 0, 7, .inl (gA σ 109))), (ad 110, .inl (ty 0, 6, .inl (gA σ 110))), (ad 111, .inl (ty 0, 6, .inl (gA σ 111))), (ad 112, .inl (ty 0, 6, .inl (gA σ 112))), (ad 113, .inl (ty 0, 6, .inl (gA σ 113))), (ad 114, .inl (ty 0, 30, .inl (gA σ 114)))]
/-- the belt without its lehr -/
def wBelt (ty : Nat → ClassId) (o : Nat) (ad : Nat → Nat) (σ : PS) : va_W := [(o, .inr (0, fX ad σ)), (ad 1, .inl (ty 1, 600, .inl (gA σ 1))), (ad 5, .inl (ty 0, 7, .inl (gA σ 5))), (ad 6, .inl (ty 0, 7, .inl (gA σ 6))), (ad 7, .inl (ty 0, 7, .inl (gA σ 7))), (ad 8, .inl (ty 0, 6, .inl (gA σ 8))), (ad 9, .inl (ty 0, 6, .inl (gA σ 9))), (ad 14, .inl (ty 0, 6, .inl (gA σ 14))), (ad 15, .inl (ty 0, 6, .inl (gA σ 15))), (ad 16, .inl (ty 0, 6, .inl (gA σ 16))), (ad 18, .inl (ty 0, 90, .inl (gA σ 18))), (ad 19, .inl (ty 0, 90, .inl (gA σ 19))), (ad 20, .inl (ty 0, 6, .inl (gA σ 20))), (ad 21, .inl (ty 0, 6, .inl (gA σ 21))), (ad 22, .inl (ty 0, 6, .inl (gA σ 22))), (ad 23, .inl (ty 0, 6, .inl (gA σ 23))), (ad 24, .inl (ty 0, 601, .inl (gA σ 24))), (ad 26, .inl (ty 0, 128, .inl (gA σ 26))), (ad 17, .inl (ty 5, 4, .inr (.inr (.inr (.inr (f4 ad 40)))))), (ad 40, .inr (2, [.ref o])), (ad 41, .inr (3, [.ref o, .ref o])), (ad 42, .inr (4, [.ref o, .ref o])), (ad 43, .inr (5, [.ref o, .ref o]))]
def wX (ty : Nat → ClassId) (o : Nat) (ad : Nat → Nat) (σ : PS) : va_W := [(o, .inr (0, fX ad σ)), (ad 1, .inl (ty 1, 600, .inl (gA σ 1))), (ad 5, .inl (ty 0, 7, .inl (gA σ 5))), (ad 6, .inl (ty 0, 7, .inl (gA σ 6))), (ad 7, .inl (ty 0, 7, .inl (gA σ 7))), (ad 8, .inl (ty 0, 6, .inl (gA σ 8))), (ad 9, .inl (ty 0, 6, .inl (gA σ 9))), (ad 14, .inl (ty 0, 6, .inl (gA σ 14))), (ad 15, .inl (ty 0, 6, .inl (gA σ 15))), (ad 16, .inl (ty 0, 6, .inl (gA σ 16))), (ad 18, .inl (ty 0, 90, .inl (gA σ 18))), (ad 19, .inl (ty 0, 90, .inl (gA σ 19))), (ad 20, .inl (ty 0, 6, .inl (gA σ 20))), (ad 21, .inl (ty 0, 6, .inl (gA σ 21))), (ad 22, .inl (ty 0, 6, .inl (gA σ 22))), (ad 23, .inl (ty 0, 6, .inl (gA σ 23))), (ad 24, .inl (ty 0, 601, .inl (gA σ 24))), (ad 26, .inl (ty 0, 128, .inl (gA σ 26))), (ad 17, .inl (ty 5, 4, .inr (.inr (.inr (.inr (f4 ad 40)))))), (ad 40, .inr (2, [.ref o])), (ad 41, .inr (3, [.ref o, .ref o])), (ad 42, .inr (4, [.ref o, .ref o])), (ad 43, .inr (5, [.ref o, .ref o])), (ad 0, .inr (1, fL ad σ)), (ad 109, .inl (ty 0, 7, .inl (gA σ 109))), (ad 110, .inl (ty 0, 6, .inl (gA σ 110))), (ad 111, .inl (ty 0, 6, .inl (gA σ 111))), (ad 112, .inl (ty 0, 6, .inl (gA σ 112))), (ad 113, .inl (ty 0, 6, .inl (gA σ 113))), (ad 114, .inl (ty 0, 30, .inl (gA σ 114)))]
theorem wX_split {ty : Nat → ClassId} {o : Nat} {ad : Nat → Nat} {σ : PS} : wX ty o ad σ = wBelt ty o ad σ ++ wLehr ty ad σ := rfl
def mx (x y : Int32) : Int32 := if x < y then y else x
def mn (x y : Int32) : Int32 := if y < x then y else x
def ab (x : Int32) : Int32 := if 0 ≤ x then x else 0 - x
def lab (x : Int64) : Int64 := if 0 < x then x else -x
/-- the kind of cooling is known -/
def lgd {α : Type} (k : Int32) (x : Option α) : Option α := if k = 0 ∨ k = 1 ∨ k = 2 ∨ k = 3 then x else none
theorem lgd_k {α β : Type} {K : Option α → Option β} {k : Int32} {x : Option α} {f : β} (hK : K none = none) (h : K (lgd k x) = some f) : (k = 0 ∨ k = 1 ∨ k = 2 ∨ k = 3) ∧ K x = some f := by
  unfold lgd at h
  by_cases c : k = 0 ∨ k = 1 ∨ k = 2 ∨ k = 3
  · rw [if_pos c] at h; exact ⟨c, h⟩
  · rw [if_neg c, hK] at h; cases h
theorem law_some {ad : Nat → Nat} {k : Int32} (h : k = 0 ∨ k = 1 ∨ k = 2 ∨ k = 3) : ∃ a, lawV ad k = .ref a := by
  rcases h with h | h | h | h <;> rw [h]
  · exact ⟨_, rfl⟩
  · exact ⟨_, rfl⟩
  · exact ⟨_, rfl⟩
  · exact ⟨_, rfl⟩
theorem law_at {ad : Nat → Nat} {i : Int32} (hi : vp_in i 4) : lawV ad i = .ref (ad (40 + i.toNatClampNeg)) := by
  obtain ⟨j, hj, rfl⟩ := vp_in_of hi (by decide)
  have h4 : j = 0 ∨ j = 1 ∨ j = 2 ∨ j = 3 := by omega
  rcases h4 with h | h | h | h <;> (subst h; rfl)
/-- a row is copied into another -/
def cpC (i : Int32) (n1 : Nat) (j : Int32) (n2 : Nat) (n : Int32) : Bool := decide (¬ i < 0) && decide (¬ j < 0) && decide (¬ n < 0) && decide (i.toNatClampNeg + n.toNatClampNeg ≤ n1) && decide (j.toNatClampNeg + n.toNatClampNeg ≤ n2)
def cpg {α : Type} (i : Int32) (n1 : Nat) (j : Int32) (n2 : Nat) (n : Int32) (x : Option α) : Option α := if cpC i n1 j n2 n = true then x else none
def cpA (σ : PS) (k1 : Nat) (i : Int32) (k2 : Nat) (j : Int32) (n : Int32) : PS := sA σ k2 (va_cpy (gA σ k1) (gA σ k2) i.toNatClampNeg j.toNatClampNeg n.toNatClampNeg)
theorem cpg_k {α β : Type} {K : Option α → Option β} {i j n : Int32} {n1 n2 : Nat} {x : Option α} {f : β} (hK : K none = none) (h : K (cpg i n1 j n2 n x) = some f) : cpC i n1 j n2 n = true ∧ K x = some f := by
  unfold cpg at h
  by_cases c : cpC i n1 j n2 n = true
  · rw [if_pos c] at h; exact ⟨c, h⟩
  · rw [if_neg c, hK] at h; cases h
theorem cpC_of {i j n : Int32} {n1 n2 : Nat} (h : cpC i n1 j n2 n = true) : (¬ i < 0) ∧ (¬ j < 0) ∧ (¬ n < 0) ∧ i.toNatClampNeg + n.toNatClampNeg ≤ n1 ∧ j.toNatClampNeg + n.toNatClampNeg ≤ n2 := by
  simp only [cpC, Bool.and_eq_true, decide_eq_true_eq] at h
  exact ⟨h.1.1.1.1, h.1.1.1.2, h.1.1.2, h.1.2, h.2⟩
section XROWS
variable {p : Program} {l : Launch} {e : Env} {R : Room} {s : State} {m : MethodId} {args : Array Value} {below : List Frame} {meth : Method} {c : Code} {H : Heap} {locs : List Loc} {cells slots : Nat} {Q : State → Prop} {cc : ByteArray} {pc : Nat} {ls : Array Slot} {st : List Value} {nL d : Nat} {D : va_G} {ty : Nat → ClassId} {A : Nat → Prop} {o : Nat} {ad : Nat → Nat} {rs : va_W} {σ : PS} {ow : String}
theorem x_g0 (C : Cx p R s m args c cc nL RX0 D ty A d) (h : Hw D A s H locs (wX ty o ad σ ++ rs)) (dec : decode cc pc = .ok (.getfield 10, 3)) (kk : W p l e R s m args below meth c H locs cells slots Q (F0 m (pc + 3) ls (.ref (ad 0) :: st))) : W p l e R s m args below meth c H locs cells slots Q (F0 m pc ls (.ref (o) :: st)) := va_get (D := D) (ci := 0) C.x C.b C.ts in_X0 C.own C.K h.1 0 rfl rfl 0 (by decide) (C.ts _ q344) (fun _ h9 => h9) rfl dec kk
theorem x_g1 (C : Cx p R s m args c cc nL RX0 D ty A d) (h : Hw D A s H locs (wX ty o ad σ ++ rs)) (dec : decode cc pc = .ok (.getfield 16, 3)) (kk : W p l e R s m args below meth c H locs cells slots Q (F0 m (pc + 3) ls (.ref (ad 1) :: st))) : W p l e R s m args below meth c H locs cells slots Q (F0 m pc ls (.ref (o) :: st)) := va_get (D := D) (ci := 0) C.x C.b C.ts in_X0 C.own C.K h.1 0 rfl rfl 1 (by decide) (C.ts _ q346) (fun _ h9 => h9) rfl dec kk
theorem x_a1 (C : Cx p R s m args c cc nL ow D ty A d) (h : Hw D A s H locs (wX ty o ad σ ++ rs)) {i : Int32} (hi : vp_in i 600) (dec : decode cc pc = .ok (.baload, 1)) (kk : W p l e R s m args below meth c H locs cells slots Q (F0 m (pc + 1) ls (.int (rA σ 1 i) :: st))) : W p l e R s m args below meth c H locs cells slots Q (F0 m pc ls (.int i :: .ref (ad 1) :: st)) := va_bald C.x C.b C.K h.1 1 1 rfl rfl hi dec kk
theorem x_s1 (f : Nat → Int32) : (wX ty o ad σ ++ rs).set 1 (ad 1, .inl (ty 1, 600, .inl f)) = wX ty o ad (sA σ 1 f) ++ rs := rfl
theorem x_w1 (C : Cx p R s m args c cc nL ow D ty A d) (h : Hw D A s H locs (wX ty o ad σ ++ rs)) {i : Int32} {v : Int32} {σ2 : PS} (hi : vp_in i 600) (e9 : σ2 = wA σ 1 i (vp_nar .byte v)) (dec : decode cc pc = .ok (.bastore, 1)) (kk : ∀ (H : Heap) (locs : List Loc), Hw D A s H locs (wX ty o ad σ2 ++ rs) → W p l e R s m args below meth c H locs cells slots Q (F0 m (pc + 1) ls st)) : W p l e R s m args below meth c H locs cells slots Q (F0 m pc ls (.int v :: .int i :: .ref (ad 1) :: st)) := by
  subst e9
  refine va_bast C.x C.b C.K h.1 h.2.1 h.2.2 1 1 rfl rfl hi dec (fun H1 locs1 hP hD hS => ?_)
  rw [x_s1] at hP hD
  exact kk H1 locs1 ⟨hP, hD, hS⟩
theorem x_g2 (C : Cx p R s m args c cc nL RX0 D ty A d) (h : Hw D A s H locs (wX ty o ad σ ++ rs)) (dec : decode cc pc = .ok (.getfield 105, 3)) (kk : W p l e R s m args below meth c H locs cells slots Q (F0 m (pc + 3) ls (.int (gI σ 2) :: st))) : W p l e R s m args below meth c H locs cells slots Q (F0 m pc ls (.ref (o) :: st)) := va_get (D := D) (ci := 0) C.x C.b C.ts in_X0 C.own C.K h.1 0 rfl rfl 2 (by decide) (C.ts _ q348) (fun _ h9 => h9) rfl dec kk
theorem x_s2 (v : Int32) : (wX ty o ad σ ++ rs).set 0 (o, .inr (0, (fX ad σ).set 2 (.int v))) = wX ty o ad (sI σ 2 v) ++ rs := rfl
theorem x_p2 (C : Cx p R s m args c cc nL RX0 D ty A d) (h : Hw D A s H locs (wX ty o ad σ ++ rs)) {v : Int32} {σ2 : PS} (e9 : σ2 = sI σ 2 v) (dec : decode cc pc = .ok (.putfield 105, 3)) (kk : ∀ (H : Heap) (locs : List Loc), Hw D A s H locs (wX ty o ad σ2 ++ rs) → W p l e R s m args below meth c H locs cells slots Q (F0 m (pc + 3) ls st)) : W p l e R s m args below meth c H locs cells slots Q (F0 m pc ls (.int v :: .ref (o) :: st)) := by
  subst e9
  refine va_put (D := D) (ci := 0) (ty := .int) (fs := fX ad σ) C.x C.b C.ts in_X0 tyX0 tyX0_ok nmX0 C.own C.K h.1 h.2.1 h.2.2 0 rfl rfl 2 (by decide) (C.ts _ q348) (fun _ h9 => h9) rfl (by decide +kernel) rfl rfl (Nat.le_of_ble_eq_true rfl) dec (fun H1 locs1 hP hD hS => ?_)
  rw [x_s2] at hP hD
  exact kk H1 locs1 ⟨hP, hD, hS⟩
theorem x_g3 (C : Cx p R s m args c cc nL RX0 D ty A d) (h : Hw D A s H locs (wX ty o ad σ ++ rs)) (dec : decode cc pc = .ok (.getfield 123, 3)) (kk : W p l e R s m args below meth c H locs cells slots Q (F0 m (pc + 3) ls (.int (gI σ 3) :: st))) : W p l e R s m args below meth c H locs cells slots Q (F0 m pc ls (.ref (o) :: st)) := va_get (D := D) (ci := 0) C.x C.b C.ts in_X0 C.own C.K h.1 0 rfl rfl 3 (by decide) (C.ts _ q349) (fun _ h9 => h9) rfl dec kk
theorem x_s3 (v : Int32) : (wX ty o ad σ ++ rs).set 0 (o, .inr (0, (fX ad σ).set 3 (.int v))) = wX ty o ad (sI σ 3 v) ++ rs := rfl
theorem x_p3 (C : Cx p R s m args c cc nL RX0 D ty A d) (h : Hw D A s H locs (wX ty o ad σ ++ rs)) {v : Int32} {σ2 : PS} (e9 : σ2 = sI σ 3 v) (dec : decode cc pc = .ok (.putfield 123, 3)) (kk : ∀ (H : Heap) (locs : List Loc), Hw D A s H locs (wX ty o ad σ2 ++ rs) → W p l e R s m args below meth c H locs cells slots Q (F0 m (pc + 3) ls st)) : W p l e R s m args below meth c H locs cells slots Q (F0 m pc ls (.int v :: .ref (o) :: st)) := by
  subst e9
  refine va_put (D := D) (ci := 0) (ty := .int) (fs := fX ad σ) C.x C.b C.ts in_X0 tyX0 tyX0_ok nmX0 C.own C.K h.1 h.2.1 h.2.2 0 rfl rfl 3 (by decide) (C.ts _ q349) (fun _ h9 => h9) rfl (by decide +kernel) rfl rfl (Nat.le_of_ble_eq_true rfl) dec (fun H1 locs1 hP hD hS => ?_)
  rw [x_s3] at hP hD
  exact kk H1 locs1 ⟨hP, hD, hS⟩
theorem x_g4 (C : Cx p R s m args c cc nL RX0 D ty A d) (h : Hw D A s H locs (wX ty o ad σ ++ rs)) (dec : decode cc pc = .ok (.getfield 20, 3)) (kk : W p l e R s m args below meth c H locs cells slots Q (F0 m (pc + 3) ls (.int (gI σ 4) :: st))) : W p l e R s m args below meth c H locs cells slots Q (F0 m pc ls (.ref (o) :: st)) := va_get (D := D) (ci := 0) C.x C.b C.ts in_X0 C.own C.K h.1 0 rfl rfl 4 (by decide) (C.ts _ q350) (fun _ h9 => h9) rfl dec kk
theorem x_s4 (v : Int32) : (wX ty o ad σ ++ rs).set 0 (o, .inr (0, (fX ad σ).set 4 (.int v))) = wX ty o ad (sI σ 4 v) ++ rs := rfl
theorem x_p4 (C : Cx p R s m args c cc nL RX0 D ty A d) (h : Hw D A s H locs (wX ty o ad σ ++ rs)) {v : Int32} {σ2 : PS} (e9 : σ2 = sI σ 4 v) (dec : decode cc pc = .ok (.putfield 20, 3)) (kk : ∀ (H : Heap) (locs : List Loc), Hw D A s H locs (wX ty o ad σ2 ++ rs) → W p l e R s m args below meth c H locs cells slots Q (F0 m (pc + 3) ls st)) : W p l e R s m args below meth c H locs cells slots Q (F0 m pc ls (.int v :: .ref (o) :: st)) := by
  subst e9
  refine va_put (D := D) (ci := 0) (ty := .int) (fs := fX ad σ) C.x C.b C.ts in_X0 tyX0 tyX0_ok nmX0 C.own C.K h.1 h.2.1 h.2.2 0 rfl rfl 4 (by decide) (C.ts _ q350) (fun _ h9 => h9) rfl (by decide +kernel) rfl rfl (Nat.le_of_ble_eq_true rfl) dec (fun H1 locs1 hP hD hS => ?_)
  rw [x_s4] at hP hD
  exact kk H1 locs1 ⟨hP, hD, hS⟩
theorem x_g5 (C : Cx p R s m args c cc nL RX0 D ty A d) (h : Hw D A s H locs (wX ty o ad σ ++ rs)) (dec : decode cc pc = .ok (.getfield 24, 3)) (kk : W p l e R s m args below meth c H locs cells slots Q (F0 m (pc + 3) ls (.ref (ad 5) :: st))) : W p l e R s m args below meth c H locs cells slots Q (F0 m pc ls (.ref (o) :: st)) := va_get (D := D) (ci := 0) C.x C.b C.ts in_X0 C.own C.K h.1 0 rfl rfl 5 (by decide) (C.ts _ q351) (fun _ h9 => h9) rfl dec kk
theorem x_a5 (C : Cx p R s m args c cc nL ow D ty A d) (h : Hw D A s H locs (wX ty o ad σ ++ rs)) {i : Int32} (hi : vp_in i 7) (dec : decode cc pc = .ok (.iaload, 1)) (kk : W p l e R s m args below meth c H locs cells slots Q (F0 m (pc + 1) ls (.int (rA σ 5 i) :: st))) : W p l e R s m args below meth c H locs cells slots Q (F0 m pc ls (.int i :: .ref (ad 5) :: st)) := va_iald C.x C.b C.K h.1 2 0 rfl rfl hi dec kk
theorem x_s5 (f : Nat → Int32) : (wX ty o ad σ ++ rs).set 2 (ad 5, .inl (ty 0, 7, .inl f)) = wX ty o ad (sA σ 5 f) ++ rs := rfl
theorem x_w5 (C : Cx p R s m args c cc nL ow D ty A d) (h : Hw D A s H locs (wX ty o ad σ ++ rs)) {i : Int32} {v : Int32} {σ2 : PS} (hi : vp_in i 7) (e9 : σ2 = wA σ 5 i v) (dec : decode cc pc = .ok (.iastore, 1)) (kk : ∀ (H : Heap) (locs : List Loc), Hw D A s H locs (wX ty o ad σ2 ++ rs) → W p l e R s m args below meth c H locs cells slots Q (F0 m (pc + 1) ls st)) : W p l e R s m args below meth c H locs cells slots Q (F0 m pc ls (.int v :: .int i :: .ref (ad 5) :: st)) := by
  subst e9
  refine va_iast C.x C.b C.K h.1 h.2.1 h.2.2 2 0 rfl rfl hi dec (fun H1 locs1 hP hD hS => ?_)
  rw [x_s5] at hP hD
  exact kk H1 locs1 ⟨hP, hD, hS⟩
theorem x_g6 (C : Cx p R s m args c cc nL RX0 D ty A d) (h : Hw D A s H locs (wX ty o ad σ ++ rs)) (dec : decode cc pc = .ok (.getfield 28, 3)) (kk : W p l e R s m args below meth c H locs cells slots Q (F0 m (pc + 3) ls (.ref (ad 6) :: st))) : W p l e R s m args below meth c H locs cells slots Q (F0 m pc ls (.ref (o) :: st)) := va_get (D := D) (ci := 0) C.x C.b C.ts in_X0 C.own C.K h.1 0 rfl rfl 6 (by decide) (C.ts _ q352) (fun _ h9 => h9) rfl dec kk
theorem x_a6 (C : Cx p R s m args c cc nL ow D ty A d) (h : Hw D A s H locs (wX ty o ad σ ++ rs)) {i : Int32} (hi : vp_in i 7) (dec : decode cc pc = .ok (.iaload, 1)) (kk : W p l e R s m args below meth c H locs cells slots Q (F0 m (pc + 1) ls (.int (rA σ 6 i) :: st))) : W p l e R s m args below meth c H locs cells slots Q (F0 m pc ls (.int i :: .ref (ad 6) :: st)) := va_iald C.x C.b C.K h.1 3 0 rfl rfl hi dec kk
theorem x_s6 (f : Nat → Int32) : (wX ty o ad σ ++ rs).set 3 (ad 6, .inl (ty 0, 7, .inl f)) = wX ty o ad (sA σ 6 f) ++ rs := rfl
theorem x_w6 (C : Cx p R s m args c cc nL ow D ty A d) (h : Hw D A s H locs (wX ty o ad σ ++ rs)) {i : Int32} {v : Int32} {σ2 : PS} (hi : vp_in i 7) (e9 : σ2 = wA σ 6 i v) (dec : decode cc pc = .ok (.iastore, 1)) (kk : ∀ (H : Heap) (locs : List Loc), Hw D A s H locs (wX ty o ad σ2 ++ rs) → W p l e R s m args below meth c H locs cells slots Q (F0 m (pc + 1) ls st)) : W p l e R s m args below meth c H locs cells slots Q (F0 m pc ls (.int v :: .int i :: .ref (ad 6) :: st)) := by
  subst e9
  refine va_iast C.x C.b C.K h.1 h.2.1 h.2.2 3 0 rfl rfl hi dec (fun H1 locs1 hP hD hS => ?_)
  rw [x_s6] at hP hD
  exact kk H1 locs1 ⟨hP, hD, hS⟩
theorem x_g7 (C : Cx p R s m args c cc nL RX0 D ty A d) (h : Hw D A s H locs (wX ty o ad σ ++ rs)) (dec : decode cc pc = .ok (.getfield 31, 3)) (kk : W p l e R s m args below meth c H locs cells slots Q (F0 m (pc + 3) ls (.ref (ad 7) :: st))) : W p l e R s m args below meth c H locs cells slots Q (F0 m pc ls (.ref (o) :: st)) := va_get (D := D) (ci := 0) C.x C.b C.ts in_X0 C.own C.K h.1 0 rfl rfl 7 (by decide) (C.ts _ q353) (fun _ h9 => h9) rfl dec kk
theorem x_a7 (C : Cx p R s m args c cc nL ow D ty A d) (h : Hw D A s H locs (wX ty o ad σ ++ rs)) {i : Int32} (hi : vp_in i 7) (dec : decode cc pc = .ok (.iaload, 1)) (kk : W p l e R s m args below meth c H locs cells slots Q (F0 m (pc + 1) ls (.int (rA σ 7 i) :: st))) : W p l e R s m args below meth c H locs cells slots Q (F0 m pc ls (.int i :: .ref (ad 7) :: st)) := va_iald C.x C.b C.K h.1 4 0 rfl rfl hi dec kk
theorem x_s7 (f : Nat → Int32) : (wX ty o ad σ ++ rs).set 4 (ad 7, .inl (ty 0, 7, .inl f)) = wX ty o ad (sA σ 7 f) ++ rs := rfl
theorem x_w7 (C : Cx p R s m args c cc nL ow D ty A d) (h : Hw D A s H locs (wX ty o ad σ ++ rs)) {i : Int32} {v : Int32} {σ2 : PS} (hi : vp_in i 7) (e9 : σ2 = wA σ 7 i v) (dec : decode cc pc = .ok (.iastore, 1)) (kk : ∀ (H : Heap) (locs : List Loc), Hw D A s H locs (wX ty o ad σ2 ++ rs) → W p l e R s m args below meth c H locs cells slots Q (F0 m (pc + 1) ls st)) : W p l e R s m args below meth c H locs cells slots Q (F0 m pc ls (.int v :: .int i :: .ref (ad 7) :: st)) := by
  subst e9
  refine va_iast C.x C.b C.K h.1 h.2.1 h.2.2 4 0 rfl rfl hi dec (fun H1 locs1 hP hD hS => ?_)
  rw [x_s7] at hP hD
  exact kk H1 locs1 ⟨hP, hD, hS⟩
theorem x_g8 (C : Cx p R s m args c cc nL RX0 D ty A d) (h : Hw D A s H locs (wX ty o ad σ ++ rs)) (dec : decode cc pc = .ok (.getfield 34, 3)) (kk : W p l e R s m args below meth c H locs cells slots Q (F0 m (pc + 3) ls (.ref (ad 8) :: st))) : W p l e R s m args below meth c H locs cells slots Q (F0 m pc ls (.ref (o) :: st)) := va_get (D := D) (ci := 0) C.x C.b C.ts in_X0 C.own C.K h.1 0 rfl rfl 8 (by decide) (C.ts _ q354) (fun _ h9 => h9) rfl dec kk
theorem x_a8 (C : Cx p R s m args c cc nL ow D ty A d) (h : Hw D A s H locs (wX ty o ad σ ++ rs)) {i : Int32} (hi : vp_in i 6) (dec : decode cc pc = .ok (.iaload, 1)) (kk : W p l e R s m args below meth c H locs cells slots Q (F0 m (pc + 1) ls (.int (rA σ 8 i) :: st))) : W p l e R s m args below meth c H locs cells slots Q (F0 m pc ls (.int i :: .ref (ad 8) :: st)) := va_iald C.x C.b C.K h.1 5 0 rfl rfl hi dec kk
theorem x_s8 (f : Nat → Int32) : (wX ty o ad σ ++ rs).set 5 (ad 8, .inl (ty 0, 6, .inl f)) = wX ty o ad (sA σ 8 f) ++ rs := rfl
theorem x_w8 (C : Cx p R s m args c cc nL ow D ty A d) (h : Hw D A s H locs (wX ty o ad σ ++ rs)) {i : Int32} {v : Int32} {σ2 : PS} (hi : vp_in i 6) (e9 : σ2 = wA σ 8 i v) (dec : decode cc pc = .ok (.iastore, 1)) (kk : ∀ (H : Heap) (locs : List Loc), Hw D A s H locs (wX ty o ad σ2 ++ rs) → W p l e R s m args below meth c H locs cells slots Q (F0 m (pc + 1) ls st)) : W p l e R s m args below meth c H locs cells slots Q (F0 m pc ls (.int v :: .int i :: .ref (ad 8) :: st)) := by
  subst e9
  refine va_iast C.x C.b C.K h.1 h.2.1 h.2.2 5 0 rfl rfl hi dec (fun H1 locs1 hP hD hS => ?_)
  rw [x_s8] at hP hD
  exact kk H1 locs1 ⟨hP, hD, hS⟩
theorem x_g9 (C : Cx p R s m args c cc nL RX0 D ty A d) (h : Hw D A s H locs (wX ty o ad σ ++ rs)) (dec : decode cc pc = .ok (.getfield 37, 3)) (kk : W p l e R s m args below meth c H locs cells slots Q (F0 m (pc + 3) ls (.ref (ad 9) :: st))) : W p l e R s m args below meth c H locs cells slots Q (F0 m pc ls (.ref (o) :: st)) := va_get (D := D) (ci := 0) C.x C.b C.ts in_X0 C.own C.K h.1 0 rfl rfl 9 (by decide) (C.ts _ q355) (fun _ h9 => h9) rfl dec kk
theorem x_a9 (C : Cx p R s m args c cc nL ow D ty A d) (h : Hw D A s H locs (wX ty o ad σ ++ rs)) {i : Int32} (hi : vp_in i 6) (dec : decode cc pc = .ok (.iaload, 1)) (kk : W p l e R s m args below meth c H locs cells slots Q (F0 m (pc + 1) ls (.int (rA σ 9 i) :: st))) : W p l e R s m args below meth c H locs cells slots Q (F0 m pc ls (.int i :: .ref (ad 9) :: st)) := va_iald C.x C.b C.K h.1 6 0 rfl rfl hi dec kk
theorem x_s9 (f : Nat → Int32) : (wX ty o ad σ ++ rs).set 6 (ad 9, .inl (ty 0, 6, .inl f)) = wX ty o ad (sA σ 9 f) ++ rs := rfl
theorem x_w9 (C : Cx p R s m args c cc nL ow D ty A d) (h : Hw D A s H locs (wX ty o ad σ ++ rs)) {i : Int32} {v : Int32} {σ2 : PS} (hi : vp_in i 6) (e9 : σ2 = wA σ 9 i v) (dec : decode cc pc = .ok (.iastore, 1)) (kk : ∀ (H : Heap) (locs : List Loc), Hw D A s H locs (wX ty o ad σ2 ++ rs) → W p l e R s m args below meth c H locs cells slots Q (F0 m (pc + 1) ls st)) : W p l e R s m args below meth c H locs cells slots Q (F0 m pc ls (.int v :: .int i :: .ref (ad 9) :: st)) := by
  subst e9
  refine va_iast C.x C.b C.K h.1 h.2.1 h.2.2 6 0 rfl rfl hi dec (fun H1 locs1 hP hD hS => ?_)
  rw [x_s9] at hP hD
  exact kk H1 locs1 ⟨hP, hD, hS⟩
theorem x_g10 (C : Cx p R s m args c cc nL RX0 D ty A d) (h : Hw D A s H locs (wX ty o ad σ ++ rs)) (dec : decode cc pc = .ok (.getfield 189, 3)) (kk : W p l e R s m args below meth c H locs cells slots Q (F0 m (pc + 3) ls (.int (gI σ 10) :: st))) : W p l e R s m args below meth c H locs cells slots Q (F0 m pc ls (.ref (o) :: st)) := va_get (D := D) (ci := 0) C.x C.b C.ts in_X0 C.own C.K h.1 0 rfl rfl 10 (by decide) (C.ts _ q356) (fun _ h9 => h9) rfl dec kk
theorem x_s10 (v : Int32) : (wX ty o ad σ ++ rs).set 0 (o, .inr (0, (fX ad σ).set 10 (.int v))) = wX ty o ad (sI σ 10 v) ++ rs := rfl
theorem x_p10 (C : Cx p R s m args c cc nL RX0 D ty A d) (h : Hw D A s H locs (wX ty o ad σ ++ rs)) {v : Int32} {σ2 : PS} (e9 : σ2 = sI σ 10 v) (dec : decode cc pc = .ok (.putfield 189, 3)) (kk : ∀ (H : Heap) (locs : List Loc), Hw D A s H locs (wX ty o ad σ2 ++ rs) → W p l e R s m args below meth c H locs cells slots Q (F0 m (pc + 3) ls st)) : W p l e R s m args below meth c H locs cells slots Q (F0 m pc ls (.int v :: .ref (o) :: st)) := by
  subst e9
  refine va_put (D := D) (ci := 0) (ty := .int) (fs := fX ad σ) C.x C.b C.ts in_X0 tyX0 tyX0_ok nmX0 C.own C.K h.1 h.2.1 h.2.2 0 rfl rfl 10 (by decide) (C.ts _ q356) (fun _ h9 => h9) rfl (by decide +kernel) rfl rfl (Nat.le_of_ble_eq_true rfl) dec (fun H1 locs1 hP hD hS => ?_)
  rw [x_s10] at hP hD
  exact kk H1 locs1 ⟨hP, hD, hS⟩
theorem x_g11 (C : Cx p R s m args c cc nL RX0 D ty A d) (h : Hw D A s H locs (wX ty o ad σ ++ rs)) (dec : decode cc pc = .ok (.getfield 195, 3)) (kk : W p l e R s m args below meth c H locs cells slots Q (F0 m (pc + 3) ls (.int (gI σ 11) :: st))) : W p l e R s m args below meth c H locs cells slots Q (F0 m pc ls (.ref (o) :: st)) := va_get (D := D) (ci := 0) C.x C.b C.ts in_X0 C.own C.K h.1 0 rfl rfl 11 (by decide) (C.ts _ q357) (fun _ h9 => h9) rfl dec kk
theorem x_s11 (v : Int32) : (wX ty o ad σ ++ rs).set 0 (o, .inr (0, (fX ad σ).set 11 (.int v))) = wX ty o ad (sI σ 11 v) ++ rs := rfl
theorem x_p11 (C : Cx p R s m args c cc nL RX0 D ty A d) (h : Hw D A s H locs (wX ty o ad σ ++ rs)) {v : Int32} {σ2 : PS} (e9 : σ2 = sI σ 11 v) (dec : decode cc pc = .ok (.putfield 195, 3)) (kk : ∀ (H : Heap) (locs : List Loc), Hw D A s H locs (wX ty o ad σ2 ++ rs) → W p l e R s m args below meth c H locs cells slots Q (F0 m (pc + 3) ls st)) : W p l e R s m args below meth c H locs cells slots Q (F0 m pc ls (.int v :: .ref (o) :: st)) := by
  subst e9
  refine va_put (D := D) (ci := 0) (ty := .int) (fs := fX ad σ) C.x C.b C.ts in_X0 tyX0 tyX0_ok nmX0 C.own C.K h.1 h.2.1 h.2.2 0 rfl rfl 11 (by decide) (C.ts _ q357) (fun _ h9 => h9) rfl (by decide +kernel) rfl rfl (Nat.le_of_ble_eq_true rfl) dec (fun H1 locs1 hP hD hS => ?_)
  rw [x_s11] at hP hD
  exact kk H1 locs1 ⟨hP, hD, hS⟩
theorem x_g12 (C : Cx p R s m args c cc nL RX0 D ty A d) (h : Hw D A s H locs (wX ty o ad σ ++ rs)) (dec : decode cc pc = .ok (.getfield 198, 3)) (kk : W p l e R s m args below meth c H locs cells slots Q (F0 m (pc + 3) ls (.int (gI σ 12) :: st))) : W p l e R s m args below meth c H locs cells slots Q (F0 m pc ls (.ref (o) :: st)) := va_get (D := D) (ci := 0) C.x C.b C.ts in_X0 C.own C.K h.1 0 rfl rfl 12 (by decide) (C.ts _ q358) (fun _ h9 => h9) rfl dec kk
theorem x_s12 (v : Int32) : (wX ty o ad σ ++ rs).set 0 (o, .inr (0, (fX ad σ).set 12 (.int v))) = wX ty o ad (sI σ 12 v) ++ rs := rfl
theorem x_p12 (C : Cx p R s m args c cc nL RX0 D ty A d) (h : Hw D A s H locs (wX ty o ad σ ++ rs)) {v : Int32} {σ2 : PS} (e9 : σ2 = sI σ 12 v) (dec : decode cc pc = .ok (.putfield 198, 3)) (kk : ∀ (H : Heap) (locs : List Loc), Hw D A s H locs (wX ty o ad σ2 ++ rs) → W p l e R s m args below meth c H locs cells slots Q (F0 m (pc + 3) ls st)) : W p l e R s m args below meth c H locs cells slots Q (F0 m pc ls (.int v :: .ref (o) :: st)) := by
  subst e9
  refine va_put (D := D) (ci := 0) (ty := .int) (fs := fX ad σ) C.x C.b C.ts in_X0 tyX0 tyX0_ok nmX0 C.own C.K h.1 h.2.1 h.2.2 0 rfl rfl 12 (by decide) (C.ts _ q358) (fun _ h9 => h9) rfl (by decide +kernel) rfl rfl (Nat.le_of_ble_eq_true rfl) dec (fun H1 locs1 hP hD hS => ?_)
  rw [x_s12] at hP hD
  exact kk H1 locs1 ⟨hP, hD, hS⟩
theorem x_g13 (C : Cx p R s m args c cc nL RX0 D ty A d) (h : Hw D A s H locs (wX ty o ad σ ++ rs)) {a : Nat} (ha : lawV ad (gI σ 13) = .ref a) (dec : decode cc pc = .ok (.getfield 180, 3)) (kk : W p l e R s m args below meth c H locs cells slots Q (F0 m (pc + 3) ls (.ref a :: st))) : W p l e R s m args below meth c H locs cells slots Q (F0 m pc ls (.ref o :: st)) := va_get (D := D) (ci := 0) (v := .ref a) C.x C.b C.ts in_X0 C.own C.K h.1 0 rfl rfl 13 (by decide) (C.ts _ q359) (fun _ h9 => h9) (by rw [← ha]; rfl) dec kk
theorem x_s13 (v : Int32) : (wX ty o ad σ ++ rs).set 0 (o, .inr (0, (fX ad σ).set 13 (lawV ad v))) = wX ty o ad (sI σ 13 v) ++ rs := rfl
theorem x_p13 (C : Cx p R s m args c cc nL RX0 D ty A d) (h : Hw D A s H locs (wX ty o ad σ ++ rs)) {i : Int32} {σ2 : PS} (hi : vp_in i 4) (e9 : σ2 = sI σ 13 i) (dec : decode cc pc = .ok (.putfield 180, 3)) (kk : ∀ (H : Heap) (locs : List Loc), Hw D A s H locs (wX ty o ad σ2 ++ rs) → W p l e R s m args below meth c H locs cells slots Q (F0 m (pc + 3) ls st)) : W p l e R s m args below meth c H locs cells slots Q (F0 m pc ls (.ref (ad (40 + i.toNatClampNeg)) :: .ref o :: st)) := by
  subst e9
  refine va_put (D := D) (ci := 0) (ty := .object "LehrBelt$Cooling") (fs := fX ad σ) C.x C.b C.ts in_X0 tyX0 tyX0_ok nmX0 C.own C.K h.1 h.2.1 h.2.2 0 rfl rfl 13 (by decide) (C.ts _ q359) (fun _ h9 => h9) rfl (by decide +kernel) rfl rfl (Nat.le_of_ble_eq_true rfl) dec (fun H1 locs1 hP hD hS => ?_)
  rw [← law_at hi, x_s13] at hP hD
  exact kk H1 locs1 ⟨hP, hD, hS⟩
theorem x_g14 (C : Cx p R s m args c cc nL RX0 D ty A d) (h : Hw D A s H locs (wX ty o ad σ ++ rs)) (dec : decode cc pc = .ok (.getfield 40, 3)) (kk : W p l e R s m args below meth c H locs cells slots Q (F0 m (pc + 3) ls (.ref (ad 14) :: st))) : W p l e R s m args below meth c H locs cells slots Q (F0 m pc ls (.ref (o) :: st)) := va_get (D := D) (ci := 0) C.x C.b C.ts in_X0 C.own C.K h.1 0 rfl rfl 14 (by decide) (C.ts _ q360) (fun _ h9 => h9) rfl dec kk
theorem x_a14 (C : Cx p R s m args c cc nL ow D ty A d) (h : Hw D A s H locs (wX ty o ad σ ++ rs)) {i : Int32} (hi : vp_in i 6) (dec : decode cc pc = .ok (.iaload, 1)) (kk : W p l e R s m args below meth c H locs cells slots Q (F0 m (pc + 1) ls (.int (rA σ 14 i) :: st))) : W p l e R s m args below meth c H locs cells slots Q (F0 m pc ls (.int i :: .ref (ad 14) :: st)) := va_iald C.x C.b C.K h.1 7 0 rfl rfl hi dec kk
theorem x_s14 (f : Nat → Int32) : (wX ty o ad σ ++ rs).set 7 (ad 14, .inl (ty 0, 6, .inl f)) = wX ty o ad (sA σ 14 f) ++ rs := rfl
theorem x_w14 (C : Cx p R s m args c cc nL ow D ty A d) (h : Hw D A s H locs (wX ty o ad σ ++ rs)) {i : Int32} {v : Int32} {σ2 : PS} (hi : vp_in i 6) (e9 : σ2 = wA σ 14 i v) (dec : decode cc pc = .ok (.iastore, 1)) (kk : ∀ (H : Heap) (locs : List Loc), Hw D A s H locs (wX ty o ad σ2 ++ rs) → W p l e R s m args below meth c H locs cells slots Q (F0 m (pc + 1) ls st)) : W p l e R s m args below meth c H locs cells slots Q (F0 m pc ls (.int v :: .int i :: .ref (ad 14) :: st)) := by
  subst e9
  refine va_iast C.x C.b C.K h.1 h.2.1 h.2.2 7 0 rfl rfl hi dec (fun H1 locs1 hP hD hS => ?_)
  rw [x_s14] at hP hD
  exact kk H1 locs1 ⟨hP, hD, hS⟩
theorem x_g15 (C : Cx p R s m args c cc nL RX0 D ty A d) (h : Hw D A s H locs (wX ty o ad σ ++ rs)) (dec : decode cc pc = .ok (.getfield 43, 3)) (kk : W p l e R s m args below meth c H locs cells slots Q (F0 m (pc + 3) ls (.ref (ad 15) :: st))) : W p l e R s m args below meth c H locs cells slots Q (F0 m pc ls (.ref (o) :: st)) := va_get (D := D) (ci := 0) C.x C.b C.ts in_X0 C.own C.K h.1 0 rfl rfl 15 (by decide) (C.ts _ q361) (fun _ h9 => h9) rfl dec kk
theorem x_a15 (C : Cx p R s m args c cc nL ow D ty A d) (h : Hw D A s H locs (wX ty o ad σ ++ rs)) {i : Int32} (hi : vp_in i 6) (dec : decode cc pc = .ok (.iaload, 1)) (kk : W p l e R s m args below meth c H locs cells slots Q (F0 m (pc + 1) ls (.int (rA σ 15 i) :: st))) : W p l e R s m args below meth c H locs cells slots Q (F0 m pc ls (.int i :: .ref (ad 15) :: st)) := va_iald C.x C.b C.K h.1 8 0 rfl rfl hi dec kk
theorem x_s15 (f : Nat → Int32) : (wX ty o ad σ ++ rs).set 8 (ad 15, .inl (ty 0, 6, .inl f)) = wX ty o ad (sA σ 15 f) ++ rs := rfl
theorem x_w15 (C : Cx p R s m args c cc nL ow D ty A d) (h : Hw D A s H locs (wX ty o ad σ ++ rs)) {i : Int32} {v : Int32} {σ2 : PS} (hi : vp_in i 6) (e9 : σ2 = wA σ 15 i v) (dec : decode cc pc = .ok (.iastore, 1)) (kk : ∀ (H : Heap) (locs : List Loc), Hw D A s H locs (wX ty o ad σ2 ++ rs) → W p l e R s m args below meth c H locs cells slots Q (F0 m (pc + 1) ls st)) : W p l e R s m args below meth c H locs cells slots Q (F0 m pc ls (.int v :: .int i :: .ref (ad 15) :: st)) := by
  subst e9
  refine va_iast C.x C.b C.K h.1 h.2.1 h.2.2 8 0 rfl rfl hi dec (fun H1 locs1 hP hD hS => ?_)
  rw [x_s15] at hP hD
  exact kk H1 locs1 ⟨hP, hD, hS⟩
theorem x_g16 (C : Cx p R s m args c cc nL RX0 D ty A d) (h : Hw D A s H locs (wX ty o ad σ ++ rs)) (dec : decode cc pc = .ok (.getfield 46, 3)) (kk : W p l e R s m args below meth c H locs cells slots Q (F0 m (pc + 3) ls (.ref (ad 16) :: st))) : W p l e R s m args below meth c H locs cells slots Q (F0 m pc ls (.ref (o) :: st)) := va_get (D := D) (ci := 0) C.x C.b C.ts in_X0 C.own C.K h.1 0 rfl rfl 16 (by decide) (C.ts _ q363) (fun _ h9 => h9) rfl dec kk
theorem x_a16 (C : Cx p R s m args c cc nL ow D ty A d) (h : Hw D A s H locs (wX ty o ad σ ++ rs)) {i : Int32} (hi : vp_in i 6) (dec : decode cc pc = .ok (.iaload, 1)) (kk : W p l e R s m args below meth c H locs cells slots Q (F0 m (pc + 1) ls (.int (rA σ 16 i) :: st))) : W p l e R s m args below meth c H locs cells slots Q (F0 m pc ls (.int i :: .ref (ad 16) :: st)) := va_iald C.x C.b C.K h.1 9 0 rfl rfl hi dec kk
theorem x_s16 (f : Nat → Int32) : (wX ty o ad σ ++ rs).set 9 (ad 16, .inl (ty 0, 6, .inl f)) = wX ty o ad (sA σ 16 f) ++ rs := rfl
theorem x_w16 (C : Cx p R s m args c cc nL ow D ty A d) (h : Hw D A s H locs (wX ty o ad σ ++ rs)) {i : Int32} {v : Int32} {σ2 : PS} (hi : vp_in i 6) (e9 : σ2 = wA σ 16 i v) (dec : decode cc pc = .ok (.iastore, 1)) (kk : ∀ (H : Heap) (locs : List Loc), Hw D A s H locs (wX ty o ad σ2 ++ rs) → W p l e R s m args below meth c H locs cells slots Q (F0 m (pc + 1) ls st)) : W p l e R s m args below meth c H locs cells slots Q (F0 m pc ls (.int v :: .int i :: .ref (ad 16) :: st)) := by
  subst e9
  refine va_iast C.x C.b C.K h.1 h.2.1 h.2.2 9 0 rfl rfl hi dec (fun H1 locs1 hP hD hS => ?_)
  rw [x_s16] at hP hD
  exact kk H1 locs1 ⟨hP, hD, hS⟩
theorem x_g17 (C : Cx p R s m args c cc nL RX0 D ty A d) (h : Hw D A s H locs (wX ty o ad σ ++ rs)) (dec : decode cc pc = .ok (.getfield 63, 3)) (kk : W p l e R s m args below meth c H locs cells slots Q (F0 m (pc + 3) ls (.ref (ad 17) :: st))) : W p l e R s m args below meth c H locs cells slots Q (F0 m pc ls (.ref (o) :: st)) := va_get (D := D) (ci := 0) C.x C.b C.ts in_X0 C.own C.K h.1 0 rfl rfl 17 (by decide) (C.ts _ q364) (fun _ h9 => h9) rfl dec kk
theorem x_g18 (C : Cx p R s m args c cc nL RX0 D ty A d) (h : Hw D A s H locs (wX ty o ad σ ++ rs)) (dec : decode cc pc = .ok (.getfield 67, 3)) (kk : W p l e R s m args below meth c H locs cells slots Q (F0 m (pc + 3) ls (.ref (ad 18) :: st))) : W p l e R s m args below meth c H locs cells slots Q (F0 m pc ls (.ref (o) :: st)) := va_get (D := D) (ci := 0) C.x C.b C.ts in_X0 C.own C.K h.1 0 rfl rfl 18 (by decide) (C.ts _ q365) (fun _ h9 => h9) rfl dec kk
theorem x_a18 (C : Cx p R s m args c cc nL ow D ty A d) (h : Hw D A s H locs (wX ty o ad σ ++ rs)) {i : Int32} (hi : vp_in i 90) (dec : decode cc pc = .ok (.iaload, 1)) (kk : W p l e R s m args below meth c H locs cells slots Q (F0 m (pc + 1) ls (.int (rA σ 18 i) :: st))) : W p l e R s m args below meth c H locs cells slots Q (F0 m pc ls (.int i :: .ref (ad 18) :: st)) := va_iald C.x C.b C.K h.1 10 0 rfl rfl hi dec kk
theorem x_s18 (f : Nat → Int32) : (wX ty o ad σ ++ rs).set 10 (ad 18, .inl (ty 0, 90, .inl f)) = wX ty o ad (sA σ 18 f) ++ rs := rfl
theorem x_w18 (C : Cx p R s m args c cc nL ow D ty A d) (h : Hw D A s H locs (wX ty o ad σ ++ rs)) {i : Int32} {v : Int32} {σ2 : PS} (hi : vp_in i 90) (e9 : σ2 = wA σ 18 i v) (dec : decode cc pc = .ok (.iastore, 1)) (kk : ∀ (H : Heap) (locs : List Loc), Hw D A s H locs (wX ty o ad σ2 ++ rs) → W p l e R s m args below meth c H locs cells slots Q (F0 m (pc + 1) ls st)) : W p l e R s m args below meth c H locs cells slots Q (F0 m pc ls (.int v :: .int i :: .ref (ad 18) :: st)) := by
  subst e9
  refine va_iast C.x C.b C.K h.1 h.2.1 h.2.2 10 0 rfl rfl hi dec (fun H1 locs1 hP hD hS => ?_)
  rw [x_s18] at hP hD
  exact kk H1 locs1 ⟨hP, hD, hS⟩
theorem x_g19 (C : Cx p R s m args c cc nL RX0 D ty A d) (h : Hw D A s H locs (wX ty o ad σ ++ rs)) (dec : decode cc pc = .ok (.getfield 70, 3)) (kk : W p l e R s m args below meth c H locs cells slots Q (F0 m (pc + 3) ls (.ref (ad 19) :: st))) : W p l e R s m args below meth c H locs cells slots Q (F0 m pc ls (.ref (o) :: st)) := va_get (D := D) (ci := 0) C.x C.b C.ts in_X0 C.own C.K h.1 0 rfl rfl 19 (by decide) (C.ts _ q366) (fun _ h9 => h9) rfl dec kk
theorem x_a19 (C : Cx p R s m args c cc nL ow D ty A d) (h : Hw D A s H locs (wX ty o ad σ ++ rs)) {i : Int32} (hi : vp_in i 90) (dec : decode cc pc = .ok (.iaload, 1)) (kk : W p l e R s m args below meth c H locs cells slots Q (F0 m (pc + 1) ls (.int (rA σ 19 i) :: st))) : W p l e R s m args below meth c H locs cells slots Q (F0 m pc ls (.int i :: .ref (ad 19) :: st)) := va_iald C.x C.b C.K h.1 11 0 rfl rfl hi dec kk
theorem x_s19 (f : Nat → Int32) : (wX ty o ad σ ++ rs).set 11 (ad 19, .inl (ty 0, 90, .inl f)) = wX ty o ad (sA σ 19 f) ++ rs := rfl
theorem x_w19 (C : Cx p R s m args c cc nL ow D ty A d) (h : Hw D A s H locs (wX ty o ad σ ++ rs)) {i : Int32} {v : Int32} {σ2 : PS} (hi : vp_in i 90) (e9 : σ2 = wA σ 19 i v) (dec : decode cc pc = .ok (.iastore, 1)) (kk : ∀ (H : Heap) (locs : List Loc), Hw D A s H locs (wX ty o ad σ2 ++ rs) → W p l e R s m args below meth c H locs cells slots Q (F0 m (pc + 1) ls st)) : W p l e R s m args below meth c H locs cells slots Q (F0 m pc ls (.int v :: .int i :: .ref (ad 19) :: st)) := by
  subst e9
  refine va_iast C.x C.b C.K h.1 h.2.1 h.2.2 11 0 rfl rfl hi dec (fun H1 locs1 hP hD hS => ?_)
  rw [x_s19] at hP hD
  exact kk H1 locs1 ⟨hP, hD, hS⟩
theorem x_g20 (C : Cx p R s m args c cc nL RX0 D ty A d) (h : Hw D A s H locs (wX ty o ad σ ++ rs)) (dec : decode cc pc = .ok (.getfield 73, 3)) (kk : W p l e R s m args below meth c H locs cells slots Q (F0 m (pc + 3) ls (.ref (ad 20) :: st))) : W p l e R s m args below meth c H locs cells slots Q (F0 m pc ls (.ref (o) :: st)) := va_get (D := D) (ci := 0) C.x C.b C.ts in_X0 C.own C.K h.1 0 rfl rfl 20 (by decide) (C.ts _ q367) (fun _ h9 => h9) rfl dec kk
theorem x_a20 (C : Cx p R s m args c cc nL ow D ty A d) (h : Hw D A s H locs (wX ty o ad σ ++ rs)) {i : Int32} (hi : vp_in i 6) (dec : decode cc pc = .ok (.iaload, 1)) (kk : W p l e R s m args below meth c H locs cells slots Q (F0 m (pc + 1) ls (.int (rA σ 20 i) :: st))) : W p l e R s m args below meth c H locs cells slots Q (F0 m pc ls (.int i :: .ref (ad 20) :: st)) := va_iald C.x C.b C.K h.1 12 0 rfl rfl hi dec kk
theorem x_s20 (f : Nat → Int32) : (wX ty o ad σ ++ rs).set 12 (ad 20, .inl (ty 0, 6, .inl f)) = wX ty o ad (sA σ 20 f) ++ rs := rfl
theorem x_w20 (C : Cx p R s m args c cc nL ow D ty A d) (h : Hw D A s H locs (wX ty o ad σ ++ rs)) {i : Int32} {v : Int32} {σ2 : PS} (hi : vp_in i 6) (e9 : σ2 = wA σ 20 i v) (dec : decode cc pc = .ok (.iastore, 1)) (kk : ∀ (H : Heap) (locs : List Loc), Hw D A s H locs (wX ty o ad σ2 ++ rs) → W p l e R s m args below meth c H locs cells slots Q (F0 m (pc + 1) ls st)) : W p l e R s m args below meth c H locs cells slots Q (F0 m pc ls (.int v :: .int i :: .ref (ad 20) :: st)) := by
  subst e9
  refine va_iast C.x C.b C.K h.1 h.2.1 h.2.2 12 0 rfl rfl hi dec (fun H1 locs1 hP hD hS => ?_)
  rw [x_s20] at hP hD
  exact kk H1 locs1 ⟨hP, hD, hS⟩
theorem x_g21 (C : Cx p R s m args c cc nL RX0 D ty A d) (h : Hw D A s H locs (wX ty o ad σ ++ rs)) (dec : decode cc pc = .ok (.getfield 76, 3)) (kk : W p l e R s m args below meth c H locs cells slots Q (F0 m (pc + 3) ls (.ref (ad 21) :: st))) : W p l e R s m args below meth c H locs cells slots Q (F0 m pc ls (.ref (o) :: st)) := va_get (D := D) (ci := 0) C.x C.b C.ts in_X0 C.own C.K h.1 0 rfl rfl 21 (by decide) (C.ts _ q368) (fun _ h9 => h9) rfl dec kk
theorem x_a21 (C : Cx p R s m args c cc nL ow D ty A d) (h : Hw D A s H locs (wX ty o ad σ ++ rs)) {i : Int32} (hi : vp_in i 6) (dec : decode cc pc = .ok (.iaload, 1)) (kk : W p l e R s m args below meth c H locs cells slots Q (F0 m (pc + 1) ls (.int (rA σ 21 i) :: st))) : W p l e R s m args below meth c H locs cells slots Q (F0 m pc ls (.int i :: .ref (ad 21) :: st)) := va_iald C.x C.b C.K h.1 13 0 rfl rfl hi dec kk
theorem x_s21 (f : Nat → Int32) : (wX ty o ad σ ++ rs).set 13 (ad 21, .inl (ty 0, 6, .inl f)) = wX ty o ad (sA σ 21 f) ++ rs := rfl
theorem x_w21 (C : Cx p R s m args c cc nL ow D ty A d) (h : Hw D A s H locs (wX ty o ad σ ++ rs)) {i : Int32} {v : Int32} {σ2 : PS} (hi : vp_in i 6) (e9 : σ2 = wA σ 21 i v) (dec : decode cc pc = .ok (.iastore, 1)) (kk : ∀ (H : Heap) (locs : List Loc), Hw D A s H locs (wX ty o ad σ2 ++ rs) → W p l e R s m args below meth c H locs cells slots Q (F0 m (pc + 1) ls st)) : W p l e R s m args below meth c H locs cells slots Q (F0 m pc ls (.int v :: .int i :: .ref (ad 21) :: st)) := by
  subst e9
  refine va_iast C.x C.b C.K h.1 h.2.1 h.2.2 13 0 rfl rfl hi dec (fun H1 locs1 hP hD hS => ?_)
  rw [x_s21] at hP hD
  exact kk H1 locs1 ⟨hP, hD, hS⟩
theorem x_g22 (C : Cx p R s m args c cc nL RX0 D ty A d) (h : Hw D A s H locs (wX ty o ad σ ++ rs)) (dec : decode cc pc = .ok (.getfield 79, 3)) (kk : W p l e R s m args below meth c H locs cells slots Q (F0 m (pc + 3) ls (.ref (ad 22) :: st))) : W p l e R s m args below meth c H locs cells slots Q (F0 m pc ls (.ref (o) :: st)) := va_get (D := D) (ci := 0) C.x C.b C.ts in_X0 C.own C.K h.1 0 rfl rfl 22 (by decide) (C.ts _ q369) (fun _ h9 => h9) rfl dec kk
theorem x_a22 (C : Cx p R s m args c cc nL ow D ty A d) (h : Hw D A s H locs (wX ty o ad σ ++ rs)) {i : Int32} (hi : vp_in i 6) (dec : decode cc pc = .ok (.iaload, 1)) (kk : W p l e R s m args below meth c H locs cells slots Q (F0 m (pc + 1) ls (.int (rA σ 22 i) :: st))) : W p l e R s m args below meth c H locs cells slots Q (F0 m pc ls (.int i :: .ref (ad 22) :: st)) := va_iald C.x C.b C.K h.1 14 0 rfl rfl hi dec kk
theorem x_s22 (f : Nat → Int32) : (wX ty o ad σ ++ rs).set 14 (ad 22, .inl (ty 0, 6, .inl f)) = wX ty o ad (sA σ 22 f) ++ rs := rfl
theorem x_w22 (C : Cx p R s m args c cc nL ow D ty A d) (h : Hw D A s H locs (wX ty o ad σ ++ rs)) {i : Int32} {v : Int32} {σ2 : PS} (hi : vp_in i 6) (e9 : σ2 = wA σ 22 i v) (dec : decode cc pc = .ok (.iastore, 1)) (kk : ∀ (H : Heap) (locs : List Loc), Hw D A s H locs (wX ty o ad σ2 ++ rs) → W p l e R s m args below meth c H locs cells slots Q (F0 m (pc + 1) ls st)) : W p l e R s m args below meth c H locs cells slots Q (F0 m pc ls (.int v :: .int i :: .ref (ad 22) :: st)) := by
  subst e9
  refine va_iast C.x C.b C.K h.1 h.2.1 h.2.2 14 0 rfl rfl hi dec (fun H1 locs1 hP hD hS => ?_)
  rw [x_s22] at hP hD
  exact kk H1 locs1 ⟨hP, hD, hS⟩
theorem x_g23 (C : Cx p R s m args c cc nL RX0 D ty A d) (h : Hw D A s H locs (wX ty o ad σ ++ rs)) (dec : decode cc pc = .ok (.getfield 82, 3)) (kk : W p l e R s m args below meth c H locs cells slots Q (F0 m (pc + 3) ls (.ref (ad 23) :: st))) : W p l e R s m args below meth c H locs cells slots Q (F0 m pc ls (.ref (o) :: st)) := va_get (D := D) (ci := 0) C.x C.b C.ts in_X0 C.own C.K h.1 0 rfl rfl 23 (by decide) (C.ts _ q370) (fun _ h9 => h9) rfl dec kk
theorem x_a23 (C : Cx p R s m args c cc nL ow D ty A d) (h : Hw D A s H locs (wX ty o ad σ ++ rs)) {i : Int32} (hi : vp_in i 6) (dec : decode cc pc = .ok (.iaload, 1)) (kk : W p l e R s m args below meth c H locs cells slots Q (F0 m (pc + 1) ls (.int (rA σ 23 i) :: st))) : W p l e R s m args below meth c H locs cells slots Q (F0 m pc ls (.int i :: .ref (ad 23) :: st)) := va_iald C.x C.b C.K h.1 15 0 rfl rfl hi dec kk
theorem x_s23 (f : Nat → Int32) : (wX ty o ad σ ++ rs).set 15 (ad 23, .inl (ty 0, 6, .inl f)) = wX ty o ad (sA σ 23 f) ++ rs := rfl
theorem x_w23 (C : Cx p R s m args c cc nL ow D ty A d) (h : Hw D A s H locs (wX ty o ad σ ++ rs)) {i : Int32} {v : Int32} {σ2 : PS} (hi : vp_in i 6) (e9 : σ2 = wA σ 23 i v) (dec : decode cc pc = .ok (.iastore, 1)) (kk : ∀ (H : Heap) (locs : List Loc), Hw D A s H locs (wX ty o ad σ2 ++ rs) → W p l e R s m args below meth c H locs cells slots Q (F0 m (pc + 1) ls st)) : W p l e R s m args below meth c H locs cells slots Q (F0 m pc ls (.int v :: .int i :: .ref (ad 23) :: st)) := by
  subst e9
  refine va_iast C.x C.b C.K h.1 h.2.1 h.2.2 15 0 rfl rfl hi dec (fun H1 locs1 hP hD hS => ?_)
  rw [x_s23] at hP hD
  exact kk H1 locs1 ⟨hP, hD, hS⟩
theorem x_g24 (C : Cx p R s m args c cc nL RX0 D ty A d) (h : Hw D A s H locs (wX ty o ad σ ++ rs)) (dec : decode cc pc = .ok (.getfield 85, 3)) (kk : W p l e R s m args below meth c H locs cells slots Q (F0 m (pc + 3) ls (.ref (ad 24) :: st))) : W p l e R s m args below meth c H locs cells slots Q (F0 m pc ls (.ref (o) :: st)) := va_get (D := D) (ci := 0) C.x C.b C.ts in_X0 C.own C.K h.1 0 rfl rfl 24 (by decide) (C.ts _ q371) (fun _ h9 => h9) rfl dec kk
theorem x_a24 (C : Cx p R s m args c cc nL ow D ty A d) (h : Hw D A s H locs (wX ty o ad σ ++ rs)) {i : Int32} (hi : vp_in i 601) (dec : decode cc pc = .ok (.iaload, 1)) (kk : W p l e R s m args below meth c H locs cells slots Q (F0 m (pc + 1) ls (.int (rA σ 24 i) :: st))) : W p l e R s m args below meth c H locs cells slots Q (F0 m pc ls (.int i :: .ref (ad 24) :: st)) := va_iald C.x C.b C.K h.1 16 0 rfl rfl hi dec kk
theorem x_s24 (f : Nat → Int32) : (wX ty o ad σ ++ rs).set 16 (ad 24, .inl (ty 0, 601, .inl f)) = wX ty o ad (sA σ 24 f) ++ rs := rfl
theorem x_w24 (C : Cx p R s m args c cc nL ow D ty A d) (h : Hw D A s H locs (wX ty o ad σ ++ rs)) {i : Int32} {v : Int32} {σ2 : PS} (hi : vp_in i 601) (e9 : σ2 = wA σ 24 i v) (dec : decode cc pc = .ok (.iastore, 1)) (kk : ∀ (H : Heap) (locs : List Loc), Hw D A s H locs (wX ty o ad σ2 ++ rs) → W p l e R s m args below meth c H locs cells slots Q (F0 m (pc + 1) ls st)) : W p l e R s m args below meth c H locs cells slots Q (F0 m pc ls (.int v :: .int i :: .ref (ad 24) :: st)) := by
  subst e9
  refine va_iast C.x C.b C.K h.1 h.2.1 h.2.2 16 0 rfl rfl hi dec (fun H1 locs1 hP hD hS => ?_)
  rw [x_s24] at hP hD
  exact kk H1 locs1 ⟨hP, hD, hS⟩
theorem x_g25 (C : Cx p R s m args c cc nL RX0 D ty A d) (h : Hw D A s H locs (wX ty o ad σ ++ rs)) (dec : decode cc pc = .ok (.getfield 377, 3)) (kk : W p l e R s m args below meth c H locs cells slots Q (F0 m (pc + 3) ls (.int (gI σ 25) :: st))) : W p l e R s m args below meth c H locs cells slots Q (F0 m pc ls (.ref (o) :: st)) := va_get (D := D) (ci := 0) C.x C.b C.ts in_X0 C.own C.K h.1 0 rfl rfl 25 (by decide) (C.ts _ q372) (fun _ h9 => h9) rfl dec kk
theorem x_s25 (v : Int32) : (wX ty o ad σ ++ rs).set 0 (o, .inr (0, (fX ad σ).set 25 (.int v))) = wX ty o ad (sI σ 25 v) ++ rs := rfl
theorem x_p25 (C : Cx p R s m args c cc nL RX0 D ty A d) (h : Hw D A s H locs (wX ty o ad σ ++ rs)) {v : Int32} {σ2 : PS} (e9 : σ2 = sI σ 25 v) (dec : decode cc pc = .ok (.putfield 377, 3)) (kk : ∀ (H : Heap) (locs : List Loc), Hw D A s H locs (wX ty o ad σ2 ++ rs) → W p l e R s m args below meth c H locs cells slots Q (F0 m (pc + 3) ls st)) : W p l e R s m args below meth c H locs cells slots Q (F0 m pc ls (.int v :: .ref (o) :: st)) := by
  subst e9
  refine va_put (D := D) (ci := 0) (ty := .int) (fs := fX ad σ) C.x C.b C.ts in_X0 tyX0 tyX0_ok nmX0 C.own C.K h.1 h.2.1 h.2.2 0 rfl rfl 25 (by decide) (C.ts _ q372) (fun _ h9 => h9) rfl (by decide +kernel) rfl rfl (Nat.le_of_ble_eq_true rfl) dec (fun H1 locs1 hP hD hS => ?_)
  rw [x_s25] at hP hD
  exact kk H1 locs1 ⟨hP, hD, hS⟩
theorem x_g26 (C : Cx p R s m args c cc nL RX0 D ty A d) (h : Hw D A s H locs (wX ty o ad σ ++ rs)) (dec : decode cc pc = .ok (.getfield 88, 3)) (kk : W p l e R s m args below meth c H locs cells slots Q (F0 m (pc + 3) ls (.ref (ad 26) :: st))) : W p l e R s m args below meth c H locs cells slots Q (F0 m pc ls (.ref (o) :: st)) := va_get (D := D) (ci := 0) C.x C.b C.ts in_X0 C.own C.K h.1 0 rfl rfl 26 (by decide) (C.ts _ q373) (fun _ h9 => h9) rfl dec kk
theorem x_a26 (C : Cx p R s m args c cc nL ow D ty A d) (h : Hw D A s H locs (wX ty o ad σ ++ rs)) {i : Int32} (hi : vp_in i 128) (dec : decode cc pc = .ok (.iaload, 1)) (kk : W p l e R s m args below meth c H locs cells slots Q (F0 m (pc + 1) ls (.int (rA σ 26 i) :: st))) : W p l e R s m args below meth c H locs cells slots Q (F0 m pc ls (.int i :: .ref (ad 26) :: st)) := va_iald C.x C.b C.K h.1 17 0 rfl rfl hi dec kk
theorem x_s26 (f : Nat → Int32) : (wX ty o ad σ ++ rs).set 17 (ad 26, .inl (ty 0, 128, .inl f)) = wX ty o ad (sA σ 26 f) ++ rs := rfl
theorem x_w26 (C : Cx p R s m args c cc nL ow D ty A d) (h : Hw D A s H locs (wX ty o ad σ ++ rs)) {i : Int32} {v : Int32} {σ2 : PS} (hi : vp_in i 128) (e9 : σ2 = wA σ 26 i v) (dec : decode cc pc = .ok (.iastore, 1)) (kk : ∀ (H : Heap) (locs : List Loc), Hw D A s H locs (wX ty o ad σ2 ++ rs) → W p l e R s m args below meth c H locs cells slots Q (F0 m (pc + 1) ls st)) : W p l e R s m args below meth c H locs cells slots Q (F0 m pc ls (.int v :: .int i :: .ref (ad 26) :: st)) := by
  subst e9
  refine va_iast C.x C.b C.K h.1 h.2.1 h.2.2 17 0 rfl rfl hi dec (fun H1 locs1 hP hD hS => ?_)
  rw [x_s26] at hP hD
  exact kk H1 locs1 ⟨hP, hD, hS⟩
theorem x_g27 (C : Cx p R s m args c cc nL RX0 D ty A d) (h : Hw D A s H locs (wX ty o ad σ ++ rs)) (dec : decode cc pc = .ok (.getfield 420, 3)) (kk : W p l e R s m args below meth c H locs cells slots Q (F0 m (pc + 3) ls (.long (gL σ 27) :: st))) : W p l e R s m args below meth c H locs cells slots Q (F0 m pc ls (.ref (o) :: st)) := va_get (D := D) (ci := 0) C.x C.b C.ts in_X0 C.own C.K h.1 0 rfl rfl 27 (by decide) (C.ts _ q374) (fun _ h9 => h9) rfl dec kk
theorem x_s27 (v : Int64) : (wX ty o ad σ ++ rs).set 0 (o, .inr (0, (fX ad σ).set 27 (.long v))) = wX ty o ad (sL σ 27 v) ++ rs := rfl
theorem x_p27 (C : Cx p R s m args c cc nL RX0 D ty A d) (h : Hw D A s H locs (wX ty o ad σ ++ rs)) {v : Int64} {σ2 : PS} (e9 : σ2 = sL σ 27 v) (dec : decode cc pc = .ok (.putfield 420, 3)) (kk : ∀ (H : Heap) (locs : List Loc), Hw D A s H locs (wX ty o ad σ2 ++ rs) → W p l e R s m args below meth c H locs cells slots Q (F0 m (pc + 3) ls st)) : W p l e R s m args below meth c H locs cells slots Q (F0 m pc ls (.long v :: .ref (o) :: st)) := by
  subst e9
  refine va_put (D := D) (ci := 0) (ty := .long) (fs := fX ad σ) C.x C.b C.ts in_X0 tyX0 tyX0_ok nmX0 C.own C.K h.1 h.2.1 h.2.2 0 rfl rfl 27 (by decide) (C.ts _ q374) (fun _ h9 => h9) rfl (by decide +kernel) rfl rfl (Nat.le_of_ble_eq_true rfl) dec (fun H1 locs1 hP hD hS => ?_)
  rw [x_s27] at hP hD
  exact kk H1 locs1 ⟨hP, hD, hS⟩
theorem x_g28 (C : Cx p R s m args c cc nL RX0 D ty A d) (h : Hw D A s H locs (wX ty o ad σ ++ rs)) (dec : decode cc pc = .ok (.getfield 424, 3)) (kk : W p l e R s m args below meth c H locs cells slots Q (F0 m (pc + 3) ls (.long (gL σ 28) :: st))) : W p l e R s m args below meth c H locs cells slots Q (F0 m pc ls (.ref (o) :: st)) := va_get (D := D) (ci := 0) C.x C.b C.ts in_X0 C.own C.K h.1 0 rfl rfl 28 (by decide) (C.ts _ q375) (fun _ h9 => h9) rfl dec kk
theorem x_s28 (v : Int64) : (wX ty o ad σ ++ rs).set 0 (o, .inr (0, (fX ad σ).set 28 (.long v))) = wX ty o ad (sL σ 28 v) ++ rs := rfl
theorem x_p28 (C : Cx p R s m args c cc nL RX0 D ty A d) (h : Hw D A s H locs (wX ty o ad σ ++ rs)) {v : Int64} {σ2 : PS} (e9 : σ2 = sL σ 28 v) (dec : decode cc pc = .ok (.putfield 424, 3)) (kk : ∀ (H : Heap) (locs : List Loc), Hw D A s H locs (wX ty o ad σ2 ++ rs) → W p l e R s m args below meth c H locs cells slots Q (F0 m (pc + 3) ls st)) : W p l e R s m args below meth c H locs cells slots Q (F0 m pc ls (.long v :: .ref (o) :: st)) := by
  subst e9
  refine va_put (D := D) (ci := 0) (ty := .long) (fs := fX ad σ) C.x C.b C.ts in_X0 tyX0 tyX0_ok nmX0 C.own C.K h.1 h.2.1 h.2.2 0 rfl rfl 28 (by decide) (C.ts _ q375) (fun _ h9 => h9) rfl (by decide +kernel) rfl rfl (Nat.le_of_ble_eq_true rfl) dec (fun H1 locs1 hP hD hS => ?_)
  rw [x_s28] at hP hD
  exact kk H1 locs1 ⟨hP, hD, hS⟩
theorem x_g29 (C : Cx p R s m args c cc nL RX0 D ty A d) (h : Hw D A s H locs (wX ty o ad σ ++ rs)) (dec : decode cc pc = .ok (.getfield 427, 3)) (kk : W p l e R s m args below meth c H locs cells slots Q (F0 m (pc + 3) ls (.long (gL σ 29) :: st))) : W p l e R s m args below meth c H locs cells slots Q (F0 m pc ls (.ref (o) :: st)) := va_get (D := D) (ci := 0) C.x C.b C.ts in_X0 C.own C.K h.1 0 rfl rfl 29 (by decide) (C.ts _ q376) (fun _ h9 => h9) rfl dec kk
theorem x_s29 (v : Int64) : (wX ty o ad σ ++ rs).set 0 (o, .inr (0, (fX ad σ).set 29 (.long v))) = wX ty o ad (sL σ 29 v) ++ rs := rfl
theorem x_p29 (C : Cx p R s m args c cc nL RX0 D ty A d) (h : Hw D A s H locs (wX ty o ad σ ++ rs)) {v : Int64} {σ2 : PS} (e9 : σ2 = sL σ 29 v) (dec : decode cc pc = .ok (.putfield 427, 3)) (kk : ∀ (H : Heap) (locs : List Loc), Hw D A s H locs (wX ty o ad σ2 ++ rs) → W p l e R s m args below meth c H locs cells slots Q (F0 m (pc + 3) ls st)) : W p l e R s m args below meth c H locs cells slots Q (F0 m pc ls (.long v :: .ref (o) :: st)) := by
  subst e9
  refine va_put (D := D) (ci := 0) (ty := .long) (fs := fX ad σ) C.x C.b C.ts in_X0 tyX0 tyX0_ok nmX0 C.own C.K h.1 h.2.1 h.2.2 0 rfl rfl 29 (by decide) (C.ts _ q376) (fun _ h9 => h9) rfl (by decide +kernel) rfl rfl (Nat.le_of_ble_eq_true rfl) dec (fun H1 locs1 hP hD hS => ?_)
  rw [x_s29] at hP hD
  exact kk H1 locs1 ⟨hP, hD, hS⟩
theorem x_g30 (C : Cx p R s m args c cc nL RX0 D ty A d) (h : Hw D A s H locs (wX ty o ad σ ++ rs)) (dec : decode cc pc = .ok (.getfield 94, 3)) (kk : W p l e R s m args below meth c H locs cells slots Q (F0 m (pc + 3) ls (.ref (ad 30) :: st))) : W p l e R s m args below meth c H locs cells slots Q (F0 m pc ls (.ref (o) :: st)) := va_get (D := D) (ci := 0) C.x C.b C.ts in_X0 C.own C.K h.1 0 rfl rfl 30 (by decide) (C.ts _ q377) (fun _ h9 => h9) rfl dec kk
theorem x_g31 (C : Cx p R s m args c cc nL RX0 D ty A d) (h : Hw D A s H locs (wX ty o ad σ ++ rs)) (dec : decode cc pc = .ok (.getfield 101, 3)) (kk : W p l e R s m args below meth c H locs cells slots Q (F0 m (pc + 3) ls (.ref (ad 31) :: st))) : W p l e R s m args below meth c H locs cells slots Q (F0 m pc ls (.ref (o) :: st)) := va_get (D := D) (ci := 0) C.x C.b C.ts in_X0 C.own C.K h.1 0 rfl rfl 31 (by decide) (C.ts _ q378) (fun _ h9 => h9) rfl dec kk
theorem x_g100 (C : Cx p R s m args c cc nL RX0 D ty A d) (h : Hw D A s H locs (wX ty o ad σ ++ rs)) (dec : decode cc pc = .ok (.getfield 147, 3)) (kk : W p l e R s m args below meth c H locs cells slots Q (F0 m (pc + 3) ls (.int (gI σ 100) :: st))) : W p l e R s m args below meth c H locs cells slots Q (F0 m pc ls (.ref (ad 0) :: st)) := va_getN (D := D) (ci := 1) C.x C.b C.ts in_X1 C.own C.K h.1 23 rfl rfl 0 (by decide) (C.nw q186 rfl) (fun _ h9 => h9) rfl dec kk
theorem x_s100 (v : Int32) : (wX ty o ad σ ++ rs).set 23 (ad 0, .inr (1, (fL ad σ).set 0 (.int v))) = wX ty o ad (sI σ 100 v) ++ rs := rfl
theorem x_p100 (C : Cx p R s m args c cc nL RX0 D ty A d) (h : Hw D A s H locs (wX ty o ad σ ++ rs)) {v : Int32} {σ2 : PS} (e9 : σ2 = sI σ 100 v) (dec : decode cc pc = .ok (.putfield 147, 3)) (kk : ∀ (H : Heap) (locs : List Loc), Hw D A s H locs (wX ty o ad σ2 ++ rs) → W p l e R s m args below meth c H locs cells slots Q (F0 m (pc + 3) ls st)) : W p l e R s m args below meth c H locs cells slots Q (F0 m pc ls (.int v :: .ref (ad 0) :: st)) := by
  subst e9
  refine va_putN (D := D) (ci := 1) (ty := .int) (fs := fL ad σ) C.x C.b C.ts in_X1 tyX1 tyX1_ok nmX1 C.own C.K h.1 h.2.1 h.2.2 23 rfl rfl 0 (by decide) (C.nw q186 rfl) (fun _ h9 => h9) rfl (by decide +kernel) rfl rfl (Nat.le_of_ble_eq_true rfl) dec (fun H1 locs1 hP hD hS => ?_)
  rw [x_s100] at hP hD
  exact kk H1 locs1 ⟨hP, hD, hS⟩
theorem x_g101 (C : Cx p R s m args c cc nL RX0 D ty A d) (h : Hw D A s H locs (wX ty o ad σ ++ rs)) (dec : decode cc pc = .ok (.getfield 177, 3)) (kk : W p l e R s m args below meth c H locs cells slots Q (F0 m (pc + 3) ls (.int (gI σ 101) :: st))) : W p l e R s m args below meth c H locs cells slots Q (F0 m pc ls (.ref (ad 0) :: st)) := va_getN (D := D) (ci := 1) C.x C.b C.ts in_X1 C.own C.K h.1 23 rfl rfl 1 (by decide) (C.nw q189 rfl) (fun _ h9 => h9) rfl dec kk
theorem x_s101 (v : Int32) : (wX ty o ad σ ++ rs).set 23 (ad 0, .inr (1, (fL ad σ).set 1 (.int v))) = wX ty o ad (sI σ 101 v) ++ rs := rfl
theorem x_p101 (C : Cx p R s m args c cc nL RX0 D ty A d) (h : Hw D A s H locs (wX ty o ad σ ++ rs)) {v : Int32} {σ2 : PS} (e9 : σ2 = sI σ 101 v) (dec : decode cc pc = .ok (.putfield 177, 3)) (kk : ∀ (H : Heap) (locs : List Loc), Hw D A s H locs (wX ty o ad σ2 ++ rs) → W p l e R s m args below meth c H locs cells slots Q (F0 m (pc + 3) ls st)) : W p l e R s m args below meth c H locs cells slots Q (F0 m pc ls (.int v :: .ref (ad 0) :: st)) := by
  subst e9
  refine va_putN (D := D) (ci := 1) (ty := .int) (fs := fL ad σ) C.x C.b C.ts in_X1 tyX1 tyX1_ok nmX1 C.own C.K h.1 h.2.1 h.2.2 23 rfl rfl 1 (by decide) (C.nw q189 rfl) (fun _ h9 => h9) rfl (by decide +kernel) rfl rfl (Nat.le_of_ble_eq_true rfl) dec (fun H1 locs1 hP hD hS => ?_)
  rw [x_s101] at hP hD
  exact kk H1 locs1 ⟨hP, hD, hS⟩
theorem x_g102 (C : Cx p R s m args c cc nL RX0 D ty A d) (h : Hw D A s H locs (wX ty o ad σ ++ rs)) (dec : decode cc pc = .ok (.getfield 430, 3)) (kk : W p l e R s m args below meth c H locs cells slots Q (F0 m (pc + 3) ls (.int (gI σ 102) :: st))) : W p l e R s m args below meth c H locs cells slots Q (F0 m pc ls (.ref (ad 0) :: st)) := va_getN (D := D) (ci := 1) C.x C.b C.ts in_X1 C.own C.K h.1 23 rfl rfl 2 (by decide) (C.nw q192 rfl) (fun _ h9 => h9) rfl dec kk
theorem x_s102 (v : Int32) : (wX ty o ad σ ++ rs).set 23 (ad 0, .inr (1, (fL ad σ).set 2 (.int v))) = wX ty o ad (sI σ 102 v) ++ rs := rfl
theorem x_p102 (C : Cx p R s m args c cc nL RX0 D ty A d) (h : Hw D A s H locs (wX ty o ad σ ++ rs)) {v : Int32} {σ2 : PS} (e9 : σ2 = sI σ 102 v) (dec : decode cc pc = .ok (.putfield 430, 3)) (kk : ∀ (H : Heap) (locs : List Loc), Hw D A s H locs (wX ty o ad σ2 ++ rs) → W p l e R s m args below meth c H locs cells slots Q (F0 m (pc + 3) ls st)) : W p l e R s m args below meth c H locs cells slots Q (F0 m pc ls (.int v :: .ref (ad 0) :: st)) := by
  subst e9
  refine va_putN (D := D) (ci := 1) (ty := .int) (fs := fL ad σ) C.x C.b C.ts in_X1 tyX1 tyX1_ok nmX1 C.own C.K h.1 h.2.1 h.2.2 23 rfl rfl 2 (by decide) (C.nw q192 rfl) (fun _ h9 => h9) rfl (by decide +kernel) rfl rfl (Nat.le_of_ble_eq_true rfl) dec (fun H1 locs1 hP hD hS => ?_)
  rw [x_s102] at hP hD
  exact kk H1 locs1 ⟨hP, hD, hS⟩
theorem x_g103 (C : Cx p R s m args c cc nL RX0 D ty A d) (h : Hw D A s H locs (wX ty o ad σ ++ rs)) (dec : decode cc pc = .ok (.getfield 192, 3)) (kk : W p l e R s m args below meth c H locs cells slots Q (F0 m (pc + 3) ls (.int (gI σ 103) :: st))) : W p l e R s m args below meth c H locs cells slots Q (F0 m pc ls (.ref (ad 0) :: st)) := va_getN (D := D) (ci := 1) C.x C.b C.ts in_X1 C.own C.K h.1 23 rfl rfl 3 (by decide) (C.nw q195 rfl) (fun _ h9 => h9) rfl dec kk
theorem x_s103 (v : Int32) : (wX ty o ad σ ++ rs).set 23 (ad 0, .inr (1, (fL ad σ).set 3 (.int v))) = wX ty o ad (sI σ 103 v) ++ rs := rfl
theorem x_p103 (C : Cx p R s m args c cc nL RX0 D ty A d) (h : Hw D A s H locs (wX ty o ad σ ++ rs)) {v : Int32} {σ2 : PS} (e9 : σ2 = sI σ 103 v) (dec : decode cc pc = .ok (.putfield 192, 3)) (kk : ∀ (H : Heap) (locs : List Loc), Hw D A s H locs (wX ty o ad σ2 ++ rs) → W p l e R s m args below meth c H locs cells slots Q (F0 m (pc + 3) ls st)) : W p l e R s m args below meth c H locs cells slots Q (F0 m pc ls (.int v :: .ref (ad 0) :: st)) := by
  subst e9
  refine va_putN (D := D) (ci := 1) (ty := .int) (fs := fL ad σ) C.x C.b C.ts in_X1 tyX1 tyX1_ok nmX1 C.own C.K h.1 h.2.1 h.2.2 23 rfl rfl 3 (by decide) (C.nw q195 rfl) (fun _ h9 => h9) rfl (by decide +kernel) rfl rfl (Nat.le_of_ble_eq_true rfl) dec (fun H1 locs1 hP hD hS => ?_)
  rw [x_s103] at hP hD
  exact kk H1 locs1 ⟨hP, hD, hS⟩
theorem x_g104 (C : Cx p R s m args c cc nL RX0 D ty A d) (h : Hw D A s H locs (wX ty o ad σ ++ rs)) (dec : decode cc pc = .ok (.getfield 238, 3)) (kk : W p l e R s m args below meth c H locs cells slots Q (F0 m (pc + 3) ls (.int (gI σ 104) :: st))) : W p l e R s m args below meth c H locs cells slots Q (F0 m pc ls (.ref (ad 0) :: st)) := va_getN (D := D) (ci := 1) C.x C.b C.ts in_X1 C.own C.K h.1 23 rfl rfl 4 (by decide) (C.nw q198 rfl) (fun _ h9 => h9) rfl dec kk
theorem x_s104 (v : Int32) : (wX ty o ad σ ++ rs).set 23 (ad 0, .inr (1, (fL ad σ).set 4 (.int v))) = wX ty o ad (sI σ 104 v) ++ rs := rfl
theorem x_p104 (C : Cx p R s m args c cc nL RX0 D ty A d) (h : Hw D A s H locs (wX ty o ad σ ++ rs)) {v : Int32} {σ2 : PS} (e9 : σ2 = sI σ 104 v) (dec : decode cc pc = .ok (.putfield 238, 3)) (kk : ∀ (H : Heap) (locs : List Loc), Hw D A s H locs (wX ty o ad σ2 ++ rs) → W p l e R s m args below meth c H locs cells slots Q (F0 m (pc + 3) ls st)) : W p l e R s m args below meth c H locs cells slots Q (F0 m pc ls (.int v :: .ref (ad 0) :: st)) := by
  subst e9
  refine va_putN (D := D) (ci := 1) (ty := .int) (fs := fL ad σ) C.x C.b C.ts in_X1 tyX1 tyX1_ok nmX1 C.own C.K h.1 h.2.1 h.2.2 23 rfl rfl 4 (by decide) (C.nw q198 rfl) (fun _ h9 => h9) rfl (by decide +kernel) rfl rfl (Nat.le_of_ble_eq_true rfl) dec (fun H1 locs1 hP hD hS => ?_)
  rw [x_s104] at hP hD
  exact kk H1 locs1 ⟨hP, hD, hS⟩
theorem x_g105 (C : Cx p R s m args c cc nL RX0 D ty A d) (h : Hw D A s H locs (wX ty o ad σ ++ rs)) (dec : decode cc pc = .ok (.getfield 126, 3)) (kk : W p l e R s m args below meth c H locs cells slots Q (F0 m (pc + 3) ls (.int (gI σ 105) :: st))) : W p l e R s m args below meth c H locs cells slots Q (F0 m pc ls (.ref (ad 0) :: st)) := va_getN (D := D) (ci := 1) C.x C.b C.ts in_X1 C.own C.K h.1 23 rfl rfl 5 (by decide) (C.nw q200 rfl) (fun _ h9 => h9) rfl dec kk
theorem x_s105 (v : Int32) : (wX ty o ad σ ++ rs).set 23 (ad 0, .inr (1, (fL ad σ).set 5 (.int v))) = wX ty o ad (sI σ 105 v) ++ rs := rfl
theorem x_p105 (C : Cx p R s m args c cc nL RX0 D ty A d) (h : Hw D A s H locs (wX ty o ad σ ++ rs)) {v : Int32} {σ2 : PS} (e9 : σ2 = sI σ 105 v) (dec : decode cc pc = .ok (.putfield 126, 3)) (kk : ∀ (H : Heap) (locs : List Loc), Hw D A s H locs (wX ty o ad σ2 ++ rs) → W p l e R s m args below meth c H locs cells slots Q (F0 m (pc + 3) ls st)) : W p l e R s m args below meth c H locs cells slots Q (F0 m pc ls (.int v :: .ref (ad 0) :: st)) := by
  subst e9
  refine va_putN (D := D) (ci := 1) (ty := .int) (fs := fL ad σ) C.x C.b C.ts in_X1 tyX1 tyX1_ok nmX1 C.own C.K h.1 h.2.1 h.2.2 23 rfl rfl 5 (by decide) (C.nw q200 rfl) (fun _ h9 => h9) rfl (by decide +kernel) rfl rfl (Nat.le_of_ble_eq_true rfl) dec (fun H1 locs1 hP hD hS => ?_)
  rw [x_s105] at hP hD
  exact kk H1 locs1 ⟨hP, hD, hS⟩
theorem x_g106 (C : Cx p R s m args c cc nL RX0 D ty A d) (h : Hw D A s H locs (wX ty o ad σ ++ rs)) (dec : decode cc pc = .ok (.getfield 137, 3)) (kk : W p l e R s m args below meth c H locs cells slots Q (F0 m (pc + 3) ls (.int (gI σ 106) :: st))) : W p l e R s m args below meth c H locs cells slots Q (F0 m pc ls (.ref (ad 0) :: st)) := va_getN (D := D) (ci := 1) C.x C.b C.ts in_X1 C.own C.K h.1 23 rfl rfl 6 (by decide) (C.nw q203 rfl) (fun _ h9 => h9) rfl dec kk
theorem x_s106 (v : Int32) : (wX ty o ad σ ++ rs).set 23 (ad 0, .inr (1, (fL ad σ).set 6 (.int v))) = wX ty o ad (sI σ 106 v) ++ rs := rfl
theorem x_p106 (C : Cx p R s m args c cc nL RX0 D ty A d) (h : Hw D A s H locs (wX ty o ad σ ++ rs)) {v : Int32} {σ2 : PS} (e9 : σ2 = sI σ 106 v) (dec : decode cc pc = .ok (.putfield 137, 3)) (kk : ∀ (H : Heap) (locs : List Loc), Hw D A s H locs (wX ty o ad σ2 ++ rs) → W p l e R s m args below meth c H locs cells slots Q (F0 m (pc + 3) ls st)) : W p l e R s m args below meth c H locs cells slots Q (F0 m pc ls (.int v :: .ref (ad 0) :: st)) := by
  subst e9
  refine va_putN (D := D) (ci := 1) (ty := .int) (fs := fL ad σ) C.x C.b C.ts in_X1 tyX1 tyX1_ok nmX1 C.own C.K h.1 h.2.1 h.2.2 23 rfl rfl 6 (by decide) (C.nw q203 rfl) (fun _ h9 => h9) rfl (by decide +kernel) rfl rfl (Nat.le_of_ble_eq_true rfl) dec (fun H1 locs1 hP hD hS => ?_)
  rw [x_s106] at hP hD
  exact kk H1 locs1 ⟨hP, hD, hS⟩
theorem x_g107 (C : Cx p R s m args c cc nL RX0 D ty A d) (h : Hw D A s H locs (wX ty o ad σ ++ rs)) (dec : decode cc pc = .ok (.getfield 140, 3)) (kk : W p l e R s m args below meth c H locs cells slots Q (F0 m (pc + 3) ls (.int (gI σ 107) :: st))) : W p l e R s m args below meth c H locs cells slots Q (F0 m pc ls (.ref (ad 0) :: st)) := va_getN (D := D) (ci := 1) C.x C.b C.ts in_X1 C.own C.K h.1 23 rfl rfl 7 (by decide) (C.nw q207 rfl) (fun _ h9 => h9) rfl dec kk
theorem x_s107 (v : Int32) : (wX ty o ad σ ++ rs).set 23 (ad 0, .inr (1, (fL ad σ).set 7 (.int v))) = wX ty o ad (sI σ 107 v) ++ rs := rfl
theorem x_p107 (C : Cx p R s m args c cc nL RX0 D ty A d) (h : Hw D A s H locs (wX ty o ad σ ++ rs)) {v : Int32} {σ2 : PS} (e9 : σ2 = sI σ 107 v) (dec : decode cc pc = .ok (.putfield 140, 3)) (kk : ∀ (H : Heap) (locs : List Loc), Hw D A s H locs (wX ty o ad σ2 ++ rs) → W p l e R s m args below meth c H locs cells slots Q (F0 m (pc + 3) ls st)) : W p l e R s m args below meth c H locs cells slots Q (F0 m pc ls (.int v :: .ref (ad 0) :: st)) := by
  subst e9
  refine va_putN (D := D) (ci := 1) (ty := .int) (fs := fL ad σ) C.x C.b C.ts in_X1 tyX1 tyX1_ok nmX1 C.own C.K h.1 h.2.1 h.2.2 23 rfl rfl 7 (by decide) (C.nw q207 rfl) (fun _ h9 => h9) rfl (by decide +kernel) rfl rfl (Nat.le_of_ble_eq_true rfl) dec (fun H1 locs1 hP hD hS => ?_)
  rw [x_s107] at hP hD
  exact kk H1 locs1 ⟨hP, hD, hS⟩
theorem x_g108 (C : Cx p R s m args c cc nL RX0 D ty A d) (h : Hw D A s H locs (wX ty o ad σ ++ rs)) (dec : decode cc pc = .ok (.getfield 205, 3)) (kk : W p l e R s m args below meth c H locs cells slots Q (F0 m (pc + 3) ls (.int (gI σ 108) :: st))) : W p l e R s m args below meth c H locs cells slots Q (F0 m pc ls (.ref (ad 0) :: st)) := va_getN (D := D) (ci := 1) C.x C.b C.ts in_X1 C.own C.K h.1 23 rfl rfl 8 (by decide) (C.nw q210 rfl) (fun _ h9 => h9) rfl dec kk
theorem x_s108 (v : Int32) : (wX ty o ad σ ++ rs).set 23 (ad 0, .inr (1, (fL ad σ).set 8 (.int v))) = wX ty o ad (sI σ 108 v) ++ rs := rfl
theorem x_p108 (C : Cx p R s m args c cc nL RX0 D ty A d) (h : Hw D A s H locs (wX ty o ad σ ++ rs)) {v : Int32} {σ2 : PS} (e9 : σ2 = sI σ 108 v) (dec : decode cc pc = .ok (.putfield 205, 3)) (kk : ∀ (H : Heap) (locs : List Loc), Hw D A s H locs (wX ty o ad σ2 ++ rs) → W p l e R s m args below meth c H locs cells slots Q (F0 m (pc + 3) ls st)) : W p l e R s m args below meth c H locs cells slots Q (F0 m pc ls (.int v :: .ref (ad 0) :: st)) := by
  subst e9
  refine va_putN (D := D) (ci := 1) (ty := .int) (fs := fL ad σ) C.x C.b C.ts in_X1 tyX1 tyX1_ok nmX1 C.own C.K h.1 h.2.1 h.2.2 23 rfl rfl 8 (by decide) (C.nw q210 rfl) (fun _ h9 => h9) rfl (by decide +kernel) rfl rfl (Nat.le_of_ble_eq_true rfl) dec (fun H1 locs1 hP hD hS => ?_)
  rw [x_s108] at hP hD
  exact kk H1 locs1 ⟨hP, hD, hS⟩
theorem x_g109 (C : Cx p R s m args c cc nL RX0 D ty A d) (h : Hw D A s H locs (wX ty o ad σ ++ rs)) (dec : decode cc pc = .ok (.getfield 158, 3)) (kk : W p l e R s m args below meth c H locs cells slots Q (F0 m (pc + 3) ls (.ref (ad 109) :: st))) : W p l e R s m args below meth c H locs cells slots Q (F0 m pc ls (.ref (ad 0) :: st)) := va_getN (D := D) (ci := 1) C.x C.b C.ts in_X1 C.own C.K h.1 23 rfl rfl 9 (by decide) (C.nw q213 rfl) (fun _ h9 => h9) rfl dec kk
theorem x_a109 (C : Cx p R s m args c cc nL ow D ty A d) (h : Hw D A s H locs (wX ty o ad σ ++ rs)) {i : Int32} (hi : vp_in i 7) (dec : decode cc pc = .ok (.iaload, 1)) (kk : W p l e R s m args below meth c H locs cells slots Q (F0 m (pc + 1) ls (.int (rA σ 109 i) :: st))) : W p l e R s m args below meth c H locs cells slots Q (F0 m pc ls (.int i :: .ref (ad 109) :: st)) := va_iald C.x C.b C.K h.1 24 0 rfl rfl hi dec kk
theorem x_s109 (f : Nat → Int32) : (wX ty o ad σ ++ rs).set 24 (ad 109, .inl (ty 0, 7, .inl f)) = wX ty o ad (sA σ 109 f) ++ rs := rfl
theorem x_w109 (C : Cx p R s m args c cc nL ow D ty A d) (h : Hw D A s H locs (wX ty o ad σ ++ rs)) {i : Int32} {v : Int32} {σ2 : PS} (hi : vp_in i 7) (e9 : σ2 = wA σ 109 i v) (dec : decode cc pc = .ok (.iastore, 1)) (kk : ∀ (H : Heap) (locs : List Loc), Hw D A s H locs (wX ty o ad σ2 ++ rs) → W p l e R s m args below meth c H locs cells slots Q (F0 m (pc + 1) ls st)) : W p l e R s m args below meth c H locs cells slots Q (F0 m pc ls (.int v :: .int i :: .ref (ad 109) :: st)) := by
  subst e9
  refine va_iast C.x C.b C.K h.1 h.2.1 h.2.2 24 0 rfl rfl hi dec (fun H1 locs1 hP hD hS => ?_)
  rw [x_s109] at hP hD
  exact kk H1 locs1 ⟨hP, hD, hS⟩
theorem x_g110 (C : Cx p R s m args c cc nL RX0 D ty A d) (h : Hw D A s H locs (wX ty o ad σ ++ rs)) (dec : decode cc pc = .ok (.getfield 165, 3)) (kk : W p l e R s m args below meth c H locs cells slots Q (F0 m (pc + 3) ls (.ref (ad 110) :: st))) : W p l e R s m args below meth c H locs cells slots Q (F0 m pc ls (.ref (ad 0) :: st)) := va_getN (D := D) (ci := 1) C.x C.b C.ts in_X1 C.own C.K h.1 23 rfl rfl 10 (by decide) (C.nw q216 rfl) (fun _ h9 => h9) rfl dec kk
theorem x_a110 (C : Cx p R s m args c cc nL ow D ty A d) (h : Hw D A s H locs (wX ty o ad σ ++ rs)) {i : Int32} (hi : vp_in i 6) (dec : decode cc pc = .ok (.iaload, 1)) (kk : W p l e R s m args below meth c H locs cells slots Q (F0 m (pc + 1) ls (.int (rA σ 110 i) :: st))) : W p l e R s m args below meth c H locs cells slots Q (F0 m pc ls (.int i :: .ref (ad 110) :: st)) := va_iald C.x C.b C.K h.1 25 0 rfl rfl hi dec kk
theorem x_s110 (f : Nat → Int32) : (wX ty o ad σ ++ rs).set 25 (ad 110, .inl (ty 0, 6, .inl f)) = wX ty o ad (sA σ 110 f) ++ rs := rfl
theorem x_w110 (C : Cx p R s m args c cc nL ow D ty A d) (h : Hw D A s H locs (wX ty o ad σ ++ rs)) {i : Int32} {v : Int32} {σ2 : PS} (hi : vp_in i 6) (e9 : σ2 = wA σ 110 i v) (dec : decode cc pc = .ok (.iastore, 1)) (kk : ∀ (H : Heap) (locs : List Loc), Hw D A s H locs (wX ty o ad σ2 ++ rs) → W p l e R s m args below meth c H locs cells slots Q (F0 m (pc + 1) ls st)) : W p l e R s m args below meth c H locs cells slots Q (F0 m pc ls (.int v :: .int i :: .ref (ad 110) :: st)) := by
  subst e9
  refine va_iast C.x C.b C.K h.1 h.2.1 h.2.2 25 0 rfl rfl hi dec (fun H1 locs1 hP hD hS => ?_)
  rw [x_s110] at hP hD
  exact kk H1 locs1 ⟨hP, hD, hS⟩
theorem x_g111 (C : Cx p R s m args c cc nL RX0 D ty A d) (h : Hw D A s H locs (wX ty o ad σ ++ rs)) (dec : decode cc pc = .ok (.getfield 168, 3)) (kk : W p l e R s m args below meth c H locs cells slots Q (F0 m (pc + 3) ls (.ref (ad 111) :: st))) : W p l e R s m args below meth c H locs cells slots Q (F0 m pc ls (.ref (ad 0) :: st)) := va_getN (D := D) (ci := 1) C.x C.b C.ts in_X1 C.own C.K h.1 23 rfl rfl 11 (by decide) (C.nw q219 rfl) (fun _ h9 => h9) rfl dec kk
theorem x_a111 (C : Cx p R s m args c cc nL ow D ty A d) (h : Hw D A s H locs (wX ty o ad σ ++ rs)) {i : Int32} (hi : vp_in i 6) (dec : decode cc pc = .ok (.iaload, 1)) (kk : W p l e R s m args below meth c H locs cells slots Q (F0 m (pc + 1) ls (.int (rA σ 111 i) :: st))) : W p l e R s m args below meth c H locs cells slots Q (F0 m pc ls (.int i :: .ref (ad 111) :: st)) := va_iald C.x C.b C.K h.1 26 0 rfl rfl hi dec kk
theorem x_s111 (f : Nat → Int32) : (wX ty o ad σ ++ rs).set 26 (ad 111, .inl (ty 0, 6, .inl f)) = wX ty o ad (sA σ 111 f) ++ rs := rfl
theorem x_w111 (C : Cx p R s m args c cc nL ow D ty A d) (h : Hw D A s H locs (wX ty o ad σ ++ rs)) {i : Int32} {v : Int32} {σ2 : PS} (hi : vp_in i 6) (e9 : σ2 = wA σ 111 i v) (dec : decode cc pc = .ok (.iastore, 1)) (kk : ∀ (H : Heap) (locs : List Loc), Hw D A s H locs (wX ty o ad σ2 ++ rs) → W p l e R s m args below meth c H locs cells slots Q (F0 m (pc + 1) ls st)) : W p l e R s m args below meth c H locs cells slots Q (F0 m pc ls (.int v :: .int i :: .ref (ad 111) :: st)) := by
  subst e9
  refine va_iast C.x C.b C.K h.1 h.2.1 h.2.2 26 0 rfl rfl hi dec (fun H1 locs1 hP hD hS => ?_)
  rw [x_s111] at hP hD
  exact kk H1 locs1 ⟨hP, hD, hS⟩
theorem x_g112 (C : Cx p R s m args c cc nL RX0 D ty A d) (h : Hw D A s H locs (wX ty o ad σ ++ rs)) (dec : decode cc pc = .ok (.getfield 171, 3)) (kk : W p l e R s m args below meth c H locs cells slots Q (F0 m (pc + 3) ls (.ref (ad 112) :: st))) : W p l e R s m args below meth c H locs cells slots Q (F0 m pc ls (.ref (ad 0) :: st)) := va_getN (D := D) (ci := 1) C.x C.b C.ts in_X1 C.own C.K h.1 23 rfl rfl 12 (by decide) (C.nw q222 rfl) (fun _ h9 => h9) rfl dec kk
theorem x_a112 (C : Cx p R s m args c cc nL ow D ty A d) (h : Hw D A s H locs (wX ty o ad σ ++ rs)) {i : Int32} (hi : vp_in i 6) (dec : decode cc pc = .ok (.iaload, 1)) (kk : W p l e R s m args below meth c H locs cells slots Q (F0 m (pc + 1) ls (.int (rA σ 112 i) :: st))) : W p l e R s m args below meth c H locs cells slots Q (F0 m pc ls (.int i :: .ref (ad 112) :: st)) := va_iald C.x C.b C.K h.1 27 0 rfl rfl hi dec kk
theorem x_s112 (f : Nat → Int32) : (wX ty o ad σ ++ rs).set 27 (ad 112, .inl (ty 0, 6, .inl f)) = wX ty o ad (sA σ 112 f) ++ rs := rfl
theorem x_w112 (C : Cx p R s m args c cc nL ow D ty A d) (h : Hw D A s H locs (wX ty o ad σ ++ rs)) {i : Int32} {v : Int32} {σ2 : PS} (hi : vp_in i 6) (e9 : σ2 = wA σ 112 i v) (dec : decode cc pc = .ok (.iastore, 1)) (kk : ∀ (H : Heap) (locs : List Loc), Hw D A s H locs (wX ty o ad σ2 ++ rs) → W p l e R s m args below meth c H locs cells slots Q (F0 m (pc + 1) ls st)) : W p l e R s m args below meth c H locs cells slots Q (F0 m pc ls (.int v :: .int i :: .ref (ad 112) :: st)) := by
  subst e9
  refine va_iast C.x C.b C.K h.1 h.2.1 h.2.2 27 0 rfl rfl hi dec (fun H1 locs1 hP hD hS => ?_)
  rw [x_s112] at hP hD
  exact kk H1 locs1 ⟨hP, hD, hS⟩
theorem x_g113 (C : Cx p R s m args c cc nL RX0 D ty A d) (h : Hw D A s H locs (wX ty o ad σ ++ rs)) (dec : decode cc pc = .ok (.getfield 174, 3)) (kk : W p l e R s m args below meth c H locs cells slots Q (F0 m (pc + 3) ls (.ref (ad 113) :: st))) : W p l e R s m args below meth c H locs cells slots Q (F0 m pc ls (.ref (ad 0) :: st)) := va_getN (D := D) (ci := 1) C.x C.b C.ts in_X1 C.own C.K h.1 23 rfl rfl 13 (by decide) (C.nw q225 rfl) (fun _ h9 => h9) rfl dec kk
theorem x_a113 (C : Cx p R s m args c cc nL ow D ty A d) (h : Hw D A s H locs (wX ty o ad σ ++ rs)) {i : Int32} (hi : vp_in i 6) (dec : decode cc pc = .ok (.iaload, 1)) (kk : W p l e R s m args below meth c H locs cells slots Q (F0 m (pc + 1) ls (.int (rA σ 113 i) :: st))) : W p l e R s m args below meth c H locs cells slots Q (F0 m pc ls (.int i :: .ref (ad 113) :: st)) := va_iald C.x C.b C.K h.1 28 0 rfl rfl hi dec kk
theorem x_s113 (f : Nat → Int32) : (wX ty o ad σ ++ rs).set 28 (ad 113, .inl (ty 0, 6, .inl f)) = wX ty o ad (sA σ 113 f) ++ rs := rfl
theorem x_w113 (C : Cx p R s m args c cc nL ow D ty A d) (h : Hw D A s H locs (wX ty o ad σ ++ rs)) {i : Int32} {v : Int32} {σ2 : PS} (hi : vp_in i 6) (e9 : σ2 = wA σ 113 i v) (dec : decode cc pc = .ok (.iastore, 1)) (kk : ∀ (H : Heap) (locs : List Loc), Hw D A s H locs (wX ty o ad σ2 ++ rs) → W p l e R s m args below meth c H locs cells slots Q (F0 m (pc + 1) ls st)) : W p l e R s m args below meth c H locs cells slots Q (F0 m pc ls (.int v :: .int i :: .ref (ad 113) :: st)) := by
  subst e9
  refine va_iast C.x C.b C.K h.1 h.2.1 h.2.2 28 0 rfl rfl hi dec (fun H1 locs1 hP hD hS => ?_)
  rw [x_s113] at hP hD
  exact kk H1 locs1 ⟨hP, hD, hS⟩
theorem x_g114 (C : Cx p R s m args c cc nL RX0 D ty A d) (h : Hw D A s H locs (wX ty o ad σ ++ rs)) (dec : decode cc pc = .ok (.getfield 208, 3)) (kk : W p l e R s m args below meth c H locs cells slots Q (F0 m (pc + 3) ls (.ref (ad 114) :: st))) : W p l e R s m args below meth c H locs cells slots Q (F0 m pc ls (.ref (ad 0) :: st)) := va_getN (D := D) (ci := 1) C.x C.b C.ts in_X1 C.own C.K h.1 23 rfl rfl 14 (by decide) (C.nw q227 rfl) (fun _ h9 => h9) rfl dec kk
theorem x_a114 (C : Cx p R s m args c cc nL ow D ty A d) (h : Hw D A s H locs (wX ty o ad σ ++ rs)) {i : Int32} (hi : vp_in i 30) (dec : decode cc pc = .ok (.iaload, 1)) (kk : W p l e R s m args below meth c H locs cells slots Q (F0 m (pc + 1) ls (.int (rA σ 114 i) :: st))) : W p l e R s m args below meth c H locs cells slots Q (F0 m pc ls (.int i :: .ref (ad 114) :: st)) := va_iald C.x C.b C.K h.1 29 0 rfl rfl hi dec kk
theorem x_s114 (f : Nat → Int32) : (wX ty o ad σ ++ rs).set 29 (ad 114, .inl (ty 0, 30, .inl f)) = wX ty o ad (sA σ 114 f) ++ rs := rfl
theorem x_w114 (C : Cx p R s m args c cc nL ow D ty A d) (h : Hw D A s H locs (wX ty o ad σ ++ rs)) {i : Int32} {v : Int32} {σ2 : PS} (hi : vp_in i 30) (e9 : σ2 = wA σ 114 i v) (dec : decode cc pc = .ok (.iastore, 1)) (kk : ∀ (H : Heap) (locs : List Loc), Hw D A s H locs (wX ty o ad σ2 ++ rs) → W p l e R s m args below meth c H locs cells slots Q (F0 m (pc + 1) ls st)) : W p l e R s m args below meth c H locs cells slots Q (F0 m pc ls (.int v :: .int i :: .ref (ad 114) :: st)) := by
  subst e9
  refine va_iast C.x C.b C.K h.1 h.2.1 h.2.2 29 0 rfl rfl hi dec (fun H1 locs1 hP hD hS => ?_)
  rw [x_s114] at hP hD
  exact kk H1 locs1 ⟨hP, hD, hS⟩
theorem x_a17 (C : Cx p R s m args c cc nL ow D ty A d) (h : Hw D A s H locs (wX ty o ad σ ++ rs)) {i : Int32} (hi : vp_in i 4) (dec : decode cc pc = .ok (.aaload, 1)) (kk : W p l e R s m args below meth c H locs cells slots Q (F0 m (pc + 1) ls (.ref (ad (40 + i.toNatClampNeg)) :: st))) : W p l e R s m args below meth c H locs cells slots Q (F0 m pc ls (.int i :: .ref (ad 17) :: st)) := va_aldq C.x C.b C.K h.1 18 5 rfl rfl hi dec (by rw [f4_at hi]; exact kk)
theorem x_cp14_16 (C : Cx p R s m args c cc nL RX0 D ty A d) (h : Hw D A s H locs (wX ty o ad σ ++ rs)) {i j n : Int32} {σ2 : PS} (hg : cpC i 6 j 6 n = true) (e9 : σ2 = cpA σ 14 i 16 j n) (hls : ls.size = nL) (hd : 1 ≤ d) (hcat : (st.map fun v => v.category).sum ≤ 8) (dec : decode cc pc = .ok (.invokestatic 183, 3)) (kk : ∀ (H : Heap) (locs : List Loc), Hw D A s H locs (wX ty o ad σ2 ++ rs) → W p l e R s m args below meth c H locs cells slots Q (F0 m (pc + 3) ls st)) : W p l e R s m args below meth c H locs cells slots Q (F0 m pc ls (.int n :: .int j :: .ref (ad 16) :: .int i :: .ref (ad 14) :: st)) := by
  subst e9
  obtain ⟨h1, h2, h3, h4, h5⟩ := cpC_of hg
  have r1 := C.2.2.2.1
  have r2 := C.2.2.2.2
  refine va_copyi C.x C.b (C.1.2.2.1.trans hls.symm) C.own (C.ts _ q745) (C.ts _ q747) (C.ts _ q746) (C.ts _ q159) C.K h.1 h.2.1 h.2.2 7 9 0 0 rfl rfl rfl rfl rfl h1 h2 h3 h4 h5 (fun _ _ => rfl) (by omega) (by rw [show nativeFrameWords "java/lang/System" "arraycopy" 5 = 7 by decide]; omega) dec (fun H1 locs1 hP hD hS => ?_)
  rw [x_s16] at hP hD
  exact kk H1 locs1 ⟨hP, hD, hS⟩
theorem x_cp14_18 (C : Cx p R s m args c cc nL RX0 D ty A d) (h : Hw D A s H locs (wX ty o ad σ ++ rs)) {i j n : Int32} {σ2 : PS} (hg : cpC i 6 j 90 n = true) (e9 : σ2 = cpA σ 14 i 18 j n) (hls : ls.size = nL) (hd : 1 ≤ d) (hcat : (st.map fun v => v.category).sum ≤ 8) (dec : decode cc pc = .ok (.invokestatic 183, 3)) (kk : ∀ (H : Heap) (locs : List Loc), Hw D A s H locs (wX ty o ad σ2 ++ rs) → W p l e R s m args below meth c H locs cells slots Q (F0 m (pc + 3) ls st)) : W p l e R s m args below meth c H locs cells slots Q (F0 m pc ls (.int n :: .int j :: .ref (ad 18) :: .int i :: .ref (ad 14) :: st)) := by
  subst e9
  obtain ⟨h1, h2, h3, h4, h5⟩ := cpC_of hg
  have r1 := C.2.2.2.1
  have r2 := C.2.2.2.2
  refine va_copyi C.x C.b (C.1.2.2.1.trans hls.symm) C.own (C.ts _ q745) (C.ts _ q747) (C.ts _ q746) (C.ts _ q159) C.K h.1 h.2.1 h.2.2 7 10 0 0 rfl rfl rfl rfl rfl h1 h2 h3 h4 h5 (fun _ _ => rfl) (by omega) (by rw [show nativeFrameWords "java/lang/System" "arraycopy" 5 = 7 by decide]; omega) dec (fun H1 locs1 hP hD hS => ?_)
  rw [x_s18] at hP hD
  exact kk H1 locs1 ⟨hP, hD, hS⟩
theorem x_cp15_19 (C : Cx p R s m args c cc nL RX0 D ty A d) (h : Hw D A s H locs (wX ty o ad σ ++ rs)) {i j n : Int32} {σ2 : PS} (hg : cpC i 6 j 90 n = true) (e9 : σ2 = cpA σ 15 i 19 j n) (hls : ls.size = nL) (hd : 1 ≤ d) (hcat : (st.map fun v => v.category).sum ≤ 8) (dec : decode cc pc = .ok (.invokestatic 183, 3)) (kk : ∀ (H : Heap) (locs : List Loc), Hw D A s H locs (wX ty o ad σ2 ++ rs) → W p l e R s m args below meth c H locs cells slots Q (F0 m (pc + 3) ls st)) : W p l e R s m args below meth c H locs cells slots Q (F0 m pc ls (.int n :: .int j :: .ref (ad 19) :: .int i :: .ref (ad 15) :: st)) := by
  subst e9
  obtain ⟨h1, h2, h3, h4, h5⟩ := cpC_of hg
  have r1 := C.2.2.2.1
  have r2 := C.2.2.2.2
  refine va_copyi C.x C.b (C.1.2.2.1.trans hls.symm) C.own (C.ts _ q745) (C.ts _ q747) (C.ts _ q746) (C.ts _ q159) C.K h.1 h.2.1 h.2.2 8 11 0 0 rfl rfl rfl rfl rfl h1 h2 h3 h4 h5 (fun _ _ => rfl) (by omega) (by rw [show nativeFrameWords "java/lang/System" "arraycopy" 5 = 7 by decide]; omega) dec (fun H1 locs1 hP hD hS => ?_)
  rw [x_s19] at hP hD
  exact kk H1 locs1 ⟨hP, hD, hS⟩
theorem x_cp109_5 (C : Cx p R s m args c cc nL RX0 D ty A d) (h : Hw D A s H locs (wX ty o ad σ ++ rs)) {i j n : Int32} {σ2 : PS} (hg : cpC i 7 j 7 n = true) (e9 : σ2 = cpA σ 109 i 5 j n) (hls : ls.size = nL) (hd : 1 ≤ d) (hcat : (st.map fun v => v.category).sum ≤ 8) (dec : decode cc pc = .ok (.invokestatic 183, 3)) (kk : ∀ (H : Heap) (locs : List Loc), Hw D A s H locs (wX ty o ad σ2 ++ rs) → W p l e R s m args below meth c H locs cells slots Q (F0 m (pc + 3) ls st)) : W p l e R s m args below meth c H locs cells slots Q (F0 m pc ls (.int n :: .int j :: .ref (ad 5) :: .int i :: .ref (ad 109) :: st)) := by
  subst e9
  obtain ⟨h1, h2, h3, h4, h5⟩ := cpC_of hg
  have r1 := C.2.2.2.1
  have r2 := C.2.2.2.2
  refine va_copyi C.x C.b (C.1.2.2.1.trans hls.symm) C.own (C.ts _ q745) (C.ts _ q747) (C.ts _ q746) (C.ts _ q159) C.K h.1 h.2.1 h.2.2 24 2 0 0 rfl rfl rfl rfl rfl h1 h2 h3 h4 h5 (fun _ _ => rfl) (by omega) (by rw [show nativeFrameWords "java/lang/System" "arraycopy" 5 = 7 by decide]; omega) dec (fun H1 locs1 hP hD hS => ?_)
  rw [x_s5] at hP hD
  exact kk H1 locs1 ⟨hP, hD, hS⟩
theorem x_cp111_8 (C : Cx p R s m args c cc nL RX0 D ty A d) (h : Hw D A s H locs (wX ty o ad σ ++ rs)) {i j n : Int32} {σ2 : PS} (hg : cpC i 6 j 6 n = true) (e9 : σ2 = cpA σ 111 i 8 j n) (hls : ls.size = nL) (hd : 1 ≤ d) (hcat : (st.map fun v => v.category).sum ≤ 8) (dec : decode cc pc = .ok (.invokestatic 183, 3)) (kk : ∀ (H : Heap) (locs : List Loc), Hw D A s H locs (wX ty o ad σ2 ++ rs) → W p l e R s m args below meth c H locs cells slots Q (F0 m (pc + 3) ls st)) : W p l e R s m args below meth c H locs cells slots Q (F0 m pc ls (.int n :: .int j :: .ref (ad 8) :: .int i :: .ref (ad 111) :: st)) := by
  subst e9
  obtain ⟨h1, h2, h3, h4, h5⟩ := cpC_of hg
  have r1 := C.2.2.2.1
  have r2 := C.2.2.2.2
  refine va_copyi C.x C.b (C.1.2.2.1.trans hls.symm) C.own (C.ts _ q745) (C.ts _ q747) (C.ts _ q746) (C.ts _ q159) C.K h.1 h.2.1 h.2.2 26 5 0 0 rfl rfl rfl rfl rfl h1 h2 h3 h4 h5 (fun _ _ => rfl) (by omega) (by rw [show nativeFrameWords "java/lang/System" "arraycopy" 5 = 7 by decide]; omega) dec (fun H1 locs1 hP hD hS => ?_)
  rw [x_s8] at hP hD
  exact kk H1 locs1 ⟨hP, hD, hS⟩
theorem x_cp112_9 (C : Cx p R s m args c cc nL RX0 D ty A d) (h : Hw D A s H locs (wX ty o ad σ ++ rs)) {i j n : Int32} {σ2 : PS} (hg : cpC i 6 j 6 n = true) (e9 : σ2 = cpA σ 112 i 9 j n) (hls : ls.size = nL) (hd : 1 ≤ d) (hcat : (st.map fun v => v.category).sum ≤ 8) (dec : decode cc pc = .ok (.invokestatic 183, 3)) (kk : ∀ (H : Heap) (locs : List Loc), Hw D A s H locs (wX ty o ad σ2 ++ rs) → W p l e R s m args below meth c H locs cells slots Q (F0 m (pc + 3) ls st)) : W p l e R s m args below meth c H locs cells slots Q (F0 m pc ls (.int n :: .int j :: .ref (ad 9) :: .int i :: .ref (ad 112) :: st)) := by
  subst e9
  obtain ⟨h1, h2, h3, h4, h5⟩ := cpC_of hg
  have r1 := C.2.2.2.1
  have r2 := C.2.2.2.2
  refine va_copyi C.x C.b (C.1.2.2.1.trans hls.symm) C.own (C.ts _ q745) (C.ts _ q747) (C.ts _ q746) (C.ts _ q159) C.K h.1 h.2.1 h.2.2 27 6 0 0 rfl rfl rfl rfl rfl h1 h2 h3 h4 h5 (fun _ _ => rfl) (by omega) (by rw [show nativeFrameWords "java/lang/System" "arraycopy" 5 = 7 by decide]; omega) dec (fun H1 locs1 hP hD hS => ?_)
  rw [x_s9] at hP hD
  exact kk H1 locs1 ⟨hP, hD, hS⟩
end XROWS
section MATH
variable {p : Program} {l : Launch} {e : Env} {R : Room} {s : State} {m : MethodId} {args : Array Value} {below : List Frame} {meth : Method} {c : Code} {H : Heap} {locs : List Loc} {cells slots : Nat} {Q : State → Prop} {cc : ByteArray} {pc : Nat} {ls : Array Slot} {st : List Value} {nL d : Nat} {D : va_G} {ty : Nat → ClassId} {A : Nat → Prop} {ws : va_W} {ow : String}
theorem r_max_X0 (C : Cx p R s m args c cc nL RX0 D ty A d) (h : Hw D A s H locs ws) {x y : Int32} (hls : ls.size = nL) (hd : 1 ≤ d) (hcat : (st.map fun v => v.category).sum ≤ 8) (dec : decode cc pc = .ok (.invokestatic 215, 3)) (kk : W p l e R s m args below meth c H locs 0 0 Q (F0 m (pc + 3) ls (.int (mx x y) :: st))) : W p l e R s m args below meth c H locs 0 0 Q (F0 m pc ls (.int y :: .int x :: st)) := by
  have r1 := C.2.2.2.1
  have r2 := C.2.2.2.2
  exact va_mmax C.x C.b (C.1.2.2.1.trans hls.symm) C.own (C.ts _ q802) (C.ts _ q803) (C.ts _ q151) (C.ts _ q804) (by omega) (by omega) (Nat.zero_le _) (Nat.zero_le _) dec kk
theorem r_min_X0 (C : Cx p R s m args c cc nL RX0 D ty A d) (h : Hw D A s H locs ws) {x y : Int32} (hls : ls.size = nL) (hd : 1 ≤ d) (hcat : (st.map fun v => v.category).sum ≤ 8) (dec : decode cc pc = .ok (.invokestatic 320, 3)) (kk : W p l e R s m args below meth c H locs 0 0 Q (F0 m (pc + 3) ls (.int (mn x y) :: st))) : W p l e R s m args below meth c H locs 0 0 Q (F0 m pc ls (.int y :: .int x :: st)) := by
  have r1 := C.2.2.2.1
  have r2 := C.2.2.2.2
  exact va_mmin C.x C.b (C.1.2.2.1.trans hls.symm) C.own (C.ts _ q1013) (C.ts _ q487) (C.ts _ q151) (C.ts _ q488) (by omega) (by omega) (Nat.zero_le _) (Nat.zero_le _) dec kk
theorem r_abs_X0 (C : Cx p R s m args c cc nL RX0 D ty A d) (h : Hw D A s H locs ws) {x : Int32} (hls : ls.size = nL) (hd : 1 ≤ d) (hcat : (st.map fun v => v.category).sum ≤ 8) (dec : decode cc pc = .ok (.invokestatic 221, 3)) (kk : W p l e R s m args below meth c H locs 0 0 Q (F0 m (pc + 3) ls (.int (ab x) :: st))) : W p l e R s m args below meth c H locs 0 0 Q (F0 m pc ls (.int x :: st)) := by
  have r1 := C.2.2.2.1
  have r2 := C.2.2.2.2
  exact va_mabs C.x C.b (C.1.2.2.1.trans hls.symm) C.own (C.ts _ q771) (C.ts _ q772) (C.ts _ q151) (C.ts _ q773) (by omega) (by omega) (Nat.zero_le _) (Nat.zero_le _) dec kk
theorem r_labs_X0 (C : Cx p R s m args c cc nL RX0 D ty A d) (h : Hw D A s H locs ws) {x : Int64} (hls : ls.size = nL) (hd : 1 ≤ d) (hcat : (st.map fun v => v.category).sum ≤ 8) (dec : decode cc pc = .ok (.invokestatic 392, 3)) (kk : W p l e R s m args below meth c H locs 0 0 Q (F0 m (pc + 3) ls (.long (lab x) :: st))) : W p l e R s m args below meth c H locs 0 0 Q (F0 m pc ls (.long x :: st)) := by
  have r1 := C.2.2.2.1
  have r2 := C.2.2.2.2
  exact va_mabs_long C.x C.b (C.1.2.2.1.trans hls.symm) C.own (C.ts _ q1263) (C.ts _ q1264) (C.ts _ q151) (C.ts _ q1265) (by omega) (by omega) (Nat.zero_le _) (Nat.zero_le _) dec kk
theorem r_max_X3 (C : Cx p R s m args c cc nL RX3 D ty A d) (h : Hw D A s H locs ws) {x y : Int32} (hls : ls.size = nL) (hd : 1 ≤ d) (hcat : (st.map fun v => v.category).sum ≤ 8) (dec : decode cc pc = .ok (.invokestatic 25, 3)) (kk : W p l e R s m args below meth c H locs 0 0 Q (F0 m (pc + 3) ls (.int (mx x y) :: st))) : W p l e R s m args below meth c H locs 0 0 Q (F0 m pc ls (.int y :: .int x :: st)) := by
  have r1 := C.2.2.2.1
  have r2 := C.2.2.2.2
  exact va_mmax C.x C.b (C.1.2.2.1.trans hls.symm) C.own (C.ts _ q814) (C.ts _ q803) (C.ts _ q151) (C.ts _ q804) (by omega) (by omega) (Nat.zero_le _) (Nat.zero_le _) dec kk
theorem r_min_X3 (C : Cx p R s m args c cc nL RX3 D ty A d) (h : Hw D A s H locs ws) {x y : Int32} (hls : ls.size = nL) (hd : 1 ≤ d) (hcat : (st.map fun v => v.category).sum ≤ 8) (dec : decode cc pc = .ok (.invokestatic 19, 3)) (kk : W p l e R s m args below meth c H locs 0 0 Q (F0 m (pc + 3) ls (.int (mn x y) :: st))) : W p l e R s m args below meth c H locs 0 0 Q (F0 m pc ls (.int y :: .int x :: st)) := by
  have r1 := C.2.2.2.1
  have r2 := C.2.2.2.2
  exact va_mmin C.x C.b (C.1.2.2.1.trans hls.symm) C.own (C.ts _ q813) (C.ts _ q487) (C.ts _ q151) (C.ts _ q488) (by omega) (by omega) (Nat.zero_le _) (Nat.zero_le _) dec kk
theorem r_min_X8 (C : Cx p R s m args c cc nL RX8 D ty A d) (h : Hw D A s H locs ws) {x y : Int32} (hls : ls.size = nL) (hd : 1 ≤ d) (hcat : (st.map fun v => v.category).sum ≤ 8) (dec : decode cc pc = .ok (.invokestatic 66, 3)) (kk : W p l e R s m args below meth c H locs 0 0 Q (F0 m (pc + 3) ls (.int (mn x y) :: st))) : W p l e R s m args below meth c H locs 0 0 Q (F0 m pc ls (.int y :: .int x :: st)) := by
  have r1 := C.2.2.2.1
  have r2 := C.2.2.2.2
  exact va_mmin C.x C.b (C.1.2.2.1.trans hls.symm) C.own (C.ts _ q486) (C.ts _ q487) (C.ts _ q151) (C.ts _ q488) (by omega) (by omega) (Nat.zero_le _) (Nat.zero_le _) dec kk
end MATH
