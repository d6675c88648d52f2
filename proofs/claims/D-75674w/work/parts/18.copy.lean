set_option maxRecDepth 100000
section LROWS
variable {p : Program} {l : Launch} {e : Env} {R : Room} {s : State} {m : MethodId} {args : Array Value} {below : List Frame} {meth : Method} {c : Code} {H : Heap} {locs : List Loc} {cells slots : Nat} {Q : State → Prop} {cc : ByteArray} {pc : Nat} {ls : Array Slot} {st : List Value} {nL d : Nat} {D : va_G} {ty : Nat → ClassId} {A : Nat → Prop} {ad ad2 : Nat → Nat} {rs : va_W} {σ ρ : PS}
theorem l1_g0 (C : Cx p R s m args c cc nL RX1 D ty A d) (h : Hw D A s H locs (wLehr ty ad σ ++ (wLehr ty ad2 ρ ++ rs))) (dec : decode cc pc = .ok (.getfield 31, 3)) (kk : W p l e R s m args below meth c H locs cells slots Q (F0 m (pc + 3) ls (.int (gI σ 100) :: st))) : W p l e R s m args below meth c H locs cells slots Q (F0 m pc ls (.ref (ad 0) :: st)) := va_get (D := D) (ci := 1) C.x C.b C.ts in_X1 C.own C.K h.1 0 rfl rfl 0 (by decide) (C.ts _ q184) (fun _ h9 => h9) rfl dec kk
theorem l2_g0 (C : Cx p R s m args c cc nL RX1 D ty A d) (h : Hw D A s H locs (wLehr ty ad σ ++ (wLehr ty ad2 ρ ++ rs))) (dec : decode cc pc = .ok (.getfield 31, 3)) (kk : W p l e R s m args below meth c H locs cells slots Q (F0 m (pc + 3) ls (.int (gI ρ 100) :: st))) : W p l e R s m args below meth c H locs cells slots Q (F0 m pc ls (.ref (ad2 0) :: st)) := va_get (D := D) (ci := 1) C.x C.b C.ts in_X1 C.own C.K h.1 7 rfl rfl 0 (by decide) (C.ts _ q184) (fun _ h9 => h9) rfl dec kk
theorem l2_s0 (v : Int32) : (wLehr ty ad σ ++ (wLehr ty ad2 ρ ++ rs)).set 7 (ad2 0, .inr (1, (fL ad2 ρ).set 0 (.int v))) = (wLehr ty ad σ ++ (wLehr ty ad2 (sI ρ 100 v) ++ rs)) := rfl
theorem l2_p0 (C : Cx p R s m args c cc nL RX1 D ty A d) (h : Hw D A s H locs (wLehr ty ad σ ++ (wLehr ty ad2 ρ ++ rs))) {v : Int32} (dec : decode cc pc = .ok (.putfield 31, 3)) (kk : ∀ (H : Heap) (locs : List Loc), Hw D A s H locs (wLehr ty ad σ ++ (wLehr ty ad2 (sI ρ 100 v) ++ rs)) → W p l e R s m args below meth c H locs cells slots Q (F0 m (pc + 3) ls st)) : W p l e R s m args below meth c H locs cells slots Q (F0 m pc ls (.int v :: .ref (ad2 0) :: st)) := by
  refine va_put (D := D) (ci := 1) (ty := .int) (fs := fL ad2 ρ) C.x C.b C.ts in_X1 tyX1 tyX1_ok nmX1 C.own C.K h.1 h.2.1 h.2.2 7 rfl rfl 0 (by decide) (C.ts _ q184) (fun _ h9 => h9) rfl (by decide +kernel) rfl rfl (Nat.le_of_ble_eq_true rfl) dec (fun H1 locs1 hP hD hS => ?_)
  rw [l2_s0] at hP hD
  exact kk H1 locs1 ⟨hP, hD, hS⟩
theorem l1_g1 (C : Cx p R s m args c cc nL RX1 D ty A d) (h : Hw D A s H locs (wLehr ty ad σ ++ (wLehr ty ad2 ρ ++ rs))) (dec : decode cc pc = .ok (.getfield 35, 3)) (kk : W p l e R s m args below meth c H locs cells slots Q (F0 m (pc + 3) ls (.int (gI σ 101) :: st))) : W p l e R s m args below meth c H locs cells slots Q (F0 m pc ls (.ref (ad 0) :: st)) := va_get (D := D) (ci := 1) C.x C.b C.ts in_X1 C.own C.K h.1 0 rfl rfl 1 (by decide) (C.ts _ q187) (fun _ h9 => h9) rfl dec kk
theorem l2_g1 (C : Cx p R s m args c cc nL RX1 D ty A d) (h : Hw D A s H locs (wLehr ty ad σ ++ (wLehr ty ad2 ρ ++ rs))) (dec : decode cc pc = .ok (.getfield 35, 3)) (kk : W p l e R s m args below meth c H locs cells slots Q (F0 m (pc + 3) ls (.int (gI ρ 101) :: st))) : W p l e R s m args below meth c H locs cells slots Q (F0 m pc ls (.ref (ad2 0) :: st)) := va_get (D := D) (ci := 1) C.x C.b C.ts in_X1 C.own C.K h.1 7 rfl rfl 1 (by decide) (C.ts _ q187) (fun _ h9 => h9) rfl dec kk
theorem l2_s1 (v : Int32) : (wLehr ty ad σ ++ (wLehr ty ad2 ρ ++ rs)).set 7 (ad2 0, .inr (1, (fL ad2 ρ).set 1 (.int v))) = (wLehr ty ad σ ++ (wLehr ty ad2 (sI ρ 101 v) ++ rs)) := rfl
theorem l2_p1 (C : Cx p R s m args c cc nL RX1 D ty A d) (h : Hw D A s H locs (wLehr ty ad σ ++ (wLehr ty ad2 ρ ++ rs))) {v : Int32} (dec : decode cc pc = .ok (.putfield 35, 3)) (kk : ∀ (H : Heap) (locs : List Loc), Hw D A s H locs (wLehr ty ad σ ++ (wLehr ty ad2 (sI ρ 101 v) ++ rs)) → W p l e R s m args below meth c H locs cells slots Q (F0 m (pc + 3) ls st)) : W p l e R s m args below meth c H locs cells slots Q (F0 m pc ls (.int v :: .ref (ad2 0) :: st)) := by
  refine va_put (D := D) (ci := 1) (ty := .int) (fs := fL ad2 ρ) C.x C.b C.ts in_X1 tyX1 tyX1_ok nmX1 C.own C.K h.1 h.2.1 h.2.2 7 rfl rfl 1 (by decide) (C.ts _ q187) (fun _ h9 => h9) rfl (by decide +kernel) rfl rfl (Nat.le_of_ble_eq_true rfl) dec (fun H1 locs1 hP hD hS => ?_)
  rw [l2_s1] at hP hD
  exact kk H1 locs1 ⟨hP, hD, hS⟩
theorem l1_g2 (C : Cx p R s m args c cc nL RX1 D ty A d) (h : Hw D A s H locs (wLehr ty ad σ ++ (wLehr ty ad2 ρ ++ rs))) (dec : decode cc pc = .ok (.getfield 38, 3)) (kk : W p l e R s m args below meth c H locs cells slots Q (F0 m (pc + 3) ls (.int (gI σ 102) :: st))) : W p l e R s m args below meth c H locs cells slots Q (F0 m pc ls (.ref (ad 0) :: st)) := va_get (D := D) (ci := 1) C.x C.b C.ts in_X1 C.own C.K h.1 0 rfl rfl 2 (by decide) (C.ts _ q190) (fun _ h9 => h9) rfl dec kk
theorem l2_g2 (C : Cx p R s m args c cc nL RX1 D ty A d) (h : Hw D A s H locs (wLehr ty ad σ ++ (wLehr ty ad2 ρ ++ rs))) (dec : decode cc pc = .ok (.getfield 38, 3)) (kk : W p l e R s m args below meth c H locs cells slots Q (F0 m (pc + 3) ls (.int (gI ρ 102) :: st))) : W p l e R s m args below meth c H locs cells slots Q (F0 m pc ls (.ref (ad2 0) :: st)) := va_get (D := D) (ci := 1) C.x C.b C.ts in_X1 C.own C.K h.1 7 rfl rfl 2 (by decide) (C.ts _ q190) (fun _ h9 => h9) rfl dec kk
theorem l2_s2 (v : Int32) : (wLehr ty ad σ ++ (wLehr ty ad2 ρ ++ rs)).set 7 (ad2 0, .inr (1, (fL ad2 ρ).set 2 (.int v))) = (wLehr ty ad σ ++ (wLehr ty ad2 (sI ρ 102 v) ++ rs)) := rfl
theorem l2_p2 (C : Cx p R s m args c cc nL RX1 D ty A d) (h : Hw D A s H locs (wLehr ty ad σ ++ (wLehr ty ad2 ρ ++ rs))) {v : Int32} (dec : decode cc pc = .ok (.putfield 38, 3)) (kk : ∀ (H : Heap) (locs : List Loc), Hw D A s H locs (wLehr ty ad σ ++ (wLehr ty ad2 (sI ρ 102 v) ++ rs)) → W p l e R s m args below meth c H locs cells slots Q (F0 m (pc + 3) ls st)) : W p l e R s m args below meth c H locs cells slots Q (F0 m pc ls (.int v :: .ref (ad2 0) :: st)) := by
  refine va_put (D := D) (ci := 1) (ty := .int) (fs := fL ad2 ρ) C.x C.b C.ts in_X1 tyX1 tyX1_ok nmX1 C.own C.K h.1 h.2.1 h.2.2 7 rfl rfl 2 (by decide) (C.ts _ q190) (fun _ h9 => h9) rfl (by decide +kernel) rfl rfl (Nat.le_of_ble_eq_true rfl) dec (fun H1 locs1 hP hD hS => ?_)
  rw [l2_s2] at hP hD
  exact kk H1 locs1 ⟨hP, hD, hS⟩
theorem l1_g3 (C : Cx p R s m args c cc nL RX1 D ty A d) (h : Hw D A s H locs (wLehr ty ad σ ++ (wLehr ty ad2 ρ ++ rs))) (dec : decode cc pc = .ok (.getfield 41, 3)) (kk : W p l e R s m args below meth c H locs cells slots Q (F0 m (pc + 3) ls (.int (gI σ 103) :: st))) : W p l e R s m args below meth c H locs cells slots Q (F0 m pc ls (.ref (ad 0) :: st)) := va_get (D := D) (ci := 1) C.x C.b C.ts in_X1 C.own C.K h.1 0 rfl rfl 3 (by decide) (C.ts _ q193) (fun _ h9 => h9) rfl dec kk
theorem l2_g3 (C : Cx p R s m args c cc nL RX1 D ty A d) (h : Hw D A s H locs (wLehr ty ad σ ++ (wLehr ty ad2 ρ ++ rs))) (dec : decode cc pc = .ok (.getfield 41, 3)) (kk : W p l e R s m args below meth c H locs cells slots Q (F0 m (pc + 3) ls (.int (gI ρ 103) :: st))) : W p l e R s m args below meth c H locs cells slots Q (F0 m pc ls (.ref (ad2 0) :: st)) := va_get (D := D) (ci := 1) C.x C.b C.ts in_X1 C.own C.K h.1 7 rfl rfl 3 (by decide) (C.ts _ q193) (fun _ h9 => h9) rfl dec kk
theorem l2_s3 (v : Int32) : (wLehr ty ad σ ++ (wLehr ty ad2 ρ ++ rs)).set 7 (ad2 0, .inr (1, (fL ad2 ρ).set 3 (.int v))) = (wLehr ty ad σ ++ (wLehr ty ad2 (sI ρ 103 v) ++ rs)) := rfl
theorem l2_p3 (C : Cx p R s m args c cc nL RX1 D ty A d) (h : Hw D A s H locs (wLehr ty ad σ ++ (wLehr ty ad2 ρ ++ rs))) {v : Int32} (dec : decode cc pc = .ok (.putfield 41, 3)) (kk : ∀ (H : Heap) (locs : List Loc), Hw D A s H locs (wLehr ty ad σ ++ (wLehr ty ad2 (sI ρ 103 v) ++ rs)) → W p l e R s m args below meth c H locs cells slots Q (F0 m (pc + 3) ls st)) : W p l e R s m args below meth c H locs cells slots Q (F0 m pc ls (.int v :: .ref (ad2 0) :: st)) := by
  refine va_put (D := D) (ci := 1) (ty := .int) (fs := fL ad2 ρ) C.x C.b C.ts in_X1 tyX1 tyX1_ok nmX1 C.own C.K h.1 h.2.1 h.2.2 7 rfl rfl 3 (by decide) (C.ts _ q193) (fun _ h9 => h9) rfl (by decide +kernel) rfl rfl (Nat.le_of_ble_eq_true rfl) dec (fun H1 locs1 hP hD hS => ?_)
  rw [l2_s3] at hP hD
  exact kk H1 locs1 ⟨hP, hD, hS⟩
theorem l1_g4 (C : Cx p R s m args c cc nL RX1 D ty A d) (h : Hw D A s H locs (wLehr ty ad σ ++ (wLehr ty ad2 ρ ++ rs))) (dec : decode cc pc = .ok (.getfield 44, 3)) (kk : W p l e R s m args below meth c H locs cells slots Q (F0 m (pc + 3) ls (.int (gI σ 104) :: st))) : W p l e R s m args below meth c H locs cells slots Q (F0 m pc ls (.ref (ad 0) :: st)) := va_get (D := D) (ci := 1) C.x C.b C.ts in_X1 C.own C.K h.1 0 rfl rfl 4 (by decide) (C.ts _ q196) (fun _ h9 => h9) rfl dec kk
theorem l2_g4 (C : Cx p R s m args c cc nL RX1 D ty A d) (h : Hw D A s H locs (wLehr ty ad σ ++ (wLehr ty ad2 ρ ++ rs))) (dec : decode cc pc = .ok (.getfield 44, 3)) (kk : W p l e R s m args below meth c H locs cells slots Q (F0 m (pc + 3) ls (.int (gI ρ 104) :: st))) : W p l e R s m args below meth c H locs cells slots Q (F0 m pc ls (.ref (ad2 0) :: st)) := va_get (D := D) (ci := 1) C.x C.b C.ts in_X1 C.own C.K h.1 7 rfl rfl 4 (by decide) (C.ts _ q196) (fun _ h9 => h9) rfl dec kk
theorem l2_s4 (v : Int32) : (wLehr ty ad σ ++ (wLehr ty ad2 ρ ++ rs)).set 7 (ad2 0, .inr (1, (fL ad2 ρ).set 4 (.int v))) = (wLehr ty ad σ ++ (wLehr ty ad2 (sI ρ 104 v) ++ rs)) := rfl
theorem l2_p4 (C : Cx p R s m args c cc nL RX1 D ty A d) (h : Hw D A s H locs (wLehr ty ad σ ++ (wLehr ty ad2 ρ ++ rs))) {v : Int32} (dec : decode cc pc = .ok (.putfield 44, 3)) (kk : ∀ (H : Heap) (locs : List Loc), Hw D A s H locs (wLehr ty ad σ ++ (wLehr ty ad2 (sI ρ 104 v) ++ rs)) → W p l e R s m args below meth c H locs cells slots Q (F0 m (pc + 3) ls st)) : W p l e R s m args below meth c H locs cells slots Q (F0 m pc ls (.int v :: .ref (ad2 0) :: st)) := by
  refine va_put (D := D) (ci := 1) (ty := .int) (fs := fL ad2 ρ) C.x C.b C.ts in_X1 tyX1 tyX1_ok nmX1 C.own C.K h.1 h.2.1 h.2.2 7 rfl rfl 4 (by decide) (C.ts _ q196) (fun _ h9 => h9) rfl (by decide +kernel) rfl rfl (Nat.le_of_ble_eq_true rfl) dec (fun H1 locs1 hP hD hS => ?_)
  rw [l2_s4] at hP hD
  exact kk H1 locs1 ⟨hP, hD, hS⟩
theorem l1_g5 (C : Cx p R s m args c cc nL RX1 D ty A d) (h : Hw D A s H locs (wLehr ty ad σ ++ (wLehr ty ad2 ρ ++ rs))) (dec : decode cc pc = .ok (.getfield 47, 3)) (kk : W p l e R s m args below meth c H locs cells slots Q (F0 m (pc + 3) ls (.int (gI σ 105) :: st))) : W p l e R s m args below meth c H locs cells slots Q (F0 m pc ls (.ref (ad 0) :: st)) := va_get (D := D) (ci := 1) C.x C.b C.ts in_X1 C.own C.K h.1 0 rfl rfl 5 (by decide) (C.ts _ q199) (fun _ h9 => h9) rfl dec kk
theorem l2_g5 (C : Cx p R s m args c cc nL RX1 D ty A d) (h : Hw D A s H locs (wLehr ty ad σ ++ (wLehr ty ad2 ρ ++ rs))) (dec : decode cc pc = .ok (.getfield 47, 3)) (kk : W p l e R s m args below meth c H locs cells slots Q (F0 m (pc + 3) ls (.int (gI ρ 105) :: st))) : W p l e R s m args below meth c H locs cells slots Q (F0 m pc ls (.ref (ad2 0) :: st)) := va_get (D := D) (ci := 1) C.x C.b C.ts in_X1 C.own C.K h.1 7 rfl rfl 5 (by decide) (C.ts _ q199) (fun _ h9 => h9) rfl dec kk
theorem l2_s5 (v : Int32) : (wLehr ty ad σ ++ (wLehr ty ad2 ρ ++ rs)).set 7 (ad2 0, .inr (1, (fL ad2 ρ).set 5 (.int v))) = (wLehr ty ad σ ++ (wLehr ty ad2 (sI ρ 105 v) ++ rs)) := rfl
theorem l2_p5 (C : Cx p R s m args c cc nL RX1 D ty A d) (h : Hw D A s H locs (wLehr ty ad σ ++ (wLehr ty ad2 ρ ++ rs))) {v : Int32} (dec : decode cc pc = .ok (.putfield 47, 3)) (kk : ∀ (H : Heap) (locs : List Loc), Hw D A s H locs (wLehr ty ad σ ++ (wLehr ty ad2 (sI ρ 105 v) ++ rs)) → W p l e R s m args below meth c H locs cells slots Q (F0 m (pc + 3) ls st)) : W p l e R s m args below meth c H locs cells slots Q (F0 m pc ls (.int v :: .ref (ad2 0) :: st)) := by
  refine va_put (D := D) (ci := 1) (ty := .int) (fs := fL ad2 ρ) C.x C.b C.ts in_X1 tyX1 tyX1_ok nmX1 C.own C.K h.1 h.2.1 h.2.2 7 rfl rfl 5 (by decide) (C.ts _ q199) (fun _ h9 => h9) rfl (by decide +kernel) rfl rfl (Nat.le_of_ble_eq_true rfl) dec (fun H1 locs1 hP hD hS => ?_)
  rw [l2_s5] at hP hD
  exact kk H1 locs1 ⟨hP, hD, hS⟩
theorem l1_g6 (C : Cx p R s m args c cc nL RX1 D ty A d) (h : Hw D A s H locs (wLehr ty ad σ ++ (wLehr ty ad2 ρ ++ rs))) (dec : decode cc pc = .ok (.getfield 50, 3)) (kk : W p l e R s m args below meth c H locs cells slots Q (F0 m (pc + 3) ls (.int (gI σ 106) :: st))) : W p l e R s m args below meth c H locs cells slots Q (F0 m pc ls (.ref (ad 0) :: st)) := va_get (D := D) (ci := 1) C.x C.b C.ts in_X1 C.own C.K h.1 0 rfl rfl 6 (by decide) (C.ts _ q202) (fun _ h9 => h9) rfl dec kk
theorem l2_g6 (C : Cx p R s m args c cc nL RX1 D ty A d) (h : Hw D A s H locs (wLehr ty ad σ ++ (wLehr ty ad2 ρ ++ rs))) (dec : decode cc pc = .ok (.getfield 50, 3)) (kk : W p l e R s m args below meth c H locs cells slots Q (F0 m (pc + 3) ls (.int (gI ρ 106) :: st))) : W p l e R s m args below meth c H locs cells slots Q (F0 m pc ls (.ref (ad2 0) :: st)) := va_get (D := D) (ci := 1) C.x C.b C.ts in_X1 C.own C.K h.1 7 rfl rfl 6 (by decide) (C.ts _ q202) (fun _ h9 => h9) rfl dec kk
theorem l2_s6 (v : Int32) : (wLehr ty ad σ ++ (wLehr ty ad2 ρ ++ rs)).set 7 (ad2 0, .inr (1, (fL ad2 ρ).set 6 (.int v))) = (wLehr ty ad σ ++ (wLehr ty ad2 (sI ρ 106 v) ++ rs)) := rfl
theorem l2_p6 (C : Cx p R s m args c cc nL RX1 D ty A d) (h : Hw D A s H locs (wLehr ty ad σ ++ (wLehr ty ad2 ρ ++ rs))) {v : Int32} (dec : decode cc pc = .ok (.putfield 50, 3)) (kk : ∀ (H : Heap) (locs : List Loc), Hw D A s H locs (wLehr ty ad σ ++ (wLehr ty ad2 (sI ρ 106 v) ++ rs)) → W p l e R s m args below meth c H locs cells slots Q (F0 m (pc + 3) ls st)) : W p l e R s m args below meth c H locs cells slots Q (F0 m pc ls (.int v :: .ref (ad2 0) :: st)) := by
  refine va_put (D := D) (ci := 1) (ty := .int) (fs := fL ad2 ρ) C.x C.b C.ts in_X1 tyX1 tyX1_ok nmX1 C.own C.K h.1 h.2.1 h.2.2 7 rfl rfl 6 (by decide) (C.ts _ q202) (fun _ h9 => h9) rfl (by decide +kernel) rfl rfl (Nat.le_of_ble_eq_true rfl) dec (fun H1 locs1 hP hD hS => ?_)
  rw [l2_s6] at hP hD
  exact kk H1 locs1 ⟨hP, hD, hS⟩
theorem l1_g7 (C : Cx p R s m args c cc nL RX1 D ty A d) (h : Hw D A s H locs (wLehr ty ad σ ++ (wLehr ty ad2 ρ ++ rs))) (dec : decode cc pc = .ok (.getfield 53, 3)) (kk : W p l e R s m args below meth c H locs cells slots Q (F0 m (pc + 3) ls (.int (gI σ 107) :: st))) : W p l e R s m args below meth c H locs cells slots Q (F0 m pc ls (.ref (ad 0) :: st)) := va_get (D := D) (ci := 1) C.x C.b C.ts in_X1 C.own C.K h.1 0 rfl rfl 7 (by decide) (C.ts _ q206) (fun _ h9 => h9) rfl dec kk
theorem l2_g7 (C : Cx p R s m args c cc nL RX1 D ty A d) (h : Hw D A s H locs (wLehr ty ad σ ++ (wLehr ty ad2 ρ ++ rs))) (dec : decode cc pc = .ok (.getfield 53, 3)) (kk : W p l e R s m args below meth c H locs cells slots Q (F0 m (pc + 3) ls (.int (gI ρ 107) :: st))) : W p l e R s m args below meth c H locs cells slots Q (F0 m pc ls (.ref (ad2 0) :: st)) := va_get (D := D) (ci := 1) C.x C.b C.ts in_X1 C.own C.K h.1 7 rfl rfl 7 (by decide) (C.ts _ q206) (fun _ h9 => h9) rfl dec kk
theorem l2_s7 (v : Int32) : (wLehr ty ad σ ++ (wLehr ty ad2 ρ ++ rs)).set 7 (ad2 0, .inr (1, (fL ad2 ρ).set 7 (.int v))) = (wLehr ty ad σ ++ (wLehr ty ad2 (sI ρ 107 v) ++ rs)) := rfl
theorem l2_p7 (C : Cx p R s m args c cc nL RX1 D ty A d) (h : Hw D A s H locs (wLehr ty ad σ ++ (wLehr ty ad2 ρ ++ rs))) {v : Int32} (dec : decode cc pc = .ok (.putfield 53, 3)) (kk : ∀ (H : Heap) (locs : List Loc), Hw D A s H locs (wLehr ty ad σ ++ (wLehr ty ad2 (sI ρ 107 v) ++ rs)) → W p l e R s m args below meth c H locs cells slots Q (F0 m (pc + 3) ls st)) : W p l e R s m args below meth c H locs cells slots Q (F0 m pc ls (.int v :: .ref (ad2 0) :: st)) := by
  refine va_put (D := D) (ci := 1) (ty := .int) (fs := fL ad2 ρ) C.x C.b C.ts in_X1 tyX1 tyX1_ok nmX1 C.own C.K h.1 h.2.1 h.2.2 7 rfl rfl 7 (by decide) (C.ts _ q206) (fun _ h9 => h9) rfl (by decide +kernel) rfl rfl (Nat.le_of_ble_eq_true rfl) dec (fun H1 locs1 hP hD hS => ?_)
  rw [l2_s7] at hP hD
  exact kk H1 locs1 ⟨hP, hD, hS⟩
theorem l1_g8 (C : Cx p R s m args c cc nL RX1 D ty A d) (h : Hw D A s H locs (wLehr ty ad σ ++ (wLehr ty ad2 ρ ++ rs))) (dec : decode cc pc = .ok (.getfield 56, 3)) (kk : W p l e R s m args below meth c H locs cells slots Q (F0 m (pc + 3) ls (.int (gI σ 108) :: st))) : W p l e R s m args below meth c H locs cells slots Q (F0 m pc ls (.ref (ad 0) :: st)) := va_get (D := D) (ci := 1) C.x C.b C.ts in_X1 C.own C.K h.1 0 rfl rfl 8 (by decide) (C.ts _ q209) (fun _ h9 => h9) rfl dec kk
theorem l2_g8 (C : Cx p R s m args c cc nL RX1 D ty A d) (h : Hw D A s H locs (wLehr ty ad σ ++ (wLehr ty ad2 ρ ++ rs))) (dec : decode cc pc = .ok (.getfield 56, 3)) (kk : W p l e R s m args below meth c H locs cells slots Q (F0 m (pc + 3) ls (.int (gI ρ 108) :: st))) : W p l e R s m args below meth c H locs cells slots Q (F0 m pc ls (.ref (ad2 0) :: st)) := va_get (D := D) (ci := 1) C.x C.b C.ts in_X1 C.own C.K h.1 7 rfl rfl 8 (by decide) (C.ts _ q209) (fun _ h9 => h9) rfl dec kk
theorem l2_s8 (v : Int32) : (wLehr ty ad σ ++ (wLehr ty ad2 ρ ++ rs)).set 7 (ad2 0, .inr (1, (fL ad2 ρ).set 8 (.int v))) = (wLehr ty ad σ ++ (wLehr ty ad2 (sI ρ 108 v) ++ rs)) := rfl
theorem l2_p8 (C : Cx p R s m args c cc nL RX1 D ty A d) (h : Hw D A s H locs (wLehr ty ad σ ++ (wLehr ty ad2 ρ ++ rs))) {v : Int32} (dec : decode cc pc = .ok (.putfield 56, 3)) (kk : ∀ (H : Heap) (locs : List Loc), Hw D A s H locs (wLehr ty ad σ ++ (wLehr ty ad2 (sI ρ 108 v) ++ rs)) → W p l e R s m args below meth c H locs cells slots Q (F0 m (pc + 3) ls st)) : W p l e R s m args below meth c H locs cells slots Q (F0 m pc ls (.int v :: .ref (ad2 0) :: st)) := by
  refine va_put (D := D) (ci := 1) (ty := .int) (fs := fL ad2 ρ) C.x C.b C.ts in_X1 tyX1 tyX1_ok nmX1 C.own C.K h.1 h.2.1 h.2.2 7 rfl rfl 8 (by decide) (C.ts _ q209) (fun _ h9 => h9) rfl (by decide +kernel) rfl rfl (Nat.le_of_ble_eq_true rfl) dec (fun H1 locs1 hP hD hS => ?_)
  rw [l2_s8] at hP hD
  exact kk H1 locs1 ⟨hP, hD, hS⟩
theorem l1_g9 (C : Cx p R s m args c cc nL RX1 D ty A d) (h : Hw D A s H locs (wLehr ty ad σ ++ (wLehr ty ad2 ρ ++ rs))) (dec : decode cc pc = .ok (.getfield 9, 3)) (kk : W p l e R s m args below meth c H locs cells slots Q (F0 m (pc + 3) ls (.ref (ad 109) :: st))) : W p l e R s m args below meth c H locs cells slots Q (F0 m pc ls (.ref (ad 0) :: st)) := va_get (D := D) (ci := 1) C.x C.b C.ts in_X1 C.own C.K h.1 0 rfl rfl 9 (by decide) (C.ts _ q211) (fun _ h9 => h9) rfl dec kk
theorem l2_g9 (C : Cx p R s m args c cc nL RX1 D ty A d) (h : Hw D A s H locs (wLehr ty ad σ ++ (wLehr ty ad2 ρ ++ rs))) (dec : decode cc pc = .ok (.getfield 9, 3)) (kk : W p l e R s m args below meth c H locs cells slots Q (F0 m (pc + 3) ls (.ref (ad2 109) :: st))) : W p l e R s m args below meth c H locs cells slots Q (F0 m pc ls (.ref (ad2 0) :: st)) := va_get (D := D) (ci := 1) C.x C.b C.ts in_X1 C.own C.K h.1 7 rfl rfl 9 (by decide) (C.ts _ q211) (fun _ h9 => h9) rfl dec kk
theorem l2_s9 (g : Nat → Int32) : (wLehr ty ad σ ++ (wLehr ty ad2 ρ ++ rs)).set 8 (ad2 109, .inl (ty 0, 7, .inl g)) = (wLehr ty ad σ ++ (wLehr ty ad2 (sA ρ 109 g) ++ rs)) := rfl
theorem l2_c9 (C : Cx p R s m args c cc nL RX1 D ty A d) (h : Hw D A s H locs (wLehr ty ad σ ++ (wLehr ty ad2 ρ ++ rs))) (hls : ls.size = nL) (hd : 1 ≤ d) (hcat : (st.map fun v => v.category).sum ≤ 8) (dec : decode cc pc = .ok (.invokestatic 59, 3)) (kk : ∀ (H : Heap) (locs : List Loc), Hw D A s H locs (wLehr ty ad σ ++ (wLehr ty ad2 (sA ρ 109 (va_cpy (gA σ 109) (gA ρ 109) 0 0 7)) ++ rs)) → W p l e R s m args below meth c H locs cells slots Q (F0 m (pc + 3) ls st)) : W p l e R s m args below meth c H locs cells slots Q (F0 m pc ls (.int 7 :: .int 0 :: .ref (ad2 109) :: .int 0 :: .ref (ad 109) :: st)) := by
  have r1 := C.2.2.2.1
  have r2 := C.2.2.2.2
  refine va_copyi C.x C.b (C.1.2.2.1.trans hls.symm) C.own (C.ts _ q1424) (C.ts _ q747) (C.ts _ q746) (C.ts _ q159) C.K h.1 h.2.1 h.2.2 1 8 0 0 rfl rfl rfl rfl rfl (by decide) (by decide) (by decide) (by decide) (by decide) (fun _ _ => rfl) (by omega) (by rw [show nativeFrameWords "java/lang/System" "arraycopy" 5 = 7 by decide]; omega) dec (fun H1 locs1 hP hD hS => ?_)
  rw [l2_s9] at hP hD
  exact kk H1 locs1 ⟨hP, hD, hS⟩
theorem l1_g10 (C : Cx p R s m args c cc nL RX1 D ty A d) (h : Hw D A s H locs (wLehr ty ad σ ++ (wLehr ty ad2 ρ ++ rs))) (dec : decode cc pc = .ok (.getfield 15, 3)) (kk : W p l e R s m args below meth c H locs cells slots Q (F0 m (pc + 3) ls (.ref (ad 110) :: st))) : W p l e R s m args below meth c H locs cells slots Q (F0 m pc ls (.ref (ad 0) :: st)) := va_get (D := D) (ci := 1) C.x C.b C.ts in_X1 C.own C.K h.1 0 rfl rfl 10 (by decide) (C.ts _ q214) (fun _ h9 => h9) rfl dec kk
theorem l2_g10 (C : Cx p R s m args c cc nL RX1 D ty A d) (h : Hw D A s H locs (wLehr ty ad σ ++ (wLehr ty ad2 ρ ++ rs))) (dec : decode cc pc = .ok (.getfield 15, 3)) (kk : W p l e R s m args below meth c H locs cells slots Q (F0 m (pc + 3) ls (.ref (ad2 110) :: st))) : W p l e R s m args below meth c H locs cells slots Q (F0 m pc ls (.ref (ad2 0) :: st)) := va_get (D := D) (ci := 1) C.x C.b C.ts in_X1 C.own C.K h.1 7 rfl rfl 10 (by decide) (C.ts _ q214) (fun _ h9 => h9) rfl dec kk
theorem l2_s10 (g : Nat → Int32) : (wLehr ty ad σ ++ (wLehr ty ad2 ρ ++ rs)).set 9 (ad2 110, .inl (ty 0, 6, .inl g)) = (wLehr ty ad σ ++ (wLehr ty ad2 (sA ρ 110 g) ++ rs)) := rfl
theorem l2_c10 (C : Cx p R s m args c cc nL RX1 D ty A d) (h : Hw D A s H locs (wLehr ty ad σ ++ (wLehr ty ad2 ρ ++ rs))) (hls : ls.size = nL) (hd : 1 ≤ d) (hcat : (st.map fun v => v.category).sum ≤ 8) (dec : decode cc pc = .ok (.invokestatic 59, 3)) (kk : ∀ (H : Heap) (locs : List Loc), Hw D A s H locs (wLehr ty ad σ ++ (wLehr ty ad2 (sA ρ 110 (va_cpy (gA σ 110) (gA ρ 110) 0 0 6)) ++ rs)) → W p l e R s m args below meth c H locs cells slots Q (F0 m (pc + 3) ls st)) : W p l e R s m args below meth c H locs cells slots Q (F0 m pc ls (.int 6 :: .int 0 :: .ref (ad2 110) :: .int 0 :: .ref (ad 110) :: st)) := by
  have r1 := C.2.2.2.1
  have r2 := C.2.2.2.2
  refine va_copyi C.x C.b (C.1.2.2.1.trans hls.symm) C.own (C.ts _ q1424) (C.ts _ q747) (C.ts _ q746) (C.ts _ q159) C.K h.1 h.2.1 h.2.2 2 9 0 0 rfl rfl rfl rfl rfl (by decide) (by decide) (by decide) (by decide) (by decide) (fun _ _ => rfl) (by omega) (by rw [show nativeFrameWords "java/lang/System" "arraycopy" 5 = 7 by decide]; omega) dec (fun H1 locs1 hP hD hS => ?_)
  rw [l2_s10] at hP hD
  exact kk H1 locs1 ⟨hP, hD, hS⟩
theorem l1_g11 (C : Cx p R s m args c cc nL RX1 D ty A d) (h : Hw D A s H locs (wLehr ty ad σ ++ (wLehr ty ad2 ρ ++ rs))) (dec : decode cc pc = .ok (.getfield 18, 3)) (kk : W p l e R s m args below meth c H locs cells slots Q (F0 m (pc + 3) ls (.ref (ad 111) :: st))) : W p l e R s m args below meth c H locs cells slots Q (F0 m pc ls (.ref (ad 0) :: st)) := va_get (D := D) (ci := 1) C.x C.b C.ts in_X1 C.own C.K h.1 0 rfl rfl 11 (by decide) (C.ts _ q217) (fun _ h9 => h9) rfl dec kk
theorem l2_g11 (C : Cx p R s m args c cc nL RX1 D ty A d) (h : Hw D A s H locs (wLehr ty ad σ ++ (wLehr ty ad2 ρ ++ rs))) (dec : decode cc pc = .ok (.getfield 18, 3)) (kk : W p l e R s m args below meth c H locs cells slots Q (F0 m (pc + 3) ls (.ref (ad2 111) :: st))) : W p l e R s m args below meth c H locs cells slots Q (F0 m pc ls (.ref (ad2 0) :: st)) := va_get (D := D) (ci := 1) C.x C.b C.ts in_X1 C.own C.K h.1 7 rfl rfl 11 (by decide) (C.ts _ q217) (fun _ h9 => h9) rfl dec kk
theorem l2_s11 (g : Nat → Int32) : (wLehr ty ad σ ++ (wLehr ty ad2 ρ ++ rs)).set 10 (ad2 111, .inl (ty 0, 6, .inl g)) = (wLehr ty ad σ ++ (wLehr ty ad2 (sA ρ 111 g) ++ rs)) := rfl
theorem l2_c11 (C : Cx p R s m args c cc nL RX1 D ty A d) (h : Hw D A s H locs (wLehr ty ad σ ++ (wLehr ty ad2 ρ ++ rs))) (hls : ls.size = nL) (hd : 1 ≤ d) (hcat : (st.map fun v => v.category).sum ≤ 8) (dec : decode cc pc = .ok (.invokestatic 59, 3)) (kk : ∀ (H : Heap) (locs : List Loc), Hw D A s H locs (wLehr ty ad σ ++ (wLehr ty ad2 (sA ρ 111 (va_cpy (gA σ 111) (gA ρ 111) 0 0 6)) ++ rs)) → W p l e R s m args below meth c H locs cells slots Q (F0 m (pc + 3) ls st)) : W p l e R s m args below meth c H locs cells slots Q (F0 m pc ls (.int 6 :: .int 0 :: .ref (ad2 111) :: .int 0 :: .ref (ad 111) :: st)) := by
  have r1 := C.2.2.2.1
  have r2 := C.2.2.2.2
  refine va_copyi C.x C.b (C.1.2.2.1.trans hls.symm) C.own (C.ts _ q1424) (C.ts _ q747) (C.ts _ q746) (C.ts _ q159) C.K h.1 h.2.1 h.2.2 3 10 0 0 rfl rfl rfl rfl rfl (by decide) (by decide) (by decide) (by decide) (by decide) (fun _ _ => rfl) (by omega) (by rw [show nativeFrameWords "java/lang/System" "arraycopy" 5 = 7 by decide]; omega) dec (fun H1 locs1 hP hD hS => ?_)
  rw [l2_s11] at hP hD
  exact kk H1 locs1 ⟨hP, hD, hS⟩
theorem l1_g12 (C : Cx p R s m args c cc nL RX1 D ty A d) (h : Hw D A s H locs (wLehr ty ad σ ++ (wLehr ty ad2 ρ ++ rs))) (dec : decode cc pc = .ok (.getfield 21, 3)) (kk : W p l e R s m args below meth c H locs cells slots Q (F0 m (pc + 3) ls (.ref (ad 112) :: st))) : W p l e R s m args below meth c H locs cells slots Q (F0 m pc ls (.ref (ad 0) :: st)) := va_get (D := D) (ci := 1) C.x C.b C.ts in_X1 C.own C.K h.1 0 rfl rfl 12 (by decide) (C.ts _ q220) (fun _ h9 => h9) rfl dec kk
theorem l2_g12 (C : Cx p R s m args c cc nL RX1 D ty A d) (h : Hw D A s H locs (wLehr ty ad σ ++ (wLehr ty ad2 ρ ++ rs))) (dec : decode cc pc = .ok (.getfield 21, 3)) (kk : W p l e R s m args below meth c H locs cells slots Q (F0 m (pc + 3) ls (.ref (ad2 112) :: st))) : W p l e R s m args below meth c H locs cells slots Q (F0 m pc ls (.ref (ad2 0) :: st)) := va_get (D := D) (ci := 1) C.x C.b C.ts in_X1 C.own C.K h.1 7 rfl rfl 12 (by decide) (C.ts _ q220) (fun _ h9 => h9) rfl dec kk
theorem l2_s12 (g : Nat → Int32) : (wLehr ty ad σ ++ (wLehr ty ad2 ρ ++ rs)).set 11 (ad2 112, .inl (ty 0, 6, .inl g)) = (wLehr ty ad σ ++ (wLehr ty ad2 (sA ρ 112 g) ++ rs)) := rfl
theorem l2_c12 (C : Cx p R s m args c cc nL RX1 D ty A d) (h : Hw D A s H locs (wLehr ty ad σ ++ (wLehr ty ad2 ρ ++ rs))) (hls : ls.size = nL) (hd : 1 ≤ d) (hcat : (st.map fun v => v.category).sum ≤ 8) (dec : decode cc pc = .ok (.invokestatic 59, 3)) (kk : ∀ (H : Heap) (locs : List Loc), Hw D A s H locs (wLehr ty ad σ ++ (wLehr ty ad2 (sA ρ 112 (va_cpy (gA σ 112) (gA ρ 112) 0 0 6)) ++ rs)) → W p l e R s m args below meth c H locs cells slots Q (F0 m (pc + 3) ls st)) : W p l e R s m args below meth c H locs cells slots Q (F0 m pc ls (.int 6 :: .int 0 :: .ref (ad2 112) :: .int 0 :: .ref (ad 112) :: st)) := by
  have r1 := C.2.2.2.1
  have r2 := C.2.2.2.2
  refine va_copyi C.x C.b (C.1.2.2.1.trans hls.symm) C.own (C.ts _ q1424) (C.ts _ q747) (C.ts _ q746) (C.ts _ q159) C.K h.1 h.2.1 h.2.2 4 11 0 0 rfl rfl rfl rfl rfl (by decide) (by decide) (by decide) (by decide) (by decide) (fun _ _ => rfl) (by omega) (by rw [show nativeFrameWords "java/lang/System" "arraycopy" 5 = 7 by decide]; omega) dec (fun H1 locs1 hP hD hS => ?_)
  rw [l2_s12] at hP hD
  exact kk H1 locs1 ⟨hP, hD, hS⟩
theorem l1_g13 (C : Cx p R s m args c cc nL RX1 D ty A d) (h : Hw D A s H locs (wLehr ty ad σ ++ (wLehr ty ad2 ρ ++ rs))) (dec : decode cc pc = .ok (.getfield 24, 3)) (kk : W p l e R s m args below meth c H locs cells slots Q (F0 m (pc + 3) ls (.ref (ad 113) :: st))) : W p l e R s m args below meth c H locs cells slots Q (F0 m pc ls (.ref (ad 0) :: st)) := va_get (D := D) (ci := 1) C.x C.b C.ts in_X1 C.own C.K h.1 0 rfl rfl 13 (by decide) (C.ts _ q223) (fun _ h9 => h9) rfl dec kk
theorem l2_g13 (C : Cx p R s m args c cc nL RX1 D ty A d) (h : Hw D A s H locs (wLehr ty ad σ ++ (wLehr ty ad2 ρ ++ rs))) (dec : decode cc pc = .ok (.getfield 24, 3)) (kk : W p l e R s m args below meth c H locs cells slots Q (F0 m (pc + 3) ls (.ref (ad2 113) :: st))) : W p l e R s m args below meth c H locs cells slots Q (F0 m pc ls (.ref (ad2 0) :: st)) := va_get (D := D) (ci := 1) C.x C.b C.ts in_X1 C.own C.K h.1 7 rfl rfl 13 (by decide) (C.ts _ q223) (fun _ h9 => h9) rfl dec kk
theorem l2_s13 (g : Nat → Int32) : (wLehr ty ad σ ++ (wLehr ty ad2 ρ ++ rs)).set 12 (ad2 113, .inl (ty 0, 6, .inl g)) = (wLehr ty ad σ ++ (wLehr ty ad2 (sA ρ 113 g) ++ rs)) := rfl
theorem l2_c13 (C : Cx p R s m args c cc nL RX1 D ty A d) (h : Hw D A s H locs (wLehr ty ad σ ++ (wLehr ty ad2 ρ ++ rs))) (hls : ls.size = nL) (hd : 1 ≤ d) (hcat : (st.map fun v => v.category).sum ≤ 8) (dec : decode cc pc = .ok (.invokestatic 59, 3)) (kk : ∀ (H : Heap) (locs : List Loc), Hw D A s H locs (wLehr ty ad σ ++ (wLehr ty ad2 (sA ρ 113 (va_cpy (gA σ 113) (gA ρ 113) 0 0 6)) ++ rs)) → W p l e R s m args below meth c H locs cells slots Q (F0 m (pc + 3) ls st)) : W p l e R s m args below meth c H locs cells slots Q (F0 m pc ls (.int 6 :: .int 0 :: .ref (ad2 113) :: .int 0 :: .ref (ad 113) :: st)) := by
  have r1 := C.2.2.2.1
  have r2 := C.2.2.2.2
  refine va_copyi C.x C.b (C.1.2.2.1.trans hls.symm) C.own (C.ts _ q1424) (C.ts _ q747) (C.ts _ q746) (C.ts _ q159) C.K h.1 h.2.1 h.2.2 5 12 0 0 rfl rfl rfl rfl rfl (by decide) (by decide) (by decide) (by decide) (by decide) (fun _ _ => rfl) (by omega) (by rw [show nativeFrameWords "java/lang/System" "arraycopy" 5 = 7 by decide]; omega) dec (fun H1 locs1 hP hD hS => ?_)
  rw [l2_s13] at hP hD
  exact kk H1 locs1 ⟨hP, hD, hS⟩
theorem l1_g14 (C : Cx p R s m args c cc nL RX1 D ty A d) (h : Hw D A s H locs (wLehr ty ad σ ++ (wLehr ty ad2 ρ ++ rs))) (dec : decode cc pc = .ok (.getfield 27, 3)) (kk : W p l e R s m args below meth c H locs cells slots Q (F0 m (pc + 3) ls (.ref (ad 114) :: st))) : W p l e R s m args below meth c H locs cells slots Q (F0 m pc ls (.ref (ad 0) :: st)) := va_get (D := D) (ci := 1) C.x C.b C.ts in_X1 C.own C.K h.1 0 rfl rfl 14 (by decide) (C.ts _ q226) (fun _ h9 => h9) rfl dec kk
theorem l2_g14 (C : Cx p R s m args c cc nL RX1 D ty A d) (h : Hw D A s H locs (wLehr ty ad σ ++ (wLehr ty ad2 ρ ++ rs))) (dec : decode cc pc = .ok (.getfield 27, 3)) (kk : W p l e R s m args below meth c H locs cells slots Q (F0 m (pc + 3) ls (.ref (ad2 114) :: st))) : W p l e R s m args below meth c H locs cells slots Q (F0 m pc ls (.ref (ad2 0) :: st)) := va_get (D := D) (ci := 1) C.x C.b C.ts in_X1 C.own C.K h.1 7 rfl rfl 14 (by decide) (C.ts _ q226) (fun _ h9 => h9) rfl dec kk
theorem l2_s14 (g : Nat → Int32) : (wLehr ty ad σ ++ (wLehr ty ad2 ρ ++ rs)).set 13 (ad2 114, .inl (ty 0, 30, .inl g)) = (wLehr ty ad σ ++ (wLehr ty ad2 (sA ρ 114 g) ++ rs)) := rfl
theorem l2_c14 (C : Cx p R s m args c cc nL RX1 D ty A d) (h : Hw D A s H locs (wLehr ty ad σ ++ (wLehr ty ad2 ρ ++ rs))) (hls : ls.size = nL) (hd : 1 ≤ d) (hcat : (st.map fun v => v.category).sum ≤ 8) (dec : decode cc pc = .ok (.invokestatic 59, 3)) (kk : ∀ (H : Heap) (locs : List Loc), Hw D A s H locs (wLehr ty ad σ ++ (wLehr ty ad2 (sA ρ 114 (va_cpy (gA σ 114) (gA ρ 114) 0 0 30)) ++ rs)) → W p l e R s m args below meth c H locs cells slots Q (F0 m (pc + 3) ls st)) : W p l e R s m args below meth c H locs cells slots Q (F0 m pc ls (.int 30 :: .int 0 :: .ref (ad2 114) :: .int 0 :: .ref (ad 114) :: st)) := by
  have r1 := C.2.2.2.1
  have r2 := C.2.2.2.2
  refine va_copyi C.x C.b (C.1.2.2.1.trans hls.symm) C.own (C.ts _ q1424) (C.ts _ q747) (C.ts _ q746) (C.ts _ q159) C.K h.1 h.2.1 h.2.2 6 13 0 0 rfl rfl rfl rfl rfl (by decide) (by decide) (by decide) (by decide) (by decide) (fun _ _ => rfl) (by omega) (by rw [show nativeFrameWords "java/lang/System" "arraycopy" 5 = 7 by decide]; omega) dec (fun H1 locs1 hP hD hS => ?_)
  rw [l2_s14] at hP hD
  exact kk H1 locs1 ⟨hP, hD, hS⟩
end LROWS
def cpL0 (σ : PS) : PS := sI (sI (sI (sI (sI (sI (sI (sI (sI (σz) 100 (gI σ 100)) 101 (gI σ 101)) 102 (gI σ 102)) 103 (gI σ 103)) 104 (gI σ 104)) 105 (gI σ 105)) 106 (gI σ 106)) 107 (gI σ 107)) 108 (gI σ 108)
def cpL1 (σ : PS) : PS := sA (cpL0 σ) 109 (va_cpy (gA σ 109) (gA (cpL0 σ) 109) 0 0 7)
def cpL2 (σ : PS) : PS := sA (cpL1 σ) 110 (va_cpy (gA σ 110) (gA (cpL1 σ) 110) 0 0 6)
def cpL3 (σ : PS) : PS := sA (cpL2 σ) 111 (va_cpy (gA σ 111) (gA (cpL2 σ) 111) 0 0 6)
def cpL4 (σ : PS) : PS := sA (cpL3 σ) 112 (va_cpy (gA σ 112) (gA (cpL3 σ) 112) 0 0 6)
def cpL5 (σ : PS) : PS := sA (cpL4 σ) 113 (va_cpy (gA σ 113) (gA (cpL4 σ) 113) 0 0 6)
def cpL6 (σ : PS) : PS := sA (cpL5 σ) 114 (va_cpy (gA σ 114) (gA (cpL5 σ) 114) 0 0 30)
set_option maxHeartbeats 4000000 in
theorem kL_copy (l : Launch) {D : va_G} {ty : Nat → ClassId} {A : Nat → Prop} {ad : Nat → Nat} {rs : va_W} {σ : PS} : KRx l yX1_copy cX1_copy 2 (.object "LehrBelt$Lehr") 2 7 76 D ty A (wLehr ty ad σ ++ rs) [.ref (ad 0)] (fun (_ : Nat → Nat) => True) (fun ad2 ra => wLehr ty ad σ ++ (wLehr ty (va_up ad2 0 ra) (cpL6 σ) ++ rs)) := by
  refine KRx.of (by decide) (Or.inl ⟨_, rfl⟩) (Nat.le_of_ble_eq_true rfl) ?_
  intro p e R s m args below meth c Q C hmc hms hR H locs ls h hl
  have C : Cx p R s m args c cX1_copy 2 RX1 D ty A 2 := C
  have hl : lv_has ls 2 [(0, .ref (ad 0))] := hl
  refine va_new (ci := 1) (fs := [.int 0, .int 0, .int 0, .int 0, .int 0, .int 0, .int 0, .int 0, .int 0, .null, .null, .null, .null, .null, .null]) (C := RX1) (T := TX1) (N := 15) C.x C.b C.ts in_X1 tyX1 tyX1_ok C.own (C.ts _ q1422) (C.ts _ q179) (C.ts _ q138) C.K h.1 h.2.1 h.2.2 C.2.2.1 rfl (by decide +kernel) (by omega) (by omega) dX1_copy_0 (fun q H hP hD hS => ?_)
  have h : Hw D A s H locs ((wLehr ty ad σ ++ rs) ++ [(q, .inr (1, [.int 0, .int 0, .int 0, .int 0, .int 0, .int 0, .int 0, .int 0, .int 0, .null, .null, .null, .null, .null, .null]))]) := ⟨hP, hD, hS⟩
  refine lv_dup C.x C.b dX1_copy_3 rfl ?_
  refine KVx.callI (As := []) C (fun A => kL_init l) q182 q138 q1423 q181 rfl ⟨by decide, by decide, by show _ = some 0; decide +kernel⟩ (Nat.le_of_ble_eq_true rfl) (by decide) (by omega) (by omega) h hl.1 rfl (Nat.le_of_ble_eq_true rfl) dX1_copy_4 (fun ad2 H locs had h => ?_)
  rw [← had]
  have h : Hw D A s H locs (wLehr ty ad σ ++ (wLehr ty ad2 σz ++ rs)) := h.perm (by rw [List.append_assoc]; exact List.Perm.append_left _ List.perm_append_comm)
  refine W.widen (k := 7) (n := 76) (by omega) (by omega) ?_
  refine lv_astore_n (lv' := [(1, .ref (ad2 0)), (0, .ref (ad 0))]) C.x C.b dX1_copy_7 rfl hl (by decide) rfl (fun ls hl => ?_)
  refine lv_aload_n C.x C.b dX1_copy_8 rfl (lv_at hl 0 rfl) ?_
  refine lv_aload_n C.x C.b dX1_copy_9 rfl (lv_at hl 1 rfl) ?_
  refine l1_g0 C h dX1_copy_10 ?_
  refine l2_p0 C h dX1_copy_13 (fun H locs h => ?_)
  refine lv_aload_n C.x C.b dX1_copy_16 rfl (lv_at hl 0 rfl) ?_
  refine lv_aload_n C.x C.b dX1_copy_17 rfl (lv_at hl 1 rfl) ?_
  refine l1_g1 C h dX1_copy_18 ?_
  refine l2_p1 C h dX1_copy_21 (fun H locs h => ?_)
  refine lv_aload_n C.x C.b dX1_copy_24 rfl (lv_at hl 0 rfl) ?_
  refine lv_aload_n C.x C.b dX1_copy_25 rfl (lv_at hl 1 rfl) ?_
  refine l1_g2 C h dX1_copy_26 ?_
  refine l2_p2 C h dX1_copy_29 (fun H locs h => ?_)
  refine lv_aload_n C.x C.b dX1_copy_32 rfl (lv_at hl 0 rfl) ?_
  refine lv_aload_n C.x C.b dX1_copy_33 rfl (lv_at hl 1 rfl) ?_
  refine l1_g3 C h dX1_copy_34 ?_
  refine l2_p3 C h dX1_copy_37 (fun H locs h => ?_)
  refine lv_aload_n C.x C.b dX1_copy_40 rfl (lv_at hl 0 rfl) ?_
  refine lv_aload_n C.x C.b dX1_copy_41 rfl (lv_at hl 1 rfl) ?_
  refine l1_g4 C h dX1_copy_42 ?_
  refine l2_p4 C h dX1_copy_45 (fun H locs h => ?_)
  refine lv_aload_n C.x C.b dX1_copy_48 rfl (lv_at hl 0 rfl) ?_
  refine lv_aload_n C.x C.b dX1_copy_49 rfl (lv_at hl 1 rfl) ?_
  refine l1_g5 C h dX1_copy_50 ?_
  refine l2_p5 C h dX1_copy_53 (fun H locs h => ?_)
  refine lv_aload_n C.x C.b dX1_copy_56 rfl (lv_at hl 0 rfl) ?_
  refine lv_aload_n C.x C.b dX1_copy_57 rfl (lv_at hl 1 rfl) ?_
  refine l1_g6 C h dX1_copy_58 ?_
  refine l2_p6 C h dX1_copy_61 (fun H locs h => ?_)
  refine lv_aload_n C.x C.b dX1_copy_64 rfl (lv_at hl 0 rfl) ?_
  refine lv_aload_n C.x C.b dX1_copy_65 rfl (lv_at hl 1 rfl) ?_
  refine l1_g7 C h dX1_copy_66 ?_
  refine l2_p7 C h dX1_copy_69 (fun H locs h => ?_)
  refine lv_aload_n C.x C.b dX1_copy_72 rfl (lv_at hl 0 rfl) ?_
  refine lv_aload_n C.x C.b dX1_copy_73 rfl (lv_at hl 1 rfl) ?_
  refine l1_g8 C h dX1_copy_74 ?_
  refine l2_p8 C h dX1_copy_77 (fun H locs h => ?_)
  refine lv_aload_n C.x C.b dX1_copy_80 rfl (lv_at hl 1 rfl) ?_
  refine l1_g9 C h dX1_copy_81 ?_
  refine lv_iconst (v := 0) C.x C.b dX1_copy_84 (by decide) ?_
  refine lv_aload_n C.x C.b dX1_copy_85 rfl (lv_at hl 0 rfl) ?_
  refine l2_g9 C h dX1_copy_86 ?_
  refine lv_iconst (v := 0) C.x C.b dX1_copy_89 (by decide) ?_
  refine lv_bipush (v := 7) C.x C.b dX1_copy_90 (by decide) ?_
  refine l2_c9 C h hl.1 (by decide) (Nat.le_of_ble_eq_true rfl) dX1_copy_92 (fun H locs h => ?_)
  refine lv_aload_n C.x C.b dX1_copy_95 rfl (lv_at hl 1 rfl) ?_
  refine l1_g10 C h dX1_copy_96 ?_
  refine lv_iconst (v := 0) C.x C.b dX1_copy_99 (by decide) ?_
  refine lv_aload_n C.x C.b dX1_copy_100 rfl (lv_at hl 0 rfl) ?_
  refine l2_g10 C h dX1_copy_101 ?_
  refine lv_iconst (v := 0) C.x C.b dX1_copy_104 (by decide) ?_
  refine lv_bipush (v := 6) C.x C.b dX1_copy_105 (by decide) ?_
  refine l2_c10 C h hl.1 (by decide) (Nat.le_of_ble_eq_true rfl) dX1_copy_107 (fun H locs h => ?_)
  refine lv_aload_n C.x C.b dX1_copy_110 rfl (lv_at hl 1 rfl) ?_
  refine l1_g11 C h dX1_copy_111 ?_
  refine lv_iconst (v := 0) C.x C.b dX1_copy_114 (by decide) ?_
  refine lv_aload_n C.x C.b dX1_copy_115 rfl (lv_at hl 0 rfl) ?_
  refine l2_g11 C h dX1_copy_116 ?_
  refine lv_iconst (v := 0) C.x C.b dX1_copy_119 (by decide) ?_
  refine lv_bipush (v := 6) C.x C.b dX1_copy_120 (by decide) ?_
  refine l2_c11 C h hl.1 (by decide) (Nat.le_of_ble_eq_true rfl) dX1_copy_122 (fun H locs h => ?_)
  refine lv_aload_n C.x C.b dX1_copy_125 rfl (lv_at hl 1 rfl) ?_
  refine l1_g12 C h dX1_copy_126 ?_
  refine lv_iconst (v := 0) C.x C.b dX1_copy_129 (by decide) ?_
  refine lv_aload_n C.x C.b dX1_copy_130 rfl (lv_at hl 0 rfl) ?_
  refine l2_g12 C h dX1_copy_131 ?_
  refine lv_iconst (v := 0) C.x C.b dX1_copy_134 (by decide) ?_
  refine lv_bipush (v := 6) C.x C.b dX1_copy_135 (by decide) ?_
  refine l2_c12 C h hl.1 (by decide) (Nat.le_of_ble_eq_true rfl) dX1_copy_137 (fun H locs h => ?_)
  refine lv_aload_n C.x C.b dX1_copy_140 rfl (lv_at hl 1 rfl) ?_
  refine l1_g13 C h dX1_copy_141 ?_
  refine lv_iconst (v := 0) C.x C.b dX1_copy_144 (by decide) ?_
  refine lv_aload_n C.x C.b dX1_copy_145 rfl (lv_at hl 0 rfl) ?_
  refine l2_g13 C h dX1_copy_146 ?_
  refine lv_iconst (v := 0) C.x C.b dX1_copy_149 (by decide) ?_
  refine lv_bipush (v := 6) C.x C.b dX1_copy_150 (by decide) ?_
  refine l2_c13 C h hl.1 (by decide) (Nat.le_of_ble_eq_true rfl) dX1_copy_152 (fun H locs h => ?_)
  refine lv_aload_n C.x C.b dX1_copy_155 rfl (lv_at hl 1 rfl) ?_
  refine l1_g14 C h dX1_copy_156 ?_
  refine lv_iconst (v := 0) C.x C.b dX1_copy_159 (by decide) ?_
  refine lv_aload_n C.x C.b dX1_copy_160 rfl (lv_at hl 0 rfl) ?_
  refine l2_g14 C h dX1_copy_161 ?_
  refine lv_iconst (v := 0) C.x C.b dX1_copy_164 (by decide) ?_
  refine lv_bipush (v := 30) C.x C.b dX1_copy_165 (by decide) ?_
  refine l2_c14 C h hl.1 (by decide) (Nat.le_of_ble_eq_true rfl) dX1_copy_167 (fun H locs h => ?_)
  refine lv_aload_n C.x C.b dX1_copy_170 rfl (lv_at hl 0 rfl) ?_
  have e9 : va_up ad2 0 (ad2 0) = ad2 := by funext z; by_cases hz : z = 0 <;> simp [va_up, hz]
  exact hR ad2 (ad2 0) _ _ _ _ trivial (by rw [e9]; exact h) dX1_copy_171
