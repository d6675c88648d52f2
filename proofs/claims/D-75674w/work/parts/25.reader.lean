set_option maxRecDepth 100000
/-- a token by its number -/
def tokO (ty : Nat → Nat) (k : Int32) : Option Nat := if k = 0 then some (ty 100) else if k = 1 then some (ty 101) else if k = 2 then some (ty 102) else if k = 3 then some (ty 103) else if k = 4 then some (ty 104) else none
def tokV (ty : Nat → Nat) (k : Int32) : Value := va_rf (tokO ty k)
theorem tok_fit (ty : Nat → Nat) (k : Int32) (C : String) : fits (.object C) (tokV ty k) = true ∧ narrow (.object C) (tokV ty k) = tokV ty k := by
  unfold tokV
  cases tokO ty k with
  | none => exact ⟨rfl, rfl⟩
  | some a => exact ⟨rfl, rfl⟩
/-- the token is known -/
def tkn (k : Int32) : Prop := k = 0 ∨ k = 1 ∨ k = 2 ∨ k = 3 ∨ k = 4
theorem tok_inj {ty : Nat → Nat} (hi : ∀ i j : Nat, i < 5 → j < 5 → ty (100 + i) = ty (100 + j) → i = j) {k k2 : Int32} (h1 : tkn k) (h2 : tkn k2) : tokO ty k = tokO ty k2 ↔ k = k2 := by
  refine ⟨fun h => ?_, fun h => by rw [h]⟩
  have key : ∀ a b : Nat, a < 5 → b < 5 → some (ty (100 + a)) = some (ty (100 + b)) → a = b := fun a b ha hb e => hi a b ha hb (Option.some.inj e)
  rcases h1 with h1 | h1 | h1 | h1 | h1 <;> rcases h2 with h2 | h2 | h2 | h2 | h2 <;> subst h1 <;> subst h2 <;> first | rfl | (have := key 0 1 (by decide) (by decide) h; omega) | (have := key 0 2 (by decide) (by decide) h; omega) | (have := key 0 3 (by decide) (by decide) h; omega) | (have := key 0 4 (by decide) (by decide) h; omega) | (have := key 1 0 (by decide) (by decide) h; omega) | (have := key 1 2 (by decide) (by decide) h; omega) | (have := key 1 3 (by decide) (by decide) h; omega) | (have := key 1 4 (by decide) (by decide) h; omega) | (have := key 2 0 (by decide) (by decide) h; omega) | (have := key 2 1 (by decide) (by decide) h; omega) | (have := key 2 3 (by decide) (by decide) h; omega) | (have := key 2 4 (by decide) (by decide) h; omega) | (have := key 3 0 (by decide) (by decide) h; omega) | (have := key 3 1 (by decide) (by decide) h; omega) | (have := key 3 2 (by decide) (by decide) h; omega) | (have := key 3 4 (by decide) (by decide) h; omega) | (have := key 4 0 (by decide) (by decide) h; omega) | (have := key 4 1 (by decide) (by decide) h; omega) | (have := key 4 2 (by decide) (by decide) h; omega) | (have := key 4 3 (by decide) (by decide) h; omega)
def fR (ty : Nat → Nat) (o : Nat) (ad2 : Nat → Nat) (σ : PS) : List Value := [.int (gI σ 200), .ref (ad2 0), .int (gI σ 202), .int (gI σ 203), .int (gI σ 204), tokV ty (gI σ 205), .ref o]
/-- a reader and its lehr -/
def wRd (ty : Nat → ClassId) (b o : Nat) (ad2 : Nat → Nat) (σ : PS) : va_W := (b, .inr (8, fR ty o ad2 σ)) :: wLehr ty ad2 σ
section RROWS
variable {p : Program} {l : Launch} {e : Env} {R : Room} {s : State} {m : MethodId} {args : Array Value} {below : List Frame} {meth : Method} {c : Code} {H : Heap} {locs : List Loc} {cells slots : Nat} {Q : State → Prop} {cc : ByteArray} {pc : Nat} {ls : Array Slot} {st : List Value} {nL d : Nat} {ow : String} {D : va_G} {ty : Nat → ClassId} {A : Nat → Prop} {b o : Nat} {ad ad2 : Nat → Nat} {rs : va_W} {σ τ : PS}
theorem r_g0 (C : Cx p R s m args c cc nL RX8 D ty A d) (h : Hw D A s H locs (wRd ty b o ad2 σ ++ (wBelt ty o ad τ ++ rs))) (dec : decode cc pc = .ok (.getfield 19, 3)) (kk : W p l e R s m args below meth c H locs cells slots Q (F0 m (pc + 3) ls (.int (gI σ 200) :: st))) : W p l e R s m args below meth c H locs cells slots Q (F0 m pc ls (.ref b :: st)) := va_get (D := D) (ci := 8) C.x C.b C.ts in_X8 C.own C.K h.1 0 rfl rfl 0 (by decide) (C.ts _ q495) (fun _ h9 => h9) rfl dec kk
theorem r_g1 (C : Cx p R s m args c cc nL RX8 D ty A d) (h : Hw D A s H locs (wRd ty b o ad2 σ ++ (wBelt ty o ad τ ++ rs))) (dec : decode cc pc = .ok (.getfield 25, 3)) (kk : W p l e R s m args below meth c H locs cells slots Q (F0 m (pc + 3) ls (.ref (ad2 0) :: st))) : W p l e R s m args below meth c H locs cells slots Q (F0 m pc ls (.ref b :: st)) := va_get (D := D) (ci := 8) C.x C.b C.ts in_X8 C.own C.K h.1 0 rfl rfl 1 (by decide) (C.ts _ q496) (fun _ h9 => h9) rfl dec kk
theorem r_g2 (C : Cx p R s m args c cc nL RX8 D ty A d) (h : Hw D A s H locs (wRd ty b o ad2 σ ++ (wBelt ty o ad τ ++ rs))) (dec : decode cc pc = .ok (.getfield 41, 3)) (kk : W p l e R s m args below meth c H locs cells slots Q (F0 m (pc + 3) ls (.int (gI σ 202) :: st))) : W p l e R s m args below meth c H locs cells slots Q (F0 m pc ls (.ref b :: st)) := va_get (D := D) (ci := 8) C.x C.b C.ts in_X8 C.own C.K h.1 0 rfl rfl 2 (by decide) (C.ts _ q497) (fun _ h9 => h9) rfl dec kk
theorem r_s2 (v : Int32) : (wRd ty b o ad2 σ ++ (wBelt ty o ad τ ++ rs)).set 0 (b, .inr (8, (fR ty o ad2 σ).set 2 (.int v))) = (wRd ty b o ad2 (sI σ 202 v) ++ (wBelt ty o ad τ ++ rs)) := rfl
theorem r_p2 (C : Cx p R s m args c cc nL RX8 D ty A d) (h : Hw D A s H locs (wRd ty b o ad2 σ ++ (wBelt ty o ad τ ++ rs))) {v : Int32} {σ2 : PS} (e9 : σ2 = sI σ 202 v) (dec : decode cc pc = .ok (.putfield 41, 3)) (kk : ∀ (H : Heap) (locs : List Loc), Hw D A s H locs (wRd ty b o ad2 σ2 ++ (wBelt ty o ad τ ++ rs)) → W p l e R s m args below meth c H locs cells slots Q (F0 m (pc + 3) ls st)) : W p l e R s m args below meth c H locs cells slots Q (F0 m pc ls (.int v :: .ref b :: st)) := by
  subst e9
  refine va_put (D := D) (ci := 8) (ty := .int) (fs := fR ty o ad2 σ) C.x C.b C.ts in_X8 tyX8 tyX8_ok nmX8 C.own C.K h.1 h.2.1 h.2.2 0 rfl rfl 2 (by decide) (C.ts _ q497) (fun _ h9 => h9) rfl (by decide +kernel) rfl rfl (Nat.le_of_ble_eq_true rfl) dec (fun H1 locs1 hP hD hS => ?_)
  rw [r_s2] at hP hD
  exact kk H1 locs1 ⟨hP, hD, hS⟩
theorem r_g3 (C : Cx p R s m args c cc nL RX8 D ty A d) (h : Hw D A s H locs (wRd ty b o ad2 σ ++ (wBelt ty o ad τ ++ rs))) (dec : decode cc pc = .ok (.getfield 52, 3)) (kk : W p l e R s m args below meth c H locs cells slots Q (F0 m (pc + 3) ls (.int (gI σ 203) :: st))) : W p l e R s m args below meth c H locs cells slots Q (F0 m pc ls (.ref b :: st)) := va_get (D := D) (ci := 8) C.x C.b C.ts in_X8 C.own C.K h.1 0 rfl rfl 3 (by decide) (C.ts _ q498) (fun _ h9 => h9) rfl dec kk
theorem r_s3 (v : Int32) : (wRd ty b o ad2 σ ++ (wBelt ty o ad τ ++ rs)).set 0 (b, .inr (8, (fR ty o ad2 σ).set 3 (.int v))) = (wRd ty b o ad2 (sI σ 203 v) ++ (wBelt ty o ad τ ++ rs)) := rfl
theorem r_p3 (C : Cx p R s m args c cc nL RX8 D ty A d) (h : Hw D A s H locs (wRd ty b o ad2 σ ++ (wBelt ty o ad τ ++ rs))) {v : Int32} {σ2 : PS} (e9 : σ2 = sI σ 203 v) (dec : decode cc pc = .ok (.putfield 52, 3)) (kk : ∀ (H : Heap) (locs : List Loc), Hw D A s H locs (wRd ty b o ad2 σ2 ++ (wBelt ty o ad τ ++ rs)) → W p l e R s m args below meth c H locs cells slots Q (F0 m (pc + 3) ls st)) : W p l e R s m args below meth c H locs cells slots Q (F0 m pc ls (.int v :: .ref b :: st)) := by
  subst e9
  refine va_put (D := D) (ci := 8) (ty := .int) (fs := fR ty o ad2 σ) C.x C.b C.ts in_X8 tyX8 tyX8_ok nmX8 C.own C.K h.1 h.2.1 h.2.2 0 rfl rfl 3 (by decide) (C.ts _ q498) (fun _ h9 => h9) rfl (by decide +kernel) rfl rfl (Nat.le_of_ble_eq_true rfl) dec (fun H1 locs1 hP hD hS => ?_)
  rw [r_s3] at hP hD
  exact kk H1 locs1 ⟨hP, hD, hS⟩
theorem r_g4 (C : Cx p R s m args c cc nL RX8 D ty A d) (h : Hw D A s H locs (wRd ty b o ad2 σ ++ (wBelt ty o ad τ ++ rs))) (dec : decode cc pc = .ok (.getfield 62, 3)) (kk : W p l e R s m args below meth c H locs cells slots Q (F0 m (pc + 3) ls (.int (gI σ 204) :: st))) : W p l e R s m args below meth c H locs cells slots Q (F0 m pc ls (.ref b :: st)) := va_get (D := D) (ci := 8) C.x C.b C.ts in_X8 C.own C.K h.1 0 rfl rfl 4 (by decide) (C.ts _ q499) (fun _ h9 => h9) rfl dec kk
theorem r_s4 (v : Int32) : (wRd ty b o ad2 σ ++ (wBelt ty o ad τ ++ rs)).set 0 (b, .inr (8, (fR ty o ad2 σ).set 4 (.int v))) = (wRd ty b o ad2 (sI σ 204 v) ++ (wBelt ty o ad τ ++ rs)) := rfl
theorem r_p4 (C : Cx p R s m args c cc nL RX8 D ty A d) (h : Hw D A s H locs (wRd ty b o ad2 σ ++ (wBelt ty o ad τ ++ rs))) {v : Int32} {σ2 : PS} (e9 : σ2 = sI σ 204 v) (dec : decode cc pc = .ok (.putfield 62, 3)) (kk : ∀ (H : Heap) (locs : List Loc), Hw D A s H locs (wRd ty b o ad2 σ2 ++ (wBelt ty o ad τ ++ rs)) → W p l e R s m args below meth c H locs cells slots Q (F0 m (pc + 3) ls st)) : W p l e R s m args below meth c H locs cells slots Q (F0 m pc ls (.int v :: .ref b :: st)) := by
  subst e9
  refine va_put (D := D) (ci := 8) (ty := .int) (fs := fR ty o ad2 σ) C.x C.b C.ts in_X8 tyX8 tyX8_ok nmX8 C.own C.K h.1 h.2.1 h.2.2 0 rfl rfl 4 (by decide) (C.ts _ q499) (fun _ h9 => h9) rfl (by decide +kernel) rfl rfl (Nat.le_of_ble_eq_true rfl) dec (fun H1 locs1 hP hD hS => ?_)
  rw [r_s4] at hP hD
  exact kk H1 locs1 ⟨hP, hD, hS⟩
theorem r_g5 (C : Cx p R s m args c cc nL RX8 D ty A d) (h : Hw D A s H locs (wRd ty b o ad2 σ ++ (wBelt ty o ad τ ++ rs))) (dec : decode cc pc = .ok (.getfield 35, 3)) (kk : W p l e R s m args below meth c H locs cells slots Q (F0 m (pc + 3) ls (tokV ty (gI σ 205) :: st))) : W p l e R s m args below meth c H locs cells slots Q (F0 m pc ls (.ref b :: st)) := va_get (D := D) (ci := 8) C.x C.b C.ts in_X8 C.own C.K h.1 0 rfl rfl 5 (by decide) (C.ts _ q500) (fun _ h9 => h9) rfl dec kk
theorem r_s5 (v : Int32) : (wRd ty b o ad2 σ ++ (wBelt ty o ad τ ++ rs)).set 0 (b, .inr (8, (fR ty o ad2 σ).set 5 (tokV ty v))) = (wRd ty b o ad2 (sI σ 205 v) ++ (wBelt ty o ad τ ++ rs)) := rfl
theorem r_p5 (C : Cx p R s m args c cc nL RX8 D ty A d) (h : Hw D A s H locs (wRd ty b o ad2 σ ++ (wBelt ty o ad τ ++ rs))) {v : Int32} {σ2 : PS} (e9 : σ2 = sI σ 205 v) (dec : decode cc pc = .ok (.putfield 35, 3)) (kk : ∀ (H : Heap) (locs : List Loc), Hw D A s H locs (wRd ty b o ad2 σ2 ++ (wBelt ty o ad τ ++ rs)) → W p l e R s m args below meth c H locs cells slots Q (F0 m (pc + 3) ls st)) : W p l e R s m args below meth c H locs cells slots Q (F0 m pc ls (tokV ty v :: .ref b :: st)) := by
  subst e9
  refine va_put (D := D) (ci := 8) (ty := .object "LehrBelt$Token") (fs := fR ty o ad2 σ) C.x C.b C.ts in_X8 tyX8 tyX8_ok nmX8 C.own C.K h.1 h.2.1 h.2.2 0 rfl rfl 5 (by decide) (C.ts _ q500) (fun _ h9 => h9) rfl (by decide +kernel) (tok_fit ty v _).2 (tok_fit ty v _).1 (Nat.le_of_ble_eq_true rfl) dec (fun H1 locs1 hP hD hS => ?_)
  rw [r_s5] at hP hD
  exact kk H1 locs1 ⟨hP, hD, hS⟩
theorem r_g6 (C : Cx p R s m args c cc nL RX8 D ty A d) (h : Hw D A s H locs (wRd ty b o ad2 σ ++ (wBelt ty o ad τ ++ rs))) (dec : decode cc pc = .ok (.getfield 3, 3)) (kk : W p l e R s m args below meth c H locs cells slots Q (F0 m (pc + 3) ls (.ref o :: st))) : W p l e R s m args below meth c H locs cells slots Q (F0 m pc ls (.ref b :: st)) := va_get (D := D) (ci := 8) C.x C.b C.ts in_X8 C.own C.K h.1 0 rfl rfl 6 (by decide) (C.ts _ q501) (fun _ h9 => h9) rfl dec kk
theorem r_tok0 (C : Cx p R s m args c cc nL RX8 D ty A d) (h : Hw D A s H locs (wRd ty b o ad2 σ ++ (wBelt ty o ad τ ++ rs))) (dec : decode cc pc = .ok (.getstatic 29, 3)) (kk : W p l e R s m args below meth c H locs cells slots Q (F0 m (pc + 3) ls (tokV ty 0 :: st))) : W p l e R s m args below meth c H locs cells slots Q (F0 m pc ls st) := va_gets C.x C.b (C.E.2.2.1 0 (by decide)) h.2.2 C.own (C.ts _ q472) (fun _ h9 => h9) dec kk
theorem r_tok1 (C : Cx p R s m args c cc nL RX8 D ty A d) (h : Hw D A s H locs (wRd ty b o ad2 σ ++ (wBelt ty o ad τ ++ rs))) (dec : decode cc pc = .ok (.getstatic 59, 3)) (kk : W p l e R s m args below meth c H locs cells slots Q (F0 m (pc + 3) ls (tokV ty 1 :: st))) : W p l e R s m args below meth c H locs cells slots Q (F0 m pc ls st) := va_gets C.x C.b (C.E.2.2.1 1 (by decide)) h.2.2 C.own (C.ts _ q483) (fun _ h9 => h9) dec kk
theorem r_tok2 (C : Cx p R s m args c cc nL RX8 D ty A d) (h : Hw D A s H locs (wRd ty b o ad2 σ ++ (wBelt ty o ad τ ++ rs))) (dec : decode cc pc = .ok (.getstatic 72, 3)) (kk : W p l e R s m args below meth c H locs cells slots Q (F0 m (pc + 3) ls (tokV ty 2 :: st))) : W p l e R s m args below meth c H locs cells slots Q (F0 m pc ls st) := va_gets C.x C.b (C.E.2.2.1 2 (by decide)) h.2.2 C.own (C.ts _ q489) (fun _ h9 => h9) dec kk
theorem r_tok3 (C : Cx p R s m args c cc nL RX8 D ty A d) (h : Hw D A s H locs (wRd ty b o ad2 σ ++ (wBelt ty o ad τ ++ rs))) (dec : decode cc pc = .ok (.getstatic 75, 3)) (kk : W p l e R s m args below meth c H locs cells slots Q (F0 m (pc + 3) ls (tokV ty 3 :: st))) : W p l e R s m args below meth c H locs cells slots Q (F0 m pc ls st) := va_gets C.x C.b (C.E.2.2.1 3 (by decide)) h.2.2 C.own (C.ts _ q491) (fun _ h9 => h9) dec kk
theorem r_tok4 (C : Cx p R s m args c cc nL RX8 D ty A d) (h : Hw D A s H locs (wRd ty b o ad2 σ ++ (wBelt ty o ad τ ++ rs))) (dec : decode cc pc = .ok (.getstatic 78, 3)) (kk : W p l e R s m args below meth c H locs cells slots Q (F0 m (pc + 3) ls (tokV ty 4 :: st))) : W p l e R s m args below meth c H locs cells slots Q (F0 m pc ls st) := va_gets C.x C.b (C.E.2.2.1 4 (by decide)) h.2.2 C.own (C.ts _ q493) (fun _ h9 => h9) dec kk
theorem r_o1 (C : Cx p R s m args c cc nL RX8 D ty A d) (h : Hw D A s H locs (wRd ty b o ad2 σ ++ (wBelt ty o ad τ ++ rs))) (dec : decode cc pc = .ok (.getfield 44, 3)) (kk : W p l e R s m args below meth c H locs cells slots Q (F0 m (pc + 3) ls (.ref (ad 1) :: st))) : W p l e R s m args below meth c H locs cells slots Q (F0 m pc ls (.ref o :: st)) := va_getN (D := D) (ci := 0) C.x C.b C.ts in_X0 C.own C.K h.1 8 rfl rfl 1 (by decide) (C.nw q345 rfl) (fun _ h9 => h9) rfl dec kk
theorem r_o2 (C : Cx p R s m args c cc nL RX8 D ty A d) (h : Hw D A s H locs (wRd ty b o ad2 σ ++ (wBelt ty o ad τ ++ rs))) (dec : decode cc pc = .ok (.getfield 15, 3)) (kk : W p l e R s m args below meth c H locs cells slots Q (F0 m (pc + 3) ls (.int (gI τ 2) :: st))) : W p l e R s m args below meth c H locs cells slots Q (F0 m pc ls (.ref o :: st)) := va_getN (D := D) (ci := 0) C.x C.b C.ts in_X0 C.own C.K h.1 8 rfl rfl 2 (by decide) (C.nw q347 rfl) (fun _ h9 => h9) rfl dec kk
theorem r_tape (C : Cx p R s m args c cc nL ow D ty A d) (h : Hw D A s H locs (wRd ty b o ad2 σ ++ (wBelt ty o ad τ ++ rs))) {i : Int32} (hi : vp_in i 600) (dec : decode cc pc = .ok (.baload, 1)) (kk : W p l e R s m args below meth c H locs cells slots Q (F0 m (pc + 1) ls (.int (rA τ 1 i) :: st))) : W p l e R s m args below meth c H locs cells slots Q (F0 m pc ls (.int i :: .ref (ad 1) :: st)) := va_bald C.x C.b C.K h.1 9 1 rfl rfl hi dec kk
theorem r_g100 (C : Cx p R s m args c cc nL RX8 D ty A d) (h : Hw D A s H locs (wRd ty b o ad2 σ ++ (wBelt ty o ad τ ++ rs))) (dec : decode cc pc = .ok (.getfield 121, 3)) (kk : W p l e R s m args below meth c H locs cells slots Q (F0 m (pc + 3) ls (.int (gI σ 100) :: st))) : W p l e R s m args below meth c H locs cells slots Q (F0 m pc ls (.ref (ad2 0) :: st)) := va_getN (D := D) (ci := 1) C.x C.b C.ts in_X1 C.own C.K h.1 1 rfl rfl 0 (by decide) (C.nw q185 rfl) (fun _ h9 => h9) rfl dec kk
theorem r_s100 (v : Int32) : (wRd ty b o ad2 σ ++ (wBelt ty o ad τ ++ rs)).set 1 (ad2 0, .inr (1, (fL ad2 σ).set 0 (.int v))) = (wRd ty b o ad2 (sI σ 100 v) ++ (wBelt ty o ad τ ++ rs)) := rfl
theorem r_p100 (C : Cx p R s m args c cc nL RX8 D ty A d) (h : Hw D A s H locs (wRd ty b o ad2 σ ++ (wBelt ty o ad τ ++ rs))) {v : Int32} {σ2 : PS} (e9 : σ2 = sI σ 100 v) (dec : decode cc pc = .ok (.putfield 121, 3)) (kk : ∀ (H : Heap) (locs : List Loc), Hw D A s H locs (wRd ty b o ad2 σ2 ++ (wBelt ty o ad τ ++ rs)) → W p l e R s m args below meth c H locs cells slots Q (F0 m (pc + 3) ls st)) : W p l e R s m args below meth c H locs cells slots Q (F0 m pc ls (.int v :: .ref (ad2 0) :: st)) := by
  subst e9
  refine va_putN (D := D) (ci := 1) (ty := .int) (fs := fL ad2 σ) C.x C.b C.ts in_X1 tyX1 tyX1_ok nmX1 C.own C.K h.1 h.2.1 h.2.2 1 rfl rfl 0 (by decide) (C.nw q185 rfl) (fun _ h9 => h9) rfl (by decide +kernel) rfl rfl (Nat.le_of_ble_eq_true rfl) dec (fun H1 locs1 hP hD hS => ?_)
  rw [r_s100] at hP hD
  exact kk H1 locs1 ⟨hP, hD, hS⟩
theorem r_g101 (C : Cx p R s m args c cc nL RX8 D ty A d) (h : Hw D A s H locs (wRd ty b o ad2 σ ++ (wBelt ty o ad τ ++ rs))) (dec : decode cc pc = .ok (.getfield 125, 3)) (kk : W p l e R s m args below meth c H locs cells slots Q (F0 m (pc + 3) ls (.int (gI σ 101) :: st))) : W p l e R s m args below meth c H locs cells slots Q (F0 m pc ls (.ref (ad2 0) :: st)) := va_getN (D := D) (ci := 1) C.x C.b C.ts in_X1 C.own C.K h.1 1 rfl rfl 1 (by decide) (C.nw q188 rfl) (fun _ h9 => h9) rfl dec kk
theorem r_s101 (v : Int32) : (wRd ty b o ad2 σ ++ (wBelt ty o ad τ ++ rs)).set 1 (ad2 0, .inr (1, (fL ad2 σ).set 1 (.int v))) = (wRd ty b o ad2 (sI σ 101 v) ++ (wBelt ty o ad τ ++ rs)) := rfl
theorem r_p101 (C : Cx p R s m args c cc nL RX8 D ty A d) (h : Hw D A s H locs (wRd ty b o ad2 σ ++ (wBelt ty o ad τ ++ rs))) {v : Int32} {σ2 : PS} (e9 : σ2 = sI σ 101 v) (dec : decode cc pc = .ok (.putfield 125, 3)) (kk : ∀ (H : Heap) (locs : List Loc), Hw D A s H locs (wRd ty b o ad2 σ2 ++ (wBelt ty o ad τ ++ rs)) → W p l e R s m args below meth c H locs cells slots Q (F0 m (pc + 3) ls st)) : W p l e R s m args below meth c H locs cells slots Q (F0 m pc ls (.int v :: .ref (ad2 0) :: st)) := by
  subst e9
  refine va_putN (D := D) (ci := 1) (ty := .int) (fs := fL ad2 σ) C.x C.b C.ts in_X1 tyX1 tyX1_ok nmX1 C.own C.K h.1 h.2.1 h.2.2 1 rfl rfl 1 (by decide) (C.nw q188 rfl) (fun _ h9 => h9) rfl (by decide +kernel) rfl rfl (Nat.le_of_ble_eq_true rfl) dec (fun H1 locs1 hP hD hS => ?_)
  rw [r_s101] at hP hD
  exact kk H1 locs1 ⟨hP, hD, hS⟩
theorem r_g102 (C : Cx p R s m args c cc nL RX8 D ty A d) (h : Hw D A s H locs (wRd ty b o ad2 σ ++ (wBelt ty o ad τ ++ rs))) (dec : decode cc pc = .ok (.getfield 129, 3)) (kk : W p l e R s m args below meth c H locs cells slots Q (F0 m (pc + 3) ls (.int (gI σ 102) :: st))) : W p l e R s m args below meth c H locs cells slots Q (F0 m pc ls (.ref (ad2 0) :: st)) := va_getN (D := D) (ci := 1) C.x C.b C.ts in_X1 C.own C.K h.1 1 rfl rfl 2 (by decide) (C.nw q191 rfl) (fun _ h9 => h9) rfl dec kk
theorem r_s102 (v : Int32) : (wRd ty b o ad2 σ ++ (wBelt ty o ad τ ++ rs)).set 1 (ad2 0, .inr (1, (fL ad2 σ).set 2 (.int v))) = (wRd ty b o ad2 (sI σ 102 v) ++ (wBelt ty o ad τ ++ rs)) := rfl
theorem r_p102 (C : Cx p R s m args c cc nL RX8 D ty A d) (h : Hw D A s H locs (wRd ty b o ad2 σ ++ (wBelt ty o ad τ ++ rs))) {v : Int32} {σ2 : PS} (e9 : σ2 = sI σ 102 v) (dec : decode cc pc = .ok (.putfield 129, 3)) (kk : ∀ (H : Heap) (locs : List Loc), Hw D A s H locs (wRd ty b o ad2 σ2 ++ (wBelt ty o ad τ ++ rs)) → W p l e R s m args below meth c H locs cells slots Q (F0 m (pc + 3) ls st)) : W p l e R s m args below meth c H locs cells slots Q (F0 m pc ls (.int v :: .ref (ad2 0) :: st)) := by
  subst e9
  refine va_putN (D := D) (ci := 1) (ty := .int) (fs := fL ad2 σ) C.x C.b C.ts in_X1 tyX1 tyX1_ok nmX1 C.own C.K h.1 h.2.1 h.2.2 1 rfl rfl 2 (by decide) (C.nw q191 rfl) (fun _ h9 => h9) rfl (by decide +kernel) rfl rfl (Nat.le_of_ble_eq_true rfl) dec (fun H1 locs1 hP hD hS => ?_)
  rw [r_s102] at hP hD
  exact kk H1 locs1 ⟨hP, hD, hS⟩
theorem r_g103 (C : Cx p R s m args c cc nL RX8 D ty A d) (h : Hw D A s H locs (wRd ty b o ad2 σ ++ (wBelt ty o ad τ ++ rs))) (dec : decode cc pc = .ok (.getfield 133, 3)) (kk : W p l e R s m args below meth c H locs cells slots Q (F0 m (pc + 3) ls (.int (gI σ 103) :: st))) : W p l e R s m args below meth c H locs cells slots Q (F0 m pc ls (.ref (ad2 0) :: st)) := va_getN (D := D) (ci := 1) C.x C.b C.ts in_X1 C.own C.K h.1 1 rfl rfl 3 (by decide) (C.nw q194 rfl) (fun _ h9 => h9) rfl dec kk
theorem r_s103 (v : Int32) : (wRd ty b o ad2 σ ++ (wBelt ty o ad τ ++ rs)).set 1 (ad2 0, .inr (1, (fL ad2 σ).set 3 (.int v))) = (wRd ty b o ad2 (sI σ 103 v) ++ (wBelt ty o ad τ ++ rs)) := rfl
theorem r_p103 (C : Cx p R s m args c cc nL RX8 D ty A d) (h : Hw D A s H locs (wRd ty b o ad2 σ ++ (wBelt ty o ad τ ++ rs))) {v : Int32} {σ2 : PS} (e9 : σ2 = sI σ 103 v) (dec : decode cc pc = .ok (.putfield 133, 3)) (kk : ∀ (H : Heap) (locs : List Loc), Hw D A s H locs (wRd ty b o ad2 σ2 ++ (wBelt ty o ad τ ++ rs)) → W p l e R s m args below meth c H locs cells slots Q (F0 m (pc + 3) ls st)) : W p l e R s m args below meth c H locs cells slots Q (F0 m pc ls (.int v :: .ref (ad2 0) :: st)) := by
  subst e9
  refine va_putN (D := D) (ci := 1) (ty := .int) (fs := fL ad2 σ) C.x C.b C.ts in_X1 tyX1 tyX1_ok nmX1 C.own C.K h.1 h.2.1 h.2.2 1 rfl rfl 3 (by decide) (C.nw q194 rfl) (fun _ h9 => h9) rfl (by decide +kernel) rfl rfl (Nat.le_of_ble_eq_true rfl) dec (fun H1 locs1 hP hD hS => ?_)
  rw [r_s103] at hP hD
  exact kk H1 locs1 ⟨hP, hD, hS⟩
theorem r_g104 (C : Cx p R s m args c cc nL RX8 D ty A d) (h : Hw D A s H locs (wRd ty b o ad2 σ ++ (wBelt ty o ad τ ++ rs))) (dec : decode cc pc = .ok (.getfield 137, 3)) (kk : W p l e R s m args below meth c H locs cells slots Q (F0 m (pc + 3) ls (.int (gI σ 104) :: st))) : W p l e R s m args below meth c H locs cells slots Q (F0 m pc ls (.ref (ad2 0) :: st)) := va_getN (D := D) (ci := 1) C.x C.b C.ts in_X1 C.own C.K h.1 1 rfl rfl 4 (by decide) (C.nw q197 rfl) (fun _ h9 => h9) rfl dec kk
theorem r_s104 (v : Int32) : (wRd ty b o ad2 σ ++ (wBelt ty o ad τ ++ rs)).set 1 (ad2 0, .inr (1, (fL ad2 σ).set 4 (.int v))) = (wRd ty b o ad2 (sI σ 104 v) ++ (wBelt ty o ad τ ++ rs)) := rfl
theorem r_p104 (C : Cx p R s m args c cc nL RX8 D ty A d) (h : Hw D A s H locs (wRd ty b o ad2 σ ++ (wBelt ty o ad τ ++ rs))) {v : Int32} {σ2 : PS} (e9 : σ2 = sI σ 104 v) (dec : decode cc pc = .ok (.putfield 137, 3)) (kk : ∀ (H : Heap) (locs : List Loc), Hw D A s H locs (wRd ty b o ad2 σ2 ++ (wBelt ty o ad τ ++ rs)) → W p l e R s m args below meth c H locs cells slots Q (F0 m (pc + 3) ls st)) : W p l e R s m args below meth c H locs cells slots Q (F0 m pc ls (.int v :: .ref (ad2 0) :: st)) := by
  subst e9
  refine va_putN (D := D) (ci := 1) (ty := .int) (fs := fL ad2 σ) C.x C.b C.ts in_X1 tyX1 tyX1_ok nmX1 C.own C.K h.1 h.2.1 h.2.2 1 rfl rfl 4 (by decide) (C.nw q197 rfl) (fun _ h9 => h9) rfl (by decide +kernel) rfl rfl (Nat.le_of_ble_eq_true rfl) dec (fun H1 locs1 hP hD hS => ?_)
  rw [r_s104] at hP hD
  exact kk H1 locs1 ⟨hP, hD, hS⟩
theorem r_g105 (C : Cx p R s m args c cc nL RX8 D ty A d) (h : Hw D A s H locs (wRd ty b o ad2 σ ++ (wBelt ty o ad τ ++ rs))) (dec : decode cc pc = .ok (.getfield 179, 3)) (kk : W p l e R s m args below meth c H locs cells slots Q (F0 m (pc + 3) ls (.int (gI σ 105) :: st))) : W p l e R s m args below meth c H locs cells slots Q (F0 m pc ls (.ref (ad2 0) :: st)) := va_getN (D := D) (ci := 1) C.x C.b C.ts in_X1 C.own C.K h.1 1 rfl rfl 5 (by decide) (C.nw q201 rfl) (fun _ h9 => h9) rfl dec kk
theorem r_s105 (v : Int32) : (wRd ty b o ad2 σ ++ (wBelt ty o ad τ ++ rs)).set 1 (ad2 0, .inr (1, (fL ad2 σ).set 5 (.int v))) = (wRd ty b o ad2 (sI σ 105 v) ++ (wBelt ty o ad τ ++ rs)) := rfl
theorem r_p105 (C : Cx p R s m args c cc nL RX8 D ty A d) (h : Hw D A s H locs (wRd ty b o ad2 σ ++ (wBelt ty o ad τ ++ rs))) {v : Int32} {σ2 : PS} (e9 : σ2 = sI σ 105 v) (dec : decode cc pc = .ok (.putfield 179, 3)) (kk : ∀ (H : Heap) (locs : List Loc), Hw D A s H locs (wRd ty b o ad2 σ2 ++ (wBelt ty o ad τ ++ rs)) → W p l e R s m args below meth c H locs cells slots Q (F0 m (pc + 3) ls st)) : W p l e R s m args below meth c H locs cells slots Q (F0 m pc ls (.int v :: .ref (ad2 0) :: st)) := by
  subst e9
  refine va_putN (D := D) (ci := 1) (ty := .int) (fs := fL ad2 σ) C.x C.b C.ts in_X1 tyX1 tyX1_ok nmX1 C.own C.K h.1 h.2.1 h.2.2 1 rfl rfl 5 (by decide) (C.nw q201 rfl) (fun _ h9 => h9) rfl (by decide +kernel) rfl rfl (Nat.le_of_ble_eq_true rfl) dec (fun H1 locs1 hP hD hS => ?_)
  rw [r_s105] at hP hD
  exact kk H1 locs1 ⟨hP, hD, hS⟩
theorem r_g106 (C : Cx p R s m args c cc nL RX8 D ty A d) (h : Hw D A s H locs (wRd ty b o ad2 σ ++ (wBelt ty o ad τ ++ rs))) (dec : decode cc pc = .ok (.getfield 143, 3)) (kk : W p l e R s m args below meth c H locs cells slots Q (F0 m (pc + 3) ls (.int (gI σ 106) :: st))) : W p l e R s m args below meth c H locs cells slots Q (F0 m pc ls (.ref (ad2 0) :: st)) := va_getN (D := D) (ci := 1) C.x C.b C.ts in_X1 C.own C.K h.1 1 rfl rfl 6 (by decide) (C.nw q204 rfl) (fun _ h9 => h9) rfl dec kk
theorem r_s106 (v : Int32) : (wRd ty b o ad2 σ ++ (wBelt ty o ad τ ++ rs)).set 1 (ad2 0, .inr (1, (fL ad2 σ).set 6 (.int v))) = (wRd ty b o ad2 (sI σ 106 v) ++ (wBelt ty o ad τ ++ rs)) := rfl
theorem r_p106 (C : Cx p R s m args c cc nL RX8 D ty A d) (h : Hw D A s H locs (wRd ty b o ad2 σ ++ (wBelt ty o ad τ ++ rs))) {v : Int32} {σ2 : PS} (e9 : σ2 = sI σ 106 v) (dec : decode cc pc = .ok (.putfield 143, 3)) (kk : ∀ (H : Heap) (locs : List Loc), Hw D A s H locs (wRd ty b o ad2 σ2 ++ (wBelt ty o ad τ ++ rs)) → W p l e R s m args below meth c H locs cells slots Q (F0 m (pc + 3) ls st)) : W p l e R s m args below meth c H locs cells slots Q (F0 m pc ls (.int v :: .ref (ad2 0) :: st)) := by
  subst e9
  refine va_putN (D := D) (ci := 1) (ty := .int) (fs := fL ad2 σ) C.x C.b C.ts in_X1 tyX1 tyX1_ok nmX1 C.own C.K h.1 h.2.1 h.2.2 1 rfl rfl 6 (by decide) (C.nw q204 rfl) (fun _ h9 => h9) rfl (by decide +kernel) rfl rfl (Nat.le_of_ble_eq_true rfl) dec (fun H1 locs1 hP hD hS => ?_)
  rw [r_s106] at hP hD
  exact kk H1 locs1 ⟨hP, hD, hS⟩
theorem r_g107 (C : Cx p R s m args c cc nL RX8 D ty A d) (h : Hw D A s H locs (wRd ty b o ad2 σ ++ (wBelt ty o ad τ ++ rs))) (dec : decode cc pc = .ok (.getfield 146, 3)) (kk : W p l e R s m args below meth c H locs cells slots Q (F0 m (pc + 3) ls (.int (gI σ 107) :: st))) : W p l e R s m args below meth c H locs cells slots Q (F0 m pc ls (.ref (ad2 0) :: st)) := va_getN (D := D) (ci := 1) C.x C.b C.ts in_X1 C.own C.K h.1 1 rfl rfl 7 (by decide) (C.nw q208 rfl) (fun _ h9 => h9) rfl dec kk
theorem r_s107 (v : Int32) : (wRd ty b o ad2 σ ++ (wBelt ty o ad τ ++ rs)).set 1 (ad2 0, .inr (1, (fL ad2 σ).set 7 (.int v))) = (wRd ty b o ad2 (sI σ 107 v) ++ (wBelt ty o ad τ ++ rs)) := rfl
theorem r_p107 (C : Cx p R s m args c cc nL RX8 D ty A d) (h : Hw D A s H locs (wRd ty b o ad2 σ ++ (wBelt ty o ad τ ++ rs))) {v : Int32} {σ2 : PS} (e9 : σ2 = sI σ 107 v) (dec : decode cc pc = .ok (.putfield 146, 3)) (kk : ∀ (H : Heap) (locs : List Loc), Hw D A s H locs (wRd ty b o ad2 σ2 ++ (wBelt ty o ad τ ++ rs)) → W p l e R s m args below meth c H locs cells slots Q (F0 m (pc + 3) ls st)) : W p l e R s m args below meth c H locs cells slots Q (F0 m pc ls (.int v :: .ref (ad2 0) :: st)) := by
  subst e9
  refine va_putN (D := D) (ci := 1) (ty := .int) (fs := fL ad2 σ) C.x C.b C.ts in_X1 tyX1 tyX1_ok nmX1 C.own C.K h.1 h.2.1 h.2.2 1 rfl rfl 7 (by decide) (C.nw q208 rfl) (fun _ h9 => h9) rfl (by decide +kernel) rfl rfl (Nat.le_of_ble_eq_true rfl) dec (fun H1 locs1 hP hD hS => ?_)
  rw [r_s107] at hP hD
  exact kk H1 locs1 ⟨hP, hD, hS⟩
theorem r_g109 (C : Cx p R s m args c cc nL RX8 D ty A d) (h : Hw D A s H locs (wRd ty b o ad2 σ ++ (wBelt ty o ad τ ++ rs))) (dec : decode cc pc = .ok (.getfield 139, 3)) (kk : W p l e R s m args below meth c H locs cells slots Q (F0 m (pc + 3) ls (.ref (ad2 109) :: st))) : W p l e R s m args below meth c H locs cells slots Q (F0 m pc ls (.ref (ad2 0) :: st)) := va_getN (D := D) (ci := 1) C.x C.b C.ts in_X1 C.own C.K h.1 1 rfl rfl 9 (by decide) (C.nw q212 rfl) (fun _ h9 => h9) rfl dec kk
theorem r_s109 (f : Nat → Int32) : (wRd ty b o ad2 σ ++ (wBelt ty o ad τ ++ rs)).set 2 (ad2 109, .inl (ty 0, 7, .inl f)) = (wRd ty b o ad2 (sA σ 109 f) ++ (wBelt ty o ad τ ++ rs)) := rfl
theorem r_w109 (C : Cx p R s m args c cc nL ow D ty A d) (h : Hw D A s H locs (wRd ty b o ad2 σ ++ (wBelt ty o ad τ ++ rs))) {i : Int32} {v : Int32} {σ2 : PS} (hi : vp_in i 7) (e9 : σ2 = wA σ 109 i v) (dec : decode cc pc = .ok (.iastore, 1)) (kk : ∀ (H : Heap) (locs : List Loc), Hw D A s H locs (wRd ty b o ad2 σ2 ++ (wBelt ty o ad τ ++ rs)) → W p l e R s m args below meth c H locs cells slots Q (F0 m (pc + 1) ls st)) : W p l e R s m args below meth c H locs cells slots Q (F0 m pc ls (.int v :: .int i :: .ref (ad2 109) :: st)) := by
  subst e9
  refine va_iast C.x C.b C.K h.1 h.2.1 h.2.2 2 0 rfl rfl hi dec (fun H1 locs1 hP hD hS => ?_)
  rw [r_s109] at hP hD
  exact kk H1 locs1 ⟨hP, hD, hS⟩
theorem r_g110 (C : Cx p R s m args c cc nL RX8 D ty A d) (h : Hw D A s H locs (wRd ty b o ad2 σ ++ (wBelt ty o ad τ ++ rs))) (dec : decode cc pc = .ok (.getfield 149, 3)) (kk : W p l e R s m args below meth c H locs cells slots Q (F0 m (pc + 3) ls (.ref (ad2 110) :: st))) : W p l e R s m args below meth c H locs cells slots Q (F0 m pc ls (.ref (ad2 0) :: st)) := va_getN (D := D) (ci := 1) C.x C.b C.ts in_X1 C.own C.K h.1 1 rfl rfl 10 (by decide) (C.nw q215 rfl) (fun _ h9 => h9) rfl dec kk
theorem r_s110 (f : Nat → Int32) : (wRd ty b o ad2 σ ++ (wBelt ty o ad τ ++ rs)).set 3 (ad2 110, .inl (ty 0, 6, .inl f)) = (wRd ty b o ad2 (sA σ 110 f) ++ (wBelt ty o ad τ ++ rs)) := rfl
theorem r_w110 (C : Cx p R s m args c cc nL ow D ty A d) (h : Hw D A s H locs (wRd ty b o ad2 σ ++ (wBelt ty o ad τ ++ rs))) {i : Int32} {v : Int32} {σ2 : PS} (hi : vp_in i 6) (e9 : σ2 = wA σ 110 i v) (dec : decode cc pc = .ok (.iastore, 1)) (kk : ∀ (H : Heap) (locs : List Loc), Hw D A s H locs (wRd ty b o ad2 σ2 ++ (wBelt ty o ad τ ++ rs)) → W p l e R s m args below meth c H locs cells slots Q (F0 m (pc + 1) ls st)) : W p l e R s m args below meth c H locs cells slots Q (F0 m pc ls (.int v :: .int i :: .ref (ad2 110) :: st)) := by
  subst e9
  refine va_iast C.x C.b C.K h.1 h.2.1 h.2.2 3 0 rfl rfl hi dec (fun H1 locs1 hP hD hS => ?_)
  rw [r_s110] at hP hD
  exact kk H1 locs1 ⟨hP, hD, hS⟩
theorem r_g111 (C : Cx p R s m args c cc nL RX8 D ty A d) (h : Hw D A s H locs (wRd ty b o ad2 σ ++ (wBelt ty o ad τ ++ rs))) (dec : decode cc pc = .ok (.getfield 153, 3)) (kk : W p l e R s m args below meth c H locs cells slots Q (F0 m (pc + 3) ls (.ref (ad2 111) :: st))) : W p l e R s m args below meth c H locs cells slots Q (F0 m pc ls (.ref (ad2 0) :: st)) := va_getN (D := D) (ci := 1) C.x C.b C.ts in_X1 C.own C.K h.1 1 rfl rfl 11 (by decide) (C.nw q218 rfl) (fun _ h9 => h9) rfl dec kk
theorem r_s111 (f : Nat → Int32) : (wRd ty b o ad2 σ ++ (wBelt ty o ad τ ++ rs)).set 4 (ad2 111, .inl (ty 0, 6, .inl f)) = (wRd ty b o ad2 (sA σ 111 f) ++ (wBelt ty o ad τ ++ rs)) := rfl
theorem r_w111 (C : Cx p R s m args c cc nL ow D ty A d) (h : Hw D A s H locs (wRd ty b o ad2 σ ++ (wBelt ty o ad τ ++ rs))) {i : Int32} {v : Int32} {σ2 : PS} (hi : vp_in i 6) (e9 : σ2 = wA σ 111 i v) (dec : decode cc pc = .ok (.iastore, 1)) (kk : ∀ (H : Heap) (locs : List Loc), Hw D A s H locs (wRd ty b o ad2 σ2 ++ (wBelt ty o ad τ ++ rs)) → W p l e R s m args below meth c H locs cells slots Q (F0 m (pc + 1) ls st)) : W p l e R s m args below meth c H locs cells slots Q (F0 m pc ls (.int v :: .int i :: .ref (ad2 111) :: st)) := by
  subst e9
  refine va_iast C.x C.b C.K h.1 h.2.1 h.2.2 4 0 rfl rfl hi dec (fun H1 locs1 hP hD hS => ?_)
  rw [r_s111] at hP hD
  exact kk H1 locs1 ⟨hP, hD, hS⟩
theorem r_g112 (C : Cx p R s m args c cc nL RX8 D ty A d) (h : Hw D A s H locs (wRd ty b o ad2 σ ++ (wBelt ty o ad τ ++ rs))) (dec : decode cc pc = .ok (.getfield 157, 3)) (kk : W p l e R s m args below meth c H locs cells slots Q (F0 m (pc + 3) ls (.ref (ad2 112) :: st))) : W p l e R s m args below meth c H locs cells slots Q (F0 m pc ls (.ref (ad2 0) :: st)) := va_getN (D := D) (ci := 1) C.x C.b C.ts in_X1 C.own C.K h.1 1 rfl rfl 12 (by decide) (C.nw q221 rfl) (fun _ h9 => h9) rfl dec kk
theorem r_s112 (f : Nat → Int32) : (wRd ty b o ad2 σ ++ (wBelt ty o ad τ ++ rs)).set 5 (ad2 112, .inl (ty 0, 6, .inl f)) = (wRd ty b o ad2 (sA σ 112 f) ++ (wBelt ty o ad τ ++ rs)) := rfl
theorem r_w112 (C : Cx p R s m args c cc nL ow D ty A d) (h : Hw D A s H locs (wRd ty b o ad2 σ ++ (wBelt ty o ad τ ++ rs))) {i : Int32} {v : Int32} {σ2 : PS} (hi : vp_in i 6) (e9 : σ2 = wA σ 112 i v) (dec : decode cc pc = .ok (.iastore, 1)) (kk : ∀ (H : Heap) (locs : List Loc), Hw D A s H locs (wRd ty b o ad2 σ2 ++ (wBelt ty o ad τ ++ rs)) → W p l e R s m args below meth c H locs cells slots Q (F0 m (pc + 1) ls st)) : W p l e R s m args below meth c H locs cells slots Q (F0 m pc ls (.int v :: .int i :: .ref (ad2 112) :: st)) := by
  subst e9
  refine va_iast C.x C.b C.K h.1 h.2.1 h.2.2 5 0 rfl rfl hi dec (fun H1 locs1 hP hD hS => ?_)
  rw [r_s112] at hP hD
  exact kk H1 locs1 ⟨hP, hD, hS⟩
theorem r_g113 (C : Cx p R s m args c cc nL RX8 D ty A d) (h : Hw D A s H locs (wRd ty b o ad2 σ ++ (wBelt ty o ad τ ++ rs))) (dec : decode cc pc = .ok (.getfield 161, 3)) (kk : W p l e R s m args below meth c H locs cells slots Q (F0 m (pc + 3) ls (.ref (ad2 113) :: st))) : W p l e R s m args below meth c H locs cells slots Q (F0 m pc ls (.ref (ad2 0) :: st)) := va_getN (D := D) (ci := 1) C.x C.b C.ts in_X1 C.own C.K h.1 1 rfl rfl 13 (by decide) (C.nw q224 rfl) (fun _ h9 => h9) rfl dec kk
theorem r_s113 (f : Nat → Int32) : (wRd ty b o ad2 σ ++ (wBelt ty o ad τ ++ rs)).set 6 (ad2 113, .inl (ty 0, 6, .inl f)) = (wRd ty b o ad2 (sA σ 113 f) ++ (wBelt ty o ad τ ++ rs)) := rfl
theorem r_w113 (C : Cx p R s m args c cc nL ow D ty A d) (h : Hw D A s H locs (wRd ty b o ad2 σ ++ (wBelt ty o ad τ ++ rs))) {i : Int32} {v : Int32} {σ2 : PS} (hi : vp_in i 6) (e9 : σ2 = wA σ 113 i v) (dec : decode cc pc = .ok (.iastore, 1)) (kk : ∀ (H : Heap) (locs : List Loc), Hw D A s H locs (wRd ty b o ad2 σ2 ++ (wBelt ty o ad τ ++ rs)) → W p l e R s m args below meth c H locs cells slots Q (F0 m (pc + 1) ls st)) : W p l e R s m args below meth c H locs cells slots Q (F0 m pc ls (.int v :: .int i :: .ref (ad2 113) :: st)) := by
  subst e9
  refine va_iast C.x C.b C.K h.1 h.2.1 h.2.2 6 0 rfl rfl hi dec (fun H1 locs1 hP hD hS => ?_)
  rw [r_s113] at hP hD
  exact kk H1 locs1 ⟨hP, hD, hS⟩
end RROWS
section RSN
variable {p : Program} {l : Launch} {e : Env} {R : Room} {s : State} {m : MethodId} {args : Array Value} {below : List Frame} {meth : Method} {c : Code} {H : Heap} {locs : List Loc} {cells slots : Nat} {Q : State → Prop} {cc : ByteArray} {pc : Nat} {ls : Array Slot} {st rest : List Value} {nL d : Nat} {own : String} {D : va_G} {ty : Nat → ClassId} {A : Nat → Prop}
variable {y : MethodName} {bytes : ByteArray} {nL' d' index : Nat} {rt : FieldType} {ws ws' : va_W} {As : List Value}
/-- a nest mate's static method -/
theorem KI.callSN {r : Int32} {host : String} (C : Cx p R s m args c cc nL own D ty A d) (hM : KI l y bytes nL' rt d' D ty A ws ws' As r)
    (hG : GoodIn lw_all (ws_ y bytes nL' (some rt))) (hl : Cond.methodLinkNest own index y host ∈ lw_tbl) (hini : Cond.initialized y.cls ∈ lw_all) (hsta : Cond.static y ∈ lw_all) (hy : y.cls ≠ "java/lang/invoke/MethodHandle" ∧ y.cls ≠ "java/lang/invoke/VarHandle" ∧ (parseMethodDescriptor y.desc).map (fun d => d.parameters.length) = some As.length)
    (hd : d' + 1 ≤ d) (hn : nL' ≤ 21) (hcs : cells ≤ R.cells) (hss : slots ≤ R.slots)
    (h : Hw D A s H locs ws) (hls : ls.size = nL) (hst : st = As.reverse ++ rest) (hcat : (rest.map fun v => v.category).sum ≤ 8) (dec : decode cc pc = .ok (.invokestatic index, 3))
    (kk : ∀ (H : Heap) (locs : List Loc), Hw D A s H locs ws' → W p l e R s m args below meth c H locs cells slots Q (F0 m (pc + 3) ls (.int r :: rest))) : W p l e R s m args below meth c H locs cells slots Q (F0 m pc ls st) := by
  have hA1 : ∀ q : Nat, H.size ≤ q → A q := fun q hq => C.2.2.1 q (Nat.le_trans h.2.2.1 hq)
  subst hst
  refine va_calli (va_runSN (As := As) (rest := rest) C.1 (hM H.size hA1) ⟨va_cnB As.length C.ts hG rfl rfl rfl (C.N.1 _ hl rfl) (C.ts _ hini) hy (C.room hd hn), C.ts _ hsta, trivial⟩ ⟨KP.blind, KP.here C h⟩ rfl rfl hls rfl (lv_room hcat) dec ⟨hcs, hss⟩) h.2.2 (fun q _ h => h) (fun q h => h) (fun r' u t H1 locs1 ht hvm hr hB hz1 hk1 hS => ?_)
  subst hr
  exact kk H1 locs1 ⟨by rw [← ht]; exact hB.1, hB.2, hS⟩
end RSN
theorem cX_isIn_RX8 {p : Program} {l : Launch} {e : Env} {R : Room} {s : State} {m : MethodId} {args : Array Value} {below : List Frame} {meth : Method} {c : Code} {H : Heap} {locs : List Loc} {Q : State → Prop} {cc : ByteArray} {pc : Nat} {ls : Array Slot} {st : List Value} {nL d : Nat} {D : va_G} {ty : Nat → ClassId} {A : Nat → Prop} {ws : va_W} {v0 v2 v4 : Int64} {q : Int32} (C : Cx p R s m args c cc nL RX8 D ty A d) (h : Hw D A s H locs ws) (hc : X_isIn v0 v2 v4 = some q) (hd : 0 + 1 ≤ d) (hls : ls.size = nL) (hcat : (st.map fun v => v.category).sum ≤ 8) (dec : decode cc pc = .ok (.invokestatic 48, 3)) (kk : ∀ (H : Heap) (locs : List Loc), Hw D A s H locs ws → W p l e R s m args below meth c H locs 0 0 Q (F0 m (pc + 3) ls (.int q :: st))) : W p l e R s m args below meth c H locs 0 0 Q (F0 m pc ls (.long v4 :: .long v2 :: .long v0 :: st)) := KI.callSN (As := [.long v0, .long v2, .long v4]) C (kX_isIn l hc) (lw_meth q458) q482 q137 q457 ⟨by decide, by decide, by show _ = some 3; decide +kernel⟩ hd (by decide) (Nat.zero_le _) (Nat.zero_le _) h hls rfl hcat dec kk
def R_isNext_j39 (τ : PS) (σ : PS) (x0 : Int32) : Option Int32 := tz x0 (some x0)
def R_isNext_j38 (τ : PS) (σ : PS) : Option Int32 := R_isNext_j39 τ σ 0
def R_isNext (τ : PS) (σ : PS) (v1 : Int32) (v2 : Int32) : Option Int32 := if (gI σ 200) ≤ (gI σ 202) then R_isNext_j38 τ σ else ix (gI σ 202) 600 (bd (X_isIn ((rA τ 1 (gI σ 202)).toInt64) v1.toInt64 v2.toInt64) (fun q_1 => if q_1 = 0 then R_isNext_j38 τ σ else R_isNext_j39 τ σ 1))
set_option maxHeartbeats 4000000 in
theorem kR_isNext (l : Launch) {D : va_G} {ty : Nat → ClassId} {A : Nat → Prop} {o : Nat} {ad : Nat → Nat} {rs : va_W} {σ : PS} {τ : PS} {b : Nat} {ad2 : Nat → Nat} {v1 : Int32} {v2 : Int32} {r : Int32} (hf : R_isNext τ σ v1 v2 = some r) : KI l yX8_isNext cX8_isNext 3 .boolean 1 D ty A (wRd ty b o ad2 σ ++ (wBelt ty o ad τ ++ rs)) (wRd ty b o ad2 σ ++ (wBelt ty o ad τ ++ rs)) [.ref b, .int v1, .int v2] r := by
  refine KI.of (by decide) (Nat.le_of_ble_eq_true rfl) ?_
  intro p e R s m args below meth c Q C hR
  have C : Cx p R s m args c cX8_isNext 3 RX8 D ty A 1 := C
  have hR : ∀ (v : Int32), v = r → ∀ (H : Heap) (locs : List Loc) (pc : Nat) (ls : Array Slot), Hw D A s H locs (wRd ty b o ad2 σ ++ (wBelt ty o ad τ ++ rs)) → narrow .boolean (.int v) = .int v → decode cX8_isNext pc = .ok (.ireturn, 1) → W p l e R s m args below meth c H locs 0 0 Q (F0 m pc ls [.int v]) := by intro v e9; cases e9; exact hR
  have j39 : ∀ (x0 : Int32) (H : Heap) (locs : List Loc) (ls : Array Slot), Hw D A s H locs (wRd ty b o ad2 σ ++ (wBelt ty o ad τ ++ rs)) → lv_has ls 3 [] → R_isNext_j39 τ σ x0 = some r → W p l e R s m args below meth c H locs 0 0 Q (F0 m 39 ls [.int x0]) := by
    intro x0 H locs ls h hl hf
    unfold R_isNext_j39 at hf
    obtain ⟨hz, hf⟩ := tz_k (K := fun x => x) rfl hf
    exact hR _ (some_k hf) _ _ _ _ h hz dX8_isNext_39
  have j38 : ∀ (H : Heap) (locs : List Loc) (ls : Array Slot), Hw D A s H locs (wRd ty b o ad2 σ ++ (wBelt ty o ad τ ++ rs)) → lv_has ls 3 [] → R_isNext_j38 τ σ = some r → W p l e R s m args below meth c H locs 0 0 Q (F0 m 38 ls []) := by
    intro  H locs ls h hl hf
    unfold R_isNext_j38 at hf
    refine lv_iconst (v := 0) C.x C.b dX8_isNext_38 (by decide) ?_
    exact j39 0 _ _ _ h (lv_sub hl [] rfl) hf
  intro H locs ls h hl
  have hl : lv_has ls 3 [(0, .ref b), (1, .int v1), (2, .int v2)] := hl
  unfold R_isNext at hf
  refine lv_aload_n C.x C.b dX8_isNext_0 rfl (lv_at hl 0 rfl) ?_
  refine r_g2 C h dX8_isNext_1 ?_
  refine lv_aload_n C.x C.b dX8_isNext_4 rfl (lv_at hl 0 rfl) ?_
  refine r_g0 C h dX8_isNext_5 ?_
  refine lv_icmp_ge (tgt := 38) C.x C.b dX8_isNext_8 (by decide) (fun c9 => ?_) (fun c9 => ?_)
  · have hf := if_t (K := fun x => x) c9 hf
    exact j38  _ _ _ h (lv_sub hl [] rfl) hf
  · have hf := if_f (K := fun x => x) c9 hf
    refine lv_aload_n C.x C.b dX8_isNext_11 rfl (lv_at hl 0 rfl) ?_
    refine r_g6 C h dX8_isNext_12 ?_
    refine r_o1 C h dX8_isNext_15 ?_
    refine lv_aload_n C.x C.b dX8_isNext_18 rfl (lv_at hl 0 rfl) ?_
    refine r_g2 C h dX8_isNext_19 ?_
    obtain ⟨hi, hf⟩ := ix_k (K := fun x => x) rfl hf
    refine r_tape C h hi dX8_isNext_22 ?_
    refine lv_i2l C.x C.b dX8_isNext_23 rfl ?_
    refine lv_iload_n C.x C.b dX8_isNext_24 rfl (lv_at hl 1 rfl) ?_
    refine lv_i2l C.x C.b dX8_isNext_25 rfl ?_
    refine lv_iload_n C.x C.b dX8_isNext_26 rfl (lv_at hl 2 rfl) ?_
    refine lv_i2l C.x C.b dX8_isNext_27 rfl ?_
    obtain ⟨q_1, hc, hf⟩ := bd_k (K := fun x => x) rfl hf
    refine cX_isIn_RX8 C h hc (Nat.le_of_ble_eq_true rfl) hl.1 (Nat.le_of_ble_eq_true rfl) dX8_isNext_28 (fun H locs h => ?_)
    refine lv_if_eq (tgt := 38) C.x C.b dX8_isNext_31 (by decide) (fun c9 => ?_) (fun c9 => ?_)
    · have hf := if_t (K := fun x => x) c9 hf
      exact j38  _ _ _ h (lv_sub hl [] rfl) hf
    · have hf := if_f (K := fun x => x) c9 hf
      refine lv_iconst (v := 1) C.x C.b dX8_isNext_34 (by decide) ?_
      refine lv_goto (tgt := 39) C.x C.b dX8_isNext_35 (by decide) ?_
      exact j39 1 _ _ _ h (lv_sub hl [] rfl) hf
theorem tR_isNext : GoodIn lw_all (wsV RX8 55 RX8 yX8_isNext (ws_ yX8_isNext cX8_isNext 3 (some .boolean))) := lw_V q478 q480 qs2 q148 q481
theorem cR_isNext {p : Program} {l : Launch} {e : Env} {R : Room} {s : State} {m : MethodId} {args : Array Value} {below : List Frame} {meth : Method} {c : Code} {H : Heap} {locs : List Loc} {Q : State → Prop} {cc : ByteArray} {pc : Nat} {ls : Array Slot} {st : List Value} {nL d : Nat} {D : va_G} {ty : Nat → ClassId} {A : Nat → Prop} {o : Nat} {ad : Nat → Nat} {rs : va_W} {σ : PS} {τ : PS} {b : Nat} {ad2 : Nat → Nat} {v1 : Int32} {v2 : Int32} {q : Int32} (C : Cx p R s m args c cc nL RX8 D ty A d) (h : Hw D A s H locs (wRd ty b o ad2 σ ++ (wBelt ty o ad τ ++ rs))) (hc : R_isNext τ σ v1 v2 = some q) (hd : 1 + 1 ≤ d) (hls : ls.size = nL) (hcat : (st.map fun v => v.category).sum ≤ 8) (dec : decode cc pc = .ok (.invokevirtual 55, 3)) (kk : ∀ (H : Heap) (locs : List Loc), Hw D A s H locs (wRd ty b o ad2 σ ++ (wBelt ty o ad τ ++ rs)) → W p l e R s m args below meth c H locs 0 0 Q (F0 m (pc + 3) ls (.int q :: st))) : W p l e R s m args below meth c H locs 0 0 Q (F0 m pc ls (.int v2 :: .int v1 :: .ref b :: st)) := KI.callV (As := [.int v1, .int v2]) C (kR_isNext l hc) tR_isNext ⟨rfl, by decide, by decide, by show _ = some 2; decide +kernel⟩ 0 8 rfl rfl rfl hd (by decide) (Nat.zero_le _) (Nat.zero_le _) h hls rfl hcat dec kk
def R_next_j254 (τ : PS) (σ : PS) : Option PS := some σ
def R_next_j241 (τ : PS) (σ : PS) (x0 : Int32) : Option PS := nm (sI σ 205 x0) (fun σ_1 => nm (sI σ_1 202 ((gI σ_1 202) + 1)) (fun σ_2 => R_next_j254 τ σ_2))
def R_next_j204 (τ : PS) (σ : PS) : Option PS := nm (sI σ 205 2) (fun σ_3 => R_next_j254 τ σ_3)
def R_next_l148 (τ : PS) (σ : PS) : Option ((PS) ⊕ PS) := bd (R_isNext τ σ 48 57) (fun q_4 => if q_4 = 0 then up (R_next_j204 τ σ) else ix (gI σ 202) 600 (nm (sI σ 204 (mn 99999 (((10 * (gI σ 204)) + (rA τ 1 (gI σ 202))) - 48))) (fun σ_5 => nm (sI σ_5 202 ((gI σ_5 202) + 1)) (fun σ_6 => some (.inl (σ_6))))))
def R_next_B148 (τ : PS) : (PS) → Option ((PS) ⊕ PS) := fun t => R_next_l148 τ t
def R_next_j122 (τ : PS) (σ : PS) : Option PS := nm (sI σ 205 1) (fun σ_7 => R_next_j254 τ σ_7)
def R_next_l98 (τ : PS) (σ : PS) : Option ((PS) ⊕ PS) := bd (R_isNext τ σ 97 122) (fun q_8 => if q_8 = 0 then up (R_next_j122 τ σ) else nm (sI σ 202 ((gI σ 202) + 1)) (fun σ_9 => some (.inl (σ_9))))
def R_next_B98 (τ : PS) : (PS) → Option ((PS) ⊕ PS) := fun t => R_next_l98 τ t
def R_next_j58 (τ : PS) (σ : PS) : Option PS := nm (sI σ 203 (gI σ 202)) (fun σ_10 => if (gI σ_10 202) = (gI σ_10 200) then nm (sI σ_10 205 0) (fun σ_14 => R_next_j254 τ σ_14) else bd (R_isNext τ σ_10 97 122) (fun q_11 => if q_11 = 0 then bd (R_isNext τ σ_10 48 57) (fun q_12 => if q_12 = 0 then ix (gI σ_10 202) 600 (if (rA τ 1 (gI σ_10 202)) = 59 then R_next_j241 τ σ_10 3 else R_next_j241 τ σ_10 4) else nm (sI σ_10 204 0) (fun σ_13 => loop (R_next_B148 τ) fu (σ_13))) else loop (R_next_B98 τ) fu (σ_10)))
def R_next_j45 (τ : PS) (σ : PS) : Option ((PS) ⊕ PS) := nm (sI σ 202 ((gI σ 202) + 1)) (fun σ_15 => some (.inl (σ_15)))
def R_next_l0 (τ : PS) (σ : PS) : Option ((PS) ⊕ PS) := if (gI σ 200) ≤ (gI σ 202) then up (R_next_j58 τ σ) else ix (gI σ 202) 600 (if (rA τ 1 (gI σ 202)) = 32 then R_next_j45 τ σ else ix (gI σ 202) 600 (if (rA τ 1 (gI σ 202)) = 10 then R_next_j45 τ σ else up (R_next_j58 τ σ)))
def R_next_B0 (τ : PS) : (PS) → Option ((PS) ⊕ PS) := fun t => R_next_l0 τ t
def R_next (τ : PS) (σ : PS) : Option PS := loop (R_next_B0 τ) fu (σ)
set_option maxHeartbeats 4000000 in
theorem kR_next (l : Launch) {D : va_G} {ty : Nat → ClassId} {A : Nat → Prop} {o : Nat} {ad : Nat → Nat} {rs : va_W} {σ : PS} {τ : PS} {b : Nat} {ad2 : Nat → Nat} {σ' : PS} (hf : R_next τ σ = some σ') : KV l yX8_next cX8_next 1 2 D ty A (wRd ty b o ad2 σ ++ (wBelt ty o ad τ ++ rs)) (wRd ty b o ad2 σ' ++ (wBelt ty o ad τ ++ rs)) [.ref b] := by
  refine KV.of (by decide) (Nat.le_of_ble_eq_true rfl) ?_
  intro p e R s m args below meth c Q C hR
  have C : Cx p R s m args c cX8_next 1 RX8 D ty A 2 := C
  have hR : ∀ (σ2 : PS), σ2 = σ' → ∀ (H : Heap) (locs : List Loc) (pc : Nat) (ls : Array Slot), Hw D A s H locs (wRd ty b o ad2 σ2 ++ (wBelt ty o ad τ ++ rs)) → decode cX8_next pc = .ok (.return_, 1) → W p l e R s m args below meth c H locs 0 0 Q (F0 m pc ls []) := by intro σ2 e9; cases e9; exact hR
  have j254 : ∀ (σ : PS) (H : Heap) (locs : List Loc) (ls : Array Slot), Hw D A s H locs (wRd ty b o ad2 σ ++ (wBelt ty o ad τ ++ rs)) → lv_has ls 1 [] → R_next_j254 τ σ = some σ' → W p l e R s m args below meth c H locs 0 0 Q (F0 m 254 ls []) := by
    intro σ H locs ls h hl hf
    unfold R_next_j254 at hf
    exact hR _ (some_k hf) _ _ _ _ h dX8_next_254
  have j241 : ∀ (σ : PS) (x0 : Int32) (H : Heap) (locs : List Loc) (ls : Array Slot), Hw D A s H locs (wRd ty b o ad2 σ ++ (wBelt ty o ad τ ++ rs)) → lv_has ls 1 [(0, .ref b)] → R_next_j241 τ σ x0 = some σ' → W p l e R s m args below meth c H locs 0 0 Q (F0 m 241 ls [tokV ty x0, .ref b]) := by
    intro σ x0 H locs ls h hl hf
    unfold R_next_j241 at hf
    obtain ⟨σ_1, e9, hf⟩ := nm_k (K := fun x => x) hf
    refine r_p5 C h e9 dX8_next_241 (fun H locs h => ?_)
    refine lv_aload_n C.x C.b dX8_next_244 rfl (lv_at hl 0 rfl) ?_
    refine lv_dup C.x C.b dX8_next_245 rfl ?_
    refine r_g2 C h dX8_next_246 ?_
    refine lv_iconst (v := 1) C.x C.b dX8_next_249 (by decide) ?_
    refine lv_iadd C.x C.b dX8_next_250 ?_
    obtain ⟨σ_2, e9, hf⟩ := nm_k (K := fun x => x) hf
    refine r_p2 C h e9 dX8_next_251 (fun H locs h => ?_)
    exact j254 σ_2 _ _ _ h (lv_sub hl [] rfl) hf
  have j204 : ∀ (σ : PS) (H : Heap) (locs : List Loc) (ls : Array Slot), Hw D A s H locs (wRd ty b o ad2 σ ++ (wBelt ty o ad τ ++ rs)) → lv_has ls 1 [(0, .ref b)] → R_next_j204 τ σ = some σ' → W p l e R s m args below meth c H locs 0 0 Q (F0 m 204 ls []) := by
    intro σ H locs ls h hl hf
    unfold R_next_j204 at hf
    refine lv_aload_n C.x C.b dX8_next_204 rfl (lv_at hl 0 rfl) ?_
    refine r_tok2 C h dX8_next_205 ?_
    obtain ⟨σ_3, e9, hf⟩ := nm_k (K := fun x => x) hf
    refine r_p5 C h e9 dX8_next_208 (fun H locs h => ?_)
    refine lv_goto (tgt := 254) C.x C.b dX8_next_211 (by decide) ?_
    exact j254 σ_3 _ _ _ h (lv_sub hl [] rfl) hf
  have l148 : ∀ (n148 : Nat) (σ : PS) (H : Heap) (locs : List Loc) (ls : Array Slot), Hw D A s H locs (wRd ty b o ad2 σ ++ (wBelt ty o ad τ ++ rs)) → lv_has ls 1 [(0, .ref b)] → loop (R_next_B148 τ) n148 (σ) = some σ' → W p l e R s m args below meth c H locs 0 0 Q (F0 m 148 ls []) := by
    intro n148
    induction n148 with
    | zero => intro σ H locs ls h hl hf; exact (none_k hf).elim
    | succ n148 ih148 =>
      intro σ H locs ls h hl hf
      have hf : bl (R_next_B148 τ) n148 (R_next_l148 τ σ) = some σ' := hf
      unfold R_next_l148 at hf
      refine lv_aload_n C.x C.b dX8_next_148 rfl (lv_at hl 0 rfl) ?_
      refine lv_bipush (v := 48) C.x C.b dX8_next_149 (by decide) ?_
      refine lv_bipush (v := 57) C.x C.b dX8_next_151 (by decide) ?_
      obtain ⟨q_4, hc, hf⟩ := bd_k (K := bl (R_next_B148 τ) n148) rfl hf
      refine cR_isNext C h hc (Nat.le_of_ble_eq_true rfl) hl.1 (Nat.le_of_ble_eq_true rfl) dX8_next_153 (fun H locs h => ?_)
      refine lv_if_eq (tgt := 204) C.x C.b dX8_next_156 (by decide) (fun c9 => ?_) (fun c9 => ?_)
      · have hf := if_t (K := bl (R_next_B148 τ) n148) c9 hf
        have hf := bl_upK (K := fun x => x) hf
        exact j204 σ _ _ _ h (lv_sub hl [0] rfl) hf
      · have hf := if_f (K := bl (R_next_B148 τ) n148) c9 hf
        refine lv_aload_n C.x C.b dX8_next_159 rfl (lv_at hl 0 rfl) ?_
        refine lv_ldc (v := 99999) C.x C.b C.own (C.ts _ q485) dX8_next_160 ?_
        refine lv_bipush (v := 10) C.x C.b dX8_next_162 (by decide) ?_
        refine lv_aload_n C.x C.b dX8_next_164 rfl (lv_at hl 0 rfl) ?_
        refine r_g4 C h dX8_next_165 ?_
        refine lv_imul C.x C.b dX8_next_168 ?_
        refine lv_aload_n C.x C.b dX8_next_169 rfl (lv_at hl 0 rfl) ?_
        refine r_g6 C h dX8_next_170 ?_
        refine r_o1 C h dX8_next_173 ?_
        refine lv_aload_n C.x C.b dX8_next_176 rfl (lv_at hl 0 rfl) ?_
        refine r_g2 C h dX8_next_177 ?_
        obtain ⟨hi, hf⟩ := ix_k (K := bl (R_next_B148 τ) n148) rfl hf
        refine r_tape C h hi dX8_next_180 ?_
        refine lv_iadd C.x C.b dX8_next_181 ?_
        refine lv_bipush (v := 48) C.x C.b dX8_next_182 (by decide) ?_
        refine lv_isub C.x C.b dX8_next_184 ?_
        refine r_min_X8 C h hl.1 (by decide) (Nat.le_of_ble_eq_true rfl) dX8_next_185 ?_
        obtain ⟨σ_5, e9, hf⟩ := nm_k (K := bl (R_next_B148 τ) n148) hf
        refine r_p4 C h e9 dX8_next_188 (fun H locs h => ?_)
        refine lv_aload_n C.x C.b dX8_next_191 rfl (lv_at hl 0 rfl) ?_
        refine lv_dup C.x C.b dX8_next_192 rfl ?_
        refine r_g2 C h dX8_next_193 ?_
        refine lv_iconst (v := 1) C.x C.b dX8_next_196 (by decide) ?_
        refine lv_iadd C.x C.b dX8_next_197 ?_
        obtain ⟨σ_6, e9, hf⟩ := nm_k (K := bl (R_next_B148 τ) n148) hf
        refine r_p2 C h e9 dX8_next_198 (fun H locs h => ?_)
        refine lv_goto (tgt := 148) C.x C.b dX8_next_201 (by decide) ?_
        exact ih148 σ_6 _ _ _ h (lv_sub hl [0] rfl) hf
  have j122 : ∀ (σ : PS) (H : Heap) (locs : List Loc) (ls : Array Slot), Hw D A s H locs (wRd ty b o ad2 σ ++ (wBelt ty o ad τ ++ rs)) → lv_has ls 1 [(0, .ref b)] → R_next_j122 τ σ = some σ' → W p l e R s m args below meth c H locs 0 0 Q (F0 m 122 ls []) := by
    intro σ H locs ls h hl hf
    unfold R_next_j122 at hf
    refine lv_aload_n C.x C.b dX8_next_122 rfl (lv_at hl 0 rfl) ?_
    refine r_tok1 C h dX8_next_123 ?_
    obtain ⟨σ_7, e9, hf⟩ := nm_k (K := fun x => x) hf
    refine r_p5 C h e9 dX8_next_126 (fun H locs h => ?_)
    refine lv_goto (tgt := 254) C.x C.b dX8_next_129 (by decide) ?_
    exact j254 σ_7 _ _ _ h (lv_sub hl [] rfl) hf
  have l98 : ∀ (n98 : Nat) (σ : PS) (H : Heap) (locs : List Loc) (ls : Array Slot), Hw D A s H locs (wRd ty b o ad2 σ ++ (wBelt ty o ad τ ++ rs)) → lv_has ls 1 [(0, .ref b)] → loop (R_next_B98 τ) n98 (σ) = some σ' → W p l e R s m args below meth c H locs 0 0 Q (F0 m 98 ls []) := by
    intro n98
    induction n98 with
    | zero => intro σ H locs ls h hl hf; exact (none_k hf).elim
    | succ n98 ih98 =>
      intro σ H locs ls h hl hf
      have hf : bl (R_next_B98 τ) n98 (R_next_l98 τ σ) = some σ' := hf
      unfold R_next_l98 at hf
      refine lv_aload_n C.x C.b dX8_next_98 rfl (lv_at hl 0 rfl) ?_
      refine lv_bipush (v := 97) C.x C.b dX8_next_99 (by decide) ?_
      refine lv_bipush (v := 122) C.x C.b dX8_next_101 (by decide) ?_
      obtain ⟨q_8, hc, hf⟩ := bd_k (K := bl (R_next_B98 τ) n98) rfl hf
      refine cR_isNext C h hc (Nat.le_of_ble_eq_true rfl) hl.1 (Nat.le_of_ble_eq_true rfl) dX8_next_103 (fun H locs h => ?_)
      refine lv_if_eq (tgt := 122) C.x C.b dX8_next_106 (by decide) (fun c9 => ?_) (fun c9 => ?_)
      · have hf := if_t (K := bl (R_next_B98 τ) n98) c9 hf
        have hf := bl_upK (K := fun x => x) hf
        exact j122 σ _ _ _ h (lv_sub hl [0] rfl) hf
      · have hf := if_f (K := bl (R_next_B98 τ) n98) c9 hf
        refine lv_aload_n C.x C.b dX8_next_109 rfl (lv_at hl 0 rfl) ?_
        refine lv_dup C.x C.b dX8_next_110 rfl ?_
        refine r_g2 C h dX8_next_111 ?_
        refine lv_iconst (v := 1) C.x C.b dX8_next_114 (by decide) ?_
        refine lv_iadd C.x C.b dX8_next_115 ?_
        obtain ⟨σ_9, e9, hf⟩ := nm_k (K := bl (R_next_B98 τ) n98) hf
        refine r_p2 C h e9 dX8_next_116 (fun H locs h => ?_)
        refine lv_goto (tgt := 98) C.x C.b dX8_next_119 (by decide) ?_
        exact ih98 σ_9 _ _ _ h (lv_sub hl [0] rfl) hf
  have j58 : ∀ (σ : PS) (H : Heap) (locs : List Loc) (ls : Array Slot), Hw D A s H locs (wRd ty b o ad2 σ ++ (wBelt ty o ad τ ++ rs)) → lv_has ls 1 [(0, .ref b)] → R_next_j58 τ σ = some σ' → W p l e R s m args below meth c H locs 0 0 Q (F0 m 58 ls []) := by
    intro σ H locs ls h hl hf
    unfold R_next_j58 at hf
    refine lv_aload_n C.x C.b dX8_next_58 rfl (lv_at hl 0 rfl) ?_
    refine lv_aload_n C.x C.b dX8_next_59 rfl (lv_at hl 0 rfl) ?_
    refine r_g2 C h dX8_next_60 ?_
    obtain ⟨σ_10, e9, hf⟩ := nm_k (K := fun x => x) hf
    refine r_p3 C h e9 dX8_next_63 (fun H locs h => ?_)
    refine lv_aload_n C.x C.b dX8_next_66 rfl (lv_at hl 0 rfl) ?_
    refine r_g2 C h dX8_next_67 ?_
    refine lv_aload_n C.x C.b dX8_next_70 rfl (lv_at hl 0 rfl) ?_
    refine r_g0 C h dX8_next_71 ?_
    refine lv_icmp_ne (tgt := 87) C.x C.b dX8_next_74 (by decide) (fun c9 => ?_) (fun c9 => ?_)
    · have hf := if_f (K := fun x => x) c9 hf
      refine lv_aload_n C.x C.b dX8_next_87 rfl (lv_at hl 0 rfl) ?_
      refine lv_bipush (v := 97) C.x C.b dX8_next_88 (by decide) ?_
      refine lv_bipush (v := 122) C.x C.b dX8_next_90 (by decide) ?_
      obtain ⟨q_11, hc, hf⟩ := bd_k (K := fun x => x) rfl hf
      refine cR_isNext C h hc (Nat.le_of_ble_eq_true rfl) hl.1 (Nat.le_of_ble_eq_true rfl) dX8_next_92 (fun H locs h => ?_)
      refine lv_if_eq (tgt := 132) C.x C.b dX8_next_95 (by decide) (fun c9 => ?_) (fun c9 => ?_)
      · have hf := if_t (K := fun x => x) c9 hf
        refine lv_aload_n C.x C.b dX8_next_132 rfl (lv_at hl 0 rfl) ?_
        refine lv_bipush (v := 48) C.x C.b dX8_next_133 (by decide) ?_
        refine lv_bipush (v := 57) C.x C.b dX8_next_135 (by decide) ?_
        obtain ⟨q_12, hc, hf⟩ := bd_k (K := fun x => x) rfl hf
        refine cR_isNext C h hc (Nat.le_of_ble_eq_true rfl) hl.1 (Nat.le_of_ble_eq_true rfl) dX8_next_137 (fun H locs h => ?_)
        refine lv_if_eq (tgt := 214) C.x C.b dX8_next_140 (by decide) (fun c9 => ?_) (fun c9 => ?_)
        · have hf := if_t (K := fun x => x) c9 hf
          refine lv_aload_n C.x C.b dX8_next_214 rfl (lv_at hl 0 rfl) ?_
          refine lv_aload_n C.x C.b dX8_next_215 rfl (lv_at hl 0 rfl) ?_
          refine r_g6 C h dX8_next_216 ?_
          refine r_o1 C h dX8_next_219 ?_
          refine lv_aload_n C.x C.b dX8_next_222 rfl (lv_at hl 0 rfl) ?_
          refine r_g2 C h dX8_next_223 ?_
          obtain ⟨hi, hf⟩ := ix_k (K := fun x => x) rfl hf
          refine r_tape C h hi dX8_next_226 ?_
          refine lv_bipush (v := 59) C.x C.b dX8_next_227 (by decide) ?_
          refine lv_icmp_ne (tgt := 238) C.x C.b dX8_next_229 (by decide) (fun c9 => ?_) (fun c9 => ?_)
          · have hf := if_f (K := fun x => x) c9 hf
            refine r_tok4 C h dX8_next_238 ?_
            exact j241 σ_10 4 _ _ _ h (lv_sub hl [0] rfl) hf
          · have hf := if_t (K := fun x => x) c9 hf
            refine r_tok3 C h dX8_next_232 ?_
            refine lv_goto (tgt := 241) C.x C.b dX8_next_235 (by decide) ?_
            exact j241 σ_10 3 _ _ _ h (lv_sub hl [0] rfl) hf
        · have hf := if_f (K := fun x => x) c9 hf
          refine lv_aload_n C.x C.b dX8_next_143 rfl (lv_at hl 0 rfl) ?_
          refine lv_iconst (v := 0) C.x C.b dX8_next_144 (by decide) ?_
          obtain ⟨σ_13, e9, hf⟩ := nm_k (K := fun x => x) hf
          refine r_p4 C h e9 dX8_next_145 (fun H locs h => ?_)
          exact l148  fu σ_13 _ _ _ h (lv_sub hl [0] rfl) hf
      · have hf := if_f (K := fun x => x) c9 hf
        exact l98  fu σ_10 _ _ _ h (lv_sub hl [0] rfl) hf
    · have hf := if_t (K := fun x => x) c9 hf
      refine lv_aload_n C.x C.b dX8_next_77 rfl (lv_at hl 0 rfl) ?_
      refine r_tok0 C h dX8_next_78 ?_
      obtain ⟨σ_14, e9, hf⟩ := nm_k (K := fun x => x) hf
      refine r_p5 C h e9 dX8_next_81 (fun H locs h => ?_)
      refine lv_goto (tgt := 254) C.x C.b dX8_next_84 (by decide) ?_
      exact j254 σ_14 _ _ _ h (lv_sub hl [] rfl) hf
  have l0 : ∀ (n0 : Nat) (σ : PS) (H : Heap) (locs : List Loc) (ls : Array Slot), Hw D A s H locs (wRd ty b o ad2 σ ++ (wBelt ty o ad τ ++ rs)) → lv_has ls 1 [(0, .ref b)] → loop (R_next_B0 τ) n0 (σ) = some σ' → W p l e R s m args below meth c H locs 0 0 Q (F0 m 0 ls []) := by
    intro n0
    induction n0 with
    | zero => intro σ H locs ls h hl hf; exact (none_k hf).elim
    | succ n0 ih0 =>
      have j45 : ∀ (σ : PS) (H : Heap) (locs : List Loc) (ls : Array Slot), Hw D A s H locs (wRd ty b o ad2 σ ++ (wBelt ty o ad τ ++ rs)) → lv_has ls 1 [(0, .ref b)] → bl (R_next_B0 τ) n0 (R_next_j45 τ σ) = some σ' → W p l e R s m args below meth c H locs 0 0 Q (F0 m 45 ls []) := by
        intro σ H locs ls h hl hf
        unfold R_next_j45 at hf
        refine lv_aload_n C.x C.b dX8_next_45 rfl (lv_at hl 0 rfl) ?_
        refine lv_dup C.x C.b dX8_next_46 rfl ?_
        refine r_g2 C h dX8_next_47 ?_
        refine lv_iconst (v := 1) C.x C.b dX8_next_50 (by decide) ?_
        refine lv_iadd C.x C.b dX8_next_51 ?_
        obtain ⟨σ_15, e9, hf⟩ := nm_k (K := bl (R_next_B0 τ) n0) hf
        refine r_p2 C h e9 dX8_next_52 (fun H locs h => ?_)
        refine lv_goto (tgt := 0) C.x C.b dX8_next_55 (by decide) ?_
        exact ih0 σ_15 _ _ _ h (lv_sub hl [0] rfl) hf
      intro σ H locs ls h hl hf
      have hf : bl (R_next_B0 τ) n0 (R_next_l0 τ σ) = some σ' := hf
      unfold R_next_l0 at hf
      refine lv_aload_n C.x C.b dX8_next_0 rfl (lv_at hl 0 rfl) ?_
      refine r_g2 C h dX8_next_1 ?_
      refine lv_aload_n C.x C.b dX8_next_4 rfl (lv_at hl 0 rfl) ?_
      refine r_g0 C h dX8_next_5 ?_
      refine lv_icmp_ge (tgt := 58) C.x C.b dX8_next_8 (by decide) (fun c9 => ?_) (fun c9 => ?_)
      · have hf := if_t (K := bl (R_next_B0 τ) n0) c9 hf
        have hf := bl_upK (K := fun x => x) hf
        exact j58 σ _ _ _ h (lv_sub hl [0] rfl) hf
      · have hf := if_f (K := bl (R_next_B0 τ) n0) c9 hf
        refine lv_aload_n C.x C.b dX8_next_11 rfl (lv_at hl 0 rfl) ?_
        refine r_g6 C h dX8_next_12 ?_
        refine r_o1 C h dX8_next_15 ?_
        refine lv_aload_n C.x C.b dX8_next_18 rfl (lv_at hl 0 rfl) ?_
        refine r_g2 C h dX8_next_19 ?_
        obtain ⟨hi, hf⟩ := ix_k (K := bl (R_next_B0 τ) n0) rfl hf
        refine r_tape C h hi dX8_next_22 ?_
        refine lv_bipush (v := 32) C.x C.b dX8_next_23 (by decide) ?_
        refine lv_icmp_eq (tgt := 45) C.x C.b dX8_next_25 (by decide) (fun c9 => ?_) (fun c9 => ?_)
        · have hf := if_t (K := bl (R_next_B0 τ) n0) c9 hf
          exact j45 σ _ _ _ h (lv_sub hl [0] rfl) hf
        · have hf := if_f (K := bl (R_next_B0 τ) n0) c9 hf
          refine lv_aload_n C.x C.b dX8_next_28 rfl (lv_at hl 0 rfl) ?_
          refine r_g6 C h dX8_next_29 ?_
          refine r_o1 C h dX8_next_32 ?_
          refine lv_aload_n C.x C.b dX8_next_35 rfl (lv_at hl 0 rfl) ?_
          refine r_g2 C h dX8_next_36 ?_
          obtain ⟨hi, hf⟩ := ix_k (K := bl (R_next_B0 τ) n0) rfl hf
          refine r_tape C h hi dX8_next_39 ?_
          refine lv_bipush (v := 10) C.x C.b dX8_next_40 (by decide) ?_
          refine lv_icmp_ne (tgt := 58) C.x C.b dX8_next_42 (by decide) (fun c9 => ?_) (fun c9 => ?_)
          · have hf := if_f (K := bl (R_next_B0 τ) n0) c9 hf
            have hf := bl_upK (K := fun x => x) hf
            exact j58 σ _ _ _ h (lv_sub hl [0] rfl) hf
          · have hf := if_t (K := bl (R_next_B0 τ) n0) c9 hf
            exact j45 σ _ _ _ h (lv_sub hl [0] rfl) hf
  intro H locs ls h hl
  have hl : lv_has ls 1 [(0, .ref b)] := hl
  unfold R_next at hf
  exact l0  fu σ _ _ _ h (lv_sub hl [0] rfl) hf
theorem tR_next : GoodIn lw_all (wsV RX8 38 RX8 yX8_next (ws_ yX8_next cX8_next 1 none)) := lw_V q474 q476 qs1 q148 q477
theorem cR_next {p : Program} {l : Launch} {e : Env} {R : Room} {s : State} {m : MethodId} {args : Array Value} {below : List Frame} {meth : Method} {c : Code} {H : Heap} {locs : List Loc} {Q : State → Prop} {cc : ByteArray} {pc : Nat} {ls : Array Slot} {st : List Value} {nL d : Nat} {D : va_G} {ty : Nat → ClassId} {A : Nat → Prop} {o : Nat} {ad : Nat → Nat} {rs : va_W} {σ : PS} {τ : PS} {b : Nat} {ad2 : Nat → Nat} {q : PS} (C : Cx p R s m args c cc nL RX8 D ty A d) (h : Hw D A s H locs (wRd ty b o ad2 σ ++ (wBelt ty o ad τ ++ rs))) (hc : R_next τ σ = some q) (hd : 2 + 1 ≤ d) (hls : ls.size = nL) (hcat : (st.map fun v => v.category).sum ≤ 8) (dec : decode cc pc = .ok (.invokevirtual 38, 3)) (kk : ∀ (H : Heap) (locs : List Loc), Hw D A s H locs (wRd ty b o ad2 q ++ (wBelt ty o ad τ ++ rs)) → W p l e R s m args below meth c H locs 0 0 Q (F0 m (pc + 3) ls (st))) : W p l e R s m args below meth c H locs 0 0 Q (F0 m pc ls (.ref b :: st)) := KV.callV (As := []) C (kR_next l hc) tR_next ⟨rfl, by decide, by decide, by show _ = some 0; decide +kernel⟩ 0 8 rfl rfl rfl hd (by decide) (Nat.zero_le _) (Nat.zero_le _) h hls rfl hcat dec kk
