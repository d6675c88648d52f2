set_option maxRecDepth 100000
section PUT2
variable {p : Program} {l : Launch} {e : Env} {R : Room} {s : State} {m : MethodId} {args : Array Value} {below : List Frame} {meth : Method} {c : Code} {H : Heap} {locs : List Loc} {cells slots : Nat} {Q : State → Prop} {cc : ByteArray} {pc : Nat} {ls : Array Slot} {rest : List Value} {D : va_G} {cl : List vw_C} {tys : List (ClassId × FieldType)} {ws : va_W} {A : Nat → Prop} {H0 : Heap} {a : Nat}
/-- a final field of a class with two fields that may be one place -/
theorem va_putF2 (hexec : p.tables.exec = Jvm.exec) (hb : c.code = cc) {own ref C : String} {T : u_T} {ci index : Nat} {Ts : List Cond} (hts : ∀ w ∈ Ts, w.before args s = true) (hin : ∀ w ∈ u_ws C T 2, w ∈ Ts) (hown : s.vm.findClass own = some m.cls) (hK : va_K D cl tys s) (hP : va_P D cl ws H) (hD : va_D A ws) (hS0 : va_S A H0 H locs) (q0 : Nat) {f0 f1 : Value} (he : ws[q0]? = some (a, .inr (ci, [f0, f1]))) (hc : cl[ci]? = some (C, T, 2)) (k : Nat) (hk : k < 2) (hlink : (Cond.fieldLink own index ref (T k).2.1 (T k).2.2.1).before args s = true) (hsame : ∀ x, s.fieldFound? (T k).1 (T k).2.1 (T k).2.2.1 = some x → s.fieldFound? ref (T k).2.1 (T k).2.2.1 = some x) (hfin : (T k).2.2.2 = true) (hin2 : meth.name = "<init>") (hdecl : (T k).1 = own) {ty : FieldType} {v : Value} (hd : parseFieldDescriptor (T k).2.2.1 = some ty) (hn : narrow ty v = v) (hfit : fits ty v = true)
    (hdg : decode cc pc = .ok (.putfield index, 3)) (kk : ∀ (fs : List Value) (H1 : Heap) (locs1 : List Loc), (fs = [f0, f1].set k v ∨ fs = [v, v]) → va_P D cl (ws.set q0 (a, .inr (ci, fs))) H1 → va_D A (ws.set q0 (a, .inr (ci, fs))) → va_S A H0 H1 locs1 → W p l e R s m args below meth c H1 locs1 cells slots Q (F0 m (pc + 3) ls rest)) : W p l e R s m args below meth c H locs cells slots Q (F0 m pc ls (v :: .ref a :: rest)) := by
  obtain ⟨r, h1, cell, q1, q2, q3, q4⟩ := hP q0 _ he
  have hr : r = (C, T, 2) := Option.some.inj (h1.symm.trans hc)
  subst hr
  obtain ⟨hS, hfc, kC, hkC, hkind⟩ := hK.1 ci _ hc
  obtain ⟨cf, kf, fi, f, hi, hsl⟩ := hS k hk
  have hlay := hts _ (hin _ (u_in_lay hk))
  unfold u_lay at hlay
  rw [if_pos hfin] at hlay
  have hst := (u_facts hfc hkC (u_lays hts hin hk) hi).1
  have hcf : m.cls = cf := by
    obtain ⟨_, _, c', _, _, _, -, -, hf', -, -, -, hown2, -⟩ := Cond.laysFinal_spec hlay
    have e1 : c' = cf := by have := hi.symm.trans hf'; simp at this; exact this.1.symm
    rw [hdecl] at hown2
    rw [← e1]; exact Option.some.inj (hown.symm.trans hown2)
  have h6 := u_fits hfc hkC hkind (Or.inr hlay) hi hd hn hfit
  refine W.putFinK hexec hb hown hlink (hsame _ hi) hst hcf hin2 (by rw [q2]; exact h6) q1 q3 (by rw [hsl]; exact k2_hasslot (q4 k hk)) rfl rfl hdg fun H' e1 e2 e3 => ?_
  rw [hsl] at e1 ⊢
  by_cases hs : D.2 ci 0 = D.2 ci 1
  · have hall : ∀ j, j < 2 → D.2 ci j = D.2 ci k := by
      intro j hj
      have h2 : j = 0 ∨ j = 1 := by omega
      have h3 : k = 0 ∨ k = 1 := by omega
      rcases h2 with h2 | h2 <;> rcases h3 with h3 | h3 <;> subst h2 <;> subst h3 <;> first | rfl | exact hs | exact hs.symm
    refine kk [v, v] H' _ (Or.inr rfl) (hP.set hD he ⟨_, hc, ⟨_, e1, q2, q3, fun j hj => ?_⟩⟩ e3) (hD.set he) (hS0.put e2 e3 (hD.2 q0 _ he))
    show (cell.setSlot (D.2 ci k) v).slots[D.2 ci j]? = some (vp_V [v, v] j)
    rw [hall j hj, Cell.slots_setSlot_self _ (k2_hasslot (q4 k hk))]
    have h2 : j = 0 ∨ j = 1 := by have : j < 2 := hj; omega
    rcases h2 with h2 | h2 <;> subst h2 <;> rfl
  · have hap : ∀ x y, x < 2 → y < 2 → x ≠ y → D.2 ci x ≠ D.2 ci y := by
      intro x y hx hy hxy
      have h2 : (x = 0 ∧ y = 1) ∨ (x = 1 ∧ y = 0) := by omega
      rcases h2 with ⟨h2, h3⟩ | ⟨h2, h3⟩ <;> subst h2 <;> subst h3
      · exact hs
      · exact fun e => hs e.symm
    exact kk _ H' _ (Or.inl rfl) (hP.set hD he ⟨_, hc, t_OB.to (V := updV (vp_V [f0, f1]) k v) ⟨_, e1, q2, q3, t_set q4 hap hk v⟩ (fun j _ => vp_updV_set hk v j)⟩ e3) (hD.set he) (hS0.put e2 e3 (hD.2 q0 _ he))
end PUT2
section NEWQ
variable {p : Program} {l : Launch} {e : Env} {R : Room} {s : State} {m : MethodId} {args : Array Value} {below : List Frame} {meth : Method} {c : Code} {H : Heap} {locs : List Loc} {cells slots : Nat} {Q : State → Prop} {cc : ByteArray} {pc : Nat} {ls : Array Slot} {st : List Value} {nL d : Nat} {ow : String} {D : va_G} {ty : Nat → ClassId} {A : Nat → Prop} {ws : va_W}
theorem n_arr_q (C : Cx p R s m args c cc nL ow D ty A d) (h : Hw D A s H locs ws) {n : Int32} {N index t0 : Nat} {E : String} (hl : Cond.classLink ow index E ∈ lw_all) (hAO : va_AO E s) (ht : (tys ty)[t0]? = some (ty t0, .object E)) (hn : ¬ n < 0) (hN : n.toNatClampNeg = N) (hb : N * 4 ≤ 536870912) (hcs : cells + 1 ≤ R.cells) (hss : slots + N ≤ R.slots) (dec : decode cc pc = .ok (.anewarray index, 3)) (kk : ∀ (q : Nat) (H : Heap), Hw D A s H locs (ws ++ [(q, .inl (ty t0, N, .inr (.inr (.inr (.inr (fun _ => none))))))]) → W p l e R s m args below meth c H locs (cells + 1) (slots + N) Q (F0 m (pc + 3) ls (.ref q :: st))) : W p l e R s m args below meth c H locs cells slots Q (F0 m pc ls (.int n :: st)) := by
  refine va_newq C.x C.b C.own (C.ts _ hl) hAO C.K h.1 h.2.1 h.2.2 C.2.2.1 hn hN hb hcs hss dec (fun q cA H1 hK hP hD hS => ?_)
  obtain ⟨_, _, _, _, _, h1⟩ := (hK.2 8 (cA, .object E) rfl).2
  obtain ⟨_, _, _, _, _, h2⟩ := (C.K.2 t0 (ty t0, .object E) ht).2
  have e9 : cA = ty t0 := Option.some.inj (h1.symm.trans h2)
  subst e9
  exact kk q H1 ⟨hP, hD, hS⟩
end NEWQ
set_option maxHeartbeats 4000000 in
theorem kC_init0 (l : Launch) {D : va_G} {ty : Nat → ClassId} {A : Nat → Prop} {b o : Nat} : KVx l yX2_init cX2_init 2 1 0 0 D ty A [(b, .inr (2, [.null]))] [.ref b, .ref o] (fun (_ : Unit) => True) (fun _ => [(b, .inr (2, [.ref o]))]) := by
  refine KVx.of (by decide) (Nat.le_of_ble_eq_true rfl) ?_
  intro p e R s m args below meth c Q C hin hmc hms hR H locs ls h hl
  have C : Cx p R s m args c cX2_init 2 RX2 D ty A 1 := C
  have hin : meth.name = "<init>" := hin
  have hl : lv_has ls 2 [(0, .ref b), (1, .ref o)] := hl
  refine lv_aload_n C.x C.b dX2_init_0 rfl (lv_at hl 0 rfl) ?_
  refine lv_aload_n C.x C.b dX2_init_1 rfl (lv_at hl 1 rfl) ?_
  refine va_putF (D := D) (ci := 2) (ty := .object "LehrBelt") (v := .ref o) C.x C.b C.ts in_X2 tyX2 tyX2_ok nmX2 C.own C.K h.1 h.2.1 h.2.2 0 rfl rfl 0 (by decide) (C.ts _ q267) (fun _ h9 => h9) rfl hin rfl (by decide +kernel) rfl rfl (Nat.le_of_ble_eq_true rfl) dX2_init_2 (fun H locs hP hD hS => ?_)
  have h : Hw D A s H locs [(b, .inr (2, [.ref o]))] := ⟨hP, hD, hS⟩
  refine lv_aload_n C.x C.b dX2_init_5 rfl (lv_at hl 0 rfl) ?_
  refine W.objInit C.x C.b C.own (C.ts _ q266) (C.ts _ q176) (C.ts _ q177) rfl (by rw [C.1.2.2.1]; exact hl.1) rfl dX2_init_6 (Nat.le_trans (Nat.le_of_ble_eq_true rfl) C.2.2.2.1) (Nat.le_trans (Nat.le_of_ble_eq_true rfl) C.2.2.2.2) ?_
  refine W.eq (g2 := F0 m 9 ls []) rfl ?_
  exact hR () _ _ _ _ trivial h dX2_init_9
set_option maxHeartbeats 4000000 in
theorem kC_init1 (l : Launch) {D : va_G} {ty : Nat → ClassId} {A : Nat → Prop} {b o : Nat} {w : Value} : KVx l yX2_init cX2_init 2 1 0 0 D ty A [(b, .inr (3, [w, .ref o]))] [.ref b, .ref o] (fun (_ : Unit) => True) (fun _ => [(b, .inr (3, [.ref o, .ref o]))]) := by
  refine KVx.of (by decide) (Nat.le_of_ble_eq_true rfl) ?_
  intro p e R s m args below meth c Q C hin hmc hms hR H locs ls h hl
  have C : Cx p R s m args c cX2_init 2 RX2 D ty A 1 := C
  have hin : meth.name = "<init>" := hin
  have hl : lv_has ls 2 [(0, .ref b), (1, .ref o)] := hl
  refine lv_aload_n C.x C.b dX2_init_0 rfl (lv_at hl 0 rfl) ?_
  refine lv_aload_n C.x C.b dX2_init_1 rfl (lv_at hl 1 rfl) ?_
  refine va_putF2 (D := D) (ci := 3) (ty := .object "LehrBelt") (v := .ref o) C.x C.b C.ts in_X3 C.own C.K h.1 h.2.1 h.2.2 0 rfl rfl 0 (by decide) (C.ts _ q267) (fun _ h9 => h9) rfl hin rfl (by decide +kernel) rfl rfl dX2_init_2 (fun fs H locs hf hP hD hS => ?_)
  have hf : fs = [.ref o, .ref o] := by rcases hf with hf | hf <;> exact hf
  subst hf
  have h : Hw D A s H locs [(b, .inr (3, [.ref o, .ref o]))] := ⟨hP, hD, hS⟩
  refine lv_aload_n C.x C.b dX2_init_5 rfl (lv_at hl 0 rfl) ?_
  refine W.objInit C.x C.b C.own (C.ts _ q266) (C.ts _ q176) (C.ts _ q177) rfl (by rw [C.1.2.2.1]; exact hl.1) rfl dX2_init_6 (Nat.le_trans (Nat.le_of_ble_eq_true rfl) C.2.2.2.1) (Nat.le_trans (Nat.le_of_ble_eq_true rfl) C.2.2.2.2) ?_
  refine W.eq (g2 := F0 m 9 ls []) rfl ?_
  exact hR () _ _ _ _ trivial h dX2_init_9
set_option maxHeartbeats 4000000 in
theorem kC_init2 (l : Launch) {D : va_G} {ty : Nat → ClassId} {A : Nat → Prop} {b o : Nat} {w : Value} : KVx l yX2_init cX2_init 2 1 0 0 D ty A [(b, .inr (4, [w, .ref o]))] [.ref b, .ref o] (fun (_ : Unit) => True) (fun _ => [(b, .inr (4, [.ref o, .ref o]))]) := by
  refine KVx.of (by decide) (Nat.le_of_ble_eq_true rfl) ?_
  intro p e R s m args below meth c Q C hin hmc hms hR H locs ls h hl
  have C : Cx p R s m args c cX2_init 2 RX2 D ty A 1 := C
  have hin : meth.name = "<init>" := hin
  have hl : lv_has ls 2 [(0, .ref b), (1, .ref o)] := hl
  refine lv_aload_n C.x C.b dX2_init_0 rfl (lv_at hl 0 rfl) ?_
  refine lv_aload_n C.x C.b dX2_init_1 rfl (lv_at hl 1 rfl) ?_
  refine va_putF2 (D := D) (ci := 4) (ty := .object "LehrBelt") (v := .ref o) C.x C.b C.ts in_X4 C.own C.K h.1 h.2.1 h.2.2 0 rfl rfl 0 (by decide) (C.ts _ q267) (fun _ h9 => h9) rfl hin rfl (by decide +kernel) rfl rfl dX2_init_2 (fun fs H locs hf hP hD hS => ?_)
  have hf : fs = [.ref o, .ref o] := by rcases hf with hf | hf <;> exact hf
  subst hf
  have h : Hw D A s H locs [(b, .inr (4, [.ref o, .ref o]))] := ⟨hP, hD, hS⟩
  refine lv_aload_n C.x C.b dX2_init_5 rfl (lv_at hl 0 rfl) ?_
  refine W.objInit C.x C.b C.own (C.ts _ q266) (C.ts _ q176) (C.ts _ q177) rfl (by rw [C.1.2.2.1]; exact hl.1) rfl dX2_init_6 (Nat.le_trans (Nat.le_of_ble_eq_true rfl) C.2.2.2.1) (Nat.le_trans (Nat.le_of_ble_eq_true rfl) C.2.2.2.2) ?_
  refine W.eq (g2 := F0 m 9 ls []) rfl ?_
  exact hR () _ _ _ _ trivial h dX2_init_9
set_option maxHeartbeats 4000000 in
theorem kC_init3 (l : Launch) {D : va_G} {ty : Nat → ClassId} {A : Nat → Prop} {b o : Nat} {w : Value} : KVx l yX2_init cX2_init 2 1 0 0 D ty A [(b, .inr (5, [w, .ref o]))] [.ref b, .ref o] (fun (_ : Unit) => True) (fun _ => [(b, .inr (5, [.ref o, .ref o]))]) := by
  refine KVx.of (by decide) (Nat.le_of_ble_eq_true rfl) ?_
  intro p e R s m args below meth c Q C hin hmc hms hR H locs ls h hl
  have C : Cx p R s m args c cX2_init 2 RX2 D ty A 1 := C
  have hin : meth.name = "<init>" := hin
  have hl : lv_has ls 2 [(0, .ref b), (1, .ref o)] := hl
  refine lv_aload_n C.x C.b dX2_init_0 rfl (lv_at hl 0 rfl) ?_
  refine lv_aload_n C.x C.b dX2_init_1 rfl (lv_at hl 1 rfl) ?_
  refine va_putF2 (D := D) (ci := 5) (ty := .object "LehrBelt") (v := .ref o) C.x C.b C.ts in_X5 C.own C.K h.1 h.2.1 h.2.2 0 rfl rfl 0 (by decide) (C.ts _ q267) (fun _ h9 => h9) rfl hin rfl (by decide +kernel) rfl rfl dX2_init_2 (fun fs H locs hf hP hD hS => ?_)
  have hf : fs = [.ref o, .ref o] := by rcases hf with hf | hf <;> exact hf
  subst hf
  have h : Hw D A s H locs [(b, .inr (5, [.ref o, .ref o]))] := ⟨hP, hD, hS⟩
  refine lv_aload_n C.x C.b dX2_init_5 rfl (lv_at hl 0 rfl) ?_
  refine W.objInit C.x C.b C.own (C.ts _ q266) (C.ts _ q176) (C.ts _ q177) rfl (by rw [C.1.2.2.1]; exact hl.1) rfl dX2_init_6 (Nat.le_trans (Nat.le_of_ble_eq_true rfl) C.2.2.2.1) (Nat.le_trans (Nat.le_of_ble_eq_true rfl) C.2.2.2.2) ?_
  refine W.eq (g2 := F0 m 9 ls []) rfl ?_
  exact hR () _ _ _ _ trivial h dX2_init_9
set_option maxHeartbeats 4000000 in
theorem kAtMost_init (l : Launch) {D : va_G} {ty : Nat → ClassId} {A : Nat → Prop} {b o : Nat} : KVx l yX3_init cX3_init 2 2 0 0 D ty A [(b, .inr (3, [.null, .null]))] [.ref b, .ref o] (fun (_ : Unit) => True) (fun _ => [(b, .inr (3, [.ref o, .ref o]))]) := by
  refine KVx.of (by decide) (Nat.le_of_ble_eq_true rfl) ?_
  intro p e R s m args below meth c Q C hin hmc hms hR H locs ls h hl
  have C : Cx p R s m args c cX3_init 2 RX3 D ty A 2 := C
  have hin : meth.name = "<init>" := hin
  have hl : lv_has ls 2 [(0, .ref b), (1, .ref o)] := hl
  refine lv_aload_n C.x C.b dX3_init_0 rfl (lv_at hl 0 rfl) ?_
  refine lv_aload_n C.x C.b dX3_init_1 rfl (lv_at hl 1 rfl) ?_
  refine va_putF2 (D := D) (ci := 3) (ty := .object "LehrBelt") (v := .ref o) C.x C.b C.ts in_X3 C.own C.K h.1 h.2.1 h.2.2 0 rfl rfl 1 (by decide) (C.ts _ q278) (fun _ h9 => h9) rfl hin rfl (by decide +kernel) rfl rfl dX3_init_2 (fun fs H locs hf hP hD hS => ?_)
  obtain ⟨w, hf⟩ : ∃ w, fs = [w, .ref o] := by rcases hf with hf | hf <;> exact ⟨_, hf⟩
  subst hf
  have h : Hw D A s H locs ([] ++ [(b, .inr (3, [w, .ref o]))]) := ⟨hP, hD, hS⟩
  refine lv_aload_n C.x C.b dX3_init_5 rfl (lv_at hl 0 rfl) ?_
  refine lv_aload_n C.x C.b dX3_init_6 rfl (lv_at hl 1 rfl) ?_
  refine KVx.callIN (As := [.ref o]) (rest := []) C (fun A => kC_init1 l) q265 q139 q277 q264 rfl ⟨by decide, by decide, by show _ = some 1; decide +kernel⟩ (Nat.le_of_ble_eq_true rfl) (by decide) (by omega) (by omega) h hl.1 rfl (Nat.le_of_ble_eq_true rfl) dX3_init_7 (fun _ H locs _ h => ?_)
  exact hR () _ _ _ _ trivial h dX3_init_10
set_option maxHeartbeats 4000000 in
theorem kNeighbours_init (l : Launch) {D : va_G} {ty : Nat → ClassId} {A : Nat → Prop} {b o : Nat} : KVx l yX4_init cX4_init 2 2 0 0 D ty A [(b, .inr (4, [.null, .null]))] [.ref b, .ref o] (fun (_ : Unit) => True) (fun _ => [(b, .inr (4, [.ref o, .ref o]))]) := by
  refine KVx.of (by decide) (Nat.le_of_ble_eq_true rfl) ?_
  intro p e R s m args below meth c Q C hin hmc hms hR H locs ls h hl
  have C : Cx p R s m args c cX4_init 2 RX4 D ty A 2 := C
  have hin : meth.name = "<init>" := hin
  have hl : lv_has ls 2 [(0, .ref b), (1, .ref o)] := hl
  refine lv_aload_n C.x C.b dX4_init_0 rfl (lv_at hl 0 rfl) ?_
  refine lv_aload_n C.x C.b dX4_init_1 rfl (lv_at hl 1 rfl) ?_
  refine va_putF2 (D := D) (ci := 4) (ty := .object "LehrBelt") (v := .ref o) C.x C.b C.ts in_X4 C.own C.K h.1 h.2.1 h.2.2 0 rfl rfl 1 (by decide) (C.ts _ q289) (fun _ h9 => h9) rfl hin rfl (by decide +kernel) rfl rfl dX4_init_2 (fun fs H locs hf hP hD hS => ?_)
  obtain ⟨w, hf⟩ : ∃ w, fs = [w, .ref o] := by rcases hf with hf | hf <;> exact ⟨_, hf⟩
  subst hf
  have h : Hw D A s H locs ([] ++ [(b, .inr (4, [w, .ref o]))]) := ⟨hP, hD, hS⟩
  refine lv_aload_n C.x C.b dX4_init_5 rfl (lv_at hl 0 rfl) ?_
  refine lv_aload_n C.x C.b dX4_init_6 rfl (lv_at hl 1 rfl) ?_
  refine KVx.callIN (As := [.ref o]) (rest := []) C (fun A => kC_init2 l) q265 q139 q288 q264 rfl ⟨by decide, by decide, by show _ = some 1; decide +kernel⟩ (Nat.le_of_ble_eq_true rfl) (by decide) (by omega) (by omega) h hl.1 rfl (Nat.le_of_ble_eq_true rfl) dX4_init_7 (fun _ H locs _ h => ?_)
  exact hR () _ _ _ _ trivial h dX4_init_10
set_option maxHeartbeats 4000000 in
theorem kThirds_init (l : Launch) {D : va_G} {ty : Nat → ClassId} {A : Nat → Prop} {b o : Nat} : KVx l yX5_init cX5_init 2 2 0 0 D ty A [(b, .inr (5, [.null, .null]))] [.ref b, .ref o] (fun (_ : Unit) => True) (fun _ => [(b, .inr (5, [.ref o, .ref o]))]) := by
  refine KVx.of (by decide) (Nat.le_of_ble_eq_true rfl) ?_
  intro p e R s m args below meth c Q C hin hmc hms hR H locs ls h hl
  have C : Cx p R s m args c cX5_init 2 RX5 D ty A 2 := C
  have hin : meth.name = "<init>" := hin
  have hl : lv_has ls 2 [(0, .ref b), (1, .ref o)] := hl
  refine lv_aload_n C.x C.b dX5_init_0 rfl (lv_at hl 0 rfl) ?_
  refine lv_aload_n C.x C.b dX5_init_1 rfl (lv_at hl 1 rfl) ?_
  refine va_putF2 (D := D) (ci := 5) (ty := .object "LehrBelt") (v := .ref o) C.x C.b C.ts in_X5 C.own C.K h.1 h.2.1 h.2.2 0 rfl rfl 1 (by decide) (C.ts _ q300) (fun _ h9 => h9) rfl hin rfl (by decide +kernel) rfl rfl dX5_init_2 (fun fs H locs hf hP hD hS => ?_)
  obtain ⟨w, hf⟩ : ∃ w, fs = [w, .ref o] := by rcases hf with hf | hf <;> exact ⟨_, hf⟩
  subst hf
  have h : Hw D A s H locs ([] ++ [(b, .inr (5, [w, .ref o]))]) := ⟨hP, hD, hS⟩
  refine lv_aload_n C.x C.b dX5_init_5 rfl (lv_at hl 0 rfl) ?_
  refine lv_aload_n C.x C.b dX5_init_6 rfl (lv_at hl 1 rfl) ?_
  refine KVx.callIN (As := [.ref o]) (rest := []) C (fun A => kC_init3 l) q265 q139 q299 q264 rfl ⟨by decide, by decide, by show _ = some 1; decide +kernel⟩ (Nat.le_of_ble_eq_true rfl) (by decide) (by omega) (by omega) h hl.1 rfl (Nat.le_of_ble_eq_true rfl) dX5_init_7 (fun _ H locs _ h => ?_)
  exact hR () _ _ _ _ trivial h dX5_init_10
set_option maxHeartbeats 4000000 in
theorem kS_init (l : Launch) {D : va_G} {ty : Nat → ClassId} {A : Nat → Prop} {b : Nat} : KVx l yX6_init cX6_init 1 1 0 0 D ty A [(b, .inr (6, [.null]))] [.ref b] (fun (_ : Unit) => True) (fun _ => [(b, .inr (6, [.null]))]) := by
  refine KVx.of (by decide) (Nat.le_of_ble_eq_true rfl) ?_
  intro p e R s m args below meth c Q C hin hmc hms hR H locs ls h hl
  have C : Cx p R s m args c cX6_init 1 RX6 D ty A 1 := C
  have hin : meth.name = "<init>" := hin
  have hl : lv_has ls 1 [(0, .ref b)] := hl
  refine lv_aload_n C.x C.b dX6_init_0 rfl (lv_at hl 0 rfl) ?_
  refine W.objInit C.x C.b C.own (C.ts _ q311) (C.ts _ q176) (C.ts _ q177) rfl (by rw [C.1.2.2.1]; exact hl.1) rfl dX6_init_1 (Nat.le_trans (Nat.le_of_ble_eq_true rfl) C.2.2.2.1) (Nat.le_trans (Nat.le_of_ble_eq_true rfl) C.2.2.2.2) ?_
  refine W.eq (g2 := F0 m 4 ls []) rfl ?_
  exact hR () _ _ _ _ trivial h dX6_init_4
set_option maxHeartbeats 4000000 in
theorem kAC_init (l : Launch) {D : va_G} {ty : Nat → ClassId} {A : Nat → Prop} {b : Nat} : KVx l yJ0_init cJ0_init 1 1 0 0 D ty A [(b, .inr (10, [.int 0, .null, .int 0]))] [.ref b] (fun (_ : Unit) => True) (fun _ => [(b, .inr (10, [.int 0, .null, .int 0]))]) := by
  refine KVx.of (by decide) (Nat.le_of_ble_eq_true rfl) ?_
  intro p e R s m args below meth c Q C hin hmc hms hR H locs ls h hl
  have C : Cx p R s m args c cJ0_init 1 RJ0 D ty A 1 := C
  have hin : meth.name = "<init>" := hin
  have hl : lv_has ls 1 [(0, .ref b)] := hl
  refine lv_aload_n C.x C.b dJ0_init_0 rfl (lv_at hl 0 rfl) ?_
  refine W.objInit C.x C.b C.own (C.ts _ q328) (C.ts _ q176) (C.ts _ q177) rfl (by rw [C.1.2.2.1]; exact hl.1) rfl dJ0_init_1 (Nat.le_trans (Nat.le_of_ble_eq_true rfl) C.2.2.2.1) (Nat.le_trans (Nat.le_of_ble_eq_true rfl) C.2.2.2.2) ?_
  refine W.eq (g2 := F0 m 4 ls []) rfl ?_
  exact hR () _ _ _ _ trivial h dJ0_init_4
set_option maxHeartbeats 4000000 in
theorem kAL_init (l : Launch) {D : va_G} {ty : Nat → ClassId} {A : Nat → Prop} {b : Nat} : KVx l yJ1_init cJ1_init 1 2 0 0 D ty A [(b, .inr (10, [.int 0, .null, .int 0]))] [.ref b] (fun (_ : Unit) => True) (fun _ => [(b, .inr (10, [.int 0, .null, .int 0]))]) := by
  refine KVx.of (by decide) (Nat.le_of_ble_eq_true rfl) ?_
  intro p e R s m args below meth c Q C hin hmc hms hR H locs ls h hl
  have C : Cx p R s m args c cJ1_init 1 RJ1 D ty A 2 := C
  have hin : meth.name = "<init>" := hin
  have hl : lv_has ls 1 [(0, .ref b)] := hl
  refine lv_aload_n C.x C.b dJ1_init_0 rfl (lv_at hl 0 rfl) ?_
  have h : Hw D A s H locs ([] ++ [(b, .inr (10, [.int 0, .null, .int 0]))]) := h
  refine KVx.callI (As := []) C (fun A => kAC_init l) q327 q144 q325 q326 rfl ⟨by decide, by decide, by show _ = some 0; decide +kernel⟩ (Nat.le_of_ble_eq_true rfl) (by decide) (by omega) (by omega) h hl.1 rfl (Nat.le_of_ble_eq_true rfl) dJ1_init_1 (fun _ H locs _ h => ?_)
  refine lv_aload_n C.x C.b dJ1_init_4 rfl (lv_at hl 0 rfl) ?_
  refine lv_iconst (v := 0) C.x C.b dJ1_init_5 (by decide) ?_
  refine va_put (D := D) (ci := 10) (ty := .int) (v := .int 0) C.x C.b C.ts in_J2 tyJ2 tyJ2_ok nmJ2 C.own C.K h.1 h.2.1 h.2.2 0 rfl rfl 0 (by decide) (C.ts _ q333) (fun _ h9 => h9) rfl (by decide +kernel) rfl rfl (Nat.le_of_ble_eq_true rfl) dJ1_init_6 (fun H locs hP hD hS => ?_)
  exact hR () _ _ _ _ trivial ⟨hP, hD, hS⟩ dJ1_init_9
set_option maxHeartbeats 4000000 in
theorem kJ_init (l : Launch) {D : va_G} {ty : Nat → ClassId} {A : Nat → Prop} {b : Nat} : KVx l yJ2_init cJ2_init 1 3 0 0 D ty A [(b, .inr (10, [.int 0, .null, .int 0]))] [.ref b] (fun (_ : Unit) => True) (fun _ => [(b, .inr (10, [.int 0, .ref (ty 400), .int 0]))]) := by
  refine KVx.of (by decide) (Nat.le_of_ble_eq_true rfl) ?_
  intro p e R s m args below meth c Q C hin hmc hms hR H locs ls h hl
  have C : Cx p R s m args c cJ2_init 1 RJ2 D ty A 3 := C
  have hin : meth.name = "<init>" := hin
  have hl : lv_has ls 1 [(0, .ref b)] := hl
  refine lv_aload_n C.x C.b dJ2_init_0 rfl (lv_at hl 0 rfl) ?_
  have h : Hw D A s H locs ([] ++ [(b, .inr (10, [.int 0, .null, .int 0]))]) := h
  refine KVx.callI (As := []) C (fun A => kAL_init l) q324 q145 q322 q323 rfl ⟨by decide, by decide, by show _ = some 0; decide +kernel⟩ (Nat.le_of_ble_eq_true rfl) (by decide) (by omega) (by omega) h hl.1 rfl (Nat.le_of_ble_eq_true rfl) dJ2_init_1 (fun _ H locs _ h => ?_)
  refine lv_aload_n C.x C.b dJ2_init_4 rfl (lv_at hl 0 rfl) ?_
  refine va_gets C.x C.b C.E.2.2.2.2.2.2.2.2.1 h.2.2 C.own (C.ts _ q329) (fun _ h9 => h9) dJ2_init_5 ?_
  refine va_put (D := D) (ci := 10) (ty := .array (.object "java/lang/Object")) (v := .ref (ty 400)) C.x C.b C.ts in_J2 tyJ2 tyJ2_ok nmJ2 C.own C.K h.1 h.2.1 h.2.2 0 rfl rfl 1 (by decide) (C.ts _ q331) (fun _ h9 => h9) rfl (by decide +kernel) rfl rfl (Nat.le_of_ble_eq_true rfl) dJ2_init_8 (fun H locs hP hD hS => ?_)
  exact hR () _ _ _ _ trivial ⟨hP, hD, hS⟩ dJ2_init_11
