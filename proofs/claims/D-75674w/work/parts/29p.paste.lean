set_option maxRecDepth 100000
theorem vz_npe {p : Program} {l : Launch} {e : Env} {R : Room} {s : State} {m : MethodId} {args : Array Value} {below : List Frame} {meth : Method} {c : Code} {H : Heap} {locs : List Loc} {cells slots : Nat} {T : State} {g : JFrame} {nf : NFrame} (hnf : nf.words = 0) (hT : T.heap = H) (X : Stand p l e R s m args below meth c T locs cells slots) (hexec : p.tables.exec = Jvm.exec) (hl : l.stackTraces = false) {nb : Nat} {A : Nat → Prop}
    (hat : ∀ w ∈ vx_atN nb, w.before args s = true) (hgood : ∀ w ∈ vx_atN nb, vx_ot w = true)
    (hU : vx_Zq Bundle.tN "UNASSIGNED_STACK" Bundle.steD A s s.heap) (hN : vx_Zq Bundle.tN "SUPPRESSED_SENTINEL" Bundle.listD A s s.heap) (hS : va_S A s.heap H locs) (hsize : g.locals.size = c.maxLocals)
    (hRframes : 8 < R.frames) (hRlocals : 2 * g.monitorRoom + (g.stack.map fun v => v.category).sum + 10240 ≤ R.locals) (hRcells : cells + 1 ≤ R.cells) (hRslots : slots + nb ≤ R.slots) :
    ∃ (S : State) (q : Addr) (ce : Cell), Steps p.tables e below (T.setFrames (.throwNew "java/lang/NullPointerException" none none :: .native nf :: .java g :: below)) (S.setFrames (.throwing q :: .native nf :: .java g :: below)) ∧
      Stand p l e R s m args below meth c S locs (cells + 1) (slots + nb) ∧ H.size ≤ S.heap.size ∧ (∀ q : Nat, q < H.size → S.heap[q]? = H[q]?) ∧ va_S A s.heap S.heap locs ∧ S.heap[q]? = some ce ∧ ce.vm = .none ∧ s.vm.findClass "java/lang/NullPointerException" = some ce.cls := by
  have htr : e.platform.stackTraces = false := (show e.platform.stackTraces = l.stackTraces by rw [X.admits.platform]).trans hl
  have Y := vx_rebase X (R' := { frames := R.frames, locals := R.locals, cells := 1, slots := nb }) (Nat.le_refl _) (Nat.le_refl _) hRcells hRslots
  have hhp : ((T.setVm s.vm).setFrames (.invoking m args :: below)).heap = H := hT
  have hW0 : s.WarmedH ((T.setVm s.vm).setFrames (.invoking m args :: below)).vm := State.WarmedH.refl s
  have hat' : ∀ w ∈ vx_atN nb, w.before args ((T.setVm s.vm).setFrames (.invoking m args :: below)) = true := fun w hw => vx_ot_at hW0 rfl (hgood w hw) (hat w hw)
  have hU' : vx_Zq Bundle.tN "UNASSIGNED_STACK" Bundle.steD A ((T.setVm s.vm).setFrames (.invoking m args :: below)) ((T.setVm s.vm).setFrames (.invoking m args :: below)).heap := by rw [hhp]; exact vx_Zq.moved hW0.alike (hU.kept hS.2.1)
  have hN' : vx_Zq Bundle.tN "SUPPRESSED_SENTINEL" Bundle.listD A ((T.setVm s.vm).setFrames (.invoking m args :: below)) ((T.setVm s.vm).setFrames (.invoking m args :: below)).heap := by rw [hhp]; exact vx_Zq.moved hW0.alike (hN.kept hS.2.1)
  obtain ⟨S, q, ce, st, Z, hce, hcl', hv⟩ := vz_npeAt Y hexec htr (n := nb) (vx_own hat' (vx_isRefq hU'.1) (vx_isRefq hN'.1) hU'.2.word hN'.2.word) (fun x hx => nomatch hx)
    (g := g) hsize hnf hRframes hRlocals (by show 0 + 1 ≤ 1; omega) (by show 0 + nb ≤ nb; omega)
  obtain ⟨f1, f2⟩ := vx_frame Z.same
  have f1' : H.size ≤ S.heap.size := by rw [← hT]; exact f1
  have f2' : ∀ q : Nat, q < H.size → S.heap[q]? = H[q]? := fun q hq => by
    rw [← hT]
    exact f2 q (by rw [← hT] at hq; exact hq) (fun z hz => nomatch hz)
  have X5 := vx_back9 X Y Z
  have X6 : Stand p l e R s m args below meth c S locs (cells + 1) (slots + nb) := { X5 with same := X5.same.mono (by omega) (by omega) }
  exact ⟨S, q, ce, st, X6, f1', f2', ⟨Nat.le_trans hS.1 f1', fun q h1 h2 => (f2' q (Nat.lt_of_lt_of_le h1 hS.1)).trans (hS.2.1 q h1 h2), hS.2.2⟩, hce, hv, hcl'⟩
section PASTE
theorem kn_len (t : FieldType) : (Native.java_lang_System.arraycopy.kindName t).toList.length ≤ 12 := by
  cases t <;> first | decide | exact (by decide : "object array".toList.length ≤ 12)
theorem int_print {z : Int} (h1 : z < 10 ^ 10) (h2 : -(10 ^ 10) < z) : (toString z).toList.length ≤ 11 := by
  show (Int.repr z).toList.length ≤ 11
  cases h : z with
  | ofNat m =>
    rw [h] at h1
    have h1' : (m : Int) < 10 ^ 10 := h1
    have := nat_print (n := m) (by omega)
    show (toString m).toList.length ≤ 11
    omega
  | negSucc m =>
    rw [h] at h2
    have h2' : -(10 : Int) ^ 10 < -((m : Int) + 1) := by simpa [Int.negSucc_eq] using h2
    have := nat_print (n := m.succ) (by omega)
    show ("-" ++ toString m.succ).toList.length ≤ 11
    rw [String.toList_append, List.length_append]
    have h0 : "-".toList.length = 1 := by decide
    omega
theorem cf_kind (t : FieldType) {n : Nat} (h : n < 2 ^ 31) : (toString (Native.java_lang_System.arraycopy.kindName t) ++ toString "[" ++ toString n ++ toString "]").toList.length ≤ 24 := by
  simp only [String.toList_append, List.length_append]
  have a1 : (toString "[").toList.length = 1 := by decide
  have a2 : (toString "]").toList.length = 1 := by decide
  have a3 : (toString (Native.java_lang_System.arraycopy.kindName t)).toList.length ≤ 12 := kn_len t
  have a4 := nat_print (n := n) (by omega)
  omega
theorem cf_len {a b : FieldType} {n m : Nat} {x y z : Int32} {w : String} (hn : n < 2 ^ 31) (hm : m < 2 ^ 31) (h : copyFault a b n m x y z = some w) : ("arraycopy: " ++ w).toList.length ≤ 100 := by
  have b0 : "arraycopy: ".toList.length = 11 := by decide
  rw [String.toList_append, List.length_append, b0]
  have k1 := cf_kind a hn
  have k2 := cf_kind b hm
  have x1 := int32_print x
  have y1 := int32_print y
  have z1 := int32_print z
  have hx1 := Int32.toInt_lt x
  have hx2 := Int32.le_toInt x
  have hy1 := Int32.toInt_lt y
  have hy2 := Int32.le_toInt y
  have hz1 := Int32.toInt_lt z
  have hz2 := Int32.le_toInt z
  have s1 := int_print (z := x.toInt + z.toInt) (by omega) (by omega)
  have s2 := int_print (z := y.toInt + z.toInt) (by omega) (by omega)
  unfold copyFault at h
  split at h
  · obtain rfl := Option.some.inj h
    generalize toString (Native.java_lang_System.arraycopy.kindName a) ++ toString "[" ++ toString n ++ toString "]" = K at k1
    show 11 + (toString "source index " ++ toString x ++ toString " out of bounds for " ++ toString K).toList.length ≤ 100
    simp only [String.toList_append, List.length_append]
    have a1 : (toString "source index ").toList.length = 13 := by decide
    have a2 : (toString " out of bounds for ").toList.length = 19 := by decide
    have a3 : (toString K).toList.length ≤ 24 := k1
    omega
  split at h
  · obtain rfl := Option.some.inj h
    generalize toString (Native.java_lang_System.arraycopy.kindName b) ++ toString "[" ++ toString m ++ toString "]" = K at k2
    show 11 + (toString "destination index " ++ toString y ++ toString " out of bounds for " ++ toString K).toList.length ≤ 100
    simp only [String.toList_append, List.length_append]
    have a1 : (toString "destination index ").toList.length = 18 := by decide
    have a2 : (toString " out of bounds for ").toList.length = 19 := by decide
    have a3 : (toString K).toList.length ≤ 24 := k2
    omega
  split at h
  · obtain rfl := Option.some.inj h
    show 11 + (toString "length " ++ toString z ++ toString " is negative").toList.length ≤ 100
    simp only [String.toList_append, List.length_append]
    have a1 : (toString "length ").toList.length = 7 := by decide
    have a2 : (toString " is negative").toList.length = 12 := by decide
    omega
  split at h
  · obtain rfl := Option.some.inj h
    generalize toString (Native.java_lang_System.arraycopy.kindName a) ++ toString "[" ++ toString n ++ toString "]" = K at k1
    show 11 + (toString "last source index " ++ toString (x.toInt + z.toInt) ++ toString " out of bounds for " ++ toString K).toList.length ≤ 100
    simp only [String.toList_append, List.length_append]
    have a1 : (toString "last source index ").toList.length = 18 := by decide
    have a2 : (toString " out of bounds for ").toList.length = 19 := by decide
    have a3 : (toString K).toList.length ≤ 24 := k1
    omega
  split at h
  · obtain rfl := Option.some.inj h
    generalize toString (Native.java_lang_System.arraycopy.kindName b) ++ toString "[" ++ toString m ++ toString "]" = K at k2
    show 11 + (toString "last destination index " ++ toString (y.toInt + z.toInt) ++ toString " out of bounds for " ++ toString K).toList.length ≤ 100
    simp only [String.toList_append, List.length_append]
    have a1 : (toString "last destination index ").toList.length = 23 := by decide
    have a2 : (toString " out of bounds for ").toList.length = 19 := by decide
    have a3 : (toString K).toList.length ≤ 24 := k2
    omega
  · cases h
theorem tx_mod {w : String} {c : Char} {r : List Char} (h : w.toList = c :: r) (hc : c ≠ '\u0000') : (w == notModelled) = false := by
  rw [beq_eq_false_iff_ne]
  intro h1
  have h2 := congrArg String.toList h1
  have h4 : notModelled.toList = '\u0000' :: " a message that is not modelled".toList := by decide
  rw [h4, h] at h2
  exact hc (List.cons.inj h2).1
theorem tx_bytes {w : String} (h : w.toList.length ≤ 100) : (stringBytes (stringToUtf16 w)).size ≤ 1000 := by
  have b1 := stringBytes_size_le (stringToUtf16 w)
  have b2 := utf16_size_le w
  omega
theorem cf_mod (w : String) : ("arraycopy: " ++ w == notModelled) = false := tx_mod (c := 'a') (r := "rraycopy: ".toList ++ w.toList) (by rw [String.toList_append]; rfl) (by decide)
theorem ty_list (a b : FieldType) : (toString "arraycopy: type mismatch: can not copy " ++ toString (Native.java_lang_System.arraycopy.kindName a) ++ toString "[] into " ++ toString (Native.java_lang_System.arraycopy.kindName b) ++ toString "[]").toList = 'a' :: ("rraycopy: type mismatch: can not copy ".toList ++ (Native.java_lang_System.arraycopy.kindName a).toList ++ "[] into ".toList ++ (Native.java_lang_System.arraycopy.kindName b).toList ++ "[]".toList) := by
  simp only [String.toList_append]
  rfl
theorem ty_len (a b : FieldType) : (toString "arraycopy: type mismatch: can not copy " ++ toString (Native.java_lang_System.arraycopy.kindName a) ++ toString "[] into " ++ toString (Native.java_lang_System.arraycopy.kindName b) ++ toString "[]").toList.length ≤ 100 := by
  rw [ty_list]
  simp only [List.length_cons, List.length_append]
  have a1 := kn_len a
  have a2 := kn_len b
  have a3 : "rraycopy: type mismatch: can not copy ".toList.length = 38 := by decide
  have a4 : "[] into ".toList.length = 8 := by decide
  have a5 : "[]".toList.length = 2 := by decide
  omega
/-- the type of a row of width w -/
def ftOf (w : Int32) : FieldType := if w = 0 then .byte else if w = 1 then .short else if w = 2 then .int else .long
def tyOf (w : Int32) : Nat := if w = 0 then 1 else if w = 1 then 2 else if w = 2 then 0 else 3
def valOf (τ : PS) (j : Nat) : va_E := if gI τ j = 3 then .inl (0, slN τ j, .inr (.inl (gB τ j))) else .inl (0, slN τ j, .inl (gA τ j))
variable {p : Program} {l : Launch} {e : Env} {R : Room} {s : State} {m : MethodId} {args : Array Value} {below : List Frame} {meth : Method} {c : Code} {H : Heap} {locs : List Loc} {cells slots : Nat} {Q : State → Prop} {cc : ByteArray} {pc : Nat} {ls : Array Slot} {nL d : Nat} {D : va_G} {ty : Nat → ClassId} {ad : Nat → Nat} {τ : PS} {j : Nat} {A : Nat → Prop} {ws : va_W}
theorem rowAt (C : Cx p R s m args c cc nL RX0 D ty A d) {B : va_W} (h : Hw D A s H locs (B ++ (wS ty ad τ ++ ws))) (hj : j < 4) (hs : slSome τ j) :
    ∃ cell : Cell, H[ad (60 + j)]? = some cell ∧ cell.vm = .none ∧ (tys ty)[tyOf (gI τ j)]? = some (cell.cls, ftOf (gI τ j)) ∧ cell.slots.size = slN τ j := by
  obtain ⟨rest, hp⟩ := slot_perm0 (ty := ty) (ad := ad) (τ := τ) (B := B) (rs := ws) hj
  have h2 := h.perm hp
  rcases hs with hs | hs | hs | hs
  · rw [slW_b hs] at h2
    refine ⟨_, h2.1 1 _ rfl, rfl, ?_, arrV_size _ _ _⟩
    rw [hs]; rfl
  · rw [slW_s hs] at h2
    refine ⟨_, h2.1 1 _ rfl, rfl, ?_, arrV_size _ _ _⟩
    rw [hs]; rfl
  · rw [slW_i hs] at h2
    refine ⟨_, h2.1 1 _ rfl, rfl, ?_, arrV_size _ _ _⟩
    rw [hs]; rfl
  · rw [slW_l hs] at h2
    refine ⟨_, h2.1 1 _ rfl, rfl, ?_, arrV_size _ _ _⟩
    rw [hs]; rfl
theorem see5 {x : Method} {v1 v3 : Value} {sp dp n : Int32} (h1 : v1 = .null ∨ ∃ a, v1 = .ref a) (h3 : v3 = .null ∨ ∃ a, v3 = .ref a) (hst : x.isStatic = true) (hps : x.sig.parameters = [.object "java/lang/Object", .int, .object "java/lang/Object", .int, .int]) :
    seenByNative x [v1, .int sp, v3, .int dp, .int n].toArray = [v1, .int sp, v3, .int dp, .int n].toArray := by
  rcases h1 with rfl | ⟨a, rfl⟩ <;> rcases h3 with rfl | ⟨b, rfl⟩ <;> simp [seenByNative, hst, hps, narrow]
theorem wo5 {v1 v3 : Value} {sp dp n : Int32} (h1 : v1 = .null ∨ ∃ a, v1 = .ref a) (h3 : v3 = .null ∨ ∃ a, v3 = .ref a) : operandWords [v1, .int sp, v3, .int dp, .int n] = 5 := by
  rcases h1 with rfl | ⟨a, rfl⟩ <;> rcases h3 with rfl | ⟨b, rfl⟩ <;> rfl
theorem cp_N (C : Cx p R s m args c cc nL RX0 D ty A d) (hl : l.stackTraces = false) (hd : 300 ≤ d) (h : Hw D A s H locs ws) (hls : ls.size = nL) {v1 v3 : Value} {sp dp n : Int32} (h1 : v1 = .null ∨ ∃ a, v1 = .ref a) (h3 : v3 = .null ∨ ∃ a, v3 = .ref a) (hz : v1 = .null ∨ v3 = .null) (hcs : cells + 1 ≤ R.cells) (hss : slots + 8 ≤ R.slots) (dec : decode cc pc = .ok (.invokestatic 183, 3))
    (k : ∀ (H : Heap) (q9 : Addr) (ce : Cell), Hw D A s H locs ws → H[q9]? = some ce → ce.vm = .none → s.vm.findClass "java/lang/NullPointerException" = some ce.cls → vx_W p l e R s m args below meth c H locs (cells + 1) (slots + 8) Q (F0 m pc ls []) q9) : W p l e R s m args below meth c H locs cells slots Q (F0 m pc ls [.int n, .int dp, v3, .int sp, v1]) := by
  have r1 := C.2.2.2.1
  have r2 := C.2.2.2.2
  refine vz_copy (A := A) (av := [v1, .int sp, v3, .int dp, .int n]) (rest := []) (cls := "java/lang/NullPointerException") (msg := none) (kc := 1) (ks := 8) C.x C.b (C.1.2.2.1.trans hls.symm) C.own (C.ts _ q745) (C.ts _ q747) (C.ts _ q746) (C.ts _ q159) rfl (wo5 h1 h3) (fun x hst hps => see5 h1 h3 hst hps) (fun U fs E hU ha hE => ?_) (fun m1 meth1 c1 T g nf hnf hsz hcat hT X => ?_) (by omega) (by omega) (Nat.le_of_ble_eq_true rfl) dec (fun H1 q9 ce hk hS g1 g2 g3 => k H1 q9 ce (h.grown hk hS) g1 g2 g3)
  · rcases h1 with rfl | ⟨a, rfl⟩
    · exact Jvm.W.arraycopy_null1 sp dp n v3 (hE _)
    · rcases hz with hz | rfl
      · cases hz
      · exact Jvm.W.arraycopy_null2 a sp dp n (hE _)
  · obtain ⟨S, q, ce, st, X6, -, f2, fS, g1, g2, g3⟩ := vz_npe (nb := 8) (A := A) (g := g) hnf hT X C.x hl (C.at atN_t atN_g) atN_o C.E.2.1.1 C.E.2.1.2 h.2.2 hsz (by omega) (by omega) hcs hss
    exact ⟨S, q, ce, st, X6, f2, fS, g1, g2, g3⟩
theorem cp_V (C : Cx p R s m args c cc nL RX0 D ty A d) (hl : l.stackTraces = false) (hd : 300 ≤ d) (h : Hw D A s H locs ws) (hls : ls.size = nL) {a1 a3 : Nat} {sp dp n : Int32} {cls text : String} {names : List String} (hcs : cells + 3 ≤ R.cells) (hss : slots + 1010 ≤ R.slots) (dec : decode cc pc = .ok (.invokestatic 183, 3))
    (hcls : Bundle.fit cls = true) (hnames : ∀ n ∈ names, Bundle.fit n = true) (hsoe : (cls == "java/lang/StackOverflowError") = false) (hoom : (cls == "java/lang/OutOfMemoryError") = false) (hnl : names.length ≤ 3)
    (hat : ∀ w ∈ vx_atM cls names, w.before args s = true) (hgood : ∀ w ∈ vx_atM cls names, vx_ot w = true) (ht : (text == notModelled) = false) (hnb : (stringBytes (stringToUtf16 text)).size ≤ 1000)
    (hwp : ∀ (U : State) (fs : List Frame) (E : CtlPost), U.heap = H → va_K D vwCl (tys ty) U → (∀ acts', E (.throwNew cls (some text)) acts' (U.setFrames fs)) → wp (Native.java_lang_System.arraycopy.sem [.ref a1, .int sp, .ref a3, .int dp, .int n].toArray) (fun _ _ _ _ => False) E e false [] (U.setFrames fs))
    (k : ∀ (H : Heap) (q9 : Addr) (ce : Cell), Hw D A s H locs ws → H[q9]? = some ce → ce.vm = .none → s.vm.findClass cls = some ce.cls → vx_W p l e R s m args below meth c H locs (cells + 3) (slots + 1010) Q (F0 m pc ls []) q9) : W p l e R s m args below meth c H locs cells slots Q (F0 m pc ls [.int n, .int dp, .ref a3, .int sp, .ref a1]) := by
  have r1 := C.2.2.2.1
  have r2 := C.2.2.2.2
  refine vz_copy (A := A) (av := [.ref a1, .int sp, .ref a3, .int dp, .int n]) (rest := []) (cls := cls) (msg := some text) (kc := 3) (ks := 1010) C.x C.b (C.1.2.2.1.trans hls.symm) C.own (C.ts _ q745) (C.ts _ q747) (C.ts _ q746) (C.ts _ q159) rfl rfl (fun x hst hps => see5 (Or.inr ⟨_, rfl⟩) (Or.inr ⟨_, rfl⟩) hst hps) (fun U fs E hU ha hE => hwp U fs E hU (C.K.moved ha) hE) (fun m1 meth1 c1 T g nf hnf hsz hcat hT X => ?_) (by omega) (by omega) (Nat.le_of_ble_eq_true rfl) dec (fun H1 q9 ce hk hS g1 g2 g3 => k H1 q9 ce (h.grown hk hS) g1 g2 g3)
  obtain ⟨S, q, ce, st, X6, -, f2, fS, g1, g2, g3⟩ := vz_vm (nb := 1000) (A := A) (g := g) hnf hT X C.x hl hcls hnames hsoe hoom hat hgood C.E.2.1.1 C.E.2.1.2 h.2.2 hsz ht hnb (by omega) (by omega) (by omega) (by omega) hcs hss
  exact ⟨S, q, ce, st, X6, f2, fS, g1, g2, g3⟩
theorem ft_ne {w v : Int32} (h1 : w = 0 ∨ w = 1 ∨ w = 2 ∨ w = 3) (h2 : v = 0 ∨ v = 1 ∨ v = 2 ∨ v = 3) (h : w ≠ v) : ((refKind (ftOf w) != refKind (ftOf v)) || (!refKind (ftOf w) && ftOf w != ftOf v)) = true := by
  rcases h1 with rfl | rfl | rfl | rfl <;> rcases h2 with rfl | rfl | rfl | rfl <;> first | exact absurd rfl h | decide
theorem ft_eq (w : Int32) : ((refKind (ftOf w) != refKind (ftOf w)) || (!refKind (ftOf w) && ftOf w != ftOf w)) = false := by
  simp
end PASTE
set_option maxHeartbeats 4000000 in
theorem kX_paste_0 (l : Launch) {D : va_G} {ty : Nat → ClassId} {A : Nat → Prop} {o : Nat} {ad : Nat → Nat} {rs : va_W} {σ τ : PS} {v1 v2 v3 v4 v5 : Int32} (hl9 : l.stackTraces = false) {q1 : Int32} (hs1 : X_isSlot v1 = some q1) (hs2 : q1 = 0) : KIg l yX0_paste cX0_paste 7 .int [(17, 44, 45, 369), (17, 44, 50, 504), (17, 44, 55, 506)] 20 0 0 D ty A (wX ty o ad σ ++ (wS ty ad τ ++ rs)) [.ref o, .int v1, .int v2, .int v3, .int v4, .int v5] (fun r (_ : Unit) => r = -2) (fun _ => (wX ty o ad σ ++ (wS ty ad τ ++ rs))) := by
  refine KIg.of (by decide) (Nat.le_of_ble_eq_true rfl) ?_
  intro p e R s m args below meth c Q C hlk htab hmc hms hR H locs ls h hl
  have C : Cx p R s m args c cX0_paste 7 RX0 D ty A 20 := C
  have hl : lv_has ls 7 [(0, .ref o), (1, .int v1), (2, .int v2), (3, .int v3), (4, .int v4), (5, .int v5)] := hl
  refine lv_iload_n C.x C.b dX0_paste_0 rfl (lv_at hl 1 rfl) ?_
  refine cX_isSlot C h hs1 (Nat.le_of_ble_eq_true rfl) hl.1 (Nat.le_of_ble_eq_true rfl) dX0_paste_1 (fun H locs h => ?_)
  refine lv_if_eq (tgt := 14) C.x C.b dX0_paste_4 (by decide) (fun c9 => ?_) (fun c9 => ?_)
  rotate_left
  · exact absurd hs2 c9
  refine lv_bipush (v := (-2)) C.x C.b dX0_paste_14 (by decide) ?_
  exact hR _ () _ _ _ _ rfl h rfl dX0_paste_16
set_option maxHeartbeats 4000000 in
theorem kX_paste_1 (l : Launch) {D : va_G} {ty : Nat → ClassId} {A : Nat → Prop} {o : Nat} {ad : Nat → Nat} {rs : va_W} {σ τ : PS} {v1 v2 v3 v4 v5 : Int32} (hl9 : l.stackTraces = false) {q1 : Int32} (hs1 : X_isSlot v1 = some q1) (hs2 : ¬ q1 = 0) {q3 : Int32} (hs3 : X_isSlot v3 = some q3) (hs4 : q3 = 0) : KIg l yX0_paste cX0_paste 7 .int [(17, 44, 45, 369), (17, 44, 50, 504), (17, 44, 55, 506)] 20 0 0 D ty A (wX ty o ad σ ++ (wS ty ad τ ++ rs)) [.ref o, .int v1, .int v2, .int v3, .int v4, .int v5] (fun r (_ : Unit) => r = -2) (fun _ => (wX ty o ad σ ++ (wS ty ad τ ++ rs))) := by
  refine KIg.of (by decide) (Nat.le_of_ble_eq_true rfl) ?_
  intro p e R s m args below meth c Q C hlk htab hmc hms hR H locs ls h hl
  have C : Cx p R s m args c cX0_paste 7 RX0 D ty A 20 := C
  have hl : lv_has ls 7 [(0, .ref o), (1, .int v1), (2, .int v2), (3, .int v3), (4, .int v4), (5, .int v5)] := hl
  refine lv_iload_n C.x C.b dX0_paste_0 rfl (lv_at hl 1 rfl) ?_
  refine cX_isSlot C h hs1 (Nat.le_of_ble_eq_true rfl) hl.1 (Nat.le_of_ble_eq_true rfl) dX0_paste_1 (fun H locs h => ?_)
  refine lv_if_eq (tgt := 14) C.x C.b dX0_paste_4 (by decide) (fun c9 => ?_) (fun c9 => ?_)
  · exact absurd c9 hs2
  refine lv_iload_n C.x C.b dX0_paste_7 rfl (lv_at hl 3 rfl) ?_
  refine cX_isSlot C h hs3 (Nat.le_of_ble_eq_true rfl) hl.1 (Nat.le_of_ble_eq_true rfl) dX0_paste_8 (fun H locs h => ?_)
  refine lv_if_ne (tgt := 17) C.x C.b dX0_paste_11 (by decide) (fun c9 => ?_) (fun c9 => ?_)
  · exact absurd hs4 c9
  refine lv_bipush (v := (-2)) C.x C.b dX0_paste_14 (by decide) ?_
  exact hR _ () _ _ _ _ rfl h rfl dX0_paste_16
theorem rowV_or (ad : Nat → Nat) (τ : PS) (j : Nat) : rowV ad τ j = .null ∨ ∃ a, rowV ad τ j = .ref a := by
  unfold rowV
  split
  · exact Or.inr ⟨_, rfl⟩
  · exact Or.inl rfl
theorem rowV_N {ad : Nat → Nat} {τ : PS} {j : Nat} (h : ¬ slSome τ j) : rowV ad τ j = .null := if_neg (fun c => h (slB_iff.mp c))
theorem rowV_S {ad : Nat → Nat} {τ : PS} {j : Nat} (h : slSome τ j) : rowV ad τ j = .ref (ad (60 + j)) := if_pos (slB_iff.mpr h)
theorem slot_row {p : Program} {l : Launch} {e : Env} {R : Room} {s : State} {m : MethodId} {args : Array Value} {below : List Frame} {meth : Method} {c : Code} {H : Heap} {locs : List Loc} {cells slots : Nat} {Q : State → Prop} {cc : ByteArray} {pc : Nat} {ls : Array Slot} {st : List Value} {nL d : Nat} {D : va_G} {ty : Nat → ClassId} {ad : Nat → Nat} {τ : PS} {j : Nat} {A : Nat → Prop} {B rs : va_W} (C : Cx p R s m args c cc nL RX0 D ty A d) (h : Hw D A s H locs (B ++ (wS ty ad τ ++ rs))) (hj : j < 4) (dec : decode cc pc = .ok (.getfield 469, 3))
    (kk : W p l e R s m args below meth c H locs cells slots Q (F0 m (pc + 3) ls (rowV ad τ j :: st))) : W p l e R s m args below meth c H locs cells slots Q (F0 m pc ls (.ref (ad (50 + j)) :: st)) := by
  obtain ⟨rest, hp⟩ := slot_perm0 (ty := ty) (ad := ad) (τ := τ) (B := B) (rs := rs) hj
  have h2 := h.perm hp
  have h2 : Hw D A s H locs ((ad (50 + j), .inr (6, [rowV ad τ j])) :: (rowC ty ad τ j ++ rest)) := h2
  exact va_getN (D := D) (ci := 6) C.x C.b C.ts in_X6 C.own C.K h2.1 0 rfl rfl 0 (by decide) (C.nw q313 rfl) (fun _ h9 => h9) rfl dec kk
theorem row_in {ty : Nat → ClassId} {ad : Nat → Nat} {τ : PS} {j : Nat} {B rs : va_W} {x : Nat × va_E} (hj : j < 4) (hx : x ∈ slW ty ad τ j) : x ∈ B ++ (wS ty ad τ ++ rs) := by
  obtain ⟨rest, hp⟩ := slot_perm0 (ty := ty) (ad := ad) (τ := τ) (B := B) (rs := rs) hj
  exact hp.mem_iff.mpr (List.mem_append_left _ hx)
set_option maxHeartbeats 4000000 in
theorem kX_paste_N (l : Launch) {D : va_G} {ty : Nat → ClassId} {A : Nat → Prop} {o : Nat} {ad : Nat → Nat} {rs : va_W} {σ τ : PS} {v1 v2 v3 v4 v5 : Int32} (hl9 : l.stackTraces = false) {q1 : Int32} (hs1 : X_isSlot v1 = some q1) (hs2 : ¬ q1 = 0) {q3 : Int32} (hs3 : X_isSlot v3 = some q3) (hs4 : ¬ q3 = 0) (hi1 : vp_in v1 4) (hi3 : vp_in v3 4) (hw : ¬ slSome τ v1.toNatClampNeg ∨ ¬ slSome τ v3.toNatClampNeg) : KIg l yX0_paste cX0_paste 7 .int [(17, 44, 45, 369), (17, 44, 50, 504), (17, 44, 55, 506)] 301 1 8 D ty A (wX ty o ad σ ++ (wS ty ad τ ++ rs)) [.ref o, .int v1, .int v2, .int v3, .int v4, .int v5] (fun r (_ : Unit) => r = -6) (fun _ => (wX ty o ad σ ++ (wS ty ad τ ++ rs))) := by
  refine KIg.of (by decide) (Nat.le_of_ble_eq_true rfl) ?_
  intro p e R s m args below meth c Q C hlk htab hmc hms hR H locs ls h hl
  have C : Cx p R s m args c cX0_paste 7 RX0 D ty A 301 := C
  have hl : lv_has ls 7 [(0, .ref o), (1, .int v1), (2, .int v2), (3, .int v3), (4, .int v4), (5, .int v5)] := hl
  refine lv_iload_n C.x C.b dX0_paste_0 rfl (lv_at hl 1 rfl) ?_
  refine cX_isSlot C h hs1 (Nat.le_of_ble_eq_true rfl) hl.1 (Nat.le_of_ble_eq_true rfl) dX0_paste_1 (fun H locs h => ?_)
  refine lv_if_eq (tgt := 14) C.x C.b dX0_paste_4 (by decide) (fun c9 => ?_) (fun c9 => ?_)
  · exact absurd c9 hs2
  refine lv_iload_n C.x C.b dX0_paste_7 rfl (lv_at hl 3 rfl) ?_
  refine cX_isSlot C h hs3 (Nat.le_of_ble_eq_true rfl) hl.1 (Nat.le_of_ble_eq_true rfl) dX0_paste_8 (fun H locs h => ?_)
  refine lv_if_ne (tgt := 17) C.x C.b dX0_paste_11 (by decide) (fun c9 => ?_) (fun c9 => ?_)
  rotate_left
  · exact absurd c9 hs4
  refine lv_aload_n C.x C.b dX0_paste_17 rfl (lv_at hl 0 rfl) ?_
  refine x_g30 C h dX0_paste_18 ?_
  refine lv_iload_n C.x C.b dX0_paste_21 rfl (lv_at hl 1 rfl) ?_
  refine x_a30 C h hi1 dX0_paste_22 ?_
  refine slot_row C h (in_lt hi1) dX0_paste_23 ?_
  refine lv_iload_n C.x C.b dX0_paste_26 rfl (lv_at hl 2 rfl) ?_
  refine lv_aload_n C.x C.b dX0_paste_27 rfl (lv_at hl 0 rfl) ?_
  refine x_g30 C h dX0_paste_28 ?_
  refine lv_iload_n C.x C.b dX0_paste_31 rfl (lv_at hl 3 rfl) ?_
  refine x_a30 C h hi3 dX0_paste_32 ?_
  refine slot_row C h (in_lt hi3) dX0_paste_33 ?_
  refine lv_iload C.x C.b dX0_paste_36 (lv_at hl 4 rfl) ?_
  refine lv_iload C.x C.b dX0_paste_38 (lv_at hl 5 rfl) ?_
  refine cp_N C hl9 (by decide) h hl.1 (rowV_or ad τ _) (rowV_or ad τ _) (hw.imp rowV_N rowV_N) (by omega) (by omega) dX0_paste_40 (fun H q9 ce h h1 h2 h3 => ?_)
  refine vx_catch (name := "java/lang/NullPointerException") (E := "java/lang/NullPointerException") C.own [] { startPc := 17, endPc := 44, handlerPc := 45, catchType := 369 } [{ startPc := 17, endPc := 44, handlerPc := 50, catchType := 504 }, { startPc := 17, endPc := 44, handlerPc := 55, catchType := 506 }] (by rw [htab]; rfl) (fun z hz => absurd hz List.not_mem_nil) (by decide) (by decide) (C.ts _ q1154) (C.nw q1176 rfl) h1 h2 h3 ?_
  refine lv_astore (lv' := [(6, .ref q9), (0, .ref o), (1, .int v1), (2, .int v2), (3, .int v3), (4, .int v4), (5, .int v5)]) C.x C.b dX0_paste_45 hl (by decide) rfl (fun ls hl => ?_)
  refine lv_bipush (v := (-6)) C.x C.b dX0_paste_47 (by decide) ?_
  exact hR _ () _ _ _ _ rfl h rfl dX0_paste_49
set_option maxHeartbeats 4000000 in
theorem kX_paste_T (l : Launch) {D : va_G} {ty : Nat → ClassId} {A : Nat → Prop} {o : Nat} {ad : Nat → Nat} {rs : va_W} {σ τ : PS} {v1 v2 v3 v4 v5 : Int32} (hl9 : l.stackTraces = false) {q1 : Int32} (hs1 : X_isSlot v1 = some q1) (hs2 : ¬ q1 = 0) {q3 : Int32} (hs3 : X_isSlot v3 = some q3) (hs4 : ¬ q3 = 0) (hi1 : vp_in v1 4) (hi3 : vp_in v3 4) (hw1 : slSome τ v1.toNatClampNeg) (hw3 : slSome τ v3.toNatClampNeg) (hw : gI τ v1.toNatClampNeg ≠ gI τ v3.toNatClampNeg) : KIg l yX0_paste cX0_paste 7 .int [(17, 44, 45, 369), (17, 44, 50, 504), (17, 44, 55, 506)] 301 3 1010 D ty A (wX ty o ad σ ++ (wS ty ad τ ++ rs)) [.ref o, .int v1, .int v2, .int v3, .int v4, .int v5] (fun r (_ : Unit) => r = -8) (fun _ => (wX ty o ad σ ++ (wS ty ad τ ++ rs))) := by
  refine KIg.of (by decide) (Nat.le_of_ble_eq_true rfl) ?_
  intro p e R s m args below meth c Q C hlk htab hmc hms hR H locs ls h hl
  have C : Cx p R s m args c cX0_paste 7 RX0 D ty A 301 := C
  have hl : lv_has ls 7 [(0, .ref o), (1, .int v1), (2, .int v2), (3, .int v3), (4, .int v4), (5, .int v5)] := hl
  refine lv_iload_n C.x C.b dX0_paste_0 rfl (lv_at hl 1 rfl) ?_
  refine cX_isSlot C h hs1 (Nat.le_of_ble_eq_true rfl) hl.1 (Nat.le_of_ble_eq_true rfl) dX0_paste_1 (fun H locs h => ?_)
  refine lv_if_eq (tgt := 14) C.x C.b dX0_paste_4 (by decide) (fun c9 => ?_) (fun c9 => ?_)
  · exact absurd c9 hs2
  refine lv_iload_n C.x C.b dX0_paste_7 rfl (lv_at hl 3 rfl) ?_
  refine cX_isSlot C h hs3 (Nat.le_of_ble_eq_true rfl) hl.1 (Nat.le_of_ble_eq_true rfl) dX0_paste_8 (fun H locs h => ?_)
  refine lv_if_ne (tgt := 17) C.x C.b dX0_paste_11 (by decide) (fun c9 => ?_) (fun c9 => ?_)
  rotate_left
  · exact absurd c9 hs4
  refine lv_aload_n C.x C.b dX0_paste_17 rfl (lv_at hl 0 rfl) ?_
  refine x_g30 C h dX0_paste_18 ?_
  refine lv_iload_n C.x C.b dX0_paste_21 rfl (lv_at hl 1 rfl) ?_
  refine x_a30 C h hi1 dX0_paste_22 ?_
  refine slot_row C h (in_lt hi1) dX0_paste_23 ?_
  refine lv_iload_n C.x C.b dX0_paste_26 rfl (lv_at hl 2 rfl) ?_
  refine lv_aload_n C.x C.b dX0_paste_27 rfl (lv_at hl 0 rfl) ?_
  refine x_g30 C h dX0_paste_28 ?_
  refine lv_iload_n C.x C.b dX0_paste_31 rfl (lv_at hl 3 rfl) ?_
  refine x_a30 C h hi3 dX0_paste_32 ?_
  refine slot_row C h (in_lt hi3) dX0_paste_33 ?_
  refine lv_iload C.x C.b dX0_paste_36 (lv_at hl 4 rfl) ?_
  refine lv_iload C.x C.b dX0_paste_38 (lv_at hl 5 rfl) ?_
  obtain ⟨ca, ha1, ha2, ha3, ha4⟩ := rowAt C h (in_lt hi1) hw1
  obtain ⟨cb, hb1, hb2, hb3, hb4⟩ := rowAt C h (in_lt hi3) hw3
  rw [rowV_S hw1, rowV_S hw3]
  refine cp_V (cls := "java/lang/ArrayStoreException") (names := ["java/lang/RuntimeException", "java/lang/Exception"]) C hl9 (by decide) h hl.1 (by omega) (by omega) dX0_paste_40 (by decide +kernel) (by decide +kernel) (by decide +kernel) (by decide +kernel) (by decide) (C.at at_as_t at_as_g) at_as_o (tx_mod (ty_list (ftOf (gI τ v1.toNatClampNeg)) (ftOf (gI τ v3.toNatClampNeg))) (by decide)) (tx_bytes (ty_len _ _)) (fun U fs E hU K9 hE => ?_) (fun H q9 ce h h1 h2 h3 => ?_)
  · obtain ⟨-, k0, hk0, cm0, hkk0⟩ := (K9.2 _ _ ha3).1 0 (fun _ => .null)
    obtain ⟨-, k1, hk1, cm1, hkk1⟩ := (K9.2 _ _ hb3).1 0 (fun _ => .null)
    exact Jvm.W.arraycopy_types (s := U.setFrames fs) (cs := ca) (cd := cb) (by rw [← hU] at ha1; exact ha1) (by rw [← hU] at hb1; exact hb1) (fun k hk => by rw [ha2] at hk; cases hk) (fun k hk => by rw [hb2] at hk; cases hk) hk0 hk1 hkk0 hkk1 (ft_ne hw1 hw3 hw) (hE _)
  refine vx_catch (name := "java/lang/ArrayStoreException") (E := "java/lang/ArrayStoreException") C.own [{ startPc := 17, endPc := 44, handlerPc := 45, catchType := 369 }] { startPc := 17, endPc := 44, handlerPc := 50, catchType := 504 } [{ startPc := 17, endPc := 44, handlerPc := 55, catchType := 506 }] (by rw [htab]; rfl) (List.forall_mem_cons.mpr ⟨Or.inr ⟨by decide, "java/lang/NullPointerException", C.ts _ q1154, C.E.1 ("java/lang/ArrayStoreException", "java/lang/NullPointerException") (by decide)⟩, fun z hz => absurd hz List.not_mem_nil⟩) (by decide) (by decide) (C.ts _ q1517) (C.nw q1529 rfl) h1 h2 h3 ?_
  refine lv_astore (lv' := [(6, .ref q9), (0, .ref o), (1, .int v1), (2, .int v2), (3, .int v3), (4, .int v4), (5, .int v5)]) C.x C.b dX0_paste_50 hl (by decide) rfl (fun ls hl => ?_)
  refine lv_bipush (v := (-8)) C.x C.b dX0_paste_52 (by decide) ?_
  exact hR _ () _ _ _ _ rfl h rfl dX0_paste_54
set_option maxHeartbeats 4000000 in
theorem kX_paste_B (l : Launch) {D : va_G} {ty : Nat → ClassId} {A : Nat → Prop} {o : Nat} {ad : Nat → Nat} {rs : va_W} {σ τ : PS} {v1 v2 v3 v4 v5 : Int32} (hl9 : l.stackTraces = false) {q1 : Int32} (hs1 : X_isSlot v1 = some q1) (hs2 : ¬ q1 = 0) {q3 : Int32} (hs3 : X_isSlot v3 = some q3) (hs4 : ¬ q3 = 0) (hi1 : vp_in v1 4) (hi3 : vp_in v3 4) (hw1 : slSome τ v1.toNatClampNeg) (hw3 : slSome τ v3.toNatClampNeg) (hw : gI τ v1.toNatClampNeg = gI τ v3.toNatClampNeg) {tx : String} (hf : copyFault (ftOf (gI τ v1.toNatClampNeg)) (ftOf (gI τ v3.toNatClampNeg)) (slN τ v1.toNatClampNeg) (slN τ v3.toNatClampNeg) v2 v4 v5 = some tx) : KIg l yX0_paste cX0_paste 7 .int [(17, 44, 45, 369), (17, 44, 50, 504), (17, 44, 55, 506)] 301 3 1010 D ty A (wX ty o ad σ ++ (wS ty ad τ ++ rs)) [.ref o, .int v1, .int v2, .int v3, .int v4, .int v5] (fun r (_ : Unit) => r = -7) (fun _ => (wX ty o ad σ ++ (wS ty ad τ ++ rs))) := by
  refine KIg.of (by decide) (Nat.le_of_ble_eq_true rfl) ?_
  intro p e R s m args below meth c Q C hlk htab hmc hms hR H locs ls h hl
  have C : Cx p R s m args c cX0_paste 7 RX0 D ty A 301 := C
  have hl : lv_has ls 7 [(0, .ref o), (1, .int v1), (2, .int v2), (3, .int v3), (4, .int v4), (5, .int v5)] := hl
  refine lv_iload_n C.x C.b dX0_paste_0 rfl (lv_at hl 1 rfl) ?_
  refine cX_isSlot C h hs1 (Nat.le_of_ble_eq_true rfl) hl.1 (Nat.le_of_ble_eq_true rfl) dX0_paste_1 (fun H locs h => ?_)
  refine lv_if_eq (tgt := 14) C.x C.b dX0_paste_4 (by decide) (fun c9 => ?_) (fun c9 => ?_)
  · exact absurd c9 hs2
  refine lv_iload_n C.x C.b dX0_paste_7 rfl (lv_at hl 3 rfl) ?_
  refine cX_isSlot C h hs3 (Nat.le_of_ble_eq_true rfl) hl.1 (Nat.le_of_ble_eq_true rfl) dX0_paste_8 (fun H locs h => ?_)
  refine lv_if_ne (tgt := 17) C.x C.b dX0_paste_11 (by decide) (fun c9 => ?_) (fun c9 => ?_)
  rotate_left
  · exact absurd c9 hs4
  refine lv_aload_n C.x C.b dX0_paste_17 rfl (lv_at hl 0 rfl) ?_
  refine x_g30 C h dX0_paste_18 ?_
  refine lv_iload_n C.x C.b dX0_paste_21 rfl (lv_at hl 1 rfl) ?_
  refine x_a30 C h hi1 dX0_paste_22 ?_
  refine slot_row C h (in_lt hi1) dX0_paste_23 ?_
  refine lv_iload_n C.x C.b dX0_paste_26 rfl (lv_at hl 2 rfl) ?_
  refine lv_aload_n C.x C.b dX0_paste_27 rfl (lv_at hl 0 rfl) ?_
  refine x_g30 C h dX0_paste_28 ?_
  refine lv_iload_n C.x C.b dX0_paste_31 rfl (lv_at hl 3 rfl) ?_
  refine x_a30 C h hi3 dX0_paste_32 ?_
  refine slot_row C h (in_lt hi3) dX0_paste_33 ?_
  refine lv_iload C.x C.b dX0_paste_36 (lv_at hl 4 rfl) ?_
  refine lv_iload C.x C.b dX0_paste_38 (lv_at hl 5 rfl) ?_
  obtain ⟨ca, ha1, ha2, ha3, ha4⟩ := rowAt C h (in_lt hi1) hw1
  obtain ⟨cb, hb1, hb2, hb3, hb4⟩ := rowAt C h (in_lt hi3) hw3
  rw [rowV_S hw1, rowV_S hw3]
  refine cp_V (cls := "java/lang/ArrayIndexOutOfBoundsException") (names := ["java/lang/IndexOutOfBoundsException", "java/lang/RuntimeException", "java/lang/Exception"]) C hl9 (by decide) h hl.1 (by omega) (by omega) dX0_paste_40 (by decide +kernel) (by decide +kernel) (by decide +kernel) (by decide +kernel) (by decide) (C.at at_ai_t at_ai_g) at_ai_o (cf_mod tx) (tx_bytes (cf_len (slN_lt τ _) (slN_lt τ _) hf)) (fun U fs E hU K9 hE => ?_) (fun H q9 ce h h1 h2 h3 => ?_)
  · obtain ⟨-, k0, hk0, cm0, hkk0⟩ := (K9.2 _ _ ha3).1 0 (fun _ => .null)
    obtain ⟨-, k1, hk1, cm1, hkk1⟩ := (K9.2 _ _ hb3).1 0 (fun _ => .null)
    exact Jvm.W.arraycopy_bounds (s := U.setFrames fs) (cs := ca) (cd := cb) (by rw [← hU] at ha1; exact ha1) (by rw [← hU] at hb1; exact hb1) (fun k hk => by rw [ha2] at hk; cases hk) (fun k hk => by rw [hb2] at hk; cases hk) hk0 hk1 hkk0 hkk1 (by rw [hw]; exact ft_eq _) (by rw [ha4, hb4]; exact hf) (hE _)
  refine vx_catch (name := "java/lang/IndexOutOfBoundsException") (E := "java/lang/ArrayIndexOutOfBoundsException") C.own [{ startPc := 17, endPc := 44, handlerPc := 45, catchType := 369 }, { startPc := 17, endPc := 44, handlerPc := 50, catchType := 504 }] { startPc := 17, endPc := 44, handlerPc := 55, catchType := 506 } [] (by rw [htab]; rfl) (List.forall_mem_cons.mpr ⟨Or.inr ⟨by decide, "java/lang/NullPointerException", C.ts _ q1154, C.E.1 ("java/lang/ArrayIndexOutOfBoundsException", "java/lang/NullPointerException") (by decide)⟩, List.forall_mem_cons.mpr ⟨Or.inr ⟨by decide, "java/lang/ArrayStoreException", C.ts _ q1517, C.E.1 ("java/lang/ArrayIndexOutOfBoundsException", "java/lang/ArrayStoreException") (by decide)⟩, fun z hz => absurd hz List.not_mem_nil⟩⟩) (by decide) (by decide) (C.ts _ q1531) (C.nw q2342 rfl) h1 h2 h3 ?_
  refine lv_astore (lv' := [(6, .ref q9), (0, .ref o), (1, .int v1), (2, .int v2), (3, .int v3), (4, .int v4), (5, .int v5)]) C.x C.b dX0_paste_55 hl (by decide) rfl (fun ls hl => ?_)
  refine lv_bipush (v := (-7)) C.x C.b dX0_paste_57 (by decide) ?_
  exact hR _ () _ _ _ _ rfl h rfl dX0_paste_59
set_option maxHeartbeats 4000000 in
theorem kX_paste_ok_b (l : Launch) {D : va_G} {ty : Nat → ClassId} {A : Nat → Prop} {o : Nat} {ad : Nat → Nat} {rs : va_W} {σ τ : PS} {v1 v2 v3 v4 v5 : Int32} (hl9 : l.stackTraces = false) {q1 : Int32} (hs1 : X_isSlot v1 = some q1) (hs2 : ¬ q1 = 0) {q3 : Int32} (hs3 : X_isSlot v3 = some q3) (hs4 : ¬ q3 = 0) (hi1 : vp_in v1 4) (hi3 : vp_in v3 4) (hw1 : gI τ v1.toNatClampNeg = 0) (hw3 : gI τ v3.toNatClampNeg = 0) (h2 : ¬ v2 < 0) (h4 : ¬ v4 < 0) (h5 : ¬ v5 < 0) (hn1 : v2.toNatClampNeg + v5.toNatClampNeg ≤ slN τ v1.toNatClampNeg) (hn3 : v4.toNatClampNeg + v5.toNatClampNeg ≤ slN τ v3.toNatClampNeg) (hf : ∀ i, i < v5.toNatClampNeg → fits .byte (.int (gA τ v1.toNatClampNeg (v2.toNatClampNeg + i))) = true) : KIg l yX0_paste cX0_paste 7 .int [(17, 44, 45, 369), (17, 44, 50, 504), (17, 44, 55, 506)] 20 0 0 D ty A (wX ty o ad σ ++ (wS ty ad τ ++ rs)) [.ref o, .int v1, .int v2, .int v3, .int v4, .int v5] (fun r (_ : Unit) => r = 0) (fun _ => wX ty o ad σ ++ (wS ty ad (slSet τ v3.toNatClampNeg (va_cpy (gA τ v1.toNatClampNeg) (gA τ v3.toNatClampNeg) v2.toNatClampNeg v4.toNatClampNeg v5.toNatClampNeg) (gB τ v3.toNatClampNeg)) ++ rs)) := by
  refine KIg.of (by decide) (Nat.le_of_ble_eq_true rfl) ?_
  intro p e R s m args below meth c Q C hlk htab hmc hms hR H locs ls h hl
  have C : Cx p R s m args c cX0_paste 7 RX0 D ty A 20 := C
  have hl : lv_has ls 7 [(0, .ref o), (1, .int v1), (2, .int v2), (3, .int v3), (4, .int v4), (5, .int v5)] := hl
  refine lv_iload_n C.x C.b dX0_paste_0 rfl (lv_at hl 1 rfl) ?_
  refine cX_isSlot C h hs1 (Nat.le_of_ble_eq_true rfl) hl.1 (Nat.le_of_ble_eq_true rfl) dX0_paste_1 (fun H locs h => ?_)
  refine lv_if_eq (tgt := 14) C.x C.b dX0_paste_4 (by decide) (fun c9 => ?_) (fun c9 => ?_)
  · exact absurd c9 hs2
  refine lv_iload_n C.x C.b dX0_paste_7 rfl (lv_at hl 3 rfl) ?_
  refine cX_isSlot C h hs3 (Nat.le_of_ble_eq_true rfl) hl.1 (Nat.le_of_ble_eq_true rfl) dX0_paste_8 (fun H locs h => ?_)
  refine lv_if_ne (tgt := 17) C.x C.b dX0_paste_11 (by decide) (fun c9 => ?_) (fun c9 => ?_)
  rotate_left
  · exact absurd c9 hs4
  refine lv_aload_n C.x C.b dX0_paste_17 rfl (lv_at hl 0 rfl) ?_
  refine x_g30 C h dX0_paste_18 ?_
  refine lv_iload_n C.x C.b dX0_paste_21 rfl (lv_at hl 1 rfl) ?_
  refine x_a30 C h hi1 dX0_paste_22 ?_
  refine slot_row C h (in_lt hi1) dX0_paste_23 ?_
  refine lv_iload_n C.x C.b dX0_paste_26 rfl (lv_at hl 2 rfl) ?_
  refine lv_aload_n C.x C.b dX0_paste_27 rfl (lv_at hl 0 rfl) ?_
  refine x_g30 C h dX0_paste_28 ?_
  refine lv_iload_n C.x C.b dX0_paste_31 rfl (lv_at hl 3 rfl) ?_
  refine x_a30 C h hi3 dX0_paste_32 ?_
  refine slot_row C h (in_lt hi3) dX0_paste_33 ?_
  refine lv_iload C.x C.b dX0_paste_36 (lv_at hl 4 rfl) ?_
  refine lv_iload C.x C.b dX0_paste_38 (lv_at hl 5 rfl) ?_
  have r1 := C.2.2.2.1
  have r2 := C.2.2.2.2
  rw [rowV_S (Or.inl hw1), rowV_S (Or.inl hw3)]
  obtain ⟨rest, hp, hp2⟩ := slot_perm (B := wX ty o ad σ) (rs := rs) (ty := ty) (ad := ad) (τ := τ) (ad' := ad) (τ' := (slSet τ v3.toNatClampNeg (va_cpy (gA τ v1.toNatClampNeg) (gA τ v3.toNatClampNeg) v2.toNatClampNeg v4.toNatClampNeg v5.toNatClampNeg) (gB τ v3.toNatClampNeg))) (in_lt hi3) rfl (fun i hi hne => slSet_off hne)
  have hm : ((ad (60 + v1.toNatClampNeg), .inl (ty 1, slN τ v1.toNatClampNeg, .inl (gA τ v1.toNatClampNeg))) : Nat × va_E) ∈ slW ty ad τ v3.toNatClampNeg ++ rest := hp.mem_iff.mp (row_in (in_lt hi1) (by rw [slW_b hw1]; exact List.mem_cons_of_mem _ (List.mem_cons_self ..)))
  have g2 := h.perm hp
  rw [slW_b hw3] at g2 hm
  obtain ⟨q0, hq0⟩ := List.mem_iff_getElem?.mp hm
  refine va_copyi C.x C.b (C.1.2.2.1.trans hl.1.symm) C.own (C.ts _ q745) (C.ts _ q747) (C.ts _ q746) (C.ts _ q159) C.K g2.1 g2.2.1 g2.2.2 q0 1 1 1 hq0 rfl rfl rfl rfl h2 h4 h5 hn1 hn3 (fun i hi => hf i hi) (by omega) (by rw [show nativeFrameWords "java/lang/System" "arraycopy" 5 = 7 by decide]; show 0 + _ ≤ _; omega) dX0_paste_40 (fun H locs hP hD hS => ?_)
  have h := Hw.perm hp2 (show Hw D A s H locs _ by rw [slW_b (show gI (slSet τ v3.toNatClampNeg (va_cpy (gA τ v1.toNatClampNeg) (gA τ v3.toNatClampNeg) v2.toNatClampNeg v4.toNatClampNeg v5.toNatClampNeg) (gB τ v3.toNatClampNeg)) v3.toNatClampNeg = 0 from hw3), show slN (slSet τ v3.toNatClampNeg (va_cpy (gA τ v1.toNatClampNeg) (gA τ v3.toNatClampNeg) v2.toNatClampNeg v4.toNatClampNeg v5.toNatClampNeg) (gB τ v3.toNatClampNeg)) v3.toNatClampNeg = slN τ v3.toNatClampNeg from rfl, show gA (slSet τ v3.toNatClampNeg (va_cpy (gA τ v1.toNatClampNeg) (gA τ v3.toNatClampNeg) v2.toNatClampNeg v4.toNatClampNeg v5.toNatClampNeg) (gB τ v3.toNatClampNeg)) v3.toNatClampNeg = _ from va_upS]; exact ⟨hP, hD, hS⟩)
  refine lv_iconst (v := 0) C.x C.b dX0_paste_43 (by decide) ?_
  exact hR _ () _ _ _ _ rfl h rfl dX0_paste_44
set_option maxHeartbeats 4000000 in
theorem kX_paste_ok_s (l : Launch) {D : va_G} {ty : Nat → ClassId} {A : Nat → Prop} {o : Nat} {ad : Nat → Nat} {rs : va_W} {σ τ : PS} {v1 v2 v3 v4 v5 : Int32} (hl9 : l.stackTraces = false) {q1 : Int32} (hs1 : X_isSlot v1 = some q1) (hs2 : ¬ q1 = 0) {q3 : Int32} (hs3 : X_isSlot v3 = some q3) (hs4 : ¬ q3 = 0) (hi1 : vp_in v1 4) (hi3 : vp_in v3 4) (hw1 : gI τ v1.toNatClampNeg = 1) (hw3 : gI τ v3.toNatClampNeg = 1) (h2 : ¬ v2 < 0) (h4 : ¬ v4 < 0) (h5 : ¬ v5 < 0) (hn1 : v2.toNatClampNeg + v5.toNatClampNeg ≤ slN τ v1.toNatClampNeg) (hn3 : v4.toNatClampNeg + v5.toNatClampNeg ≤ slN τ v3.toNatClampNeg) (hf : ∀ i, i < v5.toNatClampNeg → fits .short (.int (gA τ v1.toNatClampNeg (v2.toNatClampNeg + i))) = true) : KIg l yX0_paste cX0_paste 7 .int [(17, 44, 45, 369), (17, 44, 50, 504), (17, 44, 55, 506)] 20 0 0 D ty A (wX ty o ad σ ++ (wS ty ad τ ++ rs)) [.ref o, .int v1, .int v2, .int v3, .int v4, .int v5] (fun r (_ : Unit) => r = 0) (fun _ => wX ty o ad σ ++ (wS ty ad (slSet τ v3.toNatClampNeg (va_cpy (gA τ v1.toNatClampNeg) (gA τ v3.toNatClampNeg) v2.toNatClampNeg v4.toNatClampNeg v5.toNatClampNeg) (gB τ v3.toNatClampNeg)) ++ rs)) := by
  refine KIg.of (by decide) (Nat.le_of_ble_eq_true rfl) ?_
  intro p e R s m args below meth c Q C hlk htab hmc hms hR H locs ls h hl
  have C : Cx p R s m args c cX0_paste 7 RX0 D ty A 20 := C
  have hl : lv_has ls 7 [(0, .ref o), (1, .int v1), (2, .int v2), (3, .int v3), (4, .int v4), (5, .int v5)] := hl
  refine lv_iload_n C.x C.b dX0_paste_0 rfl (lv_at hl 1 rfl) ?_
  refine cX_isSlot C h hs1 (Nat.le_of_ble_eq_true rfl) hl.1 (Nat.le_of_ble_eq_true rfl) dX0_paste_1 (fun H locs h => ?_)
  refine lv_if_eq (tgt := 14) C.x C.b dX0_paste_4 (by decide) (fun c9 => ?_) (fun c9 => ?_)
  · exact absurd c9 hs2
  refine lv_iload_n C.x C.b dX0_paste_7 rfl (lv_at hl 3 rfl) ?_
  refine cX_isSlot C h hs3 (Nat.le_of_ble_eq_true rfl) hl.1 (Nat.le_of_ble_eq_true rfl) dX0_paste_8 (fun H locs h => ?_)
  refine lv_if_ne (tgt := 17) C.x C.b dX0_paste_11 (by decide) (fun c9 => ?_) (fun c9 => ?_)
  rotate_left
  · exact absurd c9 hs4
  refine lv_aload_n C.x C.b dX0_paste_17 rfl (lv_at hl 0 rfl) ?_
  refine x_g30 C h dX0_paste_18 ?_
  refine lv_iload_n C.x C.b dX0_paste_21 rfl (lv_at hl 1 rfl) ?_
  refine x_a30 C h hi1 dX0_paste_22 ?_
  refine slot_row C h (in_lt hi1) dX0_paste_23 ?_
  refine lv_iload_n C.x C.b dX0_paste_26 rfl (lv_at hl 2 rfl) ?_
  refine lv_aload_n C.x C.b dX0_paste_27 rfl (lv_at hl 0 rfl) ?_
  refine x_g30 C h dX0_paste_28 ?_
  refine lv_iload_n C.x C.b dX0_paste_31 rfl (lv_at hl 3 rfl) ?_
  refine x_a30 C h hi3 dX0_paste_32 ?_
  refine slot_row C h (in_lt hi3) dX0_paste_33 ?_
  refine lv_iload C.x C.b dX0_paste_36 (lv_at hl 4 rfl) ?_
  refine lv_iload C.x C.b dX0_paste_38 (lv_at hl 5 rfl) ?_
  have r1 := C.2.2.2.1
  have r2 := C.2.2.2.2
  rw [rowV_S (Or.inr (Or.inl hw1)), rowV_S (Or.inr (Or.inl hw3))]
  obtain ⟨rest, hp, hp2⟩ := slot_perm (B := wX ty o ad σ) (rs := rs) (ty := ty) (ad := ad) (τ := τ) (ad' := ad) (τ' := (slSet τ v3.toNatClampNeg (va_cpy (gA τ v1.toNatClampNeg) (gA τ v3.toNatClampNeg) v2.toNatClampNeg v4.toNatClampNeg v5.toNatClampNeg) (gB τ v3.toNatClampNeg))) (in_lt hi3) rfl (fun i hi hne => slSet_off hne)
  have hm : ((ad (60 + v1.toNatClampNeg), .inl (ty 2, slN τ v1.toNatClampNeg, .inl (gA τ v1.toNatClampNeg))) : Nat × va_E) ∈ slW ty ad τ v3.toNatClampNeg ++ rest := hp.mem_iff.mp (row_in (in_lt hi1) (by rw [slW_s hw1]; exact List.mem_cons_of_mem _ (List.mem_cons_self ..)))
  have g2 := h.perm hp
  rw [slW_s hw3] at g2 hm
  obtain ⟨q0, hq0⟩ := List.mem_iff_getElem?.mp hm
  refine va_copyi C.x C.b (C.1.2.2.1.trans hl.1.symm) C.own (C.ts _ q745) (C.ts _ q747) (C.ts _ q746) (C.ts _ q159) C.K g2.1 g2.2.1 g2.2.2 q0 1 2 2 hq0 rfl rfl rfl rfl h2 h4 h5 hn1 hn3 (fun i hi => hf i hi) (by omega) (by rw [show nativeFrameWords "java/lang/System" "arraycopy" 5 = 7 by decide]; show 0 + _ ≤ _; omega) dX0_paste_40 (fun H locs hP hD hS => ?_)
  have h := Hw.perm hp2 (show Hw D A s H locs _ by rw [slW_s (show gI (slSet τ v3.toNatClampNeg (va_cpy (gA τ v1.toNatClampNeg) (gA τ v3.toNatClampNeg) v2.toNatClampNeg v4.toNatClampNeg v5.toNatClampNeg) (gB τ v3.toNatClampNeg)) v3.toNatClampNeg = 1 from hw3), show slN (slSet τ v3.toNatClampNeg (va_cpy (gA τ v1.toNatClampNeg) (gA τ v3.toNatClampNeg) v2.toNatClampNeg v4.toNatClampNeg v5.toNatClampNeg) (gB τ v3.toNatClampNeg)) v3.toNatClampNeg = slN τ v3.toNatClampNeg from rfl, show gA (slSet τ v3.toNatClampNeg (va_cpy (gA τ v1.toNatClampNeg) (gA τ v3.toNatClampNeg) v2.toNatClampNeg v4.toNatClampNeg v5.toNatClampNeg) (gB τ v3.toNatClampNeg)) v3.toNatClampNeg = _ from va_upS]; exact ⟨hP, hD, hS⟩)
  refine lv_iconst (v := 0) C.x C.b dX0_paste_43 (by decide) ?_
  exact hR _ () _ _ _ _ rfl h rfl dX0_paste_44
set_option maxHeartbeats 4000000 in
theorem kX_paste_ok_i (l : Launch) {D : va_G} {ty : Nat → ClassId} {A : Nat → Prop} {o : Nat} {ad : Nat → Nat} {rs : va_W} {σ τ : PS} {v1 v2 v3 v4 v5 : Int32} (hl9 : l.stackTraces = false) {q1 : Int32} (hs1 : X_isSlot v1 = some q1) (hs2 : ¬ q1 = 0) {q3 : Int32} (hs3 : X_isSlot v3 = some q3) (hs4 : ¬ q3 = 0) (hi1 : vp_in v1 4) (hi3 : vp_in v3 4) (hw1 : gI τ v1.toNatClampNeg = 2) (hw3 : gI τ v3.toNatClampNeg = 2) (h2 : ¬ v2 < 0) (h4 : ¬ v4 < 0) (h5 : ¬ v5 < 0) (hn1 : v2.toNatClampNeg + v5.toNatClampNeg ≤ slN τ v1.toNatClampNeg) (hn3 : v4.toNatClampNeg + v5.toNatClampNeg ≤ slN τ v3.toNatClampNeg) : KIg l yX0_paste cX0_paste 7 .int [(17, 44, 45, 369), (17, 44, 50, 504), (17, 44, 55, 506)] 20 0 0 D ty A (wX ty o ad σ ++ (wS ty ad τ ++ rs)) [.ref o, .int v1, .int v2, .int v3, .int v4, .int v5] (fun r (_ : Unit) => r = 0) (fun _ => wX ty o ad σ ++ (wS ty ad (slSet τ v3.toNatClampNeg (va_cpy (gA τ v1.toNatClampNeg) (gA τ v3.toNatClampNeg) v2.toNatClampNeg v4.toNatClampNeg v5.toNatClampNeg) (gB τ v3.toNatClampNeg)) ++ rs)) := by
  refine KIg.of (by decide) (Nat.le_of_ble_eq_true rfl) ?_
  intro p e R s m args below meth c Q C hlk htab hmc hms hR H locs ls h hl
  have C : Cx p R s m args c cX0_paste 7 RX0 D ty A 20 := C
  have hl : lv_has ls 7 [(0, .ref o), (1, .int v1), (2, .int v2), (3, .int v3), (4, .int v4), (5, .int v5)] := hl
  refine lv_iload_n C.x C.b dX0_paste_0 rfl (lv_at hl 1 rfl) ?_
  refine cX_isSlot C h hs1 (Nat.le_of_ble_eq_true rfl) hl.1 (Nat.le_of_ble_eq_true rfl) dX0_paste_1 (fun H locs h => ?_)
  refine lv_if_eq (tgt := 14) C.x C.b dX0_paste_4 (by decide) (fun c9 => ?_) (fun c9 => ?_)
  · exact absurd c9 hs2
  refine lv_iload_n C.x C.b dX0_paste_7 rfl (lv_at hl 3 rfl) ?_
  refine cX_isSlot C h hs3 (Nat.le_of_ble_eq_true rfl) hl.1 (Nat.le_of_ble_eq_true rfl) dX0_paste_8 (fun H locs h => ?_)
  refine lv_if_ne (tgt := 17) C.x C.b dX0_paste_11 (by decide) (fun c9 => ?_) (fun c9 => ?_)
  rotate_left
  · exact absurd c9 hs4
  refine lv_aload_n C.x C.b dX0_paste_17 rfl (lv_at hl 0 rfl) ?_
  refine x_g30 C h dX0_paste_18 ?_
  refine lv_iload_n C.x C.b dX0_paste_21 rfl (lv_at hl 1 rfl) ?_
  refine x_a30 C h hi1 dX0_paste_22 ?_
  refine slot_row C h (in_lt hi1) dX0_paste_23 ?_
  refine lv_iload_n C.x C.b dX0_paste_26 rfl (lv_at hl 2 rfl) ?_
  refine lv_aload_n C.x C.b dX0_paste_27 rfl (lv_at hl 0 rfl) ?_
  refine x_g30 C h dX0_paste_28 ?_
  refine lv_iload_n C.x C.b dX0_paste_31 rfl (lv_at hl 3 rfl) ?_
  refine x_a30 C h hi3 dX0_paste_32 ?_
  refine slot_row C h (in_lt hi3) dX0_paste_33 ?_
  refine lv_iload C.x C.b dX0_paste_36 (lv_at hl 4 rfl) ?_
  refine lv_iload C.x C.b dX0_paste_38 (lv_at hl 5 rfl) ?_
  have r1 := C.2.2.2.1
  have r2 := C.2.2.2.2
  rw [rowV_S (Or.inr (Or.inr (Or.inl hw1))), rowV_S (Or.inr (Or.inr (Or.inl hw3)))]
  obtain ⟨rest, hp, hp2⟩ := slot_perm (B := wX ty o ad σ) (rs := rs) (ty := ty) (ad := ad) (τ := τ) (ad' := ad) (τ' := (slSet τ v3.toNatClampNeg (va_cpy (gA τ v1.toNatClampNeg) (gA τ v3.toNatClampNeg) v2.toNatClampNeg v4.toNatClampNeg v5.toNatClampNeg) (gB τ v3.toNatClampNeg))) (in_lt hi3) rfl (fun i hi hne => slSet_off hne)
  have hm : ((ad (60 + v1.toNatClampNeg), .inl (ty 0, slN τ v1.toNatClampNeg, .inl (gA τ v1.toNatClampNeg))) : Nat × va_E) ∈ slW ty ad τ v3.toNatClampNeg ++ rest := hp.mem_iff.mp (row_in (in_lt hi1) (by rw [slW_i hw1]; exact List.mem_cons_of_mem _ (List.mem_cons_self ..)))
  have g2 := h.perm hp
  rw [slW_i hw3] at g2 hm
  obtain ⟨q0, hq0⟩ := List.mem_iff_getElem?.mp hm
  refine va_copyi C.x C.b (C.1.2.2.1.trans hl.1.symm) C.own (C.ts _ q745) (C.ts _ q747) (C.ts _ q746) (C.ts _ q159) C.K g2.1 g2.2.1 g2.2.2 q0 1 0 0 hq0 rfl rfl rfl rfl h2 h4 h5 hn1 hn3 (fun _ _ => rfl) (by omega) (by rw [show nativeFrameWords "java/lang/System" "arraycopy" 5 = 7 by decide]; show 0 + _ ≤ _; omega) dX0_paste_40 (fun H locs hP hD hS => ?_)
  have h := Hw.perm hp2 (show Hw D A s H locs _ by rw [slW_i (show gI (slSet τ v3.toNatClampNeg (va_cpy (gA τ v1.toNatClampNeg) (gA τ v3.toNatClampNeg) v2.toNatClampNeg v4.toNatClampNeg v5.toNatClampNeg) (gB τ v3.toNatClampNeg)) v3.toNatClampNeg = 2 from hw3), show slN (slSet τ v3.toNatClampNeg (va_cpy (gA τ v1.toNatClampNeg) (gA τ v3.toNatClampNeg) v2.toNatClampNeg v4.toNatClampNeg v5.toNatClampNeg) (gB τ v3.toNatClampNeg)) v3.toNatClampNeg = slN τ v3.toNatClampNeg from rfl, show gA (slSet τ v3.toNatClampNeg (va_cpy (gA τ v1.toNatClampNeg) (gA τ v3.toNatClampNeg) v2.toNatClampNeg v4.toNatClampNeg v5.toNatClampNeg) (gB τ v3.toNatClampNeg)) v3.toNatClampNeg = _ from va_upS]; exact ⟨hP, hD, hS⟩)
  refine lv_iconst (v := 0) C.x C.b dX0_paste_43 (by decide) ?_
  exact hR _ () _ _ _ _ rfl h rfl dX0_paste_44
set_option maxHeartbeats 4000000 in
theorem kX_paste_ok_l (l : Launch) {D : va_G} {ty : Nat → ClassId} {A : Nat → Prop} {o : Nat} {ad : Nat → Nat} {rs : va_W} {σ τ : PS} {v1 v2 v3 v4 v5 : Int32} (hl9 : l.stackTraces = false) {q1 : Int32} (hs1 : X_isSlot v1 = some q1) (hs2 : ¬ q1 = 0) {q3 : Int32} (hs3 : X_isSlot v3 = some q3) (hs4 : ¬ q3 = 0) (hi1 : vp_in v1 4) (hi3 : vp_in v3 4) (hw1 : gI τ v1.toNatClampNeg = 3) (hw3 : gI τ v3.toNatClampNeg = 3) (h2 : ¬ v2 < 0) (h4 : ¬ v4 < 0) (h5 : ¬ v5 < 0) (hn1 : v2.toNatClampNeg + v5.toNatClampNeg ≤ slN τ v1.toNatClampNeg) (hn3 : v4.toNatClampNeg + v5.toNatClampNeg ≤ slN τ v3.toNatClampNeg) : KIg l yX0_paste cX0_paste 7 .int [(17, 44, 45, 369), (17, 44, 50, 504), (17, 44, 55, 506)] 20 0 0 D ty A (wX ty o ad σ ++ (wS ty ad τ ++ rs)) [.ref o, .int v1, .int v2, .int v3, .int v4, .int v5] (fun r (_ : Unit) => r = 0) (fun _ => wX ty o ad σ ++ (wS ty ad (slSet τ v3.toNatClampNeg (gA τ v3.toNatClampNeg) (va_cpy (gB τ v1.toNatClampNeg) (gB τ v3.toNatClampNeg) v2.toNatClampNeg v4.toNatClampNeg v5.toNatClampNeg)) ++ rs)) := by
  refine KIg.of (by decide) (Nat.le_of_ble_eq_true rfl) ?_
  intro p e R s m args below meth c Q C hlk htab hmc hms hR H locs ls h hl
  have C : Cx p R s m args c cX0_paste 7 RX0 D ty A 20 := C
  have hl : lv_has ls 7 [(0, .ref o), (1, .int v1), (2, .int v2), (3, .int v3), (4, .int v4), (5, .int v5)] := hl
  refine lv_iload_n C.x C.b dX0_paste_0 rfl (lv_at hl 1 rfl) ?_
  refine cX_isSlot C h hs1 (Nat.le_of_ble_eq_true rfl) hl.1 (Nat.le_of_ble_eq_true rfl) dX0_paste_1 (fun H locs h => ?_)
  refine lv_if_eq (tgt := 14) C.x C.b dX0_paste_4 (by decide) (fun c9 => ?_) (fun c9 => ?_)
  · exact absurd c9 hs2
  refine lv_iload_n C.x C.b dX0_paste_7 rfl (lv_at hl 3 rfl) ?_
  refine cX_isSlot C h hs3 (Nat.le_of_ble_eq_true rfl) hl.1 (Nat.le_of_ble_eq_true rfl) dX0_paste_8 (fun H locs h => ?_)
  refine lv_if_ne (tgt := 17) C.x C.b dX0_paste_11 (by decide) (fun c9 => ?_) (fun c9 => ?_)
  rotate_left
  · exact absurd c9 hs4
  refine lv_aload_n C.x C.b dX0_paste_17 rfl (lv_at hl 0 rfl) ?_
  refine x_g30 C h dX0_paste_18 ?_
  refine lv_iload_n C.x C.b dX0_paste_21 rfl (lv_at hl 1 rfl) ?_
  refine x_a30 C h hi1 dX0_paste_22 ?_
  refine slot_row C h (in_lt hi1) dX0_paste_23 ?_
  refine lv_iload_n C.x C.b dX0_paste_26 rfl (lv_at hl 2 rfl) ?_
  refine lv_aload_n C.x C.b dX0_paste_27 rfl (lv_at hl 0 rfl) ?_
  refine x_g30 C h dX0_paste_28 ?_
  refine lv_iload_n C.x C.b dX0_paste_31 rfl (lv_at hl 3 rfl) ?_
  refine x_a30 C h hi3 dX0_paste_32 ?_
  refine slot_row C h (in_lt hi3) dX0_paste_33 ?_
  refine lv_iload C.x C.b dX0_paste_36 (lv_at hl 4 rfl) ?_
  refine lv_iload C.x C.b dX0_paste_38 (lv_at hl 5 rfl) ?_
  have r1 := C.2.2.2.1
  have r2 := C.2.2.2.2
  rw [rowV_S (Or.inr (Or.inr (Or.inr hw1))), rowV_S (Or.inr (Or.inr (Or.inr hw3)))]
  obtain ⟨rest, hp, hp2⟩ := slot_perm (B := wX ty o ad σ) (rs := rs) (ty := ty) (ad := ad) (τ := τ) (ad' := ad) (τ' := (slSet τ v3.toNatClampNeg (gA τ v3.toNatClampNeg) (va_cpy (gB τ v1.toNatClampNeg) (gB τ v3.toNatClampNeg) v2.toNatClampNeg v4.toNatClampNeg v5.toNatClampNeg))) (in_lt hi3) rfl (fun i hi hne => slSet_off hne)
  have hm : ((ad (60 + v1.toNatClampNeg), .inl (ty 3, slN τ v1.toNatClampNeg, .inr (.inl (gB τ v1.toNatClampNeg)))) : Nat × va_E) ∈ slW ty ad τ v3.toNatClampNeg ++ rest := hp.mem_iff.mp (row_in (in_lt hi1) (by rw [slW_l hw1]; exact List.mem_cons_of_mem _ (List.mem_cons_self ..)))
  have g2 := h.perm hp
  rw [slW_l hw3] at g2 hm
  obtain ⟨q0, hq0⟩ := List.mem_iff_getElem?.mp hm
  refine va_copyl C.x C.b (C.1.2.2.1.trans hl.1.symm) C.own (C.ts _ q745) (C.ts _ q747) (C.ts _ q746) (C.ts _ q159) C.K g2.1 g2.2.1 g2.2.2 q0 1 3 3 hq0 rfl rfl rfl rfl h2 h4 h5 hn1 hn3 (fun _ _ => rfl) (by omega) (by rw [show nativeFrameWords "java/lang/System" "arraycopy" 5 = 7 by decide]; show 0 + _ ≤ _; omega) dX0_paste_40 (fun H locs hP hD hS => ?_)
  have h := Hw.perm hp2 (show Hw D A s H locs _ by rw [slW_l (show gI (slSet τ v3.toNatClampNeg (gA τ v3.toNatClampNeg) (va_cpy (gB τ v1.toNatClampNeg) (gB τ v3.toNatClampNeg) v2.toNatClampNeg v4.toNatClampNeg v5.toNatClampNeg)) v3.toNatClampNeg = 3 from hw3), show slN (slSet τ v3.toNatClampNeg (gA τ v3.toNatClampNeg) (va_cpy (gB τ v1.toNatClampNeg) (gB τ v3.toNatClampNeg) v2.toNatClampNeg v4.toNatClampNeg v5.toNatClampNeg)) v3.toNatClampNeg = slN τ v3.toNatClampNeg from rfl, show gB (slSet τ v3.toNatClampNeg (gA τ v3.toNatClampNeg) (va_cpy (gB τ v1.toNatClampNeg) (gB τ v3.toNatClampNeg) v2.toNatClampNeg v4.toNatClampNeg v5.toNatClampNeg)) v3.toNatClampNeg = _ from va_upS]; exact ⟨hP, hD, hS⟩)
  refine lv_iconst (v := 0) C.x C.b dX0_paste_43 (by decide) ?_
  exact hR _ () _ _ _ _ rfl h rfl dX0_paste_44
