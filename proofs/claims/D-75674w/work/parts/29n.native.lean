set_option maxRecDepth 100000
set_option maxHeartbeats 1000000 in
theorem vz_vmAt {p : Program} {l : Launch} {e : Env} {R : Room} {s : State} {m₀ : MethodId} {args : Array Value} {below : List Frame} {meth : Method} {c : Code} {W : State} {locs : List Loc} {cells slots : Nat}
    (X : Stand p l e R s m₀ args below meth c W locs cells slots) (hexec : p.tables.exec = Jvm.exec) (htr : e.platform.stackTraces = false) {cls : String} {names : List String} {text : String}
    (hcls : Bundle.fit cls = true) (hnames : ∀ n ∈ names, Bundle.fit n = true) (hsoe : (cls == "java/lang/StackOverflowError") = false) (hoom : (cls == "java/lang/OutOfMemoryError") = false)
    (h : ∀ a ∈ Bundle.messageArmAtoms cls names, a.before args s = true)
    (hlocs : ∀ x ∈ locs, ∀ cell, s.heap[x.base]? = some cell → cell.vm.isStatics = false)
    (htext : (text == notModelled) = false) (hlimit : ¬ (stringBytes (stringToUtf16 text)).size > e.platform.arrayLengthLimit) (hheap : ¬ (stringBytes (stringToUtf16 text)).size * componentBytes .byte > e.platform.maxHeapBytes)
    {g : JFrame} (hsize : g.locals.size = c.maxLocals) {nf : NFrame} (hnf : nf.words = 0)
    (hRframes : names.length + 5 < R.frames) (hRlocals : 2 * g.monitorRoom + (g.stack.map fun v => v.category).sum + 10240 ≤ R.locals) (hshort : 13 * names.length + 55 ≤ 10240)
    (hRcells : cells + 3 ≤ R.cells) (hRslots : slots + ((stringBytes (stringToUtf16 text)).size + 4 + 6) ≤ R.slots) :
    ∃ (S : State) (q : Addr) (ce : Cell), Steps p.tables e below (W.setFrames (.throwNew cls (some text) none :: .native nf :: .java g :: below)) (S.setFrames (.throwing q :: .native nf :: .java g :: below)) ∧
      Stand p l e R s m₀ args below meth c S locs (cells + 3) (slots + ((stringBytes (stringToUtf16 text)).size + 4 + 6)) ∧ S.heap[q]? = some ce ∧ s.vm.findClass cls = some ce.cls ∧ ce.vm = .none := by
  have howns : e.platform.frameOwnsMonitors = true := by rw [X.admits.platform]
  have hfin : e.platform.finalization = false := by rw [X.admits.platform]
  have hpl : e.platform.magicAccessors = ({} : Platform).magicAccessors := by rw [X.admits.platform]
  have a : ∀ x, x ∈ Bundle.messageArmAtoms cls names → x.holds args s none s [] = true := fun x hx => h x hx
  obtain ⟨T, Z0, L, -, Y⟩ := ThrowableC.of_atoms (args := args) howns hfin hpl (fun x hx => h x (by simp [Bundle.messageArmAtoms, hx]))
  obtain ⟨Z, M, LZ, LM, hnZ⟩ := Init0T.ofS_atoms (args := args) hpl L Y (fun x hx => h x (by simp [Bundle.messageArmAtoms, hx]))
  obtain ⟨P1, Ps, hlen, L1, hL, hP1m, hlink1, hlink⟩ := Bundle.chainS (args := args) hpl hnZ names cls hcls hnames (fun x hx => h x (by simp [Bundle.messageArmAtoms, hx]))
  obtain ⟨Zs, LZs, hn4, hfitv, hfitc⟩ := StringT.of_atoms (args := args) (fun x hx => h x (by simp [Bundle.messageArmAtoms, hx]))
  have hfound : s.vm.findClass cls = some P1.m.cls := findClass_of_methodNamed hP1m
  obtain ⟨c1, kX, hc1, hk, hord, -, -, hn6⟩ := Cond.instantiable_spec (a (.instantiable cls 6) (by simp [Bundle.messageArmAtoms]))
  cases Option.some.inj (hc1.symm.trans hfound)
  have hinit := Cond.initialized_spec hfound hk (a (.initialized cls) (by simp [Bundle.messageArmAtoms]))
  have hctor : kX.findMethod "<init>" "(Ljava/lang/String;)V" = some P1.m.idx := findMethod_of_methodNamed hP1m hk
  have hsel0 : selectMethod e.platform s.vm P1.m.cls T.fill0 = .method T.fill0 := by
    obtain ⟨c2, r2, m2, q1, q2, q3, q4, -⟩ := Cond.selects_spec (a (.selects cls Bundle.tFill0 Bundle.tFill0) (by simp [Bundle.messageArmAtoms]))
    cases Option.some.inj (q1.symm.trans hfound)
    cases Option.some.inj (q2.symm.trans (State.methodFound?_of_named Y.fill0 (by decide)))
    cases Option.some.inj (q3.symm.trans Y.fill0)
    rw [Launch.admits_selectMethod X.admits]; exact q4
  have hselF : selectMethod e.platform s.vm P1.m.cls T.fill = .method T.fill := by
    obtain ⟨c2, r2, m2, q1, q2, q3, q4, -⟩ := Cond.selects_spec (a (.selects cls Bundle.tFill Bundle.tFill) (by simp [Bundle.messageArmAtoms]))
    cases Option.some.inj (q1.symm.trans hfound)
    cases Option.some.inj (q2.symm.trans (State.methodFound?_of_named Y.fill (by decide)))
    cases Option.some.inj (q3.symm.trans Y.fill)
    rw [Launch.admits_selectMethod X.admits]; exact q4
  obtain ⟨cellS0, hcS0, hiss⟩ := Y.statics
  obtain ⟨u0, hu0⟩ := Cond.staticRefV Y.unassigned L.unassignedStatic L.statics hcS0 hiss (a (.isRef (.static Bundle.tN "UNASSIGNED_STACK" Bundle.steD)) (by simp [Bundle.messageArmAtoms]))
  obtain ⟨sen, hsen⟩ := Cond.staticRefV Y.sentinel L.sentinelStatic L.statics hcS0 hiss (a (.isRef (.static Bundle.tN "SUPPRESSED_SENTINEL" Bundle.listD)) (by simp [Bundle.messageArmAtoms]))
  obtain ⟨ci198, i198, fB, hk198, hg198, ha198, hsB, -, hnB, htB, hffB⟩ := Cond.ownField (t := .object "java/lang/Object") Y.found L.cls (by decide +kernel) (a (.fieldLink Bundle.tN 198 Bundle.tN "backtrace" "Ljava/lang/Object;") (by simp [Bundle.messageArmAtoms])) (a (.lays Bundle.tN Bundle.tN "backtrace" "Ljava/lang/Object;") (by simp [Bundle.messageArmAtoms])) e.platform hpl
  obtain ⟨cellS, hcS', heS, -, hkeep⟩ := X.same.2.2.2.2.2 T.aS cellS0 hcS0
  have hcellS : W.heap[T.aS]? = some cellS := hcS'
  have hout' : ∀ i, (⟨T.aS, i⟩ : Loc) ∉ locs := fun i hmem => by
    have := hlocs _ hmem cellS0 hcS0
    rw [hiss] at this; cases this
  have hknownS : cellS.vm ≠ .unknown := by
    rw [heS]; intro hu
    rw [show cellS0.vm = .unknown from hu] at hiss
    cases hiss
  have hvU : cellS.slots[T.fUnassigned.slot]? = some u0.v := by rw [hkeep _ (hout' _)]; exact hu0
  have hvSen : cellS.slots[T.fSentinel.slot]? = some sen.v := by rw [hkeep _ (hout' _)]; exact hsen
  obtain ⟨iM, hffM⟩ := Y.msg
  obtain ⟨tyC, dC, hdC, hdnC⟩ := Cond.laysAt hfound hk Y.cause (a (.lays cls Bundle.tN "cause" "Ljava/lang/Throwable;") (by simp [Bundle.messageArmAtoms]))
  obtain ⟨tyS, dS, hdS, hdnS⟩ := Cond.laysAt hfound hk Y.stack (a (.lays cls Bundle.tN "stackTrace" Bundle.steD) (by simp [Bundle.messageArmAtoms]))
  obtain ⟨tyP, dP, hdP, hdnP⟩ := Cond.laysAt hfound hk Y.supp (a (.lays cls Bundle.tN "suppressedExceptions" Bundle.listD) (by simp [Bundle.messageArmAtoms]))
  obtain ⟨tyM, dM, hdM, hdnM⟩ := Cond.laysAt hfound hk hffM (a (.lays cls Bundle.tN "detailMessage" "Ljava/lang/String;") (by simp [Bundle.messageArmAtoms]))
  obtain ⟨tyB, dB, hdB, hdnB⟩ := Cond.laysAt hfound hk hffB (a (.lays cls Bundle.tN "backtrace" "Ljava/lang/Object;") (by simp [Bundle.messageArmAtoms]))
  have bC := Cond.laysApart hdB hdC hdnB hdnC (by rw [hnB, Y.causeName]; decide)
  have bS := Cond.laysApart hdB hdS hdnB hdnS (by rw [hnB, Y.stackName]; decide)
  have bP := Cond.laysApart hdB hdP hdnB hdnP (by rw [hnB, Y.suppName]; decide)
  have hbk : ((preparedCellV T.toThrowableT (freshCell P1.m.cls kX) (W.heap.size + 2) u0 sen).withEntry W.cur).slots[fB.slot]? = some .null := by
    have := fresh_default (c := P1.m.cls) tyB
    rw [htB] at this
    simpa [preparedCellV, Cell.setSlot, Cell.withEntry, Array.getElem?_setIfInBounds, bC, bS, bP, bC.symm, bS.symm, bP.symm, defaultValue] using this
  have tkC := Takes.of_laid (v := .ref (W.heap.size + 2)) hk hord tyC (by rw [Y.causeType]; rfl)
  have tkS := Takes.of_laid (v := u0.v) hk hord tyS (by rw [Y.stackType]; exact fits_refV_array _ u0)
  have tkP := Takes.of_laid (v := sen.v) hk hord tyP (by rw [Y.suppType]; exact fits_refV_object _ sen)
  have tkM := Takes.of_laid (v := .ref (W.heap.size + 1)) hk hord tyM (by rw [Y.msgType]; rfl)
  have hskip : SkipFacts T e.platform s (fun u => u) u0 ((preparedCellV T.toThrowableT (freshCell P1.m.cls kX) (W.heap.size + 2) u0 sen).withEntry W.cur) := ⟨{ ci198 := ci198, i198 := i198, fBack := fB }, ⟨hk198, hg198, ha198, hsB⟩, hbk, fun _ _ => rfl⟩
  obtain ⟨vm', X5, st, -⟩ := X.nativeThrowsMessageColdBareV hexec hsize hnf T L Z LZ M LM Zs LZs P1 L1 Ps hL hlink1 hlink hsoe hoom hfound hk hinit hord hctor htext hlimit hheap
    (hfitv _) (hfitc _) hsel0 hselF hcellS hknownS hvU hvSen tkC tkS tkP tkM Y.objLocals hskip (fun _ _ hA hW _ hroom _ hrest => L.nativeOff p htr hA hW hroom hrest)
    (by rw [hlen]; exact hRframes) hRlocals (by rw [hlen]; exact hshort) hRcells (by rw [hn4, hn6]; exact hRslots)
  have b1 : (bytesOf Zs.cB (stringToUtf16 text)).slots.size = (stringBytes (stringToUtf16 text)).size := by
    rw [(Cell.writeAll_facts _ _).2.2]; simp [bytes0]
  have b2 : (stringAt Zs.cS Zs.kS Zs.fv Zs.fc (stringToUtf16 text) W.heap.size).slots.size = 4 := by simp [string0, Cell.setSlot, hn4]
  have b3 : (freshCell P1.m.cls kX).slots.size = 6 := by simp [hn6]
  rw [b1, b2, b3] at X5
  have e9 : slots + (stringBytes (stringToUtf16 text)).size + 4 + 6 = slots + ((stringBytes (stringToUtf16 text)).size + 4 + 6) := by omega
  rw [e9] at X5
  have ha : W.heap.size + 2 < ((withThrown W Zs text P1.m.cls kX).setVm vm').heap.size := by
    show W.heap.size + 2 < (withThrown W Zs text P1.m.cls kX).heap.size
    rw [(withThrown_facts e.platform W Zs text P1.m.cls kX).2.2.1]; omega
  refine ⟨_, W.heap.size + 2, _, st, X5.forget (fun y hy => ?_), heapAt_setCell_self _ ha, hfound, rfl⟩
  simp only [List.mem_cons, List.not_mem_nil, or_false] at hy
  have hge : s.heap.size ≤ W.heap.size := X.same.2.1
  rcases hy with rfl | rfl | rfl | rfl | rfl <;> exact Nat.le_trans hge (Nat.le_add_right _ 2)
theorem vz_vm {p : Program} {l : Launch} {e : Env} {R : Room} {s : State} {m : MethodId} {args : Array Value} {below : List Frame} {meth : Method} {c : Code} {H : Heap} {locs : List Loc} {cells slots : Nat} {T : State} {g : JFrame} {nf : NFrame} (hnf : nf.words = 0) (hT : T.heap = H) (X : Stand p l e R s m args below meth c T locs cells slots) (hexec : p.tables.exec = Jvm.exec) (hl : l.stackTraces = false) {cls text : String} {names : List String} {nb : Nat} {A : Nat → Prop}
    (hcls : Bundle.fit cls = true) (hnames : ∀ n ∈ names, Bundle.fit n = true) (hsoe : (cls == "java/lang/StackOverflowError") = false) (hoom : (cls == "java/lang/OutOfMemoryError") = false)
    (hat : ∀ w ∈ vx_atM cls names, w.before args s = true) (hgood : ∀ w ∈ vx_atM cls names, vx_ot w = true)
    (hU : vx_Zq Bundle.tN "UNASSIGNED_STACK" Bundle.steD A s s.heap) (hN : vx_Zq Bundle.tN "SUPPRESSED_SENTINEL" Bundle.listD A s s.heap) (hS : va_S A s.heap H locs) (hsize : g.locals.size = c.maxLocals)
    (htext : (text == notModelled) = false) (hnb : (stringBytes (stringToUtf16 text)).size ≤ nb) (hnb1 : nb ≤ 1000)
    (hRframes : names.length + 5 < R.frames) (hRlocals : 2 * g.monitorRoom + (g.stack.map fun v => v.category).sum + 10240 ≤ R.locals) (hshort : 13 * names.length + 55 ≤ 10240) (hRcells : cells + 3 ≤ R.cells) (hRslots : slots + (nb + 10) ≤ R.slots) :
    ∃ (S : State) (q : Addr) (ce : Cell), Steps p.tables e below (T.setFrames (.throwNew cls (some text) none :: .native nf :: .java g :: below)) (S.setFrames (.throwing q :: .native nf :: .java g :: below)) ∧
      Stand p l e R s m args below meth c S locs (cells + 3) (slots + (nb + 10)) ∧ H.size ≤ S.heap.size ∧ (∀ q : Nat, q < H.size → S.heap[q]? = H[q]?) ∧ va_S A s.heap S.heap locs ∧ S.heap[q]? = some ce ∧ ce.vm = .none ∧ s.vm.findClass cls = some ce.cls := by
  have htr : e.platform.stackTraces = false := (show e.platform.stackTraces = l.stackTraces by rw [X.admits.platform]).trans hl
  have Y := vx_rebase X (R' := { frames := R.frames, locals := R.locals, cells := 3, slots := nb + 10 }) (Nat.le_refl _) (Nat.le_refl _) hRcells hRslots
  have hhp : ((T.setVm s.vm).setFrames (.invoking m args :: below)).heap = H := hT
  have hW0 : s.WarmedH ((T.setVm s.vm).setFrames (.invoking m args :: below)).vm := State.WarmedH.refl s
  have hat' : ∀ w ∈ vx_atM cls names, w.before args ((T.setVm s.vm).setFrames (.invoking m args :: below)) = true := fun w hw => vx_ot_at hW0 rfl (hgood w hw) (hat w hw)
  have hU' : vx_Zq Bundle.tN "UNASSIGNED_STACK" Bundle.steD A ((T.setVm s.vm).setFrames (.invoking m args :: below)) ((T.setVm s.vm).setFrames (.invoking m args :: below)).heap := by rw [hhp]; exact vx_Zq.moved hW0.alike (hU.kept hS.2.1)
  have hN' : vx_Zq Bundle.tN "SUPPRESSED_SENTINEL" Bundle.listD A ((T.setVm s.vm).setFrames (.invoking m args :: below)) ((T.setVm s.vm).setFrames (.invoking m args :: below)).heap := by rw [hhp]; exact vx_Zq.moved hW0.alike (hN.kept hS.2.1)
  obtain ⟨S, q, ce, st, Z, hce, hcl', hv⟩ := vz_vmAt Y hexec htr (cls := cls) (names := names) (text := text) hcls hnames hsoe hoom (vx_own hat' (vx_isRefq hU'.1) (vx_isRefq hN'.1) hU'.2.word hN'.2.word) (fun x hx => nomatch hx) htext
    (by rw [Launch.admits_arrayLengthLimit X.admits]; omega) (by rw [Launch.admits_maxHeapBytes X.admits]; simp only [componentBytes]; omega)
    (g := g) hsize hnf hRframes hRlocals hshort (by show 0 + 3 ≤ 3; omega) (by show 0 + (_ + 4 + 6) ≤ nb + 10; omega)
  obtain ⟨f1, f2⟩ := vx_frame Z.same
  have f1' : H.size ≤ S.heap.size := by rw [← hT]; exact f1
  have f2' : ∀ q : Nat, q < H.size → S.heap[q]? = H[q]? := fun q hq => by
    rw [← hT]
    exact f2 q (by rw [← hT] at hq; exact hq) (fun z hz => nomatch hz)
  have X5 := vx_back9 X Y Z
  have X6 : Stand p l e R s m args below meth c S locs (cells + 3) (slots + (nb + 10)) := { X5 with same := X5.same.mono (by omega) (by omega) }
  exact ⟨S, q, ce, st, X6, f1', f2', ⟨Nat.le_trans hS.1 f1', fun q h1 h2 => (f2' q (Nat.lt_of_lt_of_le h1 hS.1)).trans (hS.2.1 q h1 h2), hS.2.2⟩, hce, hv, hcl'⟩
/-- System.arraycopy throws: from what its entry says to the thrown cell -/
theorem vz_copy {p : Program} {l : Launch} {e : Env} {R : Room} {s : State} {m : MethodId} {args : Array Value} {below : List Frame} {meth : Method} {c : Code} {H : Heap} {locs : List Loc} {cells slots : Nat} {cc : ByteArray} {pc : Nat} {ls : Array Slot} {rest : List Value} {Q : State → Prop} {av : List Value} {cls : String} {msg : Option String} {kc ks : Nat} {A : Nat → Prop} (hexec : p.tables.exec = Jvm.exec) (hb : c.code = cc) (hml : c.maxLocals = ls.size) {own : String} {index : Nat} (hown : s.vm.findClass own = some m.cls)
    (hlink : (Cond.methodLink own index arraycopyName).before args s = true) (hnat : (Cond.native arraycopyName).before args s = true) (hstat : (Cond.static arraycopyName).before args s = true) (hini : (Cond.initialized "java/lang/System").before args s = true)
    (hav : av.length = 5) (hwords : operandWords av = 5) (hseen : ∀ x : Method, x.isStatic = true → x.sig.parameters = [.object "java/lang/Object", .int, .object "java/lang/Object", .int, .int] → seenByNative x av.toArray = av.toArray)
    (hwp : ∀ (U : State) (fs : List Frame) (E : CtlPost), U.heap = H → s.vm.Alike U.vm → (∀ acts', E (.throwNew cls msg) acts' (U.setFrames fs)) → wp (Native.java_lang_System.arraycopy.sem av.toArray) (fun _ _ _ _ => False) E e false [] (U.setFrames fs))
    (hvm : ∀ (m : MethodId) (meth : Method) (c : Code) (T : State) (g : JFrame) (nf : NFrame), nf.words = 0 → g.locals.size = c.maxLocals → 2 * g.monitorRoom + (g.stack.map fun v => v.category).sum ≤ 8 → T.heap = H → Stand p l e R s m args below meth c T locs cells slots →
      ∃ (S : State) (q : Addr) (ce : Cell), Steps p.tables e below (T.setFrames (.throwNew cls msg none :: .native nf :: .java g :: below)) (S.setFrames (.throwing q :: .native nf :: .java g :: below)) ∧ Stand p l e R s m args below meth c S locs (cells + kc) (slots + ks) ∧ (∀ q : Nat, q < H.size → S.heap[q]? = H[q]?) ∧ va_S A s.heap S.heap locs ∧ S.heap[q]? = some ce ∧ ce.vm = .none ∧ s.vm.findClass cls = some ce.cls)
    (hfr : 1 ≤ R.frames) (hlo : 8 + 18 ≤ R.locals) (hcat : (rest.map fun v => v.category).sum ≤ 8) (hdg : decode cc pc = .ok (.invokestatic index, 3))
    (k : ∀ (H1 : Heap) (q9 : Addr) (ce : Cell), (∀ q : Nat, q < H.size → H1[q]? = H[q]?) → va_S A s.heap H1 locs → H1[q9]? = some ce → ce.vm = .none → s.vm.findClass cls = some ce.cls → vx_W p l e R s m args below meth c H1 locs (cells + kc) (slots + ks) Q (F0 m pc ls rest) q9) :
    W p l e R s m args below meth c H locs cells slots Q (F0 m pc ls (av.reverse ++ rest)) := by
  intro T hT X
  obtain ⟨r9, k9, x9, hn9, hm9, hk9, N9⟩ := NativeOf.of_static hnat hstat (ps := [.object "java/lang/Object", .int, .object "java/lang/Object", .int, .int]) (ret := none) (by decide +kernel)
  have hi9 : k9.init = .initialized := Cond.initialized_spec (findClass_of_methodNamed hn9) hk9 hini
  have hK : Free.BackT l R p e below s args arraycopyName 3 8 (fun P a => P.U.heap = H ∧ P.locs = locs ∧ P.cells = cells ∧ P.slots = slots ∧ a = av.toArray) (fun _ _ q B => B.locs = locs ∧ B.cells = cells + kc ∧ B.slots = slots + ks ∧ (∀ q : Nat, q < H.size → B.U.heap[q]? = H[q]?) ∧ va_S A s.heap B.U.heap locs ∧ ∃ ce, B.U.heap[q]? = some ce ∧ ce.vm = .none ∧ s.vm.findClass cls = some ce.cls) :=
    Free.BackT.of_native (row := arraycopyRow) (words := 5) (arraycopy_row p) ⟨r9, k9, x9, hn9, N9⟩ hfr (by rw [show nativeFrameWords arraycopyName.cls arraycopyName.name 5 = 7 by decide]; omega) fun m1 meth1 c1 P a x g mk XP hg hsz hW hn hst hps hp => by
      obtain ⟨U, Ls, c0, s0⟩ := P
      obtain ⟨e1, e2, e3, e4, rfl⟩ := hp
      dsimp only [Pt.U, Pt.locs, Pt.cells, Pt.slots] at e1 e2 e3 e4 XP hn ⊢
      subst e2; subst e3; subst e4
      obtain ⟨S, q, ce, st, XS, f2, fS, h1, h2, h3⟩ := hvm m1 meth1 c1 U g { method := mk, args := av.toArray, locked := none } rfl hsz hW e1 XP
      exact ⟨hwords, hseen x hst hps, cls, msg, fun u => u, fun _ => rfl, rfl, fun fs E hE => hwp U fs E e1 XP.warmed.alike hE, q, ⟨S, Ls, c0 + kc, s0 + ks⟩, XS, ⟨rfl, rfl, rfl, f2, fS, ce, h1, h2, h3⟩, st⟩
  obtain ⟨vm1, X1, step⟩ := X.invokestatic hexec hown hlink hn9 hm9 N9.static hk9 hi9 (by decide) (g := F0 m pc ls (av.reverse ++ rest)) rfl (argsL := av) (rest := rest) (by rw [N9.sig]; exact hav) rfl (by rw [hb]; exact hdg)
  obtain ⟨v, ⟨U, Ls, c0, s0⟩, XB, ⟨e1, e2, e3, f2, fS, ce, h1, h2, h3⟩, hsteps⟩ := hK m meth c ⟨T.setVm vm1, locs, cells, slots⟩ (F0 m pc ls rest) (.invokestatic index) r9 av.toArray X1 rfl hml.symm (by rw [hb]; exact hdg) (by show 2 * 0 + (rest.map fun v => v.category).sum ≤ 8; omega) (X1.named hn9) ⟨hT, rfl, rfl, rfl, rfl⟩
  dsimp only [Pt.U, Pt.locs, Pt.cells, Pt.slots] at e1 e2 e3 f2 fS h1 XB hsteps
  subst e1; subst e2; subst e3
  obtain ⟨t, a1, b1⟩ := k U.heap v ce f2 fS h1 h2 h3 U rfl XB
  exact ⟨t, (step _ fun acts => by rw [doInvoke_state]; exact hsteps).trans a1, b1⟩
/-- the constructor's frame over the note that its object is thrown next -/
theorem vz_in {below base : List Frame} {W : State} (hO : Over W base below) (a : Addr) {m : MethodId} {meth : Method} {code : Code} (hm : W.vm.method? m = some meth) (hc : meth.code = some code) (hp : W.plainMethod m) :
    (W.setFrames (.thenThrow a :: base)).frames = .thenThrow a :: base ∧ At ((W.setFrames (.thenThrow a :: base)).pushFrame (.java (pass0J m a 0 []))) m code below ∧
      ((W.setFrames (.thenThrow a :: base)).pushFrame (.java (pass0J m a 0 []))).frames = .java (pass0J m a 0 []) :: .thenThrow a :: base := by
  obtain ⟨mid, hmid⟩ := hO.above
  have f1 : (W.setFrames (.thenThrow a :: base)).frames = .thenThrow a :: base := State.frames_setFrames _ hO.cur
  have c1 : (W.setFrames (.thenThrow a :: base)).cur < (W.setFrames (.thenThrow a :: base)).threads.size := State.cur_lt_of_frames f1
  have g1 : (W.setFrames (.thenThrow a :: base)).goesOn := ⟨hO.running, by simpa using hO.runnable, by simpa using hO.alone⟩
  have f2 : ((W.setFrames (.thenThrow a :: base)).pushFrame (.java (pass0J m a 0 []))).frames = .java (pass0J m a 0 []) :: (W.setFrames (.thenThrow a :: base)).frames := State.frames_setFrames _ c1
  exact ⟨f1, At.pushOn _ g1 c1 ⟨.thenThrow a :: mid, by rw [f1, hmid]; rfl⟩ hm hc hp, by rw [f2, f1]⟩
/-- the machine makes an object of cls and calls its constructor -/
theorem vz_start {tb : Tables} {e : Env} {below base : List Frame} {s target : State} (hO : Over s base below) {cls : String} {cX : ClassId} {kX : Class} {i : Nat}
    (n1 : (cls == "java/lang/StackOverflowError") = false) (n2 : (cls == "java/lang/OutOfMemoryError") = false) (hf : s.vm.findClass cls = some cX) (hk : s.vm.classes[cX]? = some kX) (hini : kX.init = .initialized) (hord : kX.kind = .ordinary)
    (hhot : e.platform.hotImplicitExceptions = false)
    (hbe : e.platform.stackBeyond ((((s.setFrames (.throwNew cls none none :: base)).threads[s.cur]?).map (·.stackBytes)).getD 0) (s.setFrames (.throwNew cls none none :: base)).frames = false)
    (hfw : e.platform.vmThrowRoom ≤ e.platform.stackFree ((((s.setFrames (.throwNew cls none none :: base)).threads[s.cur]?).map (·.stackBytes)).getD 0) (s.setFrames (.throwNew cls none none :: base)).frames)
    (hct : kX.findMethod "<init>" "()V" = some i) (h1 : s.heap.size + 1 ≤ e.platform.maxCells) (h2 : s.slotsUsed + kX.instanceTypes.size ≤ e.platform.maxSlots)
    (hrest : Steps tb e below (doInvoke e ((s.pushCell (freshCell cX kX)).setFrames (.thenThrow s.heap.size :: base)) [] ⟨cX, i⟩ #[.ref s.heap.size]).1 target) : Steps tb e below (s.setFrames (.throwNew cls none none :: base)) target := by
  obtain ⟨mid, hmid⟩ := hO.above
  have f0 : (s.setFrames (.throwNew cls none none :: base)).frames = .throwNew cls none none :: base := State.frames_setFrames _ hO.cur
  have e1 : ((s.setFrames (.throwNew cls none none :: base)).pushCell (freshCell cX kX)).setFrames (.thenThrow ((s.setFrames (.throwNew cls none none :: base)).heap.size) :: base) = (s.pushCell (freshCell cX kX)).setFrames (.thenThrow s.heap.size :: base) := by
    rw [State.pushCell_setFrames, State.setFrames_setFrames]; rfl
  refine Steps.head ⟨hO.running, by simpa using hO.runnable, by simpa using hO.alone⟩ ⟨.throwNew cls none none :: mid, by rw [f0, hmid]; rfl, by simp, by simp⟩ ?_
  rw [stepThread_throwNew f0, stepThrowNew_plain (s := s.setFrames (.throwNew cls none none :: base)) (c := cX) (k := kX) (i := i) n1 n2 hf hk hini hord hhot hbe hfw hct h1 h2, e1]
  exact hrest
/-- the constructor returns: its object is thrown -/
theorem vz_end {tb : Tables} [Ours tb] {e : Env} {below base : List Frame} {W target : State} (hO : Over W base below) (hx : tb.exec = Jvm.exec) {F : State → State} (hF : HeapOnly F) (a : Addr) {m : MethodId} {meth : Method} {code : Code}
    (hm : W.vm.method? m = some meth) (hc : meth.code = some code) (hp : W.plainMethod m) (hl : meth.locks = false) (h4 : decode code.code 4 = .ok (.return_, 1)) (hrest : Steps tb e below ((F W).setFrames (.throwing a :: base)) target) :
    Steps tb e below ((F ((W.setFrames (.thenThrow a :: base)).pushFrame (.java (pass0J m a 0 [])))).setTop (pass0J m a 4 [])) target := by
  obtain ⟨-, hI, hfI⟩ := vz_in hO a hm hc hp
  obtain ⟨mid, hmid⟩ := hO.above
  have hB : At (F ((W.setFrames (.thenThrow a :: base)).pushFrame (.java (pass0J m a 0 [])))) m code below := hF.at_ hI
  have fF : (F ((W.setFrames (.thenThrow a :: base)).pushFrame (.java (pass0J m a 0 [])))).frames = .java (pass0J m a 0 []) :: .thenThrow a :: base := by rw [hF.frames]; exact hfI
  have eF : ∀ G, (F ((W.setFrames (.thenThrow a :: base)).pushFrame (.java (pass0J m a 0 [])))).setFrames G = (F W).setFrames G := fun G => by rw [State.pushFrame, hF.setFrames, hF.setFrames, State.setFrames_setFrames, State.setFrames_setFrames]
  have f1 : ((F ((W.setFrames (.thenThrow a :: base)).pushFrame (.java (pass0J m a 0 [])))).setFrames (.thenThrow a :: base)).frames = .thenThrow a :: base := State.frames_setFrames _ (State.cur_lt_of_frames fF)
  jvm_step hB [hx, h4, return_.wp_sem]
  intro acts2
  rw [ret_to (t := F ((W.setFrames (.thenThrow a :: base)).pushFrame (.java (pass0J m a 0 [])))) (f := pass0J m a 4 []) (f₀ := pass0J m a 0 []) (below := .thenThrow a :: base) (fs := .thenThrow a :: base) (meth := meth) fF (by rw [hF.vm]; exact hm) hl rfl rfl rfl acts2]
  refine Steps.head ⟨hB.running, by simpa using hB.runnable, by simpa using hB.alone⟩ ⟨.thenThrow a :: mid, by rw [f1, hmid]; rfl, by simp, by simp⟩ ?_
  rw [stepThread_thenThrow f1]
  show Steps tb e below (((F ((W.setFrames (.thenThrow a :: base)).pushFrame (.java (pass0J m a 0 [])))).setFrames (.thenThrow a :: base)).setFrames (.throwing a :: base)) target
  rw [State.setFrames_setFrames, eF]
  exact hrest
set_option maxHeartbeats 2000000 in
theorem vz_npeAt {p : Program} {l : Launch} {e : Env} {R : Room} {s : State} {m₀ : MethodId} {args : Array Value} {below : List Frame} {meth : Method} {c : Code} {W : State} {locs : List Loc} {cells slots : Nat}
    (X : Stand p l e R s m₀ args below meth c W locs cells slots) (hexec : p.tables.exec = Jvm.exec) (htr : e.platform.stackTraces = false) {n : Nat}
    (h : ∀ a ∈ Bundle.npeArmAtoms n, a.before args s = true)
    (hlocs : ∀ x ∈ locs, ∀ cell, s.heap[x.base]? = some cell → cell.vm.isStatics = false)
    {g : JFrame} (hsize : g.locals.size = c.maxLocals) {nf : NFrame} (hnf : nf.words = 0)
    (hRframes : 8 < R.frames) (hRlocals : 2 * g.monitorRoom + (g.stack.map fun v => v.category).sum + 10240 ≤ R.locals)
    (hRcells : cells + 1 ≤ R.cells) (hRslots : slots + n ≤ R.slots) :
    ∃ (S : State) (q : Addr) (ce : Cell), Steps p.tables e below (W.setFrames (.throwNew "java/lang/NullPointerException" none none :: .native nf :: .java g :: below)) (S.setFrames (.throwing q :: .native nf :: .java g :: below)) ∧
      Stand p l e R s m₀ args below meth c S locs (cells + 1) (slots + n) ∧ S.heap[q]? = some ce ∧ s.vm.findClass "java/lang/NullPointerException" = some ce.cls ∧ ce.vm = .none := by
  have howns : e.platform.frameOwnsMonitors = true := by rw [X.admits.platform]
  have hfin : e.platform.finalization = false := by rw [X.admits.platform]
  have hpl : e.platform.magicAccessors = ({} : Platform).magicAccessors := by rw [X.admits.platform]
  have hpl2 : e.platform.arrayCloneIsPublic = true := by rw [X.admits.platform]
  have a' : ∀ x, x ∈ Bundle.npeArmAtoms n → x.holds args s none s [] = true := fun x hx => h x hx
  obtain ⟨T, Z, L, LZ, Y⟩ := ThrowableC.of_atoms (args := args) howns hfin hpl (fun x hx => h x (by simp [Bundle.npeArmAtoms, hx]))
  obtain ⟨N, LN, hcN, hnNF, hordN, hffS⟩ := NpeC.of_atoms (args := args) hpl hpl2 L Y (fun x hx => h x (by simp [Bundle.npeArmAtoms, hx]))
  obtain ⟨P1, L1, hP1m, hP1s⟩ := PassC.of_atoms (args := args) (s := s) hpl (X := Bundle.nN) (Y := Bundle.rN) (by decide) (by decide) LibCode.NullPointerException.Init0.at_0 LibCode.NullPointerException.Init0.at_1 LibCode.NullPointerException.Init0.at_4 (fun x hx => h x (by simp [Bundle.npeArmAtoms, hx]))
  obtain ⟨PR, LR, hPRm, hPRs⟩ := PassC.of_atoms (args := args) (s := s) hpl (X := Bundle.rN) (Y := Bundle.eN) (by decide) (by decide) LibCode.RuntimeException.Init0.at_0 LibCode.RuntimeException.Init0.at_1 LibCode.RuntimeException.Init0.at_4 (fun x hx => h x (by simp [Bundle.npeArmAtoms, hx]))
  obtain ⟨PE, LEx, hPEm, hPEs⟩ := PassC.of_atoms (args := args) (s := s) hpl (X := Bundle.eN) (Y := Bundle.tN) (by decide) (by decide) LibCode.Exception.Init0.at_0 LibCode.Exception.Init0.at_1 LibCode.Exception.Init0.at_4 (fun x hx => h x (by simp [Bundle.npeArmAtoms, hx]))
  have hfound : s.vm.findClass Bundle.nN = some P1.m.cls := findClass_of_methodNamed hP1m
  have ecls : N.cN = P1.m.cls := Option.some.inj (hcN.symm.trans hfound)
  have hk : s.vm.classes[P1.m.cls]? = some N.kN := by rw [← ecls]; exact LN.cls
  have hinit := Cond.initialized_spec hfound hk (a' (.initialized Bundle.nN) (by simp [Bundle.npeArmAtoms]))
  have hctor : N.kN.findMethod "<init>" "()V" = some P1.m.idx := findMethod_of_methodNamed hP1m hk
  obtain ⟨c1, k1, hc1, hk1, -, -, -, hn⟩ := Cond.instantiable_spec (a' (.instantiable Bundle.nN n) (by simp [Bundle.npeArmAtoms]))
  cases Option.some.inj (hc1.symm.trans hfound)
  cases Option.some.inj (hk1.symm.trans hk)
  have hfsz : (freshCell P1.m.cls N.kN).slots.size = n := by simp [hn]
  have hlink1 : P1.sup = PR.m := Option.some.inj (hP1s.symm.trans hPRm)
  have hlinkR : PR.sup = PE.m := Option.some.inj (hPRs.symm.trans hPEm)
  have hlinkE : PE.sup = Z.m T.toThrowableT := Option.some.inj (hPEs.symm.trans Y.init0)
  have hLs : ∀ P, P ∈ [PR, PE] → P.Links0 e.platform s := fun P hP => by
    simp only [List.mem_cons, List.not_mem_nil, or_false] at hP
    rcases hP with rfl | rfl
    · exact LR
    · exact LEx
  have hsel0 : selectMethod e.platform s.vm P1.m.cls T.fill0 = .method T.fill0 := by
    obtain ⟨c2, r2, m2, q1, q2, q3, q4, -⟩ := Cond.selects_spec (a' (.selects Bundle.nN Bundle.tFill0 Bundle.tFill0) (by simp [Bundle.npeArmAtoms]))
    cases Option.some.inj (q1.symm.trans hfound)
    cases Option.some.inj (q2.symm.trans (State.methodFound?_of_named Y.fill0 (by decide)))
    cases Option.some.inj (q3.symm.trans Y.fill0)
    rw [Launch.admits_selectMethod X.admits]; exact q4
  have hselF : selectMethod e.platform s.vm P1.m.cls T.fill = .method N.fill := by
    obtain ⟨c2, r2, m2, q1, q2, q3, q4, -⟩ := Cond.selects_spec (a' (.selects Bundle.nN Bundle.tFill Bundle.nFill) (by simp [Bundle.npeArmAtoms]))
    cases Option.some.inj (q1.symm.trans hfound)
    cases Option.some.inj (q2.symm.trans (State.methodFound?_of_named Y.fill (by decide)))
    cases Option.some.inj (q3.symm.trans hnNF)
    rw [Launch.admits_selectMethod X.admits]; exact q4
  obtain ⟨cellS0, hcS0, hiss⟩ := Y.statics
  obtain ⟨u0, hu0⟩ := Cond.staticRefV Y.unassigned L.unassignedStatic L.statics hcS0 hiss (a' (.isRef (.static Bundle.tN "UNASSIGNED_STACK" Bundle.steD)) (by simp [Bundle.npeArmAtoms]))
  obtain ⟨sen, hsen⟩ := Cond.staticRefV Y.sentinel L.sentinelStatic L.statics hcS0 hiss (a' (.isRef (.static Bundle.tN "SUPPRESSED_SENTINEL" Bundle.listD)) (by simp [Bundle.npeArmAtoms]))
  obtain ⟨ci198, i198, fB, hk198, hg198, ha198, hsB, -, hnB, htB, hffB⟩ := Cond.ownField (t := .object "java/lang/Object") Y.found L.cls (by decide +kernel) (a' (.fieldLink Bundle.tN 198 Bundle.tN "backtrace" Bundle.objD) (by simp [Bundle.npeArmAtoms])) (a' (.lays Bundle.tN Bundle.tN "backtrace" Bundle.objD) (by simp [Bundle.npeArmAtoms])) e.platform hpl
  obtain ⟨cellS, hcS', heS, -, hkeep⟩ := X.same.2.2.2.2.2 T.aS cellS0 hcS0
  have hcellS : W.heap[T.aS]? = some cellS := hcS'
  have hout' : ∀ i, (⟨T.aS, i⟩ : Loc) ∉ locs := fun i hmem => by
    have := hlocs _ hmem cellS0 hcS0
    rw [hiss] at this; cases this
  have hknownS : cellS.vm ≠ .unknown := by
    rw [heS]; intro hu
    rw [show cellS0.vm = .unknown from hu] at hiss
    cases hiss
  have hvU : cellS.slots[T.fUnassigned.slot]? = some u0.v := by rw [hkeep _ (hout' _)]; exact hu0
  have hvSen : cellS.slots[T.fSentinel.slot]? = some sen.v := by rw [hkeep _ (hout' _)]; exact hsen
  obtain ⟨tyC, dC, hdC, hdnC⟩ := Cond.laysAt hfound hk Y.cause (a' (.lays Bundle.nN Bundle.tN "cause" "Ljava/lang/Throwable;") (by simp [Bundle.npeArmAtoms]))
  obtain ⟨tyS, dS, hdS, hdnS⟩ := Cond.laysAt hfound hk Y.stack (a' (.lays Bundle.nN Bundle.tN "stackTrace" Bundle.steD) (by simp [Bundle.npeArmAtoms]))
  obtain ⟨tyP, dP, hdP, hdnP⟩ := Cond.laysAt hfound hk Y.supp (a' (.lays Bundle.nN Bundle.tN "suppressedExceptions" Bundle.listD) (by simp [Bundle.npeArmAtoms]))
  obtain ⟨tyX, dX, hdX, hdnX⟩ := Cond.laysAt hfound hk hffS (a' (.lays Bundle.nN Bundle.nN "extendedMessageState" "I") (by simp [Bundle.npeArmAtoms, Bundle.npeAtoms]))
  obtain ⟨hnX, htX⟩ := State.fieldFound?_type hffS (t := .int) (by decide +kernel)
  have xC := Cond.laysApart hdC hdX hdnC hdnX (by rw [hnX, Y.causeName]; decide)
  have xS := Cond.laysApart hdS hdX hdnS hdnX (by rw [hnX, Y.stackName]; decide)
  have xP := Cond.laysApart hdP hdX hdnP hdnX (by rw [hnX, Y.suppName]; decide)
  have hv0 : (freshCell P1.m.cls N.kN).slots[N.fState.slot]? = some (.int 0) := by
    have := fresh_default (c := P1.m.cls) tyX
    rw [htX] at this; exact this
  obtain ⟨tyB, dB, hdB, hdnB⟩ := Cond.laysAt hfound hk hffB (a' (.lays Bundle.nN Bundle.tN "backtrace" Bundle.objD) (by simp [Bundle.npeArmAtoms]))
  have bC := Cond.laysApart hdB hdC hdnB hdnC (by rw [hnB, Y.causeName]; decide)
  have bS := Cond.laysApart hdB hdS hdnB hdnS (by rw [hnB, Y.stackName]; decide)
  have bP := Cond.laysApart hdB hdP hdnB hdnP (by rw [hnB, Y.suppName]; decide)
  have bX := Cond.laysApart hdB hdX hdnB hdnX (by rw [hnB, hnX]; decide)
  have hbk : ((npeCell N.toNpeT (preparedCellV T.toThrowableT (freshCell P1.m.cls N.kN) W.heap.size u0 sen) W.cur).withEntry W.cur).slots[fB.slot]? = some .null := by
    have := fresh_default (c := P1.m.cls) tyB
    rw [htB] at this
    simpa [npeCell, preparedCellV, Cell.setSlot, Cell.withEntry, Array.getElem?_setIfInBounds, bC, bS, bP, bX, bC.symm, bS.symm, bP.symm, bX.symm, defaultValue] using this
  have tkC := Takes.of_laid (v := .ref W.heap.size) hk hordN tyC (by rw [Y.causeType]; rfl)
  have tkS := Takes.of_laid (v := u0.v) hk hordN tyS (by rw [Y.stackType]; exact fits_refV_array _ u0)
  have tkP := Takes.of_laid (v := sen.v) hk hordN tyP (by rw [Y.suppType]; exact fits_refV_object _ sen)
  have tkX := Takes.of_laid (v := .int 1) hk hordN tyX (by rw [htX]; rfl)
  have hskip : SkipFacts T e.platform s (fun u => u) u0 ((npeCell N.toNpeT (preparedCellV T.toThrowableT (freshCell P1.m.cls N.kN) W.heap.size u0 sen) W.cur).withEntry W.cur) := ⟨{ ci198 := ci198, i198 := i198, fBack := fB }, ⟨hk198, hg198, ha198, hsB⟩, hbk, fun _ _ => rfl⟩
  have hO : Over W (.native nf :: .java g :: below) below := X.overNative g nf
  obtain ⟨hbeyond, hfreeW⟩ := X.vmMayThrowNative hsize hnf (.throwNew "java/lang/NullPointerException" none none) (fun f hf => by cases hf) rfl hRlocals
  have hfr' : (Frame.native nf :: .java g :: below).length + 2 + 5 < (e.platform.stackLimits W.me).1 := by have := X.framesAboveNative g nf (n := 7) (by omega); omega
  have hwd' : (stackUse (.native nf :: .java g :: below)).2 + 13 * 2 + 68 ≤ (e.platform.stackLimits W.me).2 := by have := X.stackAboveNative hsize hnf (K := 13 * 2 + 68) (by omega); omega
  obtain ⟨kX', hk', he'⟩ := X.warmed.alike.2.2 _ _ hk
  have hty : kX'.instanceTypes = N.kN.instanceTypes := by rw [he']
  have hfresh : freshCell P1.m.cls kX' = freshCell P1.m.cls N.kN := by
    show ({ cls := P1.m.cls, slots := kX'.instanceTypes.map defaultValue, vm := .none } : Cell) = _
    rw [hty]
  have hltS : T.aS < W.heap.size := (Array.getElem?_eq_some_iff.mp hcellS).1
  have hOW : Over (W.pushCell (freshCell P1.m.cls N.kN)) (.native nf :: .java g :: below) below := (Over.pushCell_iff _).mpr hO
  have w5 : (W.pushCell (freshCell P1.m.cls N.kN)).heap[T.aS]? = some cellS := by
    rw [← hcellS]
    simp [State.pushCell, Array.getElem?_push, Nat.ne_of_lt hltS]
  -- the constructor, from its first instruction
  have key : ∃ vm', s.WarmedH vm' ∧ ∀ target, Steps p.tables e below ((((W.pushCell (freshCell P1.m.cls N.kN)).setVm vm').setCell W.heap.size (((npeCell N.toNpeT (preparedCellV T.toThrowableT (freshCell P1.m.cls N.kN) W.heap.size u0 sen) W.cur).withEntry W.cur).setSlot T.fStack.slot u0.v).left.left).setFrames (.throwing W.heap.size :: .native nf :: .java g :: below)) target →
      Steps p.tables e below (doInvoke e ((W.pushCell (freshCell P1.m.cls N.kN)).setFrames (.thenThrow W.heap.size :: .native nf :: .java g :: below)) [] P1.m #[.ref W.heap.size]).1 target := by
    generalize hWP : W.pushCell (freshCell P1.m.cls N.kN) = WP at hOW w5
    have hcW : WP.heap[W.heap.size]? = some (freshCell P1.m.cls N.kN) := by rw [← hWP]; exact State.heap_pushCell_size W _
    have hWW : s.WarmedH WP.vm := by rw [← hWP]; exact X.warmed
    have hcu : WP.cur = W.cur := by rw [← hWP]; rfl
    have hme : e.platform.stackLimits WP.me = e.platform.stackLimits W.me := by rw [← hWP]; rfl
    have hmW := hWW.methodAt L1.method
    obtain ⟨hfN, hI, hfI⟩ := vz_in hOW W.heap.size hmW L1.code (hWW.plainAt L1.plain)
    have hlimN : e.platform.stackLimits (WP.setFrames (.thenThrow W.heap.size :: .native nf :: .java g :: below)).me = e.platform.stackLimits W.me := by rw [State.stackLimits_setFrames]; exact hme
    have hroom := roomAbove (pl := e.platform) (u := WP.setFrames (.thenThrow W.heap.size :: .native nf :: .java g :: below)) (vars := 1) (pushed := [.thenThrow W.heap.size]) (base := .native nf :: .java g :: below) (free := 13 * 2 + 68) (lim := e.platform.stackLimits W.me) hfN hlimN
      (by simp only [List.length_cons, List.length_nil] at hfr' ⊢; omega) (by omega) (by rw [stackUse_light _ _ (fun f hf => by cases hf) rfl, stackUse_nil]; show 0 + 1 + 11 ≤ _; omega)
    obtain ⟨vm1, hW1, st1⟩ := Steps.invokeInitCold (tb := p.tables) (s₀ := s) (U := (WP.setFrames (.thenThrow W.heap.size :: .native nf :: .java g :: below)).pushFrame (.java (pass0J P1.m W.heap.size 0 []))) (f := pass0J P1.m W.heap.size 1 [.ref W.heap.size]) (args := []) (rest := []) (a := W.heap.size) hI hexec L1.at1 hWW L1.links L1.right L1.notHandle L1.cls L1.file L1.pool
      L1.supClass L1.supMethod L1.supName L1.supStatic L1.supAbstract L1.supFound L1.supParams.symm rfl
    have hI1 : At (((WP.setVm vm1).setFrames (.thenThrow W.heap.size :: .native nf :: .java g :: below)).pushFrame (.java (pass0J P1.m W.heap.size 0 []))) P1.m P1.code below := hI.setVm (hWW.alike.symm.trans hW1.alike)
    have hXfr : (((WP.setVm vm1).setFrames (.thenThrow W.heap.size :: .native nf :: .java g :: below)).pushFrame (.java (pass0J P1.m W.heap.size 0 []))).frames = .java (pass0J P1.m W.heap.size 0 []) :: .thenThrow W.heap.size :: .native nf :: .java g :: below :=
      (vz_in (hOW.setVm (hWW.alike.symm.trans hW1.alike)) W.heap.size (hW1.methodAt L1.method) L1.code (hW1.plainAt (U := WP.setVm vm1) L1.plain)).2.2
    have hXvm : ∀ w, (((WP.setVm vm1).setFrames (.thenThrow W.heap.size :: .native nf :: .java g :: below)).pushFrame (.java (pass0J P1.m W.heap.size 0 []))).setVm w = ((WP.setVm w).setFrames (.thenThrow W.heap.size :: .native nf :: .java g :: below)).pushFrame (.java (pass0J P1.m W.heap.size 0 [])) := fun w => by rw [State.pushFrame_setVm, State.setFrames_setVm, State.setVm_twice]
    have hXlim : e.platform.stackLimits (((WP.setVm vm1).setFrames (.thenThrow W.heap.size :: .native nf :: .java g :: below)).pushFrame (.java (pass0J P1.m W.heap.size 0 []))).me = e.platform.stackLimits W.me := by rw [State.stackLimits_pushFrame, State.stackLimits_setFrames]; exact hme
    obtain ⟨vm2, hW2, st2⟩ : ∃ vm2, s.WarmedH vm2 ∧ ∀ t' : State, Steps p.tables e below (((((WP.setVm vm1).setFrames (.thenThrow W.heap.size :: .native nf :: .java g :: below)).pushFrame (.java (pass0J P1.m W.heap.size 0 []))).setVm vm2).setCell W.heap.size (((npeCell N.toNpeT (preparedCellV T.toThrowableT (freshCell P1.m.cls N.kN) W.heap.size u0 sen) W.cur).withEntry W.cur).setSlot T.fStack.slot u0.v).left.left |>.setTop (pass0J P1.m W.heap.size 4 [])) t' →
        Steps p.tables e below (doInvoke e ((((WP.setVm vm1).setFrames (.thenThrow W.heap.size :: .native nf :: .java g :: below)).pushFrame (.java (pass0J P1.m W.heap.size 0 []))).setTop (pass0J P1.m W.heap.size 1 [])) [] (firstOf (Z.m T.toThrowableT) ([PR, PE].map (·.toPassT))) #[.ref W.heap.size]).1 t' := by
      have hc1 : (((WP.setVm vm1).setFrames (.thenThrow W.heap.size :: .native nf :: .java g :: below)).pushFrame (.java (pass0J P1.m W.heap.size 0 []))).heap[W.heap.size]? = some (freshCell P1.m.cls N.kN) := hcW
      have hc2 : (((WP.setVm vm1).setFrames (.thenThrow W.heap.size :: .native nf :: .java g :: below)).pushFrame (.java (pass0J P1.m W.heap.size 0 []))).heap[T.aS]? = some cellS := w5
      have hc3 : (((WP.setVm vm1).setFrames (.thenThrow W.heap.size :: .native nf :: .java g :: below)).pushFrame (.java (pass0J P1.m W.heap.size 0 []))).cur = W.cur := hcu
      have hc4 : s.WarmedH (((WP.setVm vm1).setFrames (.thenThrow W.heap.size :: .native nf :: .java g :: below)).pushFrame (.java (pass0J P1.m W.heap.size 0 []))).vm := hW1
      clear hXvm
      generalize (((WP.setVm vm1).setFrames (.thenThrow W.heap.size :: .native nf :: .java g :: below)).pushFrame (.java (pass0J P1.m W.heap.size 0 []))) = V at hI1 hXfr hXlim hc1 hc2 hc3 hc4 ⊢
      exact Steps.initNpe0ColdByV p (V := V) (g := pass0J P1.m W.heap.size 1 []) (c := P1.code) (self := W.heap.size) hI1 hexec T L Z LZ N LN hc4 hc3 (Nn := fun u => u) heapOnly_id (fun _ _ => rfl) (fun _ => rfl) (fun u x y => setCell_twice _ _ _ _) (fun _ => Nat.le_refl _) hc1
        (by intro k hk'; cases hk') (by intro hk'; cases hk') rfl hk hsel0 hc2 (Nat.ne_of_lt hltS) hknownS hvU hv0 xC xS xP tkS tkX (fun _ hu => hu) (fun _ hu => hu) rfl rfl rfl (by simp [npeCell, preparedCellV, Cell.setSlot, Cell.withEntry]) hskip (fun _ _ hA hW _ hroom _ hrest => L.nativeOff p htr hA hW hroom hrest)
        hselF hvSen tkC tkP Y.objLocals [PR, PE] hLs ⟨hlinkR, hlinkE, trivial⟩ (ig := .invokespecial P1.index) (len := 3) [] hXlim
        (by rw [hXfr]; simp only [List.length_cons, List.length_nil] at hfr' ⊢; omega)
        (by rw [hXfr, List.tail_cons, stackUse_java, stackUse_light _ _ (fun f hf => by cases hf) rfl]
            show (stackUse (.native nf :: .java g :: below)).2 + (1 + 11 + 2 * 0 + operandWords []) + 13 * 2 + 55 ≤ _
            simp only [operandWords, List.foldl_nil]
            omega)
        L1.at1
    refine ⟨vm2, hW2, fun target hrest => ?_⟩
    rw [(doInvoke_java (s := WP.setFrames (.thenThrow W.heap.size :: .native nf :: .java g :: below)) (e := e) (acts := []) (args := #[.ref W.heap.size]) (meth := P1.meth) (code := P1.code) hmW L1.code L1.locks (by rw [L1.locals]; exact hroom)).1, L1.locals]
    show Steps p.tables e below ((WP.setFrames (.thenThrow W.heap.size :: .native nf :: .java g :: below)).pushFrame (.java (pass0J P1.m W.heap.size 0 []))) target
    rw [← State.setTop_self (s := (WP.setFrames (.thenThrow W.heap.size :: .native nf :: .java g :: below)).pushFrame (.java (pass0J P1.m W.heap.size 0 []))) (State.topJava?_of_frames hfI)]
    jvm_step hI [hexec, L1.at0, Value.isRef]
    rw [hlink1] at st1
    refine st1 target (st2 target ?_)
    rw [hXvm]
    exact vz_end (W := WP.setVm vm2) (F := fun u => u.setCell W.heap.size (((npeCell N.toNpeT (preparedCellV T.toThrowableT (freshCell P1.m.cls N.kN) W.heap.size u0 sen) W.cur).withEntry W.cur).setSlot T.fStack.slot u0.v).left.left) (hOW.setVm (hWW.alike.symm.trans hW2.alike)) hexec (heapOnly_id.thenSetCell W.heap.size _) W.heap.size (hW2.methodAt L1.method) L1.code (hW2.plainAt (U := WP.setVm vm2) L1.plain) L1.locks L1.at4 hrest
  obtain ⟨vm', hW', st⟩ := key
  rw [npeBareV_eq T.toThrowableT N.toNpeT W.heap.size u0 sen W.cur rfl rfl] at st
  have hlt : W.heap.size < ((W.pushCell (freshCell P1.m.cls N.kN)).setVm vm').heap.size := by
    show W.heap.size < (W.pushCell (freshCell P1.m.cls N.kN)).heap.size
    rw [State.heap_size_pushCell]; omega
  have X2 := (X.pushed (freshCell P1.m.cls N.kN)).noted hW'
  have hcell : ((W.pushCell (freshCell P1.m.cls N.kN)).setVm vm').heap[W.heap.size]? = some (freshCell P1.m.cls N.kN) := State.heap_pushCell_size W (freshCell P1.m.cls N.kN)
  have X3 := ((((X2.stored hcell T.fCause.slot (.ref W.heap.size)).storedAgain hlt T.fStack.slot u0.v).storedAgain hlt T.fSupp.slot sen.v).storedAgain hlt N.fState.slot (.int 1)).storedAgain hlt T.fStack.slot u0.v
  simp only [List.append_assoc, List.cons_append, List.nil_append] at X3
  rw [hfsz] at X3
  refine ⟨_, W.heap.size, _, ?_, X3.forget (fun y hy => ?_), heapAt_setCell_self _ hlt, hfound, rfl⟩
  · refine vz_start hO (cls := "java/lang/NullPointerException") (cX := P1.m.cls) (kX := kX') (i := P1.m.idx) (by decide) (by decide) (by rw [X.warmed.alike.findClass]; exact hfound) hk' (by rw [he']; exact hinit) (by rw [he']; exact hordN)
      (Launch.admits_hotImplicitExceptions X.admits) hbeyond hfreeW (by rw [he']; exact hctor) (X.cellsAbove hRcells) (by rw [hty, hn]; exact X.slotsAbove hRslots) ?_
    rw [hfresh]
    exact st _ (Steps.refl _)
  · simp only [List.mem_cons, List.not_mem_nil, or_false] at hy
    have hge : s.heap.size ≤ W.heap.size := X.same.2.1
    rcases hy with rfl | rfl | rfl | rfl | rfl <;> exact hge
