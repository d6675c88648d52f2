set_option maxRecDepth 100000
theorem lw_tbls (ws : List Cond) (ps : List Nat) (hp : ws = ps.filterMap (fun i => lw_tbl[i]?)) : ∀ w ∈ ws, w ∈ lw_tbl := by
  intro w hw
  rw [hp] at hw
  obtain ⟨i, -, hi⟩ := List.mem_filterMap.mp hw
  exact List.mem_of_getElem? hi
theorem Cx.at {p : Program} {R : Room} {s : State} {m : MethodId} {args : Array Value} {c : Code} {cc : ByteArray} {nL : Nat} {ow : String} {D : va_G} {ty : Nat → ClassId} {A : Nat → Prop} {d : Nat} (C : Cx p R s m args c cc nL ow D ty A d) {ws : List Cond} (h : ∀ w ∈ ws, w ∈ lw_tbl) (hg : ws.all (fun w => goodWord w || nwGood w) = true) : ∀ w ∈ ws, w.before args s = true := by
  intro w hw
  have h1 := List.all_eq_true.mp hg w hw
  rcases Bool.or_eq_true _ _ |>.mp h1 with h2 | h2
  · exact C.ts _ (lw_g (h w hw) h2)
  · exact C.nw (h w hw) h2
theorem atN_t : ∀ w ∈ vx_atN 8, w ∈ lw_tbl := lw_tbls _ [156, 610, 619, 638, 641, 643, 611, 612, 176, 177, 613, 618, 639, 659, 600, 660, 602, 661, 604, 614, 616, 606, 635, 625, 626, 1164, 1166, 632, 633, 1180, 1155, 1156, 1157, 1158, 1177, 1158, 1159, 1160, 1161, 593, 1161, 1162, 1163, 611, 595, 162, 630, 1176, 1179, 624, 1172, 1173, 1175, 657, 608, 1170] (by decide +kernel)
theorem atN_g : (vx_atN 8).all (fun w => goodWord w || nwGood w) = true := by decide +kernel
theorem atN_o : ∀ w ∈ vx_atN 8, vx_ot w = true := List.all_eq_true.mp (by decide +kernel)
theorem at_ai_t : ∀ w ∈ vx_atM "java/lang/ArrayIndexOutOfBoundsException" ["java/lang/IndexOutOfBoundsException", "java/lang/RuntimeException", "java/lang/Exception"], w ∈ lw_tbl := lw_tbls _ [156, 610, 619, 638, 641, 643, 611, 612, 176, 177, 613, 618, 639, 659, 600, 660, 602, 661, 604, 614, 616, 606, 1464, 1465, 658, 606, 1492, 1493, 1494, 1495, 1507, 1495, 1496, 1497, 1458, 1178, 1458, 1459, 1460, 1461, 594, 1461, 1462, 1463, 1464, 596, 152, 1475, 271, 1476, 1478, 1477, 1479, 168, 1491, 1505, 1508, 621, 1500, 1501, 1503, 1499, 657, 608, 1498] (by decide +kernel)
theorem at_ai_g : (vx_atM "java/lang/ArrayIndexOutOfBoundsException" ["java/lang/IndexOutOfBoundsException", "java/lang/RuntimeException", "java/lang/Exception"]).all (fun w => goodWord w || nwGood w) = true := by decide +kernel
theorem at_ai_o : ∀ w ∈ vx_atM "java/lang/ArrayIndexOutOfBoundsException" ["java/lang/IndexOutOfBoundsException", "java/lang/RuntimeException", "java/lang/Exception"], vx_ot w = true := List.all_eq_true.mp (by decide +kernel)
theorem at_as_t : ∀ w ∈ vx_atM "java/lang/ArrayStoreException" ["java/lang/RuntimeException", "java/lang/Exception"], w ∈ lw_tbl := lw_tbls _ [156, 610, 619, 638, 641, 643, 611, 612, 176, 177, 613, 618, 639, 659, 600, 660, 602, 661, 604, 614, 616, 606, 1464, 1465, 658, 606, 1519, 1520, 1521, 1458, 1178, 1458, 1459, 1460, 1461, 594, 1461, 1462, 1463, 1464, 596, 152, 1475, 271, 1476, 1478, 1477, 1479, 169, 1518, 1529, 1530, 622, 1524, 1525, 1527, 1523, 657, 608, 1522] (by decide +kernel)
theorem at_as_g : (vx_atM "java/lang/ArrayStoreException" ["java/lang/RuntimeException", "java/lang/Exception"]).all (fun w => goodWord w || nwGood w) = true := by decide +kernel
theorem at_as_o : ∀ w ∈ vx_atM "java/lang/ArrayStoreException" ["java/lang/RuntimeException", "java/lang/Exception"], vx_ot w = true := List.all_eq_true.mp (by decide +kernel)
theorem at_na_t : ∀ w ∈ vx_atM "java/lang/NegativeArraySizeException" ["java/lang/RuntimeException", "java/lang/Exception"], w ∈ lw_tbl := lw_tbls _ [156, 610, 619, 638, 641, 643, 611, 612, 176, 177, 613, 618, 639, 659, 600, 660, 602, 661, 604, 614, 616, 606, 1464, 1465, 658, 606, 1455, 1456, 1457, 1458, 1178, 1458, 1459, 1460, 1461, 594, 1461, 1462, 1463, 1464, 596, 152, 1475, 271, 1476, 1478, 1477, 1479, 166, 1454, 1473, 1474, 623, 1468, 1469, 1471, 1467, 657, 608, 1466] (by decide +kernel)
theorem at_na_g : (vx_atM "java/lang/NegativeArraySizeException" ["java/lang/RuntimeException", "java/lang/Exception"]).all (fun w => goodWord w || nwGood w) = true := by decide +kernel
theorem at_na_o : ∀ w ∈ vx_atM "java/lang/NegativeArraySizeException" ["java/lang/RuntimeException", "java/lang/Exception"], vx_ot w = true := List.all_eq_true.mp (by decide +kernel)
section EXC
variable {p : Program} {l : Launch} {e : Env} {R : Room} {s : State} {m : MethodId} {args : Array Value} {below : List Frame} {meth : Method} {c : Code} {H : Heap} {locs : List Loc} {cells slots : Nat} {Q : State → Prop} {cc : ByteArray} {pc : Nat} {ls : Array Slot} {st rest : List Value} {nL d : Nat} {ow : String} {D : va_G} {ty : Nat → ClassId} {A : Nat → Prop} {ws : va_W}
theorem Hw.grown {H1 : Heap} (h : Hw D A s H locs ws) (hk : ∀ q : Nat, q < H.size → H1[q]? = H[q]?) (hS : va_S A s.heap H1 locs) : Hw D A s H1 locs ws := ⟨h.1.kept (fun k q hq => hk q.1 ((h.1 k q hq).lt)), h.2.1, hS⟩
/-- a null is used -/
theorem e_npe (C : Cx p R s m args c cc nL ow D ty A d) (hl : l.stackTraces = false) (hd : 300 ≤ d) (h : Hw D A s H locs ws) (hls : ls.size = nL) (hcat : (rest.map fun v => v.category).sum ≤ 8) (hcs : cells + 1 ≤ R.cells) (hss : slots + 8 ≤ R.slots) (hlocks : meth.locks = false)
    (k : ∀ (H : Heap) (q9 : Addr) (ce : Cell), Hw D A s H locs ws → H[q9]? = some ce → ce.vm = .none → s.vm.findClass "java/lang/NullPointerException" = some ce.cls → vx_W p l e R s m args below meth c H locs (cells + 1) (slots + 8) Q (F0 m pc ls rest) q9) : vx_NoteN p l e R s m args below meth c H locs cells slots Q (F0 m pc ls rest) := by
  have r1 := C.2.2.2.1
  have r2 := C.2.2.2.2
  exact vx_npe C.x hl (nb := 8) (C.at atN_t atN_g) atN_o C.E.2.1.1 C.E.2.1.2 h.2.2 (hls.trans C.1.2.2.1.symm) (by omega) (by omega) hcs hss hlocks (fun H1 q9 ce hz hk hS h1 h2 h3 => k H1 q9 ce (h.grown hk hS) h1 h2 h3)
theorem e_ai (C : Cx p R s m args c cc nL ow D ty A d) (hl : l.stackTraces = false) (hd : 300 ≤ d) (h : Hw D A s H locs ws) (hls : ls.size = nL) (hcat : (rest.map fun v => v.category).sum ≤ 8) (hcs : cells + 3 ≤ R.cells) (hss : slots + 1010 ≤ R.slots) (hlocks : meth.locks = false) {text : String} (ht : (text == notModelled) = false) (hnb : (stringBytes (stringToUtf16 text)).size ≤ 1000)
    (k : ∀ (H : Heap) (q9 : Addr) (ce : Cell), Hw D A s H locs ws → H[q9]? = some ce → ce.vm = .none → s.vm.findClass "java/lang/ArrayIndexOutOfBoundsException" = some ce.cls → vx_W p l e R s m args below meth c H locs (cells + 3) (slots + 1010) Q (F0 m pc ls rest) q9) : vx_Note p l e R s m args below meth c H locs cells slots Q (F0 m pc ls rest) "java/lang/ArrayIndexOutOfBoundsException" text := by
  have r1 := C.2.2.2.1
  have r2 := C.2.2.2.2
  exact vx_vm C.x hl (cls := "java/lang/ArrayIndexOutOfBoundsException") (names := ["java/lang/IndexOutOfBoundsException", "java/lang/RuntimeException", "java/lang/Exception"]) (nb := 1000) (by decide +kernel) (by decide +kernel) (by decide +kernel) (by decide +kernel) (C.at at_ai_t at_ai_g) at_ai_o C.E.2.1.1 C.E.2.1.2 h.2.2 (hls.trans C.1.2.2.1.symm) ht hnb (by omega) (by show _ + 4 < R.frames; simp only [List.length_cons, List.length_nil]; omega) (by omega) (by decide) hcs hss hlocks (fun H1 q9 ce hz hk hS h1 h2 h3 => k H1 q9 ce (h.grown hk hS) h1 h2 h3)
theorem e_as (C : Cx p R s m args c cc nL ow D ty A d) (hl : l.stackTraces = false) (hd : 300 ≤ d) (h : Hw D A s H locs ws) (hls : ls.size = nL) (hcat : (rest.map fun v => v.category).sum ≤ 8) (hcs : cells + 3 ≤ R.cells) (hss : slots + 1010 ≤ R.slots) (hlocks : meth.locks = false) {text : String} (ht : (text == notModelled) = false) (hnb : (stringBytes (stringToUtf16 text)).size ≤ 1000)
    (k : ∀ (H : Heap) (q9 : Addr) (ce : Cell), Hw D A s H locs ws → H[q9]? = some ce → ce.vm = .none → s.vm.findClass "java/lang/ArrayStoreException" = some ce.cls → vx_W p l e R s m args below meth c H locs (cells + 3) (slots + 1010) Q (F0 m pc ls rest) q9) : vx_Note p l e R s m args below meth c H locs cells slots Q (F0 m pc ls rest) "java/lang/ArrayStoreException" text := by
  have r1 := C.2.2.2.1
  have r2 := C.2.2.2.2
  exact vx_vm C.x hl (cls := "java/lang/ArrayStoreException") (names := ["java/lang/RuntimeException", "java/lang/Exception"]) (nb := 1000) (by decide +kernel) (by decide +kernel) (by decide +kernel) (by decide +kernel) (C.at at_as_t at_as_g) at_as_o C.E.2.1.1 C.E.2.1.2 h.2.2 (hls.trans C.1.2.2.1.symm) ht hnb (by omega) (by show _ + 4 < R.frames; simp only [List.length_cons, List.length_nil]; omega) (by omega) (by decide) hcs hss hlocks (fun H1 q9 ce hz hk hS h1 h2 h3 => k H1 q9 ce (h.grown hk hS) h1 h2 h3)
theorem e_na (C : Cx p R s m args c cc nL ow D ty A d) (hl : l.stackTraces = false) (hd : 300 ≤ d) (h : Hw D A s H locs ws) (hls : ls.size = nL) (hcat : (rest.map fun v => v.category).sum ≤ 8) (hcs : cells + 3 ≤ R.cells) (hss : slots + 1010 ≤ R.slots) (hlocks : meth.locks = false) {text : String} (ht : (text == notModelled) = false) (hnb : (stringBytes (stringToUtf16 text)).size ≤ 1000)
    (k : ∀ (H : Heap) (q9 : Addr) (ce : Cell), Hw D A s H locs ws → H[q9]? = some ce → ce.vm = .none → s.vm.findClass "java/lang/NegativeArraySizeException" = some ce.cls → vx_W p l e R s m args below meth c H locs (cells + 3) (slots + 1010) Q (F0 m pc ls rest) q9) : vx_Note p l e R s m args below meth c H locs cells slots Q (F0 m pc ls rest) "java/lang/NegativeArraySizeException" text := by
  have r1 := C.2.2.2.1
  have r2 := C.2.2.2.2
  exact vx_vm C.x hl (cls := "java/lang/NegativeArraySizeException") (names := ["java/lang/RuntimeException", "java/lang/Exception"]) (nb := 1000) (by decide +kernel) (by decide +kernel) (by decide +kernel) (by decide +kernel) (C.at at_na_t at_na_g) at_na_o C.E.2.1.1 C.E.2.1.2 h.2.2 (hls.trans C.1.2.2.1.symm) ht hnb (by omega) (by show _ + 4 < R.frames; simp only [List.length_cons, List.length_nil]; omega) (by omega) (by decide) hcs hss hlocks (fun H1 q9 ce hz hk hS h1 h2 h3 => k H1 q9 ce (h.grown hk hS) h1 h2 h3)
end EXC
