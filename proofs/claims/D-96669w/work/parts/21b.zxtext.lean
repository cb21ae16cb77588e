/-! THE Z-KIT: the text constants: their bytes, the JDK's methods on them -/
set_option maxRecDepth 100000
def tval (sa : Nat → Nat) (v : Option Nat) (P : Option Nat → Prop) : Prop := ∃ j : Nat, j < 14 ∧ v = some (sa j) ∧ P (some (sa (j + 14)))
def tcod (sa : Nat → Nat) (v : Option Nat) (P : Int32 → Prop) : Prop := ∃ j : Nat, j < 14 ∧ v = some (sa j) ∧ P 0
def tlen (sa : Nat → Nat) (v : Option Nat) (P : Int32 → Prop) : Prop := ∃ j : Nat, j < 14 ∧ v = some (sa (j + 14)) ∧ P (Int32.ofNat (zsl.getD j 0))
def tld (sa : Nat → Nat) (v : Option Nat) (i : Int32) (P : Int32 → Prop) : Prop := ∃ j : Nat, j < 14 ∧ v = some (sa (j + 14)) ∧ vp_in i (zsl.getD j 0) ∧ P ((zsb.getD j []).getD i.toNatClampNeg 0)
def trc (sa : Nat → Nat) (v : Option Nat) (F : Prop) : Prop := ∃ j : Nat, j < 14 ∧ v = some (sa j) ∧ F
section ZT
variable {sa : Nat → Nat} {G : zG} {cc : ByteArray} {nL : Nat} {own nm : String} {ret : Option FieldType} {nf nl : Nat} {K : Option zV → zH → Prop} {pc : Nat} {h : zH} {mc ms : Nat} {L : zL} {st : List zV}
theorem r_i2c (hG : zOk sa G cc nL own nm ret nf nl K) {x : Int32} (hd : decode cc pc = .ok (.i2c, 1)) (k : zW G (pc + 1) h mc ms L (I_ (x.toUInt32 % 65536).toInt32 :: st)) : zW G pc h mc ms L (I_ x :: st) := by
  obtain ⟨⟨p, l, e, R, s, m, args, below, meth, c⟩, D, A, Q, MC, MS⟩ := G
  exact fun H locs cells slots ls hP hS hc hs hl => lv_i2c hG.1 hG.2.1 hd rfl (k H locs cells slots ls hP hS hc hs hl)
theorem r_nret {ty : FieldType} (hG : zOk sa G cc nL own nm (some ty) nf nl K) {x : Int32} (hd : decode cc pc = .ok (.ireturn, 1)) (hn : narrow ty (.int x) = .int x) (hK : K (some (I_ x)) h) : zW G pc h mc ms L [I_ x] := by
  obtain ⟨⟨p, l, e, R, s, m, args, below, meth, c⟩, D, A, Q, MC, MS⟩ := G
  obtain ⟨hx, hb, hml, hr, hlk, hnm, hown, hts, hWd, hA, hRc, hRs, hnf, hnl, hfl, hsa, hQ⟩ := hG
  intro H locs cells slots ls hP hS hc hs hl
  refine W.widen (k := MC) (n := MS) (by omega) (by omega) ?_
  refine hQ _ _ _ ?_
  exact W.zret hx hb hr hn (fun t ht hW => ⟨⟨some (I_ x), h, rfl, hK, by rw [ht]; exact hP⟩, hS.F ht⟩) hS.2.2 hd hlk
theorem zWd.txt {D : zD} {A : Nat → Prop} {s : State} (hWd : zWd D A s) (hsa : D.2.2.1 = sa) {j : Nat} (hj : j < 14) : va_O "java/lang/String" (sa j) A s s.heap ∧ va_OF "java/lang/String" "coder" "B" (.int 0) (sa j) A s s.heap ∧ va_OF "java/lang/String" "value" "[B" (.ref (sa (j + 14))) (sa j) A s s.heap ∧ va_T .byte (sa (j + 14)) (zsl.getD j 0) (fun k => .int ((zsb.getD j []).getD k 0)) A s s.heap := by
  have h := hWd.2.2.2.2.2.2.2.2.2.2.2.2.1.1 j hj
  rw [hsa] at h
  exact h
theorem z_recvT {D : zD} {A : Nat → Prop} {s : State} {H : Heap} {locs : List Loc} (hWd : zWd D A s) (hsa : D.2.2.1 = sa) (hS : va_S A s.heap H locs) {j : Nat} (hj : j < 14) : ∃ cell : Cell, H[sa j]? = some cell ∧ cell.vm.isStatics = false ∧ s.vm.findClass "java/lang/String" = some cell.cls := by
  obtain ⟨cell, g1, g2, g3, g4⟩ := ((hWd.txt hsa hj).1).kept hS.2.1
  exact ⟨cell, g1, g2, g3⟩
theorem r_tval (hG : zOk sa G cc nL own nm ret nf nl K) {ix : Nat} {v : Option Nat} {P : Option Nat → Prop} (hw : Cond.fieldLink own ix "java/lang/String" "value" "[B" ∈ lw_all) (hd : decode cc pc = .ok (.getfield ix, 3)) (hF : tval sa v P) (kk : ∀ n, P n → zW G (pc + 3) h mc ms L (R_ n :: st)) : zW G pc h mc ms L (R_ v :: st) := by
  obtain ⟨⟨p, l, e, R, s, m, args, below, meth, c⟩, D, A, Q, MC, MS⟩ := G
  obtain ⟨hx, hb, hml, hr, hlk, hnm, hown, hts, hWd, hA, hRc, hRs, hnf, hnl, hfl, hsa, hQ⟩ := hG
  obtain ⟨j, hj, rfl, hp⟩ := hF
  exact fun H locs cells slots ls hP hS hc hs hl => vk_getf hx hb (hWd.txt hsa hj).2.2.1 hS hown (hts _ hw) (fun x z => z) hd (kk _ hp H locs cells slots ls hP hS hc hs hl)
theorem r_tcod (hG : zOk sa G cc nL own nm ret nf nl K) {ix : Nat} {v : Option Nat} {P : Int32 → Prop} (hw : Cond.fieldLink own ix "java/lang/String" "coder" "B" ∈ lw_all) (hd : decode cc pc = .ok (.getfield ix, 3)) (hF : tcod sa v P) (kk : ∀ n, P n → zW G (pc + 3) h mc ms L (I_ n :: st)) : zW G pc h mc ms L (R_ v :: st) := by
  obtain ⟨⟨p, l, e, R, s, m, args, below, meth, c⟩, D, A, Q, MC, MS⟩ := G
  obtain ⟨hx, hb, hml, hr, hlk, hnm, hown, hts, hWd, hA, hRc, hRs, hnf, hnl, hfl, hsa, hQ⟩ := hG
  obtain ⟨j, hj, rfl, hp⟩ := hF
  exact fun H locs cells slots ls hP hS hc hs hl => vk_getf hx hb (hWd.txt hsa hj).2.1 hS hown (hts _ hw) (fun x z => z) hd (kk _ hp H locs cells slots ls hP hS hc hs hl)
theorem r_tlen (hG : zOk sa G cc nL own nm ret nf nl K) {v : Option Nat} {P : Int32 → Prop} (hd : decode cc pc = .ok (.arraylength, 1)) (hF : tlen sa v P) (kk : ∀ n, P n → zW G (pc + 1) h mc ms L (I_ n :: st)) : zW G pc h mc ms L (R_ v :: st) := by
  obtain ⟨⟨p, l, e, R, s, m, args, below, meth, c⟩, D, A, Q, MC, MS⟩ := G
  obtain ⟨hx, hb, hml, hr, hlk, hnm, hown, hts, hWd, hA, hRc, hRs, hnf, hnl, hfl, hsa, hQ⟩ := hG
  obtain ⟨j, hj, rfl, hp⟩ := hF
  exact fun H locs cells slots ls hP hS hc hs hl => va_tlen hx hb (hWd.txt hsa hj).2.2.2 hS rfl hd (kk _ hp H locs cells slots ls hP hS hc hs hl)
theorem r_tld (hG : zOk sa G cc nL own nm ret nf nl K) {v : Option Nat} {i : Int32} {P : Int32 → Prop} (hd : decode cc pc = .ok (.baload, 1)) (hF : tld sa v i P) (kk : ∀ n, P n → zW G (pc + 1) h mc ms L (I_ n :: st)) : zW G pc h mc ms L (I_ i :: R_ v :: st) := by
  obtain ⟨⟨p, l, e, R, s, m, args, below, meth, c⟩, D, A, Q, MC, MS⟩ := G
  obtain ⟨hx, hb, hml, hr, hlk, hnm, hown, hts, hWd, hA, hRc, hRs, hnf, hnl, hfl, hsa, hQ⟩ := hG
  obtain ⟨j, hj, rfl, hin, hp⟩ := hF
  exact fun H locs cells slots ls hP hS hc hs hl => va_tb hx hb (hWd.txt hsa hj).2.2.2 hS hin rfl hd (kk _ hp H locs cells slots ls hP hS hc hs hl)
theorem r_gets_cs (hG : zOk sa G cc nL own nm ret nf nl K) {ix : Nat} (hw : Cond.fieldLink own ix "java/lang/String" "COMPACT_STRINGS" "Z" ∈ lw_all) (hd : decode cc pc = .ok (.getstatic ix, 3)) (kk : zW G (pc + 3) h mc ms L (I_ 1 :: st)) : zW G pc h mc ms L st := by
  obtain ⟨⟨p, l, e, R, s, m, args, below, meth, c⟩, D, A, Q, MC, MS⟩ := G
  have hts := hG.2.2.2.2.2.2.2.1
  have hWd := hG.2.2.2.2.2.2.2.2.1
  exact fun H locs cells slots ls hP hS hc hs hl => va_gets hG.1 hG.2.1 hWd.2.2.2.2.2.2.2.2.2.2.1 hS hG.2.2.2.2.2.2.1 (hts _ hw) (fun x z => z) hd (kk H locs cells slots ls hP hS hc hs hl)
theorem r_gets_sf (hG : zOk sa G cc nL own nm ret nf nl K) {ix : Nat} (hw : Cond.fieldLink own ix "jdk/internal/util/Preconditions" "SIOOBE_FORMATTER" "Ljava/util/function/BiFunction;" ∈ lw_all) (hd : decode cc pc = .ok (.getstatic ix, 3)) (kk : ∀ o : Option Nat, zW G (pc + 3) h mc ms L (R_ o :: st)) : zW G pc h mc ms L st := by
  obtain ⟨⟨p, l, e, R, s, m, args, below, meth, c⟩, D, A, Q, MC, MS⟩ := G
  have hts := hG.2.2.2.2.2.2.2.1
  have hWd := hG.2.2.2.2.2.2.2.2.1
  intro H locs cells slots ls hP hS hc hs hl
  rcases hWd.2.2.2.2.2.2.2.2.2.2.2.1 with h1 | ⟨t, h1⟩
  · exact va_gets hG.1 hG.2.1 h1 hS hG.2.2.2.2.2.2.1 (hts _ hw) (fun x z => z) hd (kk none H locs cells slots ls hP hS hc hs hl)
  · exact va_gets hG.1 hG.2.1 h1 hS hG.2.2.2.2.2.2.1 (hts _ hw) (fun x z => z) hd (kk (some t) H locs cells slots ls hP hS hc hs hl)
theorem r_callT (hG : zOk sa G cc nL own nm ret nf nl K) {index maxL n nf1 nl1 mc1 ms1 mc2 ms2 : Nat} {y : MethodName} {bytes : ByteArray} {ret1 : Option FieldType} {As rest : List zV} {F : Prop} {K1 : Option zV → zH → Prop} {v0 : Option Nat} (hM : zCt sa y (ws_ y bytes maxL ret1) nf1 nl1 h mc1 ms1 (R_ v0 :: As) F K1) (hg : GoodIn lw_all (wsV own index "java/lang/String" y (ws_ y bytes maxL ret1))) (hd0 : y.cls = "java/lang/String" ∧ y.cls ≠ "java/lang/invoke/MethodHandle" ∧ y.cls ≠ "java/lang/invoke/VarHandle" ∧ (parseMethodDescriptor y.desc).map (fun d => d.parameters.length) = some n) (hr : nf1 + 1 ≤ nf ∧ 8 + (maxL + 11) + nl1 ≤ nl) (hm : mc1 + mc2 ≤ mc) (hs0 : ms1 + ms2 ≤ ms) (hd : decode cc pc = .ok (.invokevirtual index, 3)) (hst : st = As.reverse ++ R_ v0 :: rest) (hn : As.length = n) (hlen : zlen rest ≤ 8) (hF : trc sa v0 F) (kk : ∀ v h', K1 v h' → zW G (pc + 3) h' mc2 ms2 L (v.toList ++ rest)) : zW G pc h mc ms L st := by
  obtain ⟨j, hj, rfl, hF⟩ := hF
  obtain ⟨⟨p, l, e, R, s, m, args, below, meth, c⟩, D, A, Q, MC, MS⟩ := G
  obtain ⟨hx, hb, hml, hrt, hlk, hnm, hown, hts, hWd, hA, hRc, hRs, hnf, hnl, hfl, hsa, hQ⟩ := hG
  intro H locs cells slots ls hP hS hc hs hl
  have hsub : ∀ q, zA h H.size q → A q := by
    rintro q (z | z)
    · exact hP.in z
    · exact hA q (Nat.le_trans hS.1 z)
  have hMt := hM l D H.size hfl hsa
  exact zcall_go (va_runV (As := As.map zval) (rest := rest.map zval) ⟨hx, hb, hml, hown, hts⟩ hMt (cwV n hts hg rfl rfl rfl hd0 ⟨by dsimp only; omega, by dsimp only; omega⟩) ⟨zPre_blind, z_recvT hWd hsa hS hj, fun U hU hW => ⟨rfl, by rw [hU], by rw [hU]; exact hP.weaken (fun _ _ _ => trivial), zWd.step hWd hW hU hS hsub, hF⟩⟩ rfl (by rw [List.length_map]; exact hn) (by rw [← hml]; exact hl.1) (z_stack hst) (z_room hlen) hd ⟨by omega, by omega⟩) hP hS hA (fun v h' H1 locs1 hK hP1 hS1 => kk v h' hK H1 locs1 (cells + mc1) (slots + ms1) ls hP1 hS1 (by omega) (by omega) hl)
theorem r_callTi (hG : zOk sa G cc nL own nm ret nf nl K) {index maxL n nf1 nl1 mc1 ms1 mc2 ms2 : Nat} {y : MethodName} {bytes : ByteArray} {ret1 : Option FieldType} {As rest : List zV} {F : Prop} {K1 : Int32 → zH → Prop} {v0 : Option Nat} (hM : zCt sa y (ws_ y bytes maxL ret1) nf1 nl1 h mc1 ms1 (R_ v0 :: As) F (zKi K1)) (hg : GoodIn lw_all (wsV own index "java/lang/String" y (ws_ y bytes maxL ret1))) (hd0 : y.cls = "java/lang/String" ∧ y.cls ≠ "java/lang/invoke/MethodHandle" ∧ y.cls ≠ "java/lang/invoke/VarHandle" ∧ (parseMethodDescriptor y.desc).map (fun d => d.parameters.length) = some n) (hr : nf1 + 1 ≤ nf ∧ 8 + (maxL + 11) + nl1 ≤ nl) (hm : mc1 + mc2 ≤ mc) (hs0 : ms1 + ms2 ≤ ms) (hd : decode cc pc = .ok (.invokevirtual index, 3)) (hst : st = As.reverse ++ R_ v0 :: rest) (hn : As.length = n) (hlen : zlen rest ≤ 8) (hF : trc sa v0 F) (kk : ∀ (r : Int32) h', K1 r h' → zW G (pc + 3) h' mc2 ms2 L (I_ r :: rest)) : zW G pc h mc ms L st := r_callT hG (hM := hM) (hg := hg) (hd0 := hd0) (hr := hr) (hm := hm) (hs0 := hs0) (hd := hd) (hst := hst) (hn := hn) (hlen := hlen) (hF := hF) (kk := zk_i kk)
end ZT
theorem ztkc0 : Int32.ofInt 0 = 0 := by decide
theorem ztkc1 : Int32.ofInt 1 = 1 := by decide
theorem ztkcm1 : Int32.ofInt (-1) = (-1) := by decide
theorem ztks255 : (Int16.ofInt 255).toInt32 = 255 := by decide
theorem zgJ3_335 : GoodIn lw_all (wsV RJ3 335 RJ3 yJ3_coder (ws_ yJ3_coder cJ3_coder 1 (some .byte))) := lw_V q480 q481 q482 q107 q483
theorem zhv_J3_coder : yJ3_coder.cls = RJ3 ∧ yJ3_coder.cls ≠ "java/lang/invoke/MethodHandle" ∧ yJ3_coder.cls ≠ "java/lang/invoke/VarHandle" ∧ (parseMethodDescriptor yJ3_coder.desc).map (fun d => d.parameters.length) = some 0 := by decide +kernel
theorem zgJ3_1059 : GoodIn lw_all (va_wsS RJ3 1059 yJ5_checkIndex (ws_ yJ5_checkIndex cJ5_checkIndex 3 (some .int))) := lw_S q502 q503 q109 q504
theorem zhs_J5_checkIndex : yJ5_checkIndex.cls ≠ "java/lang/invoke/MethodHandle" ∧ yJ5_checkIndex.cls ≠ "java/lang/invoke/VarHandle" ∧ (parseMethodDescriptor yJ5_checkIndex.desc).map (fun d => d.parameters.length) = some 3 := by decide +kernel
theorem zgJ4_9 : GoodIn lw_all (va_wsS RJ4 9 yJ3_checkIndex (ws_ yJ3_checkIndex cJ3_checkIndex 2 none)) := lw_S q497 q498 q107 q499
theorem zhs_J3_checkIndex : yJ3_checkIndex.cls ≠ "java/lang/invoke/MethodHandle" ∧ yJ3_checkIndex.cls ≠ "java/lang/invoke/VarHandle" ∧ (parseMethodDescriptor yJ3_checkIndex.desc).map (fun d => d.parameters.length) = some 2 := by decide +kernel
theorem zgJ3_495 : GoodIn lw_all (va_wsS RJ3 495 yJ4_charAt (ws_ yJ4_charAt cJ4_charAt 2 (some .char))) := lw_S q494 q495 q108 q496
theorem zhs_J4_charAt : yJ4_charAt.cls ≠ "java/lang/invoke/MethodHandle" ∧ yJ4_charAt.cls ≠ "java/lang/invoke/VarHandle" ∧ (parseMethodDescriptor yJ4_charAt.desc).map (fun d => d.parameters.length) = some 2 := by decide +kernel
theorem zgJ3_492 : GoodIn lw_all (wsV RJ3 492 RJ3 yJ3_isLatin1 (ws_ yJ3_isLatin1 cJ3_isLatin1 1 (some .boolean))) := lw_V q490 q491 q492 q107 q493
theorem zhv_J3_isLatin1 : yJ3_isLatin1.cls = RJ3 ∧ yJ3_isLatin1.cls ≠ "java/lang/invoke/MethodHandle" ∧ yJ3_isLatin1.cls ≠ "java/lang/invoke/VarHandle" ∧ (parseMethodDescriptor yJ3_isLatin1.desc).map (fun d => d.parameters.length) = some 0 := by decide +kernel
theorem zgJ4_95 : GoodIn lw_all (va_wsS RJ4 95 yJ4_indexOfChar (ws_ yJ4_indexOfChar cJ4_indexOfChar 6 (some .int))) := lw_S q551 q552 q108 q553
theorem zhs_J4_indexOfChar : yJ4_indexOfChar.cls ≠ "java/lang/invoke/MethodHandle" ∧ yJ4_indexOfChar.cls ≠ "java/lang/invoke/VarHandle" ∧ (parseMethodDescriptor yJ4_indexOfChar.desc).map (fun d => d.parameters.length) = some 4 := by decide +kernel
theorem zgJ4_88 : GoodIn lw_all (va_wsS RJ4 88 yJ4_canEncode (ws_ yJ4_canEncode cJ4_canEncode 1 (some .boolean))) := lw_S q546 q547 q108 q548
theorem zhs_J4_canEncode : yJ4_canEncode.cls ≠ "java/lang/invoke/MethodHandle" ∧ yJ4_canEncode.cls ≠ "java/lang/invoke/VarHandle" ∧ (parseMethodDescriptor yJ4_canEncode.desc).map (fun d => d.parameters.length) = some 1 := by decide +kernel
theorem zgJ3_505 : GoodIn lw_all (wsV RJ3 505 RJ3 yJ3_length (ws_ yJ3_length cJ3_length 1 (some .int))) := lw_V q542 q477 q478 q107 q479
theorem zhv_J3_length : yJ3_length.cls = RJ3 ∧ yJ3_length.cls ≠ "java/lang/invoke/MethodHandle" ∧ yJ3_length.cls ≠ "java/lang/invoke/VarHandle" ∧ (parseMethodDescriptor yJ3_length.desc).map (fun d => d.parameters.length) = some 0 := by decide +kernel
theorem zgJ3_637 : GoodIn lw_all (va_wsS RJ3 637 yJ4_indexOf (ws_ yJ4_indexOf cJ4_indexOf 4 (some .int))) := lw_S q543 q544 q108 q545
theorem zhs_J4_indexOf : yJ4_indexOf.cls ≠ "java/lang/invoke/MethodHandle" ∧ yJ4_indexOf.cls ≠ "java/lang/invoke/VarHandle" ∧ (parseMethodDescriptor yJ4_indexOf.desc).map (fun d => d.parameters.length) = some 4 := by decide +kernel
theorem zgJ3_633 : GoodIn lw_all (wsV RJ3 633 RJ3 yJ3_indexOf_2 (ws_ yJ3_indexOf_2 cJ3_indexOf_2 3 (some .int))) := lw_V q538 q539 q540 q107 q541
theorem zhv_J3_indexOf_2 : yJ3_indexOf_2.cls = RJ3 ∧ yJ3_indexOf_2.cls ≠ "java/lang/invoke/MethodHandle" ∧ yJ3_indexOf_2.cls ≠ "java/lang/invoke/VarHandle" ∧ (parseMethodDescriptor yJ3_indexOf_2.desc).map (fun d => d.parameters.length) = some 2 := by decide +kernel
theorem zhv_J3_charAt : yJ3_charAt.cls = RJ3 ∧ yJ3_charAt.cls ≠ "java/lang/invoke/MethodHandle" ∧ yJ3_charAt.cls ≠ "java/lang/invoke/VarHandle" ∧ (parseMethodDescriptor yJ3_charAt.desc).map (fun d => d.parameters.length) = some 1 := by decide +kernel
theorem zhv_J3_indexOf : yJ3_indexOf.cls = RJ3 ∧ yJ3_indexOf.cls ≠ "java/lang/invoke/MethodHandle" ∧ yJ3_indexOf.cls ≠ "java/lang/invoke/VarHandle" ∧ (parseMethodDescriptor yJ3_indexOf.desc).map (fun d => d.parameters.length) = some 1 := by decide +kernel
def zfJ3_coder (sa : Nat → Nat) (f : Nat) (h : zH) (t0 : Option Nat) (K : Int32 → zH → Prop) : Prop := if (1 : Int32) = 0 then (narrow .byte (.int 1) = .int 1 ∧ K 1 h) else (tcod sa t0 fun x1 => narrow .byte (.int x1) = .int x1 ∧ K x1 h)
def zfJ3_length (sa : Nat → Nat) (f : Nat) (h : zH) (t0 : Option Nat) (K : Int32 → zH → Prop) : Prop := tval sa t0 fun r1 => tlen sa r1 fun x2 => trc sa t0 (zfJ3_coder sa f h t0 fun x3 h4 => K (x2 >>> (x3 &&& 31)) h4)
def zfJ3_isLatin1 (sa : Nat → Nat) (f : Nat) (h : zH) (t0 : Option Nat) (K : Int32 → zH → Prop) : Prop := if (1 : Int32) = 0 then (K 0 h) else (tcod sa t0 fun x1 => if x1 = 0 then (K 1 h) else (K 0 h))
def zjJ5_checkIndex_9 (sa : Nat → Nat) (f : Nat) (K : Int32 → zH → Prop) (h : zH) (v0 : Int32) (v1 : Int32) (v2 : Option Nat) : Prop := False
def zfJ5_checkIndex (sa : Nat → Nat) (f : Nat) (h : zH) (a0 : Int32) (a1 : Int32) (a2 : Option Nat) (K : Int32 → zH → Prop) : Prop := if a0 < 0 then (zjJ5_checkIndex_9 sa f K h a0 a1 a2) else (if a0 < a1 then (K a0 h) else (zjJ5_checkIndex_9 sa f K h a0 a1 a2))
def zfJ3_checkIndex (sa : Nat → Nat) (f : Nat) (h : zH) (a0 : Int32) (a1 : Int32) (K : zH → Prop) : Prop := ∀ r1 : Option Nat, zfJ5_checkIndex sa f h a0 a1 r1 fun x2 h3 => K h3
def zfJ4_charAt (sa : Nat → Nat) (f : Nat) (h : zH) (a0 : Option Nat) (a1 : Int32) (K : Int32 → zH → Prop) : Prop := tlen sa a0 fun x1 => zfJ3_checkIndex sa f h a1 x1 fun h3 => tld sa a0 a1 fun x4 => narrow .char (.int (((x4 &&& 255).toUInt32 % 65536).toInt32)) = .int (((x4 &&& 255).toUInt32 % 65536).toInt32) ∧ K (((x4 &&& 255).toUInt32 % 65536).toInt32) h3
def zfJ3_charAt (sa : Nat → Nat) (f : Nat) (h : zH) (t0 : Option Nat) (a1 : Int32) (K : Int32 → zH → Prop) : Prop := trc sa t0 (zfJ3_isLatin1 sa f h t0 fun x1 h2 => if x1 = 0 then (tval sa t0 fun r3 => False) else (tval sa t0 fun r4 => zfJ4_charAt sa f h2 r4 a1 fun x5 h6 => narrow .char (.int x5) = .int x5 ∧ K x5 h6))
def zfJ4_canEncode (sa : Nat → Nat) (f : Nat) (h : zH) (a0 : Int32) (K : Int32 → zH → Prop) : Prop := if a0 < 0 then (K 0 h) else (if 255 < a0 then (K 0 h) else (K 1 h))
def zbJ4_indexOfChar_7 (sa : Nat → Nat) (f : Nat) (K : Int32 → zH → Prop) (R7 : zH → Option Nat → Int32 → Int32 → Int32 → Prop) (h : zH) (v0 : Option Nat) (v3 : Int32) (v4 : Int32) (v5 : Int32) : Prop := if v5 < v3 then (tld sa v0 v5 fun x2 => if x2 = v4 then (K v5 h) else (∀ x3 : Int32, x3 = v5 + 1 → R7 h v0 v3 v4 x3)) else (K (-1) h)
abbrev zlJ4_indexOfChar_7 (sa : Nat → Nat) (f : Nat) (K : Int32 → zH → Prop) : Nat → zH → Option Nat → Int32 → Int32 → Int32 → Prop := zlp (fun R7 h v0 v3 v4 v5 => zbJ4_indexOfChar_7 sa f K R7 h v0 v3 v4 v5) (fun _ _ _ _ _ => False)
def zfJ4_indexOfChar (sa : Nat → Nat) (f : Nat) (h : zH) (a0 : Option Nat) (a1 : Int32) (a2 : Int32) (a3 : Int32) (K : Int32 → zH → Prop) : Prop := ∀ x1 : Int32, x1 = a1.toInt8.toInt32 → zlJ4_indexOfChar_7 sa f K f h a0 a3 x1 a2
def zfJ4_indexOf (sa : Nat → Nat) (f : Nat) (h : zH) (a0 : Option Nat) (a1 : Int32) (a2 : Int32) (a3 : Int32) (K : Int32 → zH → Prop) : Prop := zfJ4_canEncode sa f h a1 fun x1 h2 => if x1 = 0 then (K (-1) h2) else (∀ x3 : Int32, x3 = (if a2 < (0 : Int32) then (0 : Int32) else a2) → tlen sa a0 fun x4 => ∀ x5 : Int32, x5 = (if x4 < a3 then x4 else a3) → if x3 < x5 then (zfJ4_indexOfChar sa f h2 a0 a1 x3 x5 fun x6 h7 => K x6 h7) else (K (-1) h2))
def zfJ3_indexOf_2 (sa : Nat → Nat) (f : Nat) (h : zH) (t0 : Option Nat) (a1 : Int32) (a2 : Int32) (K : Int32 → zH → Prop) : Prop := trc sa t0 (zfJ3_isLatin1 sa f h t0 fun x1 h2 => if x1 = 0 then (tval sa t0 fun r3 => trc sa t0 (zfJ3_length sa f h2 t0 fun x4 h5 => False)) else (tval sa t0 fun r6 => trc sa t0 (zfJ3_length sa f h2 t0 fun x7 h8 => zfJ4_indexOf sa f h8 r6 a1 a2 x7 fun x9 h10 => K x9 h10)))
def zfJ3_indexOf (sa : Nat → Nat) (f : Nat) (h : zH) (t0 : Option Nat) (a1 : Int32) (K : Int32 → zH → Prop) : Prop := trc sa t0 (zfJ3_indexOf_2 sa f h t0 a1 0 fun x1 h2 => K x1 h2)
set_option maxHeartbeats 4000000 in
theorem zwJ3_coder {sa : Nat → Nat} {G : zG} {f : Nat} {K : Int32 → zH → Prop} (hG : zOk sa G cJ3_coder 1 RJ3 "coder" (some .byte) 1 20 (zKi K)) {h : zH} {mc ms : Nat} {t0 : Option Nat} (hF : zfJ3_coder sa f h t0 K) : zW G 0 h mc ms [(0, R_ t0)] [] := by
  unfold zfJ3_coder at hF
  refine r_gets_cs hG q484 dJ3_coder_0 ?_
  refine r_if_eq hG 13 dJ3_coder_3 (by decide) hF (fun hF => ?_) (fun hF => ?_)
  · skip
    refine r_iconst hG (v := 1) dJ3_coder_13 ztkc1 ?_
    exact r_nret hG dJ3_coder_14 hF.1 (zKi_in hF.2)
  · skip
    refine r_aload_n hG 0 dJ3_coder_6 rfl ?_
    refine r_tcod hG q1776 dJ3_coder_7 hF fun x1 hF => ?_
    refine r_goto hG 14 dJ3_coder_10 (by decide) ?_
    exact r_nret hG dJ3_coder_14 hF.1 (zKi_in hF.2)
theorem zmJ3_coder (sa : Nat → Nat) (f : Nat) (h : zH) (mc ms : Nat) (t0 : Option Nat) (K : Int32 → zH → Prop) : zCt sa yJ3_coder (ws_ yJ3_coder cJ3_coder 1 (some .byte)) 1 20 h mc ms [R_ t0] (zfJ3_coder sa f h t0 K) (zKi K) := fun l D sz hfl hsa => zMet_of hfl hsa (by decide) rfl (zdec rfl) (fun G hG hF => zwJ3_coder hG hF)
set_option maxHeartbeats 4000000 in
theorem zwJ3_length {sa : Nat → Nat} {G : zG} {f : Nat} {K : Int32 → zH → Prop} (hG : zOk sa G cJ3_length 1 RJ3 "length" (some .int) 2 40 (zKi K)) {h : zH} {mc ms : Nat} {t0 : Option Nat} (hF : zfJ3_length sa f h t0 K) : zW G 0 h mc ms [(0, R_ t0)] [] := by
  unfold zfJ3_length at hF
  refine r_aload_n hG 0 dJ3_length_0 rfl ?_
  refine r_tval hG q1775 dJ3_length_1 hF fun r1 hF => ?_
  refine r_tlen hG dJ3_length_4 hF fun x2 hF => ?_
  refine r_aload_n hG 0 dJ3_length_5 rfl ?_
  refine r_callTi hG (hM := zmJ3_coder sa f _ _ _ _ _) (hg := zgJ3_335) (hd0 := zhv_J3_coder) (hr := ⟨zdec rfl, zdec rfl⟩) (mc1 := 0) (ms1 := 0) (mc2 := mc) (ms2 := ms) (hm := z0a) (hs0 := z0a) (hd := dJ3_length_6) (hst := rfl) (hn := rfl) (hlen := zdec rfl) (hF := hF) (kk := fun x3 h4 hF => ?_)
  refine r_ishr hG dJ3_length_9 ?_
  exact r_iret hG dJ3_length_10 (zKi_in hF)
theorem zmJ3_length (sa : Nat → Nat) (f : Nat) (h : zH) (mc ms : Nat) (t0 : Option Nat) (K : Int32 → zH → Prop) : zCt sa yJ3_length (ws_ yJ3_length cJ3_length 1 (some .int)) 2 40 h mc ms [R_ t0] (zfJ3_length sa f h t0 K) (zKi K) := fun l D sz hfl hsa => zMet_of hfl hsa (by decide) rfl (zdec rfl) (fun G hG hF => zwJ3_length hG hF)
set_option maxHeartbeats 4000000 in
theorem zwJ3_isLatin1 {sa : Nat → Nat} {G : zG} {f : Nat} {K : Int32 → zH → Prop} (hG : zOk sa G cJ3_isLatin1 1 RJ3 "isLatin1" (some .boolean) 1 20 (zKi K)) {h : zH} {mc ms : Nat} {t0 : Option Nat} (hF : zfJ3_isLatin1 sa f h t0 K) : zW G 0 h mc ms [(0, R_ t0)] [] := by
  unfold zfJ3_isLatin1 at hF
  refine r_gets_cs hG q484 dJ3_isLatin1_0 ?_
  refine r_if_eq hG 17 dJ3_isLatin1_3 (by decide) hF (fun hF => ?_) (fun hF => ?_)
  · skip
    refine r_iconst hG (v := 0) dJ3_isLatin1_17 ztkc0 ?_
    exact r_zret hG dJ3_isLatin1_18 (zn_z zbl0) (zKi_in hF)
  · skip
    refine r_aload_n hG 0 dJ3_isLatin1_6 rfl ?_
    refine r_tcod hG q1776 dJ3_isLatin1_7 hF fun x1 hF => ?_
    refine r_if_ne hG 17 dJ3_isLatin1_10 (by decide) hF (fun hF => ?_) (fun hF => ?_)
    · skip
      refine r_iconst hG (v := 0) dJ3_isLatin1_17 ztkc0 ?_
      exact r_zret hG dJ3_isLatin1_18 (zn_z zbl0) (zKi_in hF)
    · skip
      refine r_iconst hG (v := 1) dJ3_isLatin1_13 ztkc1 ?_
      refine r_goto hG 18 dJ3_isLatin1_14 (by decide) ?_
      exact r_zret hG dJ3_isLatin1_18 (zn_z zbl1) (zKi_in hF)
theorem zmJ3_isLatin1 (sa : Nat → Nat) (f : Nat) (h : zH) (mc ms : Nat) (t0 : Option Nat) (K : Int32 → zH → Prop) : zCt sa yJ3_isLatin1 (ws_ yJ3_isLatin1 cJ3_isLatin1 1 (some .boolean)) 1 20 h mc ms [R_ t0] (zfJ3_isLatin1 sa f h t0 K) (zKi K) := fun l D sz hfl hsa => zMet_of hfl hsa (by decide) rfl (zdec rfl) (fun G hG hF => zwJ3_isLatin1 hG hF)
set_option maxHeartbeats 4000000 in
theorem zwJ5_checkIndex_9 {sa : Nat → Nat} {G : zG} {f : Nat} {K : Int32 → zH → Prop} (hG : zOk sa G cJ5_checkIndex 3 RJ5 "checkIndex" (some .int) 1 20 (zKi K)) {h : zH} {mc ms : Nat} {v0 : Int32} {v1 : Int32} {v2 : Option Nat} (hF : zjJ5_checkIndex_9 sa f K h v0 v1 v2) : zW G 9 h mc ms [(0, I_ v0), (1, I_ v1), (2, R_ v2)] [] := by
  unfold zjJ5_checkIndex_9 at hF
  refine r_aload_n hG 2 dJ5_checkIndex_9 rfl ?_
  refine r_iload_n hG 0 dJ5_checkIndex_10 rfl ?_
  refine r_iload_n hG 1 dJ5_checkIndex_11 rfl ?_
  exact False.elim hF
set_option maxHeartbeats 4000000 in
theorem zwJ5_checkIndex {sa : Nat → Nat} {G : zG} {f : Nat} {K : Int32 → zH → Prop} (hG : zOk sa G cJ5_checkIndex 3 RJ5 "checkIndex" (some .int) 1 20 (zKi K)) {h : zH} {mc ms : Nat} {a0 : Int32} {a1 : Int32} {a2 : Option Nat} (hF : zfJ5_checkIndex sa f h a0 a1 a2 K) : zW G 0 h mc ms [(0, I_ a0), (1, I_ a1), (2, R_ a2)] [] := by
  unfold zfJ5_checkIndex at hF
  refine r_iload_n hG 0 dJ5_checkIndex_0 rfl ?_
  refine r_if_lt hG 9 dJ5_checkIndex_1 (by decide) hF (fun hF => ?_) (fun hF => ?_)
  · skip
    exact zwJ5_checkIndex_9 hG hF
  · skip
    refine r_iload_n hG 0 dJ5_checkIndex_4 rfl ?_
    refine r_iload_n hG 1 dJ5_checkIndex_5 rfl ?_
    refine r_icmp_lt hG 16 dJ5_checkIndex_6 (by decide) hF (fun hF => ?_) (fun hF => ?_)
    · skip
      refine r_iload_n hG 0 dJ5_checkIndex_16 rfl ?_
      exact r_iret hG dJ5_checkIndex_17 (zKi_in hF)
    · skip
      exact zwJ5_checkIndex_9 hG hF
theorem zmJ5_checkIndex (sa : Nat → Nat) (f : Nat) (h : zH) (mc ms : Nat) (a0 : Int32) (a1 : Int32) (a2 : Option Nat) (K : Int32 → zH → Prop) : zCt sa yJ5_checkIndex (ws_ yJ5_checkIndex cJ5_checkIndex 3 (some .int)) 1 20 h mc ms [I_ a0, I_ a1, R_ a2] (zfJ5_checkIndex sa f h a0 a1 a2 K) (zKi K) := fun l D sz hfl hsa => zMet_of hfl hsa (by decide) rfl (zdec rfl) (fun G hG hF => zwJ5_checkIndex hG hF)
set_option maxHeartbeats 4000000 in
theorem zwJ3_checkIndex {sa : Nat → Nat} {G : zG} {f : Nat} {K : zH → Prop} (hG : zOk sa G cJ3_checkIndex 2 RJ3 "checkIndex" none 2 42 (zKv K)) {h : zH} {mc ms : Nat} {a0 : Int32} {a1 : Int32} (hF : zfJ3_checkIndex sa f h a0 a1 K) : zW G 0 h mc ms [(0, I_ a0), (1, I_ a1)] [] := by
  unfold zfJ3_checkIndex at hF
  refine r_iload_n hG 0 dJ3_checkIndex_0 rfl ?_
  refine r_iload_n hG 1 dJ3_checkIndex_1 rfl ?_
  refine r_gets_sf hG q500 dJ3_checkIndex_2 fun r1 => ?_
  replace hF := hF r1
  refine r_callSi hG (hM := zmJ5_checkIndex sa f _ _ _ _ _ _ _) (hg := zgJ3_1059) (hd0 := zhs_J5_checkIndex) (hr := ⟨zdec rfl, zdec rfl⟩) (mc1 := 0) (ms1 := 0) (mc2 := mc) (ms2 := ms) (hm := z0a) (hs0 := z0a) (hd := dJ3_checkIndex_5) (hst := rfl) (hn := rfl) (hlen := zdec rfl) (hF := hF) (kk := fun x2 h3 hF => ?_)
  refine r_pop hG dJ3_checkIndex_8 rfl ?_
  exact r_vret hG dJ3_checkIndex_9 (zKv_in hF)
theorem zmJ3_checkIndex (sa : Nat → Nat) (f : Nat) (h : zH) (mc ms : Nat) (a0 : Int32) (a1 : Int32) (K : zH → Prop) : zCt sa yJ3_checkIndex (ws_ yJ3_checkIndex cJ3_checkIndex 2 none) 2 42 h mc ms [I_ a0, I_ a1] (zfJ3_checkIndex sa f h a0 a1 K) (zKv K) := fun l D sz hfl hsa => zMet_of hfl hsa (by decide) rfl (zdec rfl) (fun G hG hF => zwJ3_checkIndex hG hF)
set_option maxHeartbeats 4000000 in
theorem zwJ4_charAt {sa : Nat → Nat} {G : zG} {f : Nat} {K : Int32 → zH → Prop} (hG : zOk sa G cJ4_charAt 2 RJ4 "charAt" (some .char) 3 63 (zKi K)) {h : zH} {mc ms : Nat} {a0 : Option Nat} {a1 : Int32} (hF : zfJ4_charAt sa f h a0 a1 K) : zW G 0 h mc ms [(0, R_ a0), (1, I_ a1)] [] := by
  unfold zfJ4_charAt at hF
  refine r_iload_n hG 1 dJ4_charAt_0 rfl ?_
  refine r_aload_n hG 0 dJ4_charAt_1 rfl ?_
  refine r_tlen hG dJ4_charAt_2 hF fun x1 hF => ?_
  refine r_callSv hG (hM := zmJ3_checkIndex sa f _ _ _ _ _ _) (hg := zgJ4_9) (hd0 := zhs_J3_checkIndex) (hr := ⟨zdec rfl, zdec rfl⟩) (mc1 := 0) (ms1 := 0) (mc2 := mc) (ms2 := ms) (hm := z0a) (hs0 := z0a) (hd := dJ4_charAt_3) (hst := rfl) (hn := rfl) (hlen := zdec rfl) (hF := hF) (kk := fun h3 hF => ?_)
  refine r_aload_n hG 0 dJ4_charAt_6 rfl ?_
  refine r_iload_n hG 1 dJ4_charAt_7 rfl ?_
  refine r_tld hG dJ4_charAt_8 hF fun x4 hF => ?_
  refine r_sipush hG (v := 255) dJ4_charAt_9 ztks255 ?_
  refine r_iand hG dJ4_charAt_12 ?_
  refine r_i2c hG dJ4_charAt_13 ?_
  exact r_nret hG dJ4_charAt_14 hF.1 (zKi_in hF.2)
theorem zmJ4_charAt (sa : Nat → Nat) (f : Nat) (h : zH) (mc ms : Nat) (a0 : Option Nat) (a1 : Int32) (K : Int32 → zH → Prop) : zCt sa yJ4_charAt (ws_ yJ4_charAt cJ4_charAt 2 (some .char)) 3 63 h mc ms [R_ a0, I_ a1] (zfJ4_charAt sa f h a0 a1 K) (zKi K) := fun l D sz hfl hsa => zMet_of hfl hsa (by decide) rfl (zdec rfl) (fun G hG hF => zwJ4_charAt hG hF)
set_option maxHeartbeats 4000000 in
theorem zwJ3_charAt {sa : Nat → Nat} {G : zG} {f : Nat} {K : Int32 → zH → Prop} (hG : zOk sa G cJ3_charAt 2 RJ3 "charAt" (some .char) 4 84 (zKi K)) {h : zH} {mc ms : Nat} {t0 : Option Nat} {a1 : Int32} (hF : zfJ3_charAt sa f h t0 a1 K) : zW G 0 h mc ms [(0, R_ t0), (1, I_ a1)] [] := by
  unfold zfJ3_charAt at hF
  refine r_aload_n hG 0 dJ3_charAt_0 rfl ?_
  refine r_callTi hG (hM := zmJ3_isLatin1 sa f _ _ _ _ _) (hg := zgJ3_492) (hd0 := zhv_J3_isLatin1) (hr := ⟨zdec rfl, zdec rfl⟩) (mc1 := 0) (ms1 := 0) (mc2 := mc) (ms2 := ms) (hm := z0a) (hs0 := z0a) (hd := dJ3_charAt_1) (hst := rfl) (hn := rfl) (hlen := zdec rfl) (hF := hF) (kk := fun x1 h2 hF => ?_)
  refine r_if_eq hG 16 dJ3_charAt_4 (by decide) hF (fun hF => ?_) (fun hF => ?_)
  · skip
    refine r_aload_n hG 0 dJ3_charAt_16 rfl ?_
    refine r_tval hG q1775 dJ3_charAt_17 hF fun r3 hF => ?_
    refine r_iload_n hG 1 dJ3_charAt_20 rfl ?_
    exact False.elim hF
  · skip
    refine r_aload_n hG 0 dJ3_charAt_7 rfl ?_
    refine r_tval hG q1775 dJ3_charAt_8 hF fun r4 hF => ?_
    refine r_iload_n hG 1 dJ3_charAt_11 rfl ?_
    refine r_callSi hG (hM := zmJ4_charAt sa f _ _ _ _ _ _) (hg := zgJ3_495) (hd0 := zhs_J4_charAt) (hr := ⟨zdec rfl, zdec rfl⟩) (mc1 := 0) (ms1 := 0) (mc2 := mc) (ms2 := ms) (hm := z0a) (hs0 := z0a) (hd := dJ3_charAt_12) (hst := rfl) (hn := rfl) (hlen := zdec rfl) (hF := hF) (kk := fun x5 h6 hF => ?_)
    exact r_nret hG dJ3_charAt_15 hF.1 (zKi_in hF.2)
theorem zmJ3_charAt (sa : Nat → Nat) (f : Nat) (h : zH) (mc ms : Nat) (t0 : Option Nat) (a1 : Int32) (K : Int32 → zH → Prop) : zCt sa yJ3_charAt (ws_ yJ3_charAt cJ3_charAt 2 (some .char)) 4 84 h mc ms [R_ t0, I_ a1] (zfJ3_charAt sa f h t0 a1 K) (zKi K) := fun l D sz hfl hsa => zMet_of hfl hsa (by decide) rfl (zdec rfl) (fun G hG hF => zwJ3_charAt hG hF)
set_option maxHeartbeats 4000000 in
theorem zwJ4_canEncode {sa : Nat → Nat} {G : zG} {f : Nat} {K : Int32 → zH → Prop} (hG : zOk sa G cJ4_canEncode 1 RJ4 "canEncode" (some .boolean) 1 20 (zKi K)) {h : zH} {mc ms : Nat} {a0 : Int32} (hF : zfJ4_canEncode sa f h a0 K) : zW G 0 h mc ms [(0, I_ a0)] [] := by
  unfold zfJ4_canEncode at hF
  refine r_iload_n hG 0 dJ4_canEncode_0 rfl ?_
  refine r_if_lt hG 15 dJ4_canEncode_1 (by decide) hF (fun hF => ?_) (fun hF => ?_)
  · skip
    refine r_iconst hG (v := 0) dJ4_canEncode_15 ztkc0 ?_
    exact r_zret hG dJ4_canEncode_16 (zn_z zbl0) (zKi_in hF)
  · skip
    refine r_iload_n hG 0 dJ4_canEncode_4 rfl ?_
    refine r_sipush hG (v := 255) dJ4_canEncode_5 ztks255 ?_
    refine r_icmp_gt hG 15 dJ4_canEncode_8 (by decide) hF (fun hF => ?_) (fun hF => ?_)
    · skip
      refine r_iconst hG (v := 0) dJ4_canEncode_15 ztkc0 ?_
      exact r_zret hG dJ4_canEncode_16 (zn_z zbl0) (zKi_in hF)
    · skip
      refine r_iconst hG (v := 1) dJ4_canEncode_11 ztkc1 ?_
      refine r_goto hG 16 dJ4_canEncode_12 (by decide) ?_
      exact r_zret hG dJ4_canEncode_16 (zn_z zbl1) (zKi_in hF)
theorem zmJ4_canEncode (sa : Nat → Nat) (f : Nat) (h : zH) (mc ms : Nat) (a0 : Int32) (K : Int32 → zH → Prop) : zCt sa yJ4_canEncode (ws_ yJ4_canEncode cJ4_canEncode 1 (some .boolean)) 1 20 h mc ms [I_ a0] (zfJ4_canEncode sa f h a0 K) (zKi K) := fun l D sz hfl hsa => zMet_of hfl hsa (by decide) rfl (zdec rfl) (fun G hG hF => zwJ4_canEncode hG hF)
set_option maxHeartbeats 4000000 in
theorem zwJ4_indexOfChar_7 {sa : Nat → Nat} {G : zG} {f : Nat} {K : Int32 → zH → Prop} (hG : zOk sa G cJ4_indexOfChar 6 RJ4 "indexOfChar" (some .int) 1 20 (zKi K)) : ∀ (n : Nat) (h : zH) (mc ms : Nat) (v0 : Option Nat) (v3 : Int32) (v4 : Int32) (v5 : Int32), zlJ4_indexOfChar_7 sa f K n h v0 v3 v4 v5 → zW G 7 h mc ms [(0, R_ v0), (3, I_ v3), (4, I_ v4), (5, I_ v5)] [] := by
  intro n
  induction n with
  | zero => exact fun _ _ _ _ _ _ _ hF => False.elim hF
  | succ n hR7 =>
    intro h mc ms v0 v3 v4 v5 hF
    replace hF : zbJ4_indexOfChar_7 sa f K (zlJ4_indexOfChar_7 sa f K n) h v0 v3 v4 v5 := hF
    unfold zbJ4_indexOfChar_7 at hF
    refine r_iload hG 3 dJ4_indexOfChar_7 rfl ?_
    refine r_iload_n hG 1 dJ4_indexOfChar_9 rfl ?_
    refine r_icmp_ge hG 31 dJ4_indexOfChar_10 (by decide) hF (fun hF => ?_) (fun hF => ?_)
    · skip
      refine r_iconst hG (v := -1) dJ4_indexOfChar_31 ztkcm1 ?_
      exact r_iret hG dJ4_indexOfChar_32 (zKi_in hF)
    · skip
      refine r_aload_n hG 0 dJ4_indexOfChar_13 rfl ?_
      refine r_iload hG 3 dJ4_indexOfChar_14 rfl ?_
      refine r_tld hG dJ4_indexOfChar_16 hF fun x2 hF => ?_
      refine r_iload hG 2 dJ4_indexOfChar_17 rfl ?_
      refine r_icmp_ne hG 25 dJ4_indexOfChar_19 (by decide) hF (fun hF => ?_) (fun hF => ?_)
      · skip
        refine r_iincN hG 3 (fun x3 => [(5, I_ x3), (0, R_ v0), (3, I_ v3), (4, I_ v4)]) dJ4_indexOfChar_25 rfl ztkc1 (by decide) (fun _ => rfl) hF fun x3 hF => ?_
        refine r_goto hG 7 dJ4_indexOfChar_28 (by decide) ?_
        refine r_sub hG [1, 2, 3, 0] rfl ?_
        exact hR7 _ _ _ _ _ _ _ hF
      · skip
        refine r_iload hG 3 dJ4_indexOfChar_22 rfl ?_
        exact r_iret hG dJ4_indexOfChar_24 (zKi_in hF)
set_option maxHeartbeats 4000000 in
theorem zwJ4_indexOfChar {sa : Nat → Nat} {G : zG} {f : Nat} {K : Int32 → zH → Prop} (hG : zOk sa G cJ4_indexOfChar 6 RJ4 "indexOfChar" (some .int) 1 20 (zKi K)) {h : zH} {mc ms : Nat} {a0 : Option Nat} {a1 : Int32} {a2 : Int32} {a3 : Int32} (hF : zfJ4_indexOfChar sa f h a0 a1 a2 a3 K) : zW G 0 h mc ms [(0, R_ a0), (1, I_ a1), (2, I_ a2), (3, I_ a3)] [] := by
  unfold zfJ4_indexOfChar at hF
  refine r_iload_n hG 1 dJ4_indexOfChar_0 rfl ?_
  refine r_i2b hG dJ4_indexOfChar_1 ?_
  refine r_nameI hF fun x1 hF => ?_
  refine r_istore hG [(4, I_ x1), (0, R_ a0), (1, I_ a1), (2, I_ a2), (3, I_ a3)] dJ4_indexOfChar_2 (by decide) rfl ?_
  refine r_iload_n hG 3 dJ4_indexOfChar_4 rfl ?_
  refine r_istore hG [(5, I_ a2), (4, I_ x1), (0, R_ a0), (1, I_ a1), (2, I_ a2), (3, I_ a3)] dJ4_indexOfChar_5 (by decide) rfl ?_
  refine r_sub hG [2, 5, 1, 0] rfl ?_
  exact zwJ4_indexOfChar_7 hG f _ _ _ _ _ _ _ hF
theorem zmJ4_indexOfChar (sa : Nat → Nat) (f : Nat) (h : zH) (mc ms : Nat) (a0 : Option Nat) (a1 : Int32) (a2 : Int32) (a3 : Int32) (K : Int32 → zH → Prop) : zCt sa yJ4_indexOfChar (ws_ yJ4_indexOfChar cJ4_indexOfChar 6 (some .int)) 1 20 h mc ms [R_ a0, I_ a1, I_ a2, I_ a3] (zfJ4_indexOfChar sa f h a0 a1 a2 a3 K) (zKi K) := fun l D sz hfl hsa => zMet_of hfl hsa (by decide) rfl (zdec rfl) (fun G hG hF => zwJ4_indexOfChar hG hF)
set_option maxHeartbeats 4000000 in
theorem zwJ4_indexOf {sa : Nat → Nat} {G : zG} {f : Nat} {K : Int32 → zH → Prop} (hG : zOk sa G cJ4_indexOf 4 RJ4 "indexOf" (some .int) 2 45 (zKi K)) {h : zH} {mc ms : Nat} {a0 : Option Nat} {a1 : Int32} {a2 : Int32} {a3 : Int32} (hF : zfJ4_indexOf sa f h a0 a1 a2 a3 K) : zW G 0 h mc ms [(0, R_ a0), (1, I_ a1), (2, I_ a2), (3, I_ a3)] [] := by
  unfold zfJ4_indexOf at hF
  refine r_iload_n hG 1 dJ4_indexOf_0 rfl ?_
  refine r_callSi hG (hM := zmJ4_canEncode sa f _ _ _ _ _) (hg := zgJ4_88) (hd0 := zhs_J4_canEncode) (hr := ⟨zdec rfl, zdec rfl⟩) (mc1 := 0) (ms1 := 0) (mc2 := mc) (ms2 := ms) (hm := z0a) (hs0 := z0a) (hd := dJ4_indexOf_1) (hst := rfl) (hn := rfl) (hlen := zdec rfl) (hF := hF) (kk := fun x1 h2 hF => ?_)
  refine r_if_ne hG 9 dJ4_indexOf_4 (by decide) hF (fun hF => ?_) (fun hF => ?_)
  · skip
    refine r_iload_n hG 2 dJ4_indexOf_9 rfl ?_
    refine r_iconst hG (v := 0) dJ4_indexOf_10 ztkc0 ?_
    refine r_mmax hG q549 q311 q111 q312 ⟨zdec rfl, zdec rfl⟩ dJ4_indexOf_11 ?_
    refine r_nameI hF fun x3 hF => ?_
    refine r_istore_n hG [(2, I_ x3), (0, R_ a0), (1, I_ a1), (3, I_ a3)] dJ4_indexOf_14 (by decide) rfl ?_
    refine r_iload_n hG 3 dJ4_indexOf_15 rfl ?_
    refine r_aload_n hG 1 dJ4_indexOf_16 rfl ?_
    refine r_tlen hG dJ4_indexOf_17 hF fun x4 hF => ?_
    refine r_mmin hG q550 q308 q111 q309 ⟨zdec rfl, zdec rfl⟩ dJ4_indexOf_18 ?_
    refine r_nameI hF fun x5 hF => ?_
    refine r_istore_n hG [(3, I_ x5), (2, I_ x3), (0, R_ a0), (1, I_ a1)] dJ4_indexOf_21 (by decide) rfl ?_
    refine r_iload_n hG 1 dJ4_indexOf_22 rfl ?_
    refine r_iload_n hG 0 dJ4_indexOf_23 rfl ?_
    refine r_icmp_lt hG 29 dJ4_indexOf_24 (by decide) hF (fun hF => ?_) (fun hF => ?_)
    · skip
      refine r_aload_n hG 2 dJ4_indexOf_29 rfl ?_
      refine r_iload_n hG 3 dJ4_indexOf_30 rfl ?_
      refine r_iload_n hG 1 dJ4_indexOf_31 rfl ?_
      refine r_iload_n hG 0 dJ4_indexOf_32 rfl ?_
      refine r_callSi hG (hM := zmJ4_indexOfChar sa f _ _ _ _ _ _ _ _) (hg := zgJ4_95) (hd0 := zhs_J4_indexOfChar) (hr := ⟨zdec rfl, zdec rfl⟩) (mc1 := 0) (ms1 := 0) (mc2 := mc) (ms2 := ms) (hm := z0a) (hs0 := z0a) (hd := dJ4_indexOf_33) (hst := rfl) (hn := rfl) (hlen := zdec rfl) (hF := hF) (kk := fun x6 h7 hF => ?_)
      exact r_iret hG dJ4_indexOf_36 (zKi_in hF)
    · skip
      refine r_iconst hG (v := -1) dJ4_indexOf_27 ztkcm1 ?_
      exact r_iret hG dJ4_indexOf_28 (zKi_in hF)
  · skip
    refine r_iconst hG (v := -1) dJ4_indexOf_7 ztkcm1 ?_
    exact r_iret hG dJ4_indexOf_8 (zKi_in hF)
theorem zmJ4_indexOf (sa : Nat → Nat) (f : Nat) (h : zH) (mc ms : Nat) (a0 : Option Nat) (a1 : Int32) (a2 : Int32) (a3 : Int32) (K : Int32 → zH → Prop) : zCt sa yJ4_indexOf (ws_ yJ4_indexOf cJ4_indexOf 4 (some .int)) 2 45 h mc ms [R_ a0, I_ a1, I_ a2, I_ a3] (zfJ4_indexOf sa f h a0 a1 a2 a3 K) (zKi K) := fun l D sz hfl hsa => zMet_of hfl hsa (by decide) rfl (zdec rfl) (fun G hG hF => zwJ4_indexOf hG hF)
set_option maxHeartbeats 4000000 in
theorem zwJ3_indexOf_2 {sa : Nat → Nat} {G : zG} {f : Nat} {K : Int32 → zH → Prop} (hG : zOk sa G cJ3_indexOf_2 3 RJ3 "indexOf" (some .int) 3 68 (zKi K)) {h : zH} {mc ms : Nat} {t0 : Option Nat} {a1 : Int32} {a2 : Int32} (hF : zfJ3_indexOf_2 sa f h t0 a1 a2 K) : zW G 0 h mc ms [(0, R_ t0), (1, I_ a1), (2, I_ a2)] [] := by
  unfold zfJ3_indexOf_2 at hF
  refine r_aload_n hG 0 dJ3_indexOf_2_0 rfl ?_
  refine r_callTi hG (hM := zmJ3_isLatin1 sa f _ _ _ _ _) (hg := zgJ3_492) (hd0 := zhv_J3_isLatin1) (hr := ⟨zdec rfl, zdec rfl⟩) (mc1 := 0) (ms1 := 0) (mc2 := mc) (ms2 := ms) (hm := z0a) (hs0 := z0a) (hd := dJ3_indexOf_2_1) (hst := rfl) (hn := rfl) (hlen := zdec rfl) (hF := hF) (kk := fun x1 h2 hF => ?_)
  refine r_if_eq hG 23 dJ3_indexOf_2_4 (by decide) hF (fun hF => ?_) (fun hF => ?_)
  · skip
    refine r_aload_n hG 0 dJ3_indexOf_2_23 rfl ?_
    refine r_tval hG q1775 dJ3_indexOf_2_24 hF fun r3 hF => ?_
    refine r_iload_n hG 1 dJ3_indexOf_2_27 rfl ?_
    refine r_iload_n hG 2 dJ3_indexOf_2_28 rfl ?_
    refine r_aload_n hG 0 dJ3_indexOf_2_29 rfl ?_
    refine r_callTi hG (hM := zmJ3_length sa f _ _ _ _ _) (hg := zgJ3_505) (hd0 := zhv_J3_length) (hr := ⟨zdec rfl, zdec rfl⟩) (mc1 := 0) (ms1 := 0) (mc2 := mc) (ms2 := ms) (hm := z0a) (hs0 := z0a) (hd := dJ3_indexOf_2_30) (hst := rfl) (hn := rfl) (hlen := zdec rfl) (hF := hF) (kk := fun x4 h5 hF => ?_)
    exact False.elim hF
  · skip
    refine r_aload_n hG 0 dJ3_indexOf_2_7 rfl ?_
    refine r_tval hG q1775 dJ3_indexOf_2_8 hF fun r6 hF => ?_
    refine r_iload_n hG 1 dJ3_indexOf_2_11 rfl ?_
    refine r_iload_n hG 2 dJ3_indexOf_2_12 rfl ?_
    refine r_aload_n hG 0 dJ3_indexOf_2_13 rfl ?_
    refine r_callTi hG (hM := zmJ3_length sa f _ _ _ _ _) (hg := zgJ3_505) (hd0 := zhv_J3_length) (hr := ⟨zdec rfl, zdec rfl⟩) (mc1 := 0) (ms1 := 0) (mc2 := mc) (ms2 := ms) (hm := z0a) (hs0 := z0a) (hd := dJ3_indexOf_2_14) (hst := rfl) (hn := rfl) (hlen := zdec rfl) (hF := hF) (kk := fun x7 h8 hF => ?_)
    refine r_callSi hG (hM := zmJ4_indexOf sa f _ _ _ _ _ _ _ _) (hg := zgJ3_637) (hd0 := zhs_J4_indexOf) (hr := ⟨zdec rfl, zdec rfl⟩) (mc1 := 0) (ms1 := 0) (mc2 := mc) (ms2 := ms) (hm := z0a) (hs0 := z0a) (hd := dJ3_indexOf_2_17) (hst := rfl) (hn := rfl) (hlen := zdec rfl) (hF := hF) (kk := fun x9 h10 hF => ?_)
    refine r_goto hG 36 dJ3_indexOf_2_20 (by decide) ?_
    exact r_iret hG dJ3_indexOf_2_36 (zKi_in hF)
theorem zmJ3_indexOf_2 (sa : Nat → Nat) (f : Nat) (h : zH) (mc ms : Nat) (t0 : Option Nat) (a1 : Int32) (a2 : Int32) (K : Int32 → zH → Prop) : zCt sa yJ3_indexOf_2 (ws_ yJ3_indexOf_2 cJ3_indexOf_2 3 (some .int)) 3 68 h mc ms [R_ t0, I_ a1, I_ a2] (zfJ3_indexOf_2 sa f h t0 a1 a2 K) (zKi K) := fun l D sz hfl hsa => zMet_of hfl hsa (by decide) rfl (zdec rfl) (fun G hG hF => zwJ3_indexOf_2 hG hF)
set_option maxHeartbeats 4000000 in
theorem zwJ3_indexOf {sa : Nat → Nat} {G : zG} {f : Nat} {K : Int32 → zH → Prop} (hG : zOk sa G cJ3_indexOf 2 RJ3 "indexOf" (some .int) 4 90 (zKi K)) {h : zH} {mc ms : Nat} {t0 : Option Nat} {a1 : Int32} (hF : zfJ3_indexOf sa f h t0 a1 K) : zW G 0 h mc ms [(0, R_ t0), (1, I_ a1)] [] := by
  unfold zfJ3_indexOf at hF
  refine r_aload_n hG 0 dJ3_indexOf_0 rfl ?_
  refine r_iload_n hG 1 dJ3_indexOf_1 rfl ?_
  refine r_iconst hG (v := 0) dJ3_indexOf_2 ztkc0 ?_
  refine r_callTi hG (hM := zmJ3_indexOf_2 sa f _ _ _ _ _ _ _) (hg := zgJ3_633) (hd0 := zhv_J3_indexOf_2) (hr := ⟨zdec rfl, zdec rfl⟩) (mc1 := 0) (ms1 := 0) (mc2 := mc) (ms2 := ms) (hm := z0a) (hs0 := z0a) (hd := dJ3_indexOf_3) (hst := rfl) (hn := rfl) (hlen := zdec rfl) (hF := hF) (kk := fun x1 h2 hF => ?_)
  exact r_iret hG dJ3_indexOf_6 (zKi_in hF)
theorem zmJ3_indexOf (sa : Nat → Nat) (f : Nat) (h : zH) (mc ms : Nat) (t0 : Option Nat) (a1 : Int32) (K : Int32 → zH → Prop) : zCt sa yJ3_indexOf (ws_ yJ3_indexOf cJ3_indexOf 2 (some .int)) 4 90 h mc ms [R_ t0, I_ a1] (zfJ3_indexOf sa f h t0 a1 K) (zKi K) := fun l D sz hfl hsa => zMet_of hfl hsa (by decide) rfl (zdec rfl) (fun G hG hF => zwJ3_indexOf hG hF)
/-! what they answer at the text constants -/
section
variable {sa : Nat → Nat} {f : Nat} {h : zH} {j : Nat}
theorem tL_coder {K : Int32 → zH → Prop} (hj : j < 14) (hk : K 0 h) : zfJ3_coder sa f h (some (sa j)) K := by
  unfold zfJ3_coder
  rw [if_neg (by decide)]
  exact ⟨j, hj, rfl, rfl, hk⟩
theorem tL_length {K : Int32 → zH → Prop} (hj : j < 14) (hk : K (Int32.ofNat (zsl.getD j 0)) h) : zfJ3_length sa f h (some (sa j)) K := by
  have e : ∀ j : Nat, j < 14 → Int32.ofNat (zsl.getD j 0) >>> ((0 : Int32) &&& 31) = Int32.ofNat (zsl.getD j 0) := by decide
  refine ⟨j, hj, rfl, j, hj, rfl, j, hj, rfl, tL_coder hj ?_⟩
  rw [e j hj]
  exact hk
theorem tL_lat {K : Int32 → zH → Prop} (hj : j < 14) (hk : K 1 h) : zfJ3_isLatin1 sa f h (some (sa j)) K := by
  unfold zfJ3_isLatin1
  rw [if_neg (by decide)]
  refine ⟨j, hj, rfl, ?_⟩
  show if (0 : Int32) = 0 then K 1 h else K 0 h
  rw [if_pos rfl]
  exact hk
theorem tL_byte : ∀ j : Nat, j < 14 → ∀ k : Nat, k < zsl.getD j 0 → ((((zsb.getD j []).getD k 0) &&& 255).toUInt32 % 65536).toInt32 = (zsb.getD j []).getD k 0 ∧ ((zsb.getD j []).getD k 0).toUInt32.toUInt16.toUInt32.toInt32 = (zsb.getD j []).getD k 0 := by decide +kernel
theorem tL_lt {i : Int32} {n : Nat} (hn : n < 1000) (hin : vp_in i n) : ¬ i < 0 ∧ i < Int32.ofNat n ∧ i.toNatClampNeg < n := by
  have h0 : ¬ i < 0 := fun q => hin (Or.inl q)
  have h1 : i.toNatClampNeg < n := Nat.not_le.mp fun q => hin (Or.inr q)
  refine ⟨h0, ?_, h1⟩
  have e1 : (Int32.ofNat n).toInt = n := Int32.toInt_ofNat_of_lt (by omega)
  rw [Int32.lt_iff_toInt_lt, e1]
  have e2 : i.toNatClampNeg = i.toInt.toNat := rfl
  omega
theorem tL_charAt {i : Int32} {K : Int32 → zH → Prop} (hj : j < 14) (hin : vp_in i (zsl.getD j 0)) (hk : K ((zsb.getD j []).getD i.toNatClampNeg 0) h) : zfJ3_charAt sa f h (some (sa j)) i K := by
  have hn : ∀ j : Nat, j < 14 → zsl.getD j 0 < 1000 := by decide
  obtain ⟨h0, h1, h2⟩ := tL_lt (hn j hj) hin
  obtain ⟨e1, e2⟩ := tL_byte j hj _ h2
  refine ⟨j, hj, rfl, tL_lat hj ?_⟩
  rw [if_neg (by decide)]
  refine ⟨j, hj, rfl, j, hj, rfl, ?_⟩
  unfold zfJ3_checkIndex
  intro r
  unfold zfJ5_checkIndex
  rw [if_neg h0, if_pos h1]
  refine ⟨j, hj, rfl, hin, ?_⟩
  show narrow .char (.int (((zsb.getD j []).getD i.toNatClampNeg 0 &&& 255).toUInt32 % 65536).toInt32) = .int (((zsb.getD j []).getD i.toNatClampNeg 0 &&& 255).toUInt32 % 65536).toInt32 ∧ narrow .char (.int (((zsb.getD j []).getD i.toNatClampNeg 0 &&& 255).toUInt32 % 65536).toInt32) = .int (((zsb.getD j []).getD i.toNatClampNeg 0 &&& 255).toUInt32 % 65536).toInt32 ∧ K (((zsb.getD j []).getD i.toNatClampNeg 0 &&& 255).toUInt32 % 65536).toInt32 h
  rw [e1]
  exact ⟨by show Value.int _ = Value.int _; rw [e2], by show Value.int _ = Value.int _; rw [e2], hk⟩
def tX (c : Int32) : Int32 := match (zsb.getD 0 []).findIdx? (fun b => b == c) with
  | some k => Int32.ofNat k
  | none => -1
theorem tX_fit : ∀ k : Nat, k < 256 → tX (Int32.ofNat k).toInt8.toInt32 = tX (Int32.ofNat k) := by decide +kernel
theorem tL_st : ∀ i : Nat, i < 8 → Int32.ofNat i < Int32.ofNat 8 ∧ (¬ (Int32.ofNat i < 0 ∨ 8 ≤ (Int32.ofNat i).toNatClampNeg)) ∧ (Int32.ofNat i).toNatClampNeg = i ∧ Int32.ofNat i + 1 = Int32.ofNat (i + 1) := by decide
theorem tL_step {x : Int32} {K : Int32 → zH → Prop} {n : Nat} (i : Nat) (hi : i < 8) (hit : (zsb.getD 0 []).getD i 0 = x → K (Int32.ofNat i) h) (miss : (zsb.getD 0 []).getD i 0 ≠ x → zlJ4_indexOfChar_7 sa f K n h (some (sa 14)) (Int32.ofNat 8) x (Int32.ofNat (i + 1))) : zlJ4_indexOfChar_7 sa f K (n + 1) h (some (sa 14)) (Int32.ofNat 8) x (Int32.ofNat i) := by
  obtain ⟨e1, e2, e3, e4⟩ := tL_st i hi
  show zbJ4_indexOfChar_7 sa f K (zlJ4_indexOfChar_7 sa f K n) h (some (sa 14)) (Int32.ofNat 8) x (Int32.ofNat i)
  unfold zbJ4_indexOfChar_7
  rw [if_pos e1]
  refine ⟨0, by decide, rfl, e2, ?_⟩
  show if (zsb.getD 0 []).getD (Int32.ofNat i).toNatClampNeg 0 = x then K (Int32.ofNat i) h else ∀ x3 : Int32, x3 = Int32.ofNat i + 1 → zlJ4_indexOfChar_7 sa f K n h (some (sa 14)) (Int32.ofNat 8) x x3
  rw [e3]
  by_cases q : (zsb.getD 0 []).getD i 0 = x
  · rw [if_pos q]
    exact hit q
  · rw [if_neg q]
    intro y hy
    rw [hy, e4]
    exact miss q
theorem tL_loop {x : Int32} {K : Int32 → zH → Prop} (m : Nat) (hk : K (tX x) h) : zlJ4_indexOfChar_7 sa f K (m + 9) h (some (sa 14)) (Int32.ofNat 8) x (Int32.ofNat 0) := by
  refine tL_step 0 (by decide) (fun e => by subst e; exact hk) fun n0 => ?_
  refine tL_step 1 (by decide) (fun e => by subst e; exact hk) fun n1 => ?_
  refine tL_step 2 (by decide) (fun e => by subst e; exact hk) fun n2 => ?_
  refine tL_step 3 (by decide) (fun e => by subst e; exact hk) fun n3 => ?_
  refine tL_step 4 (by decide) (fun e => by subst e; exact hk) fun n4 => ?_
  refine tL_step 5 (by decide) (fun e => by subst e; exact hk) fun n5 => ?_
  refine tL_step 6 (by decide) (fun e => by subst e; exact hk) fun n6 => ?_
  refine tL_step 7 (by decide) (fun e => by subst e; exact hk) fun n7 => ?_
  show zbJ4_indexOfChar_7 sa f K (zlJ4_indexOfChar_7 sa f K m) h (some (sa 14)) (Int32.ofNat 8) x (Int32.ofNat 8)
  unfold zbJ4_indexOfChar_7
  rw [if_neg (by decide)]
  have e : tX x = -1 := by
    have b (u v : Int32) (h : u ≠ v) : (u == v) = false := beq_false_of_ne h
    unfold tX
    simp only [zsb, List.getD_cons_zero, List.findIdx?_cons, List.findIdx?_nil, b _ _ n0, b _ _ n1, b _ _ n2, b _ _ n3, b _ _ n4, b _ _ n5, b _ _ n6, b _ _ n7] at *
    simp_all
  rw [← e]
  exact hk
theorem tL_index {c : Int32} {K : Int32 → zH → Prop} (m : Nat) (hf : f = m + 9) (h0 : 0 ≤ c) (h1 : c < 256) (hk : K (tX c) h) : zfJ3_indexOf sa f h (some (sa 0)) c K := by
  refine ⟨0, by decide, rfl, 0, by decide, rfl, tL_lat (by decide) ?_⟩
  rw [if_neg (by decide)]
  refine ⟨0, by decide, rfl, 0, by decide, rfl, tL_length (by decide) ?_⟩
  have g0 : ¬ c < 0 := by
    rw [Int32.lt_iff_toInt_lt]
    rw [Int32.le_iff_toInt_le] at h0
    omega
  have g1 : ¬ (255 : Int32) < c := by
    rw [Int32.lt_iff_toInt_lt]
    rw [Int32.lt_iff_toInt_lt] at h1
    have z1 : (255 : Int32).toInt = 255 := by decide
    have z2 : (256 : Int32).toInt = 256 := by decide
    omega
  unfold zfJ4_indexOf zfJ4_canEncode
  rw [if_neg g0, if_neg g1, if_neg (by decide)]
  intro x3 hx3
  have e3 : x3 = Int32.ofNat 0 := by rw [hx3]; decide
  refine ⟨0, by decide, rfl, ?_⟩
  intro x5 hx5
  have e5 : x5 = Int32.ofNat 8 := by rw [hx5]; decide
  rw [e3, e5, if_pos (by decide)]
  unfold zfJ4_indexOfChar
  intro x1 hx1
  have ec : ∃ k : Nat, k < 256 ∧ c = Int32.ofNat k := by
    refine ⟨c.toInt.toNat, ?_, ?_⟩
    · rw [Int32.le_iff_toInt_le] at h0
      rw [Int32.lt_iff_toInt_lt] at h1
      have z2 : (256 : Int32).toInt = 256 := by decide
      have z0 : (0 : Int32).toInt = 0 := by decide
      omega
    · apply Int32.toInt_inj.mp
      rw [Int32.le_iff_toInt_le] at h0
      rw [Int32.lt_iff_toInt_lt] at h1
      have z2 : (256 : Int32).toInt = 256 := by decide
      have z0 : (0 : Int32).toInt = 0 := by decide
      rw [Int32.toInt_ofNat_of_lt (by omega)]
      omega
  obtain ⟨k, hk1, rfl⟩ := ec
  have et := tX_fit k hk1
  rw [← hx1] at et
  rw [hf]
  refine tL_loop m ?_
  rw [et]
  exact hk
end

