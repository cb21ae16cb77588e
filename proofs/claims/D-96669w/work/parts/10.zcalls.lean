/-! THE Z-KIT's RULES FOR CALLS -/
set_option maxRecDepth 100000
section ZC
variable {sa : Nat → Nat} {G : zG} {cc : ByteArray} {nL : Nat} {own nm : String} {ret : Option FieldType} {nf nl : Nat} {K : Option zV → zH → Prop} {pc : Nat} {h : zH} {mc ms : Nat} {L : zL} {st : List zV}
theorem zcall_go {p : Program} {l : Launch} {e : Env} {R : Room} {s : State} {m : MethodId} {args : Array Value} {below : List Frame} {meth : Method} {c : Code} {H : Heap} {locs : List Loc} {cells slots mc1 ms1 : Nat} {Q : State → Prop} {D : zD} {A : Nat → Prop} {K1 : Option zV → zH → Prop} {ls : Array Slot} {st0 : List Value} {rest : List zV} {a : Array Value} (hr : va_Run p l e R s m args below meth c H locs cells slots mc1 ms1 (F0 m pc ls st0) (rest.map zval) (zQ D K1 (zA h H.size) a) (zA h H.size)) (hP : zP D A h H) (hS : va_S A s.heap H locs) (hA : ∀ q, s.heap.size ≤ q → A q)
    (kk : ∀ (v : Option zV) (h' : zH) (H1 : Heap) (locs1 : List Loc), K1 v h' → zP D A h' H1 → va_S A s.heap H1 locs1 → W p l e R s m args below meth c H1 locs1 (cells + mc1) (slots + ms1) Q (F0 m (pc + 3) ls ((v.toList ++ rest).map zval))) : W p l e R s m args below meth c H locs cells slots Q (F0 m pc ls st0) := by
  intro T hT X
  obtain ⟨v0, st₀, t, T', L, h0, X', hL, e1, e2, ⟨⟨v, h', hv, hK, hP'⟩, hz, hk⟩, stp⟩ := hr T hT X
  have hsub : ∀ q, zA h H.size q → A q := by
    rintro q (z | z)
    · exact hP.in z
    · exact hA q (Nat.le_trans hS.1 z)
  cases hv
  rw [h0] at hz hk
  have es : (v.map zval).toList ++ rest.map zval = (v.toList ++ rest).map zval := by cases v <;> simp
  obtain ⟨t2, a1, b1⟩ := kk v h' T'.heap (locs ++ L) hK (by rw [e1]; exact hP'.weaken (fun q _ z => hsub q z)) ⟨Nat.le_trans hS.1 (by rw [e1]; exact hz), fun q h1 h2 => by rw [e1, hk q (Nat.lt_of_lt_of_le h1 hS.1) (fun z => h2 (hsub q z))]; exact hS.2.1 q h1 h2, fun q hq => by
    rcases List.mem_append.mp hq with z | z
    · exact hS.2.2 q z
    · exact hsub _ (hL q z)⟩ T' rfl X'
  rw [← es] at a1
  exact ⟨t2, stp t2 a1, b1⟩
/-- the receiver -/
theorem z_recv {s : State} {H : Heap} {D : zD} {A : Nat → Prop} {b ci : Nat} {q : vw_C} {fs : List Value} (hWd : zWd D A s) (hP : zP D A h H) (hc : zcl[ci]? = some q) (he : h b = some (.inr (ci, fs))) : ∃ cell : Cell, H[b]? = some cell ∧ cell.vm.isStatics = false ∧ s.vm.findClass q.1 = some cell.cls := by
  obtain ⟨ws, i, hv, hPp, hD, hi⟩ := hP.at he
  exact va_recv hWd.1 hPp hc (zws_at hi)
theorem z_room {m : MethodId} {ls : Array Slot} {st0 : List Value} {rest : List zV} (h : zlen rest ≤ 8) : 2 * (F0 m pc ls st0).monitorRoom + ((rest.map zval).map fun v => v.category).sum ≤ 8 := lv_room (by rw [zsum_eq]; exact h)
theorem z_stack {As rest : List zV} {b : Nat} (h : st = As.reverse ++ R_ (some b) :: rest) : st.map zval = (As.map zval).reverse ++ Value.ref b :: rest.map zval := by rw [h]; simp [zval, va_rf]
theorem z_stackS {As rest : List zV} (h : st = As.reverse ++ rest) : st.map zval = (As.map zval).reverse ++ rest.map zval := by rw [h]; simp
/-- a contract as a caller uses it: at every launch and every start's size -/
def zrc (h : zH) (v : Option Nat) (ci : Nat) (F : Prop) : Prop := ∃ (b : Nat) (fs : List Value), v = some b ∧ h b = some (.inr (ci, fs)) ∧ F
/-- not null -/
def zrn (v : Option Nat) (F : Prop) : Prop := ∃ b : Nat, v = some b ∧ F
theorem zdec {a b : Nat} (h : Nat.ble a b = true) : a ≤ b := Nat.le_of_ble_eq_true h
theorem z0a {n : Nat} : 0 + n ≤ n := Nat.le_of_eq (Nat.zero_add n)
theorem zKi_in {K : Int32 → zH → Prop} {x : Int32} {h : zH} (hk : K x h) : zKi K (some (I_ x)) h := ⟨x, rfl, hk⟩
theorem zKl_in {K : Int64 → zH → Prop} {x : Int64} {h : zH} (hk : K x h) : zKl K (some (J_ x)) h := ⟨x, rfl, hk⟩
theorem zKr_in {K : Option Nat → zH → Prop} {x : Option Nat} {h : zH} (hk : K x h) : zKr K (some (R_ x)) h := ⟨x, rfl, hk⟩
theorem zKv_in {K : zH → Prop} {h : zH} (hk : K h) : zKv K none h := ⟨rfl, hk⟩
/-- a loop, or a recursion, by its steps -/
def zlp {α : Type} (B : α → α) (z : α) : Nat → α
  | 0 => z
  | n + 1 => B (zlp B z n)
def zCt (sa : Nat → Nat) (y : MethodName) (ws : List Cond) (nf nl : Nat) (h : zH) (mc ms : Nat) (As : List zV) (F : Prop) (K : Option zV → zH → Prop) : Prop := ∀ (l : Launch) (D : zD) (sz : Nat), l.flags = flags0 → D.2.2.1 = sa → zMet l y ws nf nl D h mc ms sz As F K
theorem r_callV (hG : zOk sa G cc nL own nm ret nf nl K) {index maxL n nf1 nl1 mc1 ms1 mc2 ms2 : Nat} {y : MethodName} {bytes : ByteArray} {ret1 : Option FieldType} {As rest : List zV} {F : Prop} {K1 : Option zV → zH → Prop} {C : String} {T : u_T} {N ci : Nat} {v0 : Option Nat} (hM : zCt sa y (ws_ y bytes maxL ret1) nf1 nl1 h mc1 ms1 (R_ v0 :: As) F K1) (hg : GoodIn lw_all (wsV own index C y (ws_ y bytes maxL ret1))) (hd0 : y.cls = C ∧ y.cls ≠ "java/lang/invoke/MethodHandle" ∧ y.cls ≠ "java/lang/invoke/VarHandle" ∧ (parseMethodDescriptor y.desc).map (fun d => d.parameters.length) = some n) (hcl : zcl[ci]? = some (C, T, N)) (hr : nf1 + 1 ≤ nf ∧ 8 + (maxL + 11) + nl1 ≤ nl) (hm : mc1 + mc2 ≤ mc) (hs0 : ms1 + ms2 ≤ ms) (hd : decode cc pc = .ok (.invokevirtual index, 3)) (hst : st = As.reverse ++ R_ v0 :: rest) (hn : As.length = n) (hlen : zlen rest ≤ 8) (hF : zrc h v0 ci F) (kk : ∀ v h', K1 v h' → zW G (pc + 3) h' mc2 ms2 L (v.toList ++ rest)) : zW G pc h mc ms L st := by
  obtain ⟨b, fs, rfl, hb0, hF⟩ := hF
  obtain ⟨⟨p, l, e, R, s, m, args, below, meth, c⟩, D, A, Q, MC, MS⟩ := G
  obtain ⟨hx, hb, hml, hrt, hlk, hnm, hown, hts, hWd, hA, hRc, hRs, hnf, hnl, hfl, hsa, hQ⟩ := hG
  intro H locs cells slots ls hP hS hc hs hl
  have hsub : ∀ q, zA h H.size q → A q := by
    rintro q (z | z)
    · exact hP.in z
    · exact hA q (Nat.le_trans hS.1 z)
  have hMt := hM l D H.size hfl hsa
  exact zcall_go (va_runV (As := As.map zval) (rest := rest.map zval) ⟨hx, hb, hml, hown, hts⟩ hMt (cwV n hts hg rfl rfl rfl hd0 ⟨by dsimp only; omega, by dsimp only; omega⟩) ⟨zPre_blind, z_recv hWd hP hcl hb0, fun U hU hW => ⟨rfl, by rw [hU], by rw [hU]; exact hP.weaken (fun _ _ _ => trivial), zWd.step hWd hW hU hS hsub, hF⟩⟩ rfl (by rw [List.length_map]; exact hn) (by rw [← hml]; exact hl.1) (z_stack hst) (z_room hlen) hd ⟨by omega, by omega⟩) hP hS hA (fun v h' H1 locs1 hK hP1 hS1 => kk v h' hK H1 locs1 (cells + mc1) (slots + ms1) ls hP1 hS1 (by omega) (by omega) hl)
theorem r_callS (hG : zOk sa G cc nL own nm ret nf nl K) {index maxL n nf1 nl1 mc1 ms1 mc2 ms2 : Nat} {y : MethodName} {bytes : ByteArray} {ret1 : Option FieldType} {As rest : List zV} {F : Prop} {K1 : Option zV → zH → Prop}  (hM : zCt sa y (ws_ y bytes maxL ret1) nf1 nl1 h mc1 ms1 As F K1) (hg : GoodIn lw_all (va_wsS own index y (ws_ y bytes maxL ret1))) (hd0 : y.cls ≠ "java/lang/invoke/MethodHandle" ∧ y.cls ≠ "java/lang/invoke/VarHandle" ∧ (parseMethodDescriptor y.desc).map (fun d => d.parameters.length) = some n) (hr : nf1 + 1 ≤ nf ∧ 8 + (maxL + 11) + nl1 ≤ nl) (hm : mc1 + mc2 ≤ mc) (hs0 : ms1 + ms2 ≤ ms) (hd : decode cc pc = .ok (.invokestatic index, 3)) (hst : st = As.reverse ++ rest) (hn : As.length = n) (hlen : zlen rest ≤ 8) (hF : F) (kk : ∀ v h', K1 v h' → zW G (pc + 3) h' mc2 ms2 L (v.toList ++ rest)) : zW G pc h mc ms L st := by
  obtain ⟨⟨p, l, e, R, s, m, args, below, meth, c⟩, D, A, Q, MC, MS⟩ := G
  obtain ⟨hx, hb, hml, hrt, hlk, hnm, hown, hts, hWd, hA, hRc, hRs, hnf, hnl, hfl, hsa, hQ⟩ := hG
  intro H locs cells slots ls hP hS hc hs hl
  have hsub : ∀ q, zA h H.size q → A q := by
    rintro q (z | z)
    · exact hP.in z
    · exact hA q (Nat.le_trans hS.1 z)
  have hMt := hM l D H.size hfl hsa
  exact zcall_go (va_runS (As := As.map zval) (rest := rest.map zval) ⟨hx, hb, hml, hown, hts⟩ hMt (va_cwS n hts hg rfl rfl rfl hd0 ⟨by dsimp only; omega, by dsimp only; omega⟩) ⟨zPre_blind, fun U hU hW => ⟨rfl, by rw [hU], by rw [hU]; exact hP.weaken (fun _ _ _ => trivial), zWd.step hWd hW hU hS hsub, hF⟩⟩ rfl (by rw [List.length_map]; exact hn) (by rw [← hml]; exact hl.1) (z_stackS hst) (z_room hlen) hd ⟨by omega, by omega⟩) hP hS hA (fun v h' H1 locs1 hK hP1 hS1 => kk v h' hK H1 locs1 (cells + mc1) (slots + ms1) ls hP1 hS1 (by omega) (by omega) hl)
theorem r_callI (hG : zOk sa G cc nL own nm ret nf nl K) {index maxL n nf1 nl1 mc1 ms1 mc2 ms2 : Nat} {y : MethodName} {bytes : ByteArray} {As rest : List zV} {F : Prop} {K1 : Option zV → zH → Prop} {v0 : Option Nat} (hM : zCt sa y (ws_ y bytes maxL none) nf1 nl1 h mc1 ms1 (R_ v0 :: As) F K1) (hg : GoodIn lw_all (ws_ y bytes maxL none)) (hy : y.name = "<init>") (hi1 : Cond.initialized y.cls ∈ lw_all) (hi2 : Cond.methodLink own index y ∈ lw_all) (hi3 : Cond.instanceMethod y ∈ lw_all) (hd0 : y.cls ≠ "java/lang/invoke/MethodHandle" ∧ y.cls ≠ "java/lang/invoke/VarHandle" ∧ (parseMethodDescriptor y.desc).map (fun d => d.parameters.length) = some n) (hr : nf1 + 1 ≤ nf ∧ 8 + (maxL + 11) + nl1 ≤ nl) (hm : mc1 + mc2 ≤ mc) (hs0 : ms1 + ms2 ≤ ms) (hd : decode cc pc = .ok (.invokespecial index, 3)) (hst : st = As.reverse ++ R_ v0 :: rest) (hn : As.length = n) (hlen : zlen rest ≤ 8) (hF : zrn v0 F) (kk : ∀ v h', K1 v h' → zW G (pc + 3) h' mc2 ms2 L (v.toList ++ rest)) : zW G pc h mc ms L st := by
  obtain ⟨b, rfl, hF⟩ := hF
  obtain ⟨⟨p, l, e, R, s, m, args, below, meth, c⟩, D, A, Q, MC, MS⟩ := G
  obtain ⟨hx, hb, hml, hrt, hlk, hnm, hown, hts, hWd, hA, hRc, hRs, hnf, hnl, hfl, hsa, hQ⟩ := hG
  intro H locs cells slots ls hP hS hc hs hl
  have hsub : ∀ q, zA h H.size q → A q := by
    rintro q (z | z)
    · exact hP.in z
    · exact hA q (Nat.le_trans hS.1 z)
  have hMt := hM l D H.size hfl hsa
  exact zcall_go (va_runI (As := As.map zval) (rest := rest.map zval) ⟨hx, hb, hml, hown, hts⟩ hMt (cwI n hts hg rfl rfl rfl (hts _ hi1) (hts _ hi2) (hts _ hi3) hy hd0 ⟨by dsimp only; omega, by dsimp only; omega⟩) ⟨zPre_blind, fun U hU hW => ⟨rfl, by rw [hU], by rw [hU]; exact hP.weaken (fun _ _ _ => trivial), zWd.step hWd hW hU hS hsub, hF⟩⟩ rfl (by rw [List.length_map]; exact hn) (by rw [← hml]; exact hl.1) (z_stack hst) (z_room hlen) hd ⟨by omega, by omega⟩) hP hS hA (fun v h' H1 locs1 hK hP1 hS1 => kk v h' hK H1 locs1 (cells + mc1) (slots + ms1) ls hP1 hS1 (by omega) (by omega) hl)
/-! answers taken apart -/
theorem zk_i {P : Option zV → zH → Prop} {K1 : Int32 → zH → Prop} (k : ∀ r h', K1 r h' → P (some (I_ r)) h') : ∀ v h', zKi K1 v h' → P v h' := by
  rintro v h' ⟨r, rfl, hk⟩
  exact k r h' hk
theorem zk_l {P : Option zV → zH → Prop} {K1 : Int64 → zH → Prop} (k : ∀ r h', K1 r h' → P (some (J_ r)) h') : ∀ v h', zKl K1 v h' → P v h' := by
  rintro v h' ⟨r, rfl, hk⟩
  exact k r h' hk
theorem zk_r {P : Option zV → zH → Prop} {K1 : Option Nat → zH → Prop} (k : ∀ r h', K1 r h' → P (some (R_ r)) h') : ∀ v h', zKr K1 v h' → P v h' := by
  rintro v h' ⟨r, rfl, hk⟩
  exact k r h' hk
theorem zk_v {P : Option zV → zH → Prop} {K1 : zH → Prop} (k : ∀ h', K1 h' → P none h') : ∀ v h', zKv K1 v h' → P v h' := by
  rintro v h' ⟨rfl, hk⟩
  exact k h' hk
theorem r_callVi (hG : zOk sa G cc nL own nm ret nf nl K) {index maxL n nf1 nl1 mc1 ms1 mc2 ms2 : Nat} {y : MethodName} {bytes : ByteArray} {ret1 : Option FieldType} {As rest : List zV} {F : Prop} {K1 : Int32 → zH → Prop} {C : String} {T : u_T} {N ci : Nat} {v0 : Option Nat} (hM : zCt sa y (ws_ y bytes maxL ret1) nf1 nl1 h mc1 ms1 (R_ v0 :: As) F (zKi K1)) (hg : GoodIn lw_all (wsV own index C y (ws_ y bytes maxL ret1))) (hd0 : y.cls = C ∧ y.cls ≠ "java/lang/invoke/MethodHandle" ∧ y.cls ≠ "java/lang/invoke/VarHandle" ∧ (parseMethodDescriptor y.desc).map (fun d => d.parameters.length) = some n) (hcl : zcl[ci]? = some (C, T, N)) (hr : nf1 + 1 ≤ nf ∧ 8 + (maxL + 11) + nl1 ≤ nl) (hm : mc1 + mc2 ≤ mc) (hs0 : ms1 + ms2 ≤ ms) (hd : decode cc pc = .ok (.invokevirtual index, 3)) (hst : st = As.reverse ++ R_ v0 :: rest) (hn : As.length = n) (hlen : zlen rest ≤ 8) (hF : zrc h v0 ci F) (kk : ∀ (r : Int32) h', K1 r h' → zW G (pc + 3) h' mc2 ms2 L (I_ r :: rest)) : zW G pc h mc ms L st := r_callV hG (hM := hM) (hg := hg) (hd0 := hd0) (hcl := hcl) (hr := hr) (hm := hm) (hs0 := hs0) (hd := hd) (hst := hst) (hn := hn) (hlen := hlen) (hF := hF) (kk := zk_i kk)
theorem r_callVl (hG : zOk sa G cc nL own nm ret nf nl K) {index maxL n nf1 nl1 mc1 ms1 mc2 ms2 : Nat} {y : MethodName} {bytes : ByteArray} {ret1 : Option FieldType} {As rest : List zV} {F : Prop} {K1 : Int64 → zH → Prop} {C : String} {T : u_T} {N ci : Nat} {v0 : Option Nat} (hM : zCt sa y (ws_ y bytes maxL ret1) nf1 nl1 h mc1 ms1 (R_ v0 :: As) F (zKl K1)) (hg : GoodIn lw_all (wsV own index C y (ws_ y bytes maxL ret1))) (hd0 : y.cls = C ∧ y.cls ≠ "java/lang/invoke/MethodHandle" ∧ y.cls ≠ "java/lang/invoke/VarHandle" ∧ (parseMethodDescriptor y.desc).map (fun d => d.parameters.length) = some n) (hcl : zcl[ci]? = some (C, T, N)) (hr : nf1 + 1 ≤ nf ∧ 8 + (maxL + 11) + nl1 ≤ nl) (hm : mc1 + mc2 ≤ mc) (hs0 : ms1 + ms2 ≤ ms) (hd : decode cc pc = .ok (.invokevirtual index, 3)) (hst : st = As.reverse ++ R_ v0 :: rest) (hn : As.length = n) (hlen : zlen rest ≤ 8) (hF : zrc h v0 ci F) (kk : ∀ (r : Int64) h', K1 r h' → zW G (pc + 3) h' mc2 ms2 L (J_ r :: rest)) : zW G pc h mc ms L st := r_callV hG (hM := hM) (hg := hg) (hd0 := hd0) (hcl := hcl) (hr := hr) (hm := hm) (hs0 := hs0) (hd := hd) (hst := hst) (hn := hn) (hlen := hlen) (hF := hF) (kk := zk_l kk)
theorem r_callVr (hG : zOk sa G cc nL own nm ret nf nl K) {index maxL n nf1 nl1 mc1 ms1 mc2 ms2 : Nat} {y : MethodName} {bytes : ByteArray} {ret1 : Option FieldType} {As rest : List zV} {F : Prop} {K1 : Option Nat → zH → Prop} {C : String} {T : u_T} {N ci : Nat} {v0 : Option Nat} (hM : zCt sa y (ws_ y bytes maxL ret1) nf1 nl1 h mc1 ms1 (R_ v0 :: As) F (zKr K1)) (hg : GoodIn lw_all (wsV own index C y (ws_ y bytes maxL ret1))) (hd0 : y.cls = C ∧ y.cls ≠ "java/lang/invoke/MethodHandle" ∧ y.cls ≠ "java/lang/invoke/VarHandle" ∧ (parseMethodDescriptor y.desc).map (fun d => d.parameters.length) = some n) (hcl : zcl[ci]? = some (C, T, N)) (hr : nf1 + 1 ≤ nf ∧ 8 + (maxL + 11) + nl1 ≤ nl) (hm : mc1 + mc2 ≤ mc) (hs0 : ms1 + ms2 ≤ ms) (hd : decode cc pc = .ok (.invokevirtual index, 3)) (hst : st = As.reverse ++ R_ v0 :: rest) (hn : As.length = n) (hlen : zlen rest ≤ 8) (hF : zrc h v0 ci F) (kk : ∀ (r : Option Nat) h', K1 r h' → zW G (pc + 3) h' mc2 ms2 L (R_ r :: rest)) : zW G pc h mc ms L st := r_callV hG (hM := hM) (hg := hg) (hd0 := hd0) (hcl := hcl) (hr := hr) (hm := hm) (hs0 := hs0) (hd := hd) (hst := hst) (hn := hn) (hlen := hlen) (hF := hF) (kk := zk_r kk)
theorem r_callVv (hG : zOk sa G cc nL own nm ret nf nl K) {index maxL n nf1 nl1 mc1 ms1 mc2 ms2 : Nat} {y : MethodName} {bytes : ByteArray} {ret1 : Option FieldType} {As rest : List zV} {F : Prop} {K1 : zH → Prop} {C : String} {T : u_T} {N ci : Nat} {v0 : Option Nat} (hM : zCt sa y (ws_ y bytes maxL ret1) nf1 nl1 h mc1 ms1 (R_ v0 :: As) F (zKv K1)) (hg : GoodIn lw_all (wsV own index C y (ws_ y bytes maxL ret1))) (hd0 : y.cls = C ∧ y.cls ≠ "java/lang/invoke/MethodHandle" ∧ y.cls ≠ "java/lang/invoke/VarHandle" ∧ (parseMethodDescriptor y.desc).map (fun d => d.parameters.length) = some n) (hcl : zcl[ci]? = some (C, T, N)) (hr : nf1 + 1 ≤ nf ∧ 8 + (maxL + 11) + nl1 ≤ nl) (hm : mc1 + mc2 ≤ mc) (hs0 : ms1 + ms2 ≤ ms) (hd : decode cc pc = .ok (.invokevirtual index, 3)) (hst : st = As.reverse ++ R_ v0 :: rest) (hn : As.length = n) (hlen : zlen rest ≤ 8) (hF : zrc h v0 ci F) (kk : ∀ h', K1 h' → zW G (pc + 3) h' mc2 ms2 L rest) : zW G pc h mc ms L st := r_callV hG (hM := hM) (hg := hg) (hd0 := hd0) (hcl := hcl) (hr := hr) (hm := hm) (hs0 := hs0) (hd := hd) (hst := hst) (hn := hn) (hlen := hlen) (hF := hF) (kk := zk_v kk)
theorem r_callSi (hG : zOk sa G cc nL own nm ret nf nl K) {index maxL n nf1 nl1 mc1 ms1 mc2 ms2 : Nat} {y : MethodName} {bytes : ByteArray} {ret1 : Option FieldType} {As rest : List zV} {F : Prop} {K1 : Int32 → zH → Prop}  (hM : zCt sa y (ws_ y bytes maxL ret1) nf1 nl1 h mc1 ms1 As F (zKi K1)) (hg : GoodIn lw_all (va_wsS own index y (ws_ y bytes maxL ret1))) (hd0 : y.cls ≠ "java/lang/invoke/MethodHandle" ∧ y.cls ≠ "java/lang/invoke/VarHandle" ∧ (parseMethodDescriptor y.desc).map (fun d => d.parameters.length) = some n) (hr : nf1 + 1 ≤ nf ∧ 8 + (maxL + 11) + nl1 ≤ nl) (hm : mc1 + mc2 ≤ mc) (hs0 : ms1 + ms2 ≤ ms) (hd : decode cc pc = .ok (.invokestatic index, 3)) (hst : st = As.reverse ++ rest) (hn : As.length = n) (hlen : zlen rest ≤ 8) (hF : F) (kk : ∀ (r : Int32) h', K1 r h' → zW G (pc + 3) h' mc2 ms2 L (I_ r :: rest)) : zW G pc h mc ms L st := r_callS hG (hM := hM) (hg := hg) (hd0 := hd0) (hr := hr) (hm := hm) (hs0 := hs0) (hd := hd) (hst := hst) (hn := hn) (hlen := hlen) (hF := hF) (kk := zk_i kk)
theorem r_callSl (hG : zOk sa G cc nL own nm ret nf nl K) {index maxL n nf1 nl1 mc1 ms1 mc2 ms2 : Nat} {y : MethodName} {bytes : ByteArray} {ret1 : Option FieldType} {As rest : List zV} {F : Prop} {K1 : Int64 → zH → Prop}  (hM : zCt sa y (ws_ y bytes maxL ret1) nf1 nl1 h mc1 ms1 As F (zKl K1)) (hg : GoodIn lw_all (va_wsS own index y (ws_ y bytes maxL ret1))) (hd0 : y.cls ≠ "java/lang/invoke/MethodHandle" ∧ y.cls ≠ "java/lang/invoke/VarHandle" ∧ (parseMethodDescriptor y.desc).map (fun d => d.parameters.length) = some n) (hr : nf1 + 1 ≤ nf ∧ 8 + (maxL + 11) + nl1 ≤ nl) (hm : mc1 + mc2 ≤ mc) (hs0 : ms1 + ms2 ≤ ms) (hd : decode cc pc = .ok (.invokestatic index, 3)) (hst : st = As.reverse ++ rest) (hn : As.length = n) (hlen : zlen rest ≤ 8) (hF : F) (kk : ∀ (r : Int64) h', K1 r h' → zW G (pc + 3) h' mc2 ms2 L (J_ r :: rest)) : zW G pc h mc ms L st := r_callS hG (hM := hM) (hg := hg) (hd0 := hd0) (hr := hr) (hm := hm) (hs0 := hs0) (hd := hd) (hst := hst) (hn := hn) (hlen := hlen) (hF := hF) (kk := zk_l kk)
theorem r_callSr (hG : zOk sa G cc nL own nm ret nf nl K) {index maxL n nf1 nl1 mc1 ms1 mc2 ms2 : Nat} {y : MethodName} {bytes : ByteArray} {ret1 : Option FieldType} {As rest : List zV} {F : Prop} {K1 : Option Nat → zH → Prop}  (hM : zCt sa y (ws_ y bytes maxL ret1) nf1 nl1 h mc1 ms1 As F (zKr K1)) (hg : GoodIn lw_all (va_wsS own index y (ws_ y bytes maxL ret1))) (hd0 : y.cls ≠ "java/lang/invoke/MethodHandle" ∧ y.cls ≠ "java/lang/invoke/VarHandle" ∧ (parseMethodDescriptor y.desc).map (fun d => d.parameters.length) = some n) (hr : nf1 + 1 ≤ nf ∧ 8 + (maxL + 11) + nl1 ≤ nl) (hm : mc1 + mc2 ≤ mc) (hs0 : ms1 + ms2 ≤ ms) (hd : decode cc pc = .ok (.invokestatic index, 3)) (hst : st = As.reverse ++ rest) (hn : As.length = n) (hlen : zlen rest ≤ 8) (hF : F) (kk : ∀ (r : Option Nat) h', K1 r h' → zW G (pc + 3) h' mc2 ms2 L (R_ r :: rest)) : zW G pc h mc ms L st := r_callS hG (hM := hM) (hg := hg) (hd0 := hd0) (hr := hr) (hm := hm) (hs0 := hs0) (hd := hd) (hst := hst) (hn := hn) (hlen := hlen) (hF := hF) (kk := zk_r kk)
theorem r_callSv (hG : zOk sa G cc nL own nm ret nf nl K) {index maxL n nf1 nl1 mc1 ms1 mc2 ms2 : Nat} {y : MethodName} {bytes : ByteArray} {ret1 : Option FieldType} {As rest : List zV} {F : Prop} {K1 : zH → Prop}  (hM : zCt sa y (ws_ y bytes maxL ret1) nf1 nl1 h mc1 ms1 As F (zKv K1)) (hg : GoodIn lw_all (va_wsS own index y (ws_ y bytes maxL ret1))) (hd0 : y.cls ≠ "java/lang/invoke/MethodHandle" ∧ y.cls ≠ "java/lang/invoke/VarHandle" ∧ (parseMethodDescriptor y.desc).map (fun d => d.parameters.length) = some n) (hr : nf1 + 1 ≤ nf ∧ 8 + (maxL + 11) + nl1 ≤ nl) (hm : mc1 + mc2 ≤ mc) (hs0 : ms1 + ms2 ≤ ms) (hd : decode cc pc = .ok (.invokestatic index, 3)) (hst : st = As.reverse ++ rest) (hn : As.length = n) (hlen : zlen rest ≤ 8) (hF : F) (kk : ∀ h', K1 h' → zW G (pc + 3) h' mc2 ms2 L rest) : zW G pc h mc ms L st := r_callS hG (hM := hM) (hg := hg) (hd0 := hd0) (hr := hr) (hm := hm) (hs0 := hs0) (hd := hd) (hst := hst) (hn := hn) (hlen := hlen) (hF := hF) (kk := zk_v kk)
theorem r_callIv (hG : zOk sa G cc nL own nm ret nf nl K) {index maxL n nf1 nl1 mc1 ms1 mc2 ms2 : Nat} {y : MethodName} {bytes : ByteArray} {As rest : List zV} {F : Prop} {K1 : zH → Prop} {v0 : Option Nat} (hM : zCt sa y (ws_ y bytes maxL none) nf1 nl1 h mc1 ms1 (R_ v0 :: As) F (zKv K1)) (hg : GoodIn lw_all (ws_ y bytes maxL none)) (hy : y.name = "<init>") (hi1 : Cond.initialized y.cls ∈ lw_all) (hi2 : Cond.methodLink own index y ∈ lw_all) (hi3 : Cond.instanceMethod y ∈ lw_all) (hd0 : y.cls ≠ "java/lang/invoke/MethodHandle" ∧ y.cls ≠ "java/lang/invoke/VarHandle" ∧ (parseMethodDescriptor y.desc).map (fun d => d.parameters.length) = some n) (hr : nf1 + 1 ≤ nf ∧ 8 + (maxL + 11) + nl1 ≤ nl) (hm : mc1 + mc2 ≤ mc) (hs0 : ms1 + ms2 ≤ ms) (hd : decode cc pc = .ok (.invokespecial index, 3)) (hst : st = As.reverse ++ R_ v0 :: rest) (hn : As.length = n) (hlen : zlen rest ≤ 8) (hF : zrn v0 F) (kk : ∀ h', K1 h' → zW G (pc + 3) h' mc2 ms2 L rest) : zW G pc h mc ms L st := r_callI hG (hM := hM) (hg := hg) (hy := hy) (hi1 := hi1) (hi2 := hi2) (hi3 := hi3) (hd0 := hd0) (hr := hr) (hm := hm) (hs0 := hs0) (hd := hd) (hst := hst) (hn := hn) (hlen := hlen) (hF := hF) (kk := zk_v kk)
theorem r_obj (hG : zOk sa G cc nL own nm ret nf nl K) {ix : Nat} {v0 : Option Nat} {F : Prop} (h1 : Cond.methodLink own ix Lib.objectInit ∈ lw_all) (h2 : Cond.instanceMethod Lib.objectInit ∈ lw_all) (h3 : Cond.code Lib.objectInit ⟨#[0xb1]⟩ 1 none ∈ lw_all) (hd : decode cc pc = .ok (.invokespecial ix, 3)) (hr : 1 ≤ nf ∧ zlen st + 12 ≤ nl) (hF : zrn v0 F) (k : F → zW G (pc + 3) h mc ms L st) : zW G pc h mc ms L (R_ v0 :: st) := by
  obtain ⟨b, rfl, hF⟩ := hF
  obtain ⟨⟨p, l, e, R, s, m, args, below, meth, c⟩, D, A, Q, MC, MS⟩ := G
  obtain ⟨hx, hb, hml, hrt, hlk, hnm, hown, hts, hWd, hA, hRc, hRs, hnf, hnl, hfl, hsa, hQ⟩ := hG
  intro H locs cells slots ls hP hS hc hs hl
  refine W.objInit hx hb hown (hts _ h1) (hts _ h2) (hts _ h3) rfl hl.1 rfl hd (by omega) ?_ ?_
  · rw [zsum_eq]
    show 2 * 0 + zlen st + 12 ≤ R.locals
    omega
  · exact k hF H locs cells slots ls hP hS hc hs hl
end ZC
