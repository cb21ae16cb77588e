/-! the class's methods in which the machine itself throws: their walks -/
set_option maxRecDepth 100000
section ZH
variable {sa : Nat → Nat} {G : zG} {cc : ByteArray} {nL : Nat} {own nm : String} {ret : Option FieldType} {nf nl : Nat} {K : Option zV → zH → Prop} {KX : String → zH → Prop} {pc : Nat} {h : zH} {mc ms : Nat} {L : zL} {st : List zV}
theorem zbx_of {mc ms : Nat} {F F1 : Prop} (a : zbx mc ms F) (k : F → F1) : zbx mc ms F1 := ⟨a.1, a.2.1, k a.2.2⟩
theorem r_inA (hG : zOk sa G cc nL own nm ret nf nl K) {ix t : Nat} {v : Option Nat} {P : Int32 → Prop} (ht : t < 3) (hw : Cond.classLink own ix (zan t) ∈ lw_all) (hd : decode cc pc = .ok (.instanceof ix, 3)) (hF : zinA h v t P) (kk : ∀ n, P n → zW G (pc + 3) h mc ms L (I_ n :: st)) : zW G pc h mc ms L (R_ v :: st) := by
  rcases hF with ⟨rfl, hp⟩ | ⟨a, t1, y, rfl, ha, ht1, hyes, hno⟩
  · have hk := kk _ hp
    obtain ⟨⟨p, l, e, R, s, m, args, below, meth, c⟩, D, A, Q, MC, MS⟩ := G
    exact fun H locs cells slots ls hP hS hc hs hl => lv_instN hG.1 hG.2.1 hd (hk H locs cells slots ls hP hS hc hs hl)
  · by_cases q : t1 = t
    · have hk := kk _ (hyes q)
      subst q
      obtain ⟨⟨p, l, e, R, s, m, args, below, meth, c⟩, D, A, Q, MC, MS⟩ := G
      obtain ⟨hx, hb, hml, hrt, hlk, hnm, hown, hts, hWd, hA, hRc, hRs, hnf, hnl, hfl, hsa, hQ⟩ := hG
      exact fun H locs cells slots ls hP hS hc hs hl => va_instE hx hb hown (hts _ hw) (z_arrC hWd hP ha ht1) hd (hk H locs cells slots ls hP hS hc hs hl)
    · have hk := kk _ (hno q)
      obtain ⟨⟨p, l, e, R, s, m, args, below, meth, c⟩, D, A, Q, MC, MS⟩ := G
      obtain ⟨hx, hb, hml, hrt, hlk, hnm, hown, hts, hWd, hA, hRc, hRs, hnf, hnl, hfl, hsa, hQ⟩ := hG
      exact fun H locs cells slots ls hP hS hc hs hl => va_instNo hx hb hown (hts _ hw) (hWd.2.2.2.2.2.1 _ (zan_no t1 ht1 t ht q)) (z_arrC hWd hP ha ht1) hd (hk H locs cells slots ls hP hS hc hs hl)
/-- a cast of a pane -/
def zckP (h : zH) (mc ms : Nat) (v : Option Nat) (ok : List Nat) (P X : Prop) : Prop := (v = none ∧ P) ∨ ∃ (b ci : Nat) (fs : List Value), v = some b ∧ h b = some (.inr (ci, fs)) ∧ ci ∈ ([1, 2, 3, 4, 5, 6] : List Nat) ∧ (ci ∈ ok → P) ∧ (¬ ci ∈ ok → zbx mc ms X)
def zpn (C : String) (ok : List Nat) : Prop := ∀ ci ∈ ([1, 2, 3, 4, 5, 6] : List Nat), ∃ q : vw_C, zcl[ci]? = some q ∧ (ci ∈ ok → q.1 = C ∨ (q.1, C) ∈ zCs) ∧ (¬ ci ∈ ok → (q.1, C) ∈ zNc) ∧ packageOf q.1 ∈ castPackages_1 ∧ packageOf C ∈ castPackages_1 ∧ (dotted q.1).toList.length ≤ 24 ∧ (dotted C).toList.length ≤ 24
theorem r_ckP (hG : zOk sa G cc nL own nm ret nf nl K) {ix : Nat} {C : String} {ok : List Nat} {v : Option Nat} {P X : Prop} (hz : zpn C ok) (hr : 8 ≤ nf ∧ zlen st + 10241 ≤ nl) (hw : Cond.classLink own ix C ∈ lw_all) (hd : decode cc pc = .ok (.checkcast ix, 3)) (hF : zckP h mc ms v ok P X) (kx : X → zThr G pc h (mc - 8) (ms - 2000) L (R_ v :: st) "java/lang/ClassCastException") (kk : P → zW G (pc + 3) h mc ms L (R_ v :: st)) : zW G pc h mc ms L (R_ v :: st) := by
  rcases hF with ⟨rfl, hp⟩ | ⟨a, ci, fs, rfl, ha, hci, hyes, hno⟩
  · have hk := kk hp
    obtain ⟨⟨p, l, e, R, s, m, args, below, meth, c⟩, D, A, Q, MC, MS⟩ := G
    intro H locs cells slots ls hP hS hc hs hl T hT X1
    obtain ⟨t2, a1, b1⟩ := hk H locs cells slots ls hP hS hc hs hl T hT X1
    exact ⟨t2, X1.checkcastNull hG.1 (g := F0 m pc ls (.null :: st.map zval)) rfl rfl (by rw [hG.2.1]; exact hd) t2 a1, b1⟩
  · obtain ⟨q, hq, y1, y2, p1, p2, l1, l2⟩ := hz ci hci
    by_cases hk0 : ci ∈ ok
    · have hk := kk (hyes hk0)
      obtain ⟨⟨p, l, e, R, s, m, args, below, meth, c⟩, D, A, Q, MC, MS⟩ := G
      obtain ⟨hx, hb, hml, hrt, hlk, hnm, hown, hts, hWd, hA, hRc, hRs, hnf, hnl, hfl, hsa, hQ⟩ := hG
      intro H locs cells slots ls hP hS hc hs hl
      rcases y1 hk0 with e1 | e1
      · exact va_castE hx hb hown (hts _ hw) (by rw [← e1]; exact z_recv hWd hP hq ha) hd (hk H locs cells slots ls hP hS hc hs hl)
      · exact va_castY hx hb hown (hts _ hw) (hWd.2.1 _ e1) (z_recv hWd hP hq ha) hd (hk H locs cells slots ls hP hS hc hs hl)
    · obtain ⟨h8, h2, hX⟩ := hno hk0
      have hnc := y2 hk0
      have hN : ∀ tx : String, (tx == notModelled) = false → (stringBytes (stringToUtf16 tx)).size ≤ 1000 → zNote G pc h mc ms L (R_ (some a) :: st) "java/lang/ClassCastException" tx := fun tx e1 e2 => z_vm hG ⟨hr.1, by show 1 + zlen st + 10240 ≤ nl; omega⟩ ⟨h8, h2⟩ (Or.inr rfl) e1 e2 (kx hX)
      obtain ⟨⟨p, l, e, R, s, m, args, below, meth, c⟩, D, A, Q, MC, MS⟩ := G
      obtain ⟨hx, hb, hml, hrt, hlk, hnm, hown, hts, hWd, hA, hRc, hRs, hnf, hnl, hfl, hsa, hQ⟩ := hG
      intro H locs cells slots ls hP hS hc hs hl T hT X1
      obtain ⟨cell, g1, g2, g3⟩ := z_recv hWd hP hq ha
      obtain ⟨c1, c2, n1, n2, n3⟩ := hWd.2.2.2.2.2.1 _ hnc
      cases Option.some.inj (n1.symm.trans g3)
      obtain ⟨ks, hks, -⟩ := Vm.findClass_spec g3
      obtain ⟨vm', ks', kt', hal, k1, k2, X2, step⟩ := z_castFail X1 hx hown (hts _ hw) (by rw [hT]; exact g1) (VmData.noStatics_of g2) hks n2 n3 (g := F0 m pc ls (.ref a :: st.map zval)) rfl rfl (by rw [hb]; exact hd)
      have hmod : (vm'.modules.all fun m => m.loader.isSome || m.name == "java.base" || !(castPackages_1.any fun p => m.packages.contains p)) = true := by
        have z := hWd.2.2.2.2.2.2.2.2.2.2.2.2.2.2
        unfold modulesRight_1 at z
        have e1 : vm'.modules = s.vm.modules := by rw [hal.1]
        rw [e1]
        exact z
      have f1 := z_fc (by rw [hal.findClass]; exact g3) k1
      have f2 := z_fc (by rw [hal.findClass]; exact n2) k2
      obtain ⟨w1, w2⟩ := z_msg hmod f1 f2 p1 p2 (zct_gen l1 l2)
      obtain ⟨t2, a1, b1⟩ := hN _ w1 w2 H locs cells slots ls hP hS hc hs hl (T.setVm vm') hT X2
      exact ⟨t2, step t2 a1, b1⟩
end ZH
theorem zw0_asksPlace {sa : Nat → Nat} {G : zG} {f : Nat} {K : zH → Prop} {X2 : zH → Prop} (hG : zOk sa G cX0_asksPlace 2 RX0 "asksPlace" none 7 200 (zKv K)) (hX : zOkX G (zkc "java/lang/IndexOutOfBoundsException" X2 zk0) []) {h : zH} {mc ms : Nat} {a0 a1 : Int32} (hF : zf0_asksPlace f h mc ms a0 a1 K X2) : zW G 0 h mc ms [(0, I_ a0), (1, I_ a1)] [] := by
  unfold zf0_asksPlace at hF
  have out : zbx mc ms (X2 h) → zW G 9 h mc ms [(0, I_ a0), (1, I_ a1)] [] := fun z => r_throwI hG hX q1058 q126 (by decide +kernel) dX0_asksPlace_9 dX0_asksPlace_12 dX0_asksPlace_13 dX0_asksPlace_16 (fun x hx => by cases hx) ⟨zdec rfl, zdec rfl⟩ ⟨z.1, z.2.1⟩ (Or.inl ⟨rfl, z.2.2⟩)
  refine r_iload_n hG 0 dX0_asksPlace_0 rfl ?_
  refine r_if_lt hG 9 dX0_asksPlace_1 (by decide) hF out (fun hF => ?_)
  refine r_iload_n hG 0 dX0_asksPlace_4 rfl ?_
  refine r_iload_n hG 1 dX0_asksPlace_5 rfl ?_
  refine r_icmp_lt hG 17 dX0_asksPlace_6 (by decide) hF (fun hF => ?_) out
  exact r_vret hG dX0_asksPlace_17 (zKv_in hF)
theorem zm0_asksPlace {sa : Nat → Nat} (f : Nat) (h : zH) (mc ms : Nat) (a0 a1 : Int32) (K : zH → Prop) (X2 : zH → Prop) : zCtX sa yX0_asksPlace (ws_ yX0_asksPlace cX0_asksPlace 2 none) 7 200 h mc ms [I_ a0, I_ a1] (zf0_asksPlace f h mc ms a0 a1 K X2) (zKv K) (zkc "java/lang/IndexOutOfBoundsException" X2 zk0) := fun l D sz hfl hsa => zMetX_of hfl hsa (by decide) rfl (zdec rfl) (fun G hG hX hF => zw0_asksPlace hG hX hF)
theorem zg0_550 : GoodIn lw_all (va_wsS RX0 550 yX0_asksPlace (ws_ yX0_asksPlace cX0_asksPlace 2 none)) := lw_S q1055 q1056 q101 q1057
theorem zhs_X0_asksPlace : yX0_asksPlace.cls ≠ "java/lang/invoke/MethodHandle" ∧ yX0_asksPlace.cls ≠ "java/lang/invoke/VarHandle" ∧ (parseMethodDescriptor yX0_asksPlace.desc).map (fun d => d.parameters.length) = some 2 := by decide +kernel
theorem z_ofn {n : Nat} (hn : n < 2147483648) (i : Int32) : (vp_in i n ↔ ¬ i < 0 ∧ i < Int32.ofNat n) := by
  have e : (Int32.ofNat n).toInt = n := Int32.toInt_ofNat_of_lt hn
  rw [vp_in, not_or, Int32.lt_iff_toInt_lt (x := i) (y := Int32.ofNat n), e, Int32.lt_iff_toInt_lt]
  have e0 : (0 : Int32).toInt = 0 := by decide
  rw [e0]
  have ec : i.toNatClampNeg = i.toInt.toNat := rfl
  rw [ec]
  omega
section ZH2
variable {sa : Nat → Nat} {G : zG} {cc : ByteArray} {nL : Nat} {nm : String} {ret : Option FieldType} {nf nl : Nat} {K : Option zV → zH → Prop} {KX : String → zH → Prop} {pc : Nat} {h : zH} {mc ms : Nat} {L : zL} {st : List zV}
theorem r_asks (hG : zOk sa G cc nL RX0 nm ret nf nl K) (hX : zOkX G KX []) {i : Int32} {n : Nat} (hn : n < 2147483648) (hr : 8 ≤ nf ∧ 221 ≤ nl) (hd : decode cc pc = .ok (.invokestatic 550, 3)) (hlen : zlen st ≤ 8) (hin : vp_in i n → zW G (pc + 3) h mc ms L st) (hout : ¬ vp_in i n → zbx mc ms (KX "java/lang/IndexOutOfBoundsException" h)) : zW G pc h mc ms L (I_ (Int32.ofNat n) :: I_ i :: st) := by
  have hv := z_ofn hn i
  by_cases c : vp_in i n
  · refine r_callSXv hG (hM := zm0_asksPlace 0 h 0 0 i (Int32.ofNat n) (fun h' => h' = h) (fun _ => False)) (hg := zg0_550) (hd0 := zhs_X0_asksPlace) (hr := ⟨by omega, by omega⟩) (mc2 := mc) (ms2 := ms) (hm := z0a) (hs0 := z0a) (hd := hd) (hst := rfl) (hn := rfl) (hlen := hlen) (hF := ?_) (kx := fun E h' hK => ?_) (kk := fun h' hK => ?_)
    · unfold zf0_asksPlace
      rw [if_neg (hv.mp c).1, if_pos (hv.mp c).2]
    · rcases hK with ⟨_, z⟩ | z
      · exact z.elim
      · exact False.elim z
    · subst hK; exact hin c
  · obtain ⟨h8, h2, hX2⟩ := hout c
    refine r_callSXv hG (hM := zm0_asksPlace 0 h 8 2000 i (Int32.ofNat n) (fun _ => False) (fun h' => h' = h)) (hg := zg0_550) (hd0 := zhs_X0_asksPlace) (hr := ⟨by omega, by omega⟩) (mc2 := mc - 8) (ms2 := ms - 2000) (hm := by omega) (hs0 := by omega) (hd := hd) (hst := rfl) (hn := rfl) (hlen := hlen) (hF := ?_) (kx := fun E h' hK => ?_) (kk := fun h' hK => hK.elim)
    · unfold zf0_asksPlace
      by_cases c1 : i < 0
      · rw [if_pos c1]; exact ⟨by decide, by decide, rfl⟩
      · rw [if_neg c1, if_neg (fun z => c (hv.mpr ⟨c1, z⟩))]; exact ⟨by decide, by decide, rfl⟩
    · rcases hK with ⟨rfl, rfl⟩ | z
      · exact r_out hG hX (fun x hx => by cases hx) hX2
      · exact False.elim z
theorem r_out0 {E : String} {own : String} (hG : zOk sa G cc nL own nm ret nf nl K) (hX : zOkX G KX []) (hK : KX E h) : zThr G pc h mc ms L st E := r_out hG hX (fun x hx => by cases hx) hK
end ZH2
theorem zsw2 {x : Int32} {d a b : Int} (h0 : x ≠ 0) (h1 : x ≠ 1) : Op.lookupswitch.offset [(0, a), (1, b)] d x.toInt = d := by
  have e0 : ¬ (0 : Int) = x.toInt := fun z => h0 (Int32.toInt_inj.mp z.symm)
  have e1 : ¬ (1 : Int) = x.toInt := fun z => h1 (Int32.toInt_inj.mp z.symm)
  simp [Op.lookupswitch.offset, e0, e1]

def zit (h : zH) (mc ms : Nat) (a0 : Option Nat) (T : Nat) (a2 : Int32) (K : Int32 → zH → Prop) (X1 X2 X3 : zH → Prop) : Prop := zrw h a0 (zbx mc ms (X1 h)) fun _ t n g => n < 2147483648 ∧ if t = T then (vp_in a2 n → K (g a2.toNatClampNeg) h) ∧ (¬ vp_in a2 n → zbx mc ms (X2 h)) else zbx mc ms (X3 h)
theorem zw0_item_28 {sa : Nat → Nat} {G : zG} {K : Int32 → zH → Prop} {X1 X2 X3 : zH → Prop} (hG : zOk sa G cX0_item 3 RX0 "item" (some .int) 20 11000 (zKi K)) (hX : zOkX G (zkc "java/lang/NullPointerException" X1 (zkc "java/lang/IndexOutOfBoundsException" X2 (zkc "java/lang/ClassCastException" X3 zk0))) []) {h : zH} {mc ms : Nat} {a0 : Option Nat} {a1 a2 : Int32} (hF : zit h mc ms a0 1 a2 K X1 X2 X3) : zW G 28 h mc ms [(0, R_ a0), (1, I_ a1), (2, I_ a2)] [] := by
  refine r_iload_n hG 2 dX0_item_28 rfl ?_
  refine r_aload_n hG 0 dX0_item_29 rfl ?_
  rcases hF with ⟨rfl, hN⟩ | ⟨a, t, n, g, rfl, ha, ht, hn, hF⟩
  · refine r_ckA hG (t := 1) (by decide) ⟨zdec rfl, zdec rfl⟩ q1038 dX0_item_30 (P := True) (X := False) (Or.inl ⟨rfl, trivial⟩) (fun z => z.elim) fun _ => ?_
    exact r_alenN hG ⟨zdec rfl, zdec rfl⟩ dX0_item_33 (P := fun _ => False) (X := X1 h) (Or.inl ⟨rfl, hN⟩) (fun x => r_out0 hG hX (Or.inl ⟨rfl, x⟩)) (fun _ z => z.elim)
  · by_cases c : t = 1
    · subst c
      rw [if_pos rfl] at hF
      refine r_ckA hG (t := 1) (by decide) ⟨zdec rfl, zdec rfl⟩ q1038 dX0_item_30 (P := True) (X := False) (Or.inr ⟨a, 1, _, rfl, ha, ht, fun _ => trivial, fun z => absurd rfl z⟩) (fun z => z.elim) fun _ => ?_
      refine r_alen hG dX0_item_33 (P := fun x => x = Int32.ofNat n) ⟨a, 1, _, _, rfl, ha, rfl, rfl⟩ fun x hx => ?_
      subst hx
      refine r_asks hG hX hn ⟨zdec rfl, zdec rfl⟩ dX0_item_34 (zdec rfl) (fun hv => ?_) (fun hv => zbx_of (hF.2 hv) fun x => Or.inr (Or.inl ⟨rfl, x⟩))
      refine r_aload_n hG 0 dX0_item_37 rfl ?_
      refine r_ckA hG (t := 1) (by decide) ⟨zdec rfl, zdec rfl⟩ q1038 dX0_item_38 (P := True) (X := False) (Or.inr ⟨a, 1, _, rfl, ha, ht, fun _ => trivial, fun z => absurd rfl z⟩) (fun z => z.elim) fun _ => ?_
      refine r_iload_n hG 2 dX0_item_41 rfl ?_
      refine r_baloadB hG dX0_item_42 (P := fun x => x = g a2.toNatClampNeg) ⟨a, n, g, rfl, ha, hv, rfl⟩ fun x hx => ?_
      subst hx
      exact r_iret hG dX0_item_43 (zKi_in (hF.1 hv))
    · rw [if_neg c] at hF
      exact r_ckA hG (t := 1) (by decide) ⟨zdec rfl, zdec rfl⟩ q1038 dX0_item_30 (P := False) (X := X3 h) (Or.inr ⟨a, t, _, rfl, ha, ht, fun z => absurd z c, fun _ => hF⟩) (fun x => r_out0 hG hX (Or.inr (Or.inr (Or.inl ⟨rfl, x⟩)))) (fun z => z.elim)
theorem zw0_item_44 {sa : Nat → Nat} {G : zG} {K : Int32 → zH → Prop} {X1 X2 X3 : zH → Prop} (hG : zOk sa G cX0_item 3 RX0 "item" (some .int) 20 11000 (zKi K)) (hX : zOkX G (zkc "java/lang/NullPointerException" X1 (zkc "java/lang/IndexOutOfBoundsException" X2 (zkc "java/lang/ClassCastException" X3 zk0))) []) {h : zH} {mc ms : Nat} {a0 : Option Nat} {a1 a2 : Int32} (hF : zit h mc ms a0 2 a2 K X1 X2 X3) : zW G 44 h mc ms [(0, R_ a0), (1, I_ a1), (2, I_ a2)] [] := by
  refine r_iload_n hG 2 dX0_item_44 rfl ?_
  refine r_aload_n hG 0 dX0_item_45 rfl ?_
  rcases hF with ⟨rfl, hN⟩ | ⟨a, t, n, g, rfl, ha, ht, hn, hF⟩
  · refine r_ckA hG (t := 2) (by decide) ⟨zdec rfl, zdec rfl⟩ q1039 dX0_item_46 (P := True) (X := False) (Or.inl ⟨rfl, trivial⟩) (fun z => z.elim) fun _ => ?_
    exact r_alenN hG ⟨zdec rfl, zdec rfl⟩ dX0_item_49 (P := fun _ => False) (X := X1 h) (Or.inl ⟨rfl, hN⟩) (fun x => r_out0 hG hX (Or.inl ⟨rfl, x⟩)) (fun _ z => z.elim)
  · by_cases c : t = 2
    · subst c
      rw [if_pos rfl] at hF
      refine r_ckA hG (t := 2) (by decide) ⟨zdec rfl, zdec rfl⟩ q1039 dX0_item_46 (P := True) (X := False) (Or.inr ⟨a, 2, _, rfl, ha, ht, fun _ => trivial, fun z => absurd rfl z⟩) (fun z => z.elim) fun _ => ?_
      refine r_alen hG dX0_item_49 (P := fun x => x = Int32.ofNat n) ⟨a, 2, _, _, rfl, ha, rfl, rfl⟩ fun x hx => ?_
      subst hx
      refine r_asks hG hX hn ⟨zdec rfl, zdec rfl⟩ dX0_item_50 (zdec rfl) (fun hv => ?_) (fun hv => zbx_of (hF.2 hv) fun x => Or.inr (Or.inl ⟨rfl, x⟩))
      refine r_aload_n hG 0 dX0_item_53 rfl ?_
      refine r_ckA hG (t := 2) (by decide) ⟨zdec rfl, zdec rfl⟩ q1039 dX0_item_54 (P := True) (X := False) (Or.inr ⟨a, 2, _, rfl, ha, ht, fun _ => trivial, fun z => absurd rfl z⟩) (fun z => z.elim) fun _ => ?_
      refine r_iload_n hG 2 dX0_item_57 rfl ?_
      refine r_saload hG dX0_item_58 (P := fun x => x = g a2.toNatClampNeg) ⟨a, n, g, rfl, ha, hv, rfl⟩ fun x hx => ?_
      subst hx
      exact r_iret hG dX0_item_59 (zKi_in (hF.1 hv))
    · rw [if_neg c] at hF
      exact r_ckA hG (t := 2) (by decide) ⟨zdec rfl, zdec rfl⟩ q1039 dX0_item_46 (P := False) (X := X3 h) (Or.inr ⟨a, t, _, rfl, ha, ht, fun z => absurd z c, fun _ => hF⟩) (fun x => r_out0 hG hX (Or.inr (Or.inr (Or.inl ⟨rfl, x⟩)))) (fun z => z.elim)
theorem zw0_item_60 {sa : Nat → Nat} {G : zG} {K : Int32 → zH → Prop} {X1 X2 X3 : zH → Prop} (hG : zOk sa G cX0_item 3 RX0 "item" (some .int) 20 11000 (zKi K)) (hX : zOkX G (zkc "java/lang/NullPointerException" X1 (zkc "java/lang/IndexOutOfBoundsException" X2 (zkc "java/lang/ClassCastException" X3 zk0))) []) {h : zH} {mc ms : Nat} {a0 : Option Nat} {a1 a2 : Int32} (hF : zit h mc ms a0 0 a2 K X1 X2 X3) : zW G 60 h mc ms [(0, R_ a0), (1, I_ a1), (2, I_ a2)] [] := by
  refine r_iload_n hG 2 dX0_item_60 rfl ?_
  refine r_aload_n hG 0 dX0_item_61 rfl ?_
  rcases hF with ⟨rfl, hN⟩ | ⟨a, t, n, g, rfl, ha, ht, hn, hF⟩
  · refine r_ckA hG (t := 0) (by decide) ⟨zdec rfl, zdec rfl⟩ q1043 dX0_item_62 (P := True) (X := False) (Or.inl ⟨rfl, trivial⟩) (fun z => z.elim) fun _ => ?_
    exact r_alenN hG ⟨zdec rfl, zdec rfl⟩ dX0_item_65 (P := fun _ => False) (X := X1 h) (Or.inl ⟨rfl, hN⟩) (fun x => r_out0 hG hX (Or.inl ⟨rfl, x⟩)) (fun _ z => z.elim)
  · by_cases c : t = 0
    · subst c
      rw [if_pos rfl] at hF
      refine r_ckA hG (t := 0) (by decide) ⟨zdec rfl, zdec rfl⟩ q1043 dX0_item_62 (P := True) (X := False) (Or.inr ⟨a, 0, _, rfl, ha, ht, fun _ => trivial, fun z => absurd rfl z⟩) (fun z => z.elim) fun _ => ?_
      refine r_alen hG dX0_item_65 (P := fun x => x = Int32.ofNat n) ⟨a, 0, _, _, rfl, ha, rfl, rfl⟩ fun x hx => ?_
      subst hx
      refine r_asks hG hX hn ⟨zdec rfl, zdec rfl⟩ dX0_item_66 (zdec rfl) (fun hv => ?_) (fun hv => zbx_of (hF.2 hv) fun x => Or.inr (Or.inl ⟨rfl, x⟩))
      refine r_aload_n hG 0 dX0_item_69 rfl ?_
      refine r_ckA hG (t := 0) (by decide) ⟨zdec rfl, zdec rfl⟩ q1043 dX0_item_70 (P := True) (X := False) (Or.inr ⟨a, 0, _, rfl, ha, ht, fun _ => trivial, fun z => absurd rfl z⟩) (fun z => z.elim) fun _ => ?_
      refine r_iload_n hG 2 dX0_item_73 rfl ?_
      refine r_iaload hG dX0_item_74 (P := fun x => x = g a2.toNatClampNeg) ⟨a, n, g, rfl, ha, hv, rfl⟩ fun x hx => ?_
      subst hx
      exact r_iret hG dX0_item_75 (zKi_in (hF.1 hv))
    · rw [if_neg c] at hF
      exact r_ckA hG (t := 0) (by decide) ⟨zdec rfl, zdec rfl⟩ q1043 dX0_item_62 (P := False) (X := X3 h) (Or.inr ⟨a, t, _, rfl, ha, ht, fun z => absurd z c, fun _ => hF⟩) (fun x => r_out0 hG hX (Or.inr (Or.inr (Or.inl ⟨rfl, x⟩)))) (fun z => z.elim)
theorem zw0_item {sa : Nat → Nat} {G : zG} {f : Nat} {K : Int32 → zH → Prop} {X1 X2 X3 : zH → Prop} (hG : zOk sa G cX0_item 3 RX0 "item" (some .int) 20 11000 (zKi K)) (hX : zOkX G (zkc "java/lang/NullPointerException" X1 (zkc "java/lang/IndexOutOfBoundsException" X2 (zkc "java/lang/ClassCastException" X3 zk0))) []) {h : zH} {mc ms : Nat} {a0 : Option Nat} {a1 a2 : Int32} (hF : zf0_item f h mc ms a0 a1 a2 K X1 X2 X3) : zW G 0 h mc ms [(0, R_ a0), (1, I_ a1), (2, I_ a2)] [] := by
  unfold zf0_item at hF
  refine r_iload_n hG 1 dX0_item_0 rfl ?_
  by_cases c0 : a1 = 0
  · have e : zty3 a1 = 1 := by unfold zty3; rw [if_pos c0]
    rw [e] at hF
    exact r_look hG 28 dX0_item_1 (by decide) (by rw [c0]) (by decide) (zw0_item_28 hG hX hF)
  · by_cases c1 : a1 = 1
    · have e : zty3 a1 = 2 := by unfold zty3; rw [if_neg c0, if_pos c1]
      rw [e] at hF
      exact r_look hG 44 dX0_item_1 (by decide) (by rw [c1]) (by decide) (zw0_item_44 hG hX hF)
    · have e : zty3 a1 = 0 := by unfold zty3; rw [if_neg c0, if_neg c1]
      rw [e] at hF
      exact r_look hG 60 dX0_item_1 (by decide) (zsw2 c0 c1) (by decide) (zw0_item_60 hG hX hF)
theorem zm0_item {sa : Nat → Nat} (f : Nat) (h : zH) (mc ms : Nat) (a0 : Option Nat) (a1 a2 : Int32) (K : Int32 → zH → Prop) (X1 X2 X3 : zH → Prop) : zCtX sa yX0_item (ws_ yX0_item cX0_item 3 (some .int)) 20 11000 h mc ms [R_ a0, I_ a1, I_ a2] (zf0_item f h mc ms a0 a1 a2 K X1 X2 X3) (zKi K) (zkc "java/lang/NullPointerException" X1 (zkc "java/lang/IndexOutOfBoundsException" X2 (zkc "java/lang/ClassCastException" X3 zk0))) := fun l D sz hfl hsa => zMetX_of hfl hsa (by decide) rfl (zdec rfl) (fun G hG hX hF => zw0_item hG hX hF)
def zle_ (h : zH) (mc ms : Nat) (a0 : Option Nat) (T : Nat) (K : Int32 → zH → Prop) (X1 X3 : zH → Prop) : Prop := zrw h a0 (zbx mc ms (X1 h)) fun _ t n _ => if t = T then K (Int32.ofNat n) h else zbx mc ms (X3 h)
theorem zw0_lengthOf_28 {sa : Nat → Nat} {G : zG} {K : Int32 → zH → Prop} {X1 X3 : zH → Prop} (hG : zOk sa G cX0_lengthOf 2 RX0 "lengthOf" (some .int) 20 11000 (zKi K)) (hX : zOkX G (zkc "java/lang/NullPointerException" X1 (zkc "java/lang/ClassCastException" X3 zk0)) []) {h : zH} {mc ms : Nat} {a0 : Option Nat} {a1 : Int32} (hF : zle_ h mc ms a0 1 K X1 X3) : zW G 28 h mc ms [(0, R_ a0), (1, I_ a1)] [] := by
  refine r_aload_n hG 0 dX0_lengthOf_28 rfl ?_
  rcases hF with ⟨rfl, hN⟩ | ⟨a, t, n, g, rfl, ha, ht, hF⟩
  · refine r_ckA hG (t := 1) (by decide) ⟨zdec rfl, zdec rfl⟩ q1038 dX0_lengthOf_29 (P := True) (X := False) (Or.inl ⟨rfl, trivial⟩) (fun z => z.elim) fun _ => ?_
    exact r_alenN hG ⟨zdec rfl, zdec rfl⟩ dX0_lengthOf_32 (P := fun _ => False) (X := X1 h) (Or.inl ⟨rfl, hN⟩) (fun x => r_out0 hG hX (Or.inl ⟨rfl, x⟩)) (fun _ z => z.elim)
  · by_cases c : t = 1
    · subst c
      rw [if_pos rfl] at hF
      refine r_ckA hG (t := 1) (by decide) ⟨zdec rfl, zdec rfl⟩ q1038 dX0_lengthOf_29 (P := True) (X := False) (Or.inr ⟨a, 1, _, rfl, ha, ht, fun _ => trivial, fun z => absurd rfl z⟩) (fun z => z.elim) fun _ => ?_
      refine r_alen hG dX0_lengthOf_32 (P := fun x => x = Int32.ofNat n) ⟨a, 1, _, _, rfl, ha, rfl, rfl⟩ fun x hx => ?_
      subst hx
      exact r_iret hG dX0_lengthOf_33 (zKi_in hF)
    · rw [if_neg c] at hF
      exact r_ckA hG (t := 1) (by decide) ⟨zdec rfl, zdec rfl⟩ q1038 dX0_lengthOf_29 (P := False) (X := X3 h) (Or.inr ⟨a, t, _, rfl, ha, ht, fun z => absurd z c, fun _ => hF⟩) (fun x => r_out0 hG hX (Or.inr (Or.inl ⟨rfl, x⟩))) (fun z => z.elim)
theorem zw0_lengthOf_34 {sa : Nat → Nat} {G : zG} {K : Int32 → zH → Prop} {X1 X3 : zH → Prop} (hG : zOk sa G cX0_lengthOf 2 RX0 "lengthOf" (some .int) 20 11000 (zKi K)) (hX : zOkX G (zkc "java/lang/NullPointerException" X1 (zkc "java/lang/ClassCastException" X3 zk0)) []) {h : zH} {mc ms : Nat} {a0 : Option Nat} {a1 : Int32} (hF : zle_ h mc ms a0 2 K X1 X3) : zW G 34 h mc ms [(0, R_ a0), (1, I_ a1)] [] := by
  refine r_aload_n hG 0 dX0_lengthOf_34 rfl ?_
  rcases hF with ⟨rfl, hN⟩ | ⟨a, t, n, g, rfl, ha, ht, hF⟩
  · refine r_ckA hG (t := 2) (by decide) ⟨zdec rfl, zdec rfl⟩ q1039 dX0_lengthOf_35 (P := True) (X := False) (Or.inl ⟨rfl, trivial⟩) (fun z => z.elim) fun _ => ?_
    exact r_alenN hG ⟨zdec rfl, zdec rfl⟩ dX0_lengthOf_38 (P := fun _ => False) (X := X1 h) (Or.inl ⟨rfl, hN⟩) (fun x => r_out0 hG hX (Or.inl ⟨rfl, x⟩)) (fun _ z => z.elim)
  · by_cases c : t = 2
    · subst c
      rw [if_pos rfl] at hF
      refine r_ckA hG (t := 2) (by decide) ⟨zdec rfl, zdec rfl⟩ q1039 dX0_lengthOf_35 (P := True) (X := False) (Or.inr ⟨a, 2, _, rfl, ha, ht, fun _ => trivial, fun z => absurd rfl z⟩) (fun z => z.elim) fun _ => ?_
      refine r_alen hG dX0_lengthOf_38 (P := fun x => x = Int32.ofNat n) ⟨a, 2, _, _, rfl, ha, rfl, rfl⟩ fun x hx => ?_
      subst hx
      exact r_iret hG dX0_lengthOf_39 (zKi_in hF)
    · rw [if_neg c] at hF
      exact r_ckA hG (t := 2) (by decide) ⟨zdec rfl, zdec rfl⟩ q1039 dX0_lengthOf_35 (P := False) (X := X3 h) (Or.inr ⟨a, t, _, rfl, ha, ht, fun z => absurd z c, fun _ => hF⟩) (fun x => r_out0 hG hX (Or.inr (Or.inl ⟨rfl, x⟩))) (fun z => z.elim)
theorem zw0_lengthOf_40 {sa : Nat → Nat} {G : zG} {K : Int32 → zH → Prop} {X1 X3 : zH → Prop} (hG : zOk sa G cX0_lengthOf 2 RX0 "lengthOf" (some .int) 20 11000 (zKi K)) (hX : zOkX G (zkc "java/lang/NullPointerException" X1 (zkc "java/lang/ClassCastException" X3 zk0)) []) {h : zH} {mc ms : Nat} {a0 : Option Nat} {a1 : Int32} (hF : zle_ h mc ms a0 0 K X1 X3) : zW G 40 h mc ms [(0, R_ a0), (1, I_ a1)] [] := by
  refine r_aload_n hG 0 dX0_lengthOf_40 rfl ?_
  rcases hF with ⟨rfl, hN⟩ | ⟨a, t, n, g, rfl, ha, ht, hF⟩
  · refine r_ckA hG (t := 0) (by decide) ⟨zdec rfl, zdec rfl⟩ q1043 dX0_lengthOf_41 (P := True) (X := False) (Or.inl ⟨rfl, trivial⟩) (fun z => z.elim) fun _ => ?_
    exact r_alenN hG ⟨zdec rfl, zdec rfl⟩ dX0_lengthOf_44 (P := fun _ => False) (X := X1 h) (Or.inl ⟨rfl, hN⟩) (fun x => r_out0 hG hX (Or.inl ⟨rfl, x⟩)) (fun _ z => z.elim)
  · by_cases c : t = 0
    · subst c
      rw [if_pos rfl] at hF
      refine r_ckA hG (t := 0) (by decide) ⟨zdec rfl, zdec rfl⟩ q1043 dX0_lengthOf_41 (P := True) (X := False) (Or.inr ⟨a, 0, _, rfl, ha, ht, fun _ => trivial, fun z => absurd rfl z⟩) (fun z => z.elim) fun _ => ?_
      refine r_alen hG dX0_lengthOf_44 (P := fun x => x = Int32.ofNat n) ⟨a, 0, _, _, rfl, ha, rfl, rfl⟩ fun x hx => ?_
      subst hx
      exact r_iret hG dX0_lengthOf_45 (zKi_in hF)
    · rw [if_neg c] at hF
      exact r_ckA hG (t := 0) (by decide) ⟨zdec rfl, zdec rfl⟩ q1043 dX0_lengthOf_41 (P := False) (X := X3 h) (Or.inr ⟨a, t, _, rfl, ha, ht, fun z => absurd z c, fun _ => hF⟩) (fun x => r_out0 hG hX (Or.inr (Or.inl ⟨rfl, x⟩))) (fun z => z.elim)
theorem zw0_lengthOf {sa : Nat → Nat} {G : zG} {f : Nat} {K : Int32 → zH → Prop} {X1 X3 : zH → Prop} (hG : zOk sa G cX0_lengthOf 2 RX0 "lengthOf" (some .int) 20 11000 (zKi K)) (hX : zOkX G (zkc "java/lang/NullPointerException" X1 (zkc "java/lang/ClassCastException" X3 zk0)) []) {h : zH} {mc ms : Nat} {a0 : Option Nat} {a1 : Int32} (hF : zf0_lengthOf f h mc ms a0 a1 K X1 X3) : zW G 0 h mc ms [(0, R_ a0), (1, I_ a1)] [] := by
  unfold zf0_lengthOf at hF
  refine r_iload_n hG 1 dX0_lengthOf_0 rfl ?_
  by_cases c0 : a1 = 0
  · have e : zty3 a1 = 1 := by unfold zty3; rw [if_pos c0]
    rw [e] at hF
    exact r_look hG 28 dX0_lengthOf_1 (by decide) (by rw [c0]) (by decide) (zw0_lengthOf_28 hG hX hF)
  · by_cases c1 : a1 = 1
    · have e : zty3 a1 = 2 := by unfold zty3; rw [if_neg c0, if_pos c1]
      rw [e] at hF
      exact r_look hG 34 dX0_lengthOf_1 (by decide) (by rw [c1]) (by decide) (zw0_lengthOf_34 hG hX hF)
    · have e : zty3 a1 = 0 := by unfold zty3; rw [if_neg c0, if_neg c1]
      rw [e] at hF
      exact r_look hG 40 dX0_lengthOf_1 (by decide) (zsw2 c0 c1) (by decide) (zw0_lengthOf_40 hG hX hF)
theorem zm0_lengthOf {sa : Nat → Nat} (f : Nat) (h : zH) (mc ms : Nat) (a0 : Option Nat) (a1 : Int32) (K : Int32 → zH → Prop) (X1 X3 : zH → Prop) : zCtX sa yX0_lengthOf (ws_ yX0_lengthOf cX0_lengthOf 2 (some .int)) 20 11000 h mc ms [R_ a0, I_ a1] (zf0_lengthOf f h mc ms a0 a1 K X1 X3) (zKi K) (zkc "java/lang/NullPointerException" X1 (zkc "java/lang/ClassCastException" X3 zk0)) := fun l D sz hfl hsa => zMetX_of hfl hsa (by decide) rfl (zdec rfl) (fun G hG hX hF => zw0_lengthOf hG hX hF)
def zro (h : zH) (mc ms T : Nat) (n : Int32) (K : Option Nat → zH → Prop) (X4 : zH → Prop) : Prop := if n < 0 then zbx mc ms (X4 h) else nwA h mc ms T n fun q h' => K (some q) h'
theorem zw0_rowOf_28 {sa : Nat → Nat} {G : zG} {K : Option Nat → zH → Prop} {X4 : zH → Prop} (hG : zOk sa G cX0_rowOf 2 RX0 "rowOf" (some (.object "java/lang/Object")) 20 11000 (zKr K)) (hX : zOkX G (zkc "java/lang/NegativeArraySizeException" X4 zk0) []) {h : zH} {mc ms : Nat} {a0 a1 : Int32} (hF : zro h mc ms 1 a1 K X4) : zW G 28 h mc ms [(0, I_ a0), (1, I_ a1)] [] := by
  refine r_iload_n hG 1 dX0_rowOf_28 rfl ?_
  refine r_newaN hG ⟨zdec rfl, zdec rfl⟩ (atype := .byte) (ty := .byte) (t := 1) (X := X4 h) q629 rfl rfl (fun _ _ => rfl) (by decide) (fun _ z => by cases z) dX0_rowOf_29 (P := fun q h' => K (some q) h') ?_ (fun x => r_out0 hG hX (Or.inl ⟨rfl, x⟩)) fun q h' hK => ?_
  · unfold zro at hF
    by_cases c : a1 < 0
    · rw [if_pos c] at hF; exact Or.inl ⟨c, hF⟩
    · rw [if_neg c] at hF; exact Or.inr hF
  · exact r_aret hG (Or.inl ⟨_, rfl⟩) dX0_rowOf_31 (zKr_in hK)
theorem zw0_rowOf_32 {sa : Nat → Nat} {G : zG} {K : Option Nat → zH → Prop} {X4 : zH → Prop} (hG : zOk sa G cX0_rowOf 2 RX0 "rowOf" (some (.object "java/lang/Object")) 20 11000 (zKr K)) (hX : zOkX G (zkc "java/lang/NegativeArraySizeException" X4 zk0) []) {h : zH} {mc ms : Nat} {a0 a1 : Int32} (hF : zro h mc ms 2 a1 K X4) : zW G 32 h mc ms [(0, I_ a0), (1, I_ a1)] [] := by
  refine r_iload_n hG 1 dX0_rowOf_32 rfl ?_
  refine r_newaN hG ⟨zdec rfl, zdec rfl⟩ (atype := .short) (ty := .short) (t := 2) (X := X4 h) q1200 rfl rfl (fun _ _ => rfl) (by decide) (fun _ z => by cases z) dX0_rowOf_33 (P := fun q h' => K (some q) h') ?_ (fun x => r_out0 hG hX (Or.inl ⟨rfl, x⟩)) fun q h' hK => ?_
  · unfold zro at hF
    by_cases c : a1 < 0
    · rw [if_pos c] at hF; exact Or.inl ⟨c, hF⟩
    · rw [if_neg c] at hF; exact Or.inr hF
  · exact r_aret hG (Or.inl ⟨_, rfl⟩) dX0_rowOf_35 (zKr_in hK)
theorem zw0_rowOf_36 {sa : Nat → Nat} {G : zG} {K : Option Nat → zH → Prop} {X4 : zH → Prop} (hG : zOk sa G cX0_rowOf 2 RX0 "rowOf" (some (.object "java/lang/Object")) 20 11000 (zKr K)) (hX : zOkX G (zkc "java/lang/NegativeArraySizeException" X4 zk0) []) {h : zH} {mc ms : Nat} {a0 a1 : Int32} (hF : zro h mc ms 0 a1 K X4) : zW G 36 h mc ms [(0, I_ a0), (1, I_ a1)] [] := by
  refine r_iload_n hG 1 dX0_rowOf_36 rfl ?_
  refine r_newaN hG ⟨zdec rfl, zdec rfl⟩ (atype := .int) (ty := .int) (t := 0) (X := X4 h) q772 rfl rfl (fun _ _ => rfl) (by decide) (fun _ z => by cases z) dX0_rowOf_37 (P := fun q h' => K (some q) h') ?_ (fun x => r_out0 hG hX (Or.inl ⟨rfl, x⟩)) fun q h' hK => ?_
  · unfold zro at hF
    by_cases c : a1 < 0
    · rw [if_pos c] at hF; exact Or.inl ⟨c, hF⟩
    · rw [if_neg c] at hF; exact Or.inr hF
  · exact r_aret hG (Or.inl ⟨_, rfl⟩) dX0_rowOf_39 (zKr_in hK)
theorem zw0_rowOf {sa : Nat → Nat} {G : zG} {f : Nat} {K : Option Nat → zH → Prop} {X4 : zH → Prop} (hG : zOk sa G cX0_rowOf 2 RX0 "rowOf" (some (.object "java/lang/Object")) 20 11000 (zKr K)) (hX : zOkX G (zkc "java/lang/NegativeArraySizeException" X4 zk0) []) {h : zH} {mc ms : Nat} {a0 a1 : Int32} (hF : zf0_rowOf f h mc ms a0 a1 K X4) : zW G 0 h mc ms [(0, I_ a0), (1, I_ a1)] [] := by
  unfold zf0_rowOf at hF
  refine r_iload_n hG 0 dX0_rowOf_0 rfl ?_
  by_cases c0 : a0 = 0
  · have e : zty3 a0 = 1 := by unfold zty3; rw [if_pos c0]
    rw [e] at hF
    exact r_look hG 28 dX0_rowOf_1 (by decide) (by rw [c0]) (by decide) (zw0_rowOf_28 hG hX hF)
  · by_cases c1 : a0 = 1
    · have e : zty3 a0 = 2 := by unfold zty3; rw [if_neg c0, if_pos c1]
      rw [e] at hF
      exact r_look hG 32 dX0_rowOf_1 (by decide) (by rw [c1]) (by decide) (zw0_rowOf_32 hG hX hF)
    · have e : zty3 a0 = 0 := by unfold zty3; rw [if_neg c0, if_neg c1]
      rw [e] at hF
      exact r_look hG 36 dX0_rowOf_1 (by decide) (zsw2 c0 c1) (by decide) (zw0_rowOf_36 hG hX hF)
theorem zm0_rowOf {sa : Nat → Nat} (f : Nat) (h : zH) (mc ms : Nat) (a0 a1 : Int32) (K : Option Nat → zH → Prop) (X4 : zH → Prop) : zCtX sa yX0_rowOf (ws_ yX0_rowOf cX0_rowOf 2 (some (.object "java/lang/Object"))) 20 11000 h mc ms [I_ a0, I_ a1] (zf0_rowOf f h mc ms a0 a1 K X4) (zKr K) (zkc "java/lang/NegativeArraySizeException" X4 zk0) := fun l D sz hfl hsa => zMetX_of hfl hsa (by decide) rfl (zdec rfl) (fun G hG hX hF => zw0_rowOf hG hX hF)
theorem zT0 : if (0 : Int32) = 0 then True else False := by rw [if_pos rfl]; trivial
theorem zT1 : if (1 : Int32) = 0 then False else True := by rw [if_neg (by decide)]; trivial
theorem zin_a {h : zH} {a t n t1 : Nat} {g : Nat → Int32} {P : Int32 → Prop} (ha : h a = some (.inl (t, n, .inl g))) (ht : t < 3) (hp : P (if t = t1 then 1 else 0)) : zinA h (some a) t1 P := Or.inr ⟨a, t, _, rfl, ha, ht, fun z => by rw [if_pos z] at hp; exact hp, fun z => by rw [if_neg z] at hp; exact hp⟩
theorem zw0_sortOf {sa : Nat → Nat} {G : zG} {f : Nat} {K : Int32 → zH → Prop} (hG : zOk sa G cX0_sortOf 1 RX0 "sortOf" (some .int) 20 11000 (zKi K)) {h : zH} {mc ms : Nat} {a0 : Option Nat} (hF : zf0_sortOf f h a0 K) : zW G 0 h mc ms [(0, R_ a0)] [] := by
  unfold zf0_sortOf at hF
  refine r_aload_n hG 0 dX0_sortOf_0 rfl ?_
  have k2 : K 2 h → zW G 22 h mc ms [(0, R_ a0)] [] := fun z => r_iconst hG (v := 2) dX0_sortOf_22 (by decide) (r_iret hG dX0_sortOf_23 (zKi_in z))
  rcases hF with ⟨rfl, hN⟩ | ⟨a, t, n, g, rfl, ha, ht, hF⟩
  · refine r_inA hG (t := 1) (by decide) q1038 dX0_sortOf_1 (P := fun x => x = 0) (Or.inl ⟨rfl, rfl⟩) fun x hx => ?_
    subst hx
    refine r_if_eq hG 11 dX0_sortOf_4 (by decide) zT0 (fun _ => ?_) (fun z => z.elim)
    refine r_aload_n hG 0 dX0_sortOf_11 rfl ?_
    refine r_inA hG (t := 2) (by decide) q1039 dX0_sortOf_12 (P := fun x => x = 0) (Or.inl ⟨rfl, rfl⟩) fun x hx => ?_
    subst hx
    exact r_if_eq hG 22 dX0_sortOf_15 (by decide) zT0 (fun _ => k2 hN) (fun z => z.elim)
  · refine r_inA hG (t := 1) (by decide) q1038 dX0_sortOf_1 (P := fun x => x = if t = 1 then 1 else 0) (zin_a ha ht rfl) fun x hx => ?_
    by_cases c1 : t = 1
    · rw [if_pos c1] at hx hF
      subst hx
      refine r_if_eq hG 11 dX0_sortOf_4 (by decide) zT1 (fun z => z.elim) (fun _ => ?_)
      refine r_iconst hG (v := 0) dX0_sortOf_7 (by decide) ?_
      exact r_goto hG 23 dX0_sortOf_8 (by decide) (r_iret hG dX0_sortOf_23 (zKi_in hF))
    · rw [if_neg c1] at hx hF
      subst hx
      refine r_if_eq hG 11 dX0_sortOf_4 (by decide) zT0 (fun _ => ?_) (fun z => z.elim)
      refine r_aload_n hG 0 dX0_sortOf_11 rfl ?_
      refine r_inA hG (t := 2) (by decide) q1039 dX0_sortOf_12 (P := fun x => x = if t = 2 then 1 else 0) (zin_a ha ht rfl) fun x hx => ?_
      by_cases c2 : t = 2
      · rw [if_pos c2] at hx hF
        subst hx
        refine r_if_eq hG 22 dX0_sortOf_15 (by decide) zT1 (fun z => z.elim) (fun _ => ?_)
        refine r_iconst hG (v := 1) dX0_sortOf_18 (by decide) ?_
        exact r_goto hG 23 dX0_sortOf_19 (by decide) (r_iret hG dX0_sortOf_23 (zKi_in hF))
      · rw [if_neg c2] at hx hF
        subst hx
        exact r_if_eq hG 22 dX0_sortOf_15 (by decide) zT0 (fun _ => k2 hF) (fun z => z.elim)
theorem zm0_sortOf {sa : Nat → Nat} (f : Nat) (h : zH) (mc ms : Nat) (a0 : Option Nat) (K : Int32 → zH → Prop) : zCt sa yX0_sortOf (ws_ yX0_sortOf cX0_sortOf 1 (some .int)) 20 11000 h mc ms [R_ a0] (zf0_sortOf f h a0 K) (zKi K) := fun l D sz hfl hsa => zMet_of hfl hsa (by decide) rfl (zdec rfl) (fun G hG hF => zw0_sortOf hG hF)
theorem zw0_put_7 {sa : Nat → Nat} {G : zG} {K : Int32 → zH → Prop} {X1 X2 : zH → Prop} (hG : zOk sa G cX0_put 3 RX0 "put" (some .int) 20 11000 (zKi K)) (hX : zOkX G (zkc "java/lang/NullPointerException" X1 (zkc "java/lang/IndexOutOfBoundsException" X2 zk0)) []) {h : zH} {mc ms a n : Nat} {g : Nat → Int32} {a1 a2 : Int32} (ha : h a = some (.inl (1, n, .inl g))) (hn : n < 2147483648) (hF : (vp_in a1 n → K 1 (hup h a (.inl (1, n, .inl (upd g a1.toNatClampNeg (znar 1 a2)))))) ∧ (¬ vp_in a1 n → zbx mc ms (X2 h))) : zW G 7 h mc ms [(0, R_ (some a)), (1, I_ a1), (2, I_ a2)] [] := by
  refine r_iload_n hG 1 dX0_put_7 rfl ?_
  refine r_aload_n hG 0 dX0_put_8 rfl ?_
  refine r_ckA hG (t := 1) (by decide) ⟨zdec rfl, zdec rfl⟩ q1038 dX0_put_9 (P := True) (X := False) (Or.inr ⟨a, 1, _, rfl, ha, by decide, fun _ => trivial, fun z => absurd rfl z⟩) (fun z => z.elim) fun _ => ?_
  refine r_alen hG dX0_put_12 (P := fun x => x = Int32.ofNat n) ⟨a, 1, _, _, rfl, ha, rfl, rfl⟩ fun x hx => ?_
  subst hx
  refine r_asks hG hX hn ⟨zdec rfl, zdec rfl⟩ dX0_put_13 (zdec rfl) (fun hv => ?_) (fun hv => zbx_of (hF.2 hv) fun x => Or.inr (Or.inl ⟨rfl, x⟩))
  refine r_aload_n hG 0 dX0_put_16 rfl ?_
  refine r_ckA hG (t := 1) (by decide) ⟨zdec rfl, zdec rfl⟩ q1038 dX0_put_17 (P := True) (X := False) (Or.inr ⟨a, 1, _, rfl, ha, by decide, fun _ => trivial, fun z => absurd rfl z⟩) (fun z => z.elim) fun _ => ?_
  refine r_iload_n hG 1 dX0_put_20 rfl ?_
  refine r_iload_n hG 2 dX0_put_21 rfl ?_
  refine r_i2b hG dX0_put_22 ?_
  refine r_bastoreB hG dX0_put_23 (P := K 1) ⟨a, n, g, rfl, ha, hv, hF.1 hv⟩ fun h' hK => ?_
  refine r_goto hG 70 dX0_put_24 (by decide) ?_
  refine r_iconst hG (v := 1) dX0_put_70 (by decide) ?_
  exact r_iret hG dX0_put_71 (zKi_in hK)
theorem zw0_put_34 {sa : Nat → Nat} {G : zG} {K : Int32 → zH → Prop} {X1 X2 : zH → Prop} (hG : zOk sa G cX0_put 3 RX0 "put" (some .int) 20 11000 (zKi K)) (hX : zOkX G (zkc "java/lang/NullPointerException" X1 (zkc "java/lang/IndexOutOfBoundsException" X2 zk0)) []) {h : zH} {mc ms a n : Nat} {g : Nat → Int32} {a1 a2 : Int32} (ha : h a = some (.inl (2, n, .inl g))) (hn : n < 2147483648) (hF : (vp_in a1 n → K 1 (hup h a (.inl (2, n, .inl (upd g a1.toNatClampNeg (znar 2 a2)))))) ∧ (¬ vp_in a1 n → zbx mc ms (X2 h))) : zW G 34 h mc ms [(0, R_ (some a)), (1, I_ a1), (2, I_ a2)] [] := by
  refine r_iload_n hG 1 dX0_put_34 rfl ?_
  refine r_aload_n hG 0 dX0_put_35 rfl ?_
  refine r_ckA hG (t := 2) (by decide) ⟨zdec rfl, zdec rfl⟩ q1039 dX0_put_36 (P := True) (X := False) (Or.inr ⟨a, 2, _, rfl, ha, by decide, fun _ => trivial, fun z => absurd rfl z⟩) (fun z => z.elim) fun _ => ?_
  refine r_alen hG dX0_put_39 (P := fun x => x = Int32.ofNat n) ⟨a, 2, _, _, rfl, ha, rfl, rfl⟩ fun x hx => ?_
  subst hx
  refine r_asks hG hX hn ⟨zdec rfl, zdec rfl⟩ dX0_put_40 (zdec rfl) (fun hv => ?_) (fun hv => zbx_of (hF.2 hv) fun x => Or.inr (Or.inl ⟨rfl, x⟩))
  refine r_aload_n hG 0 dX0_put_43 rfl ?_
  refine r_ckA hG (t := 2) (by decide) ⟨zdec rfl, zdec rfl⟩ q1039 dX0_put_44 (P := True) (X := False) (Or.inr ⟨a, 2, _, rfl, ha, by decide, fun _ => trivial, fun z => absurd rfl z⟩) (fun z => z.elim) fun _ => ?_
  refine r_iload_n hG 1 dX0_put_47 rfl ?_
  refine r_iload_n hG 2 dX0_put_48 rfl ?_
  refine r_i2s hG dX0_put_49 ?_
  refine r_sastore hG dX0_put_50 (P := K 1) ⟨a, n, g, rfl, ha, hv, hF.1 hv⟩ fun h' hK => ?_
  refine r_goto hG 70 dX0_put_51 (by decide) ?_
  refine r_iconst hG (v := 1) dX0_put_70 (by decide) ?_
  exact r_iret hG dX0_put_71 (zKi_in hK)
theorem zw0_put_54 {sa : Nat → Nat} {G : zG} {K : Int32 → zH → Prop} {X1 X2 : zH → Prop} (hG : zOk sa G cX0_put 3 RX0 "put" (some .int) 20 11000 (zKi K)) (hX : zOkX G (zkc "java/lang/NullPointerException" X1 (zkc "java/lang/IndexOutOfBoundsException" X2 zk0)) []) {h : zH} {mc ms a n : Nat} {g : Nat → Int32} {a1 a2 : Int32} (ha : h a = some (.inl (0, n, .inl g))) (hn : n < 2147483648) (hF : (vp_in a1 n → K 1 (hup h a (.inl (0, n, .inl (upd g a1.toNatClampNeg (znar 0 a2)))))) ∧ (¬ vp_in a1 n → zbx mc ms (X2 h))) : zW G 54 h mc ms [(0, R_ (some a)), (1, I_ a1), (2, I_ a2)] [] := by
  refine r_iload_n hG 1 dX0_put_54 rfl ?_
  refine r_aload_n hG 0 dX0_put_55 rfl ?_
  refine r_ckA hG (t := 0) (by decide) ⟨zdec rfl, zdec rfl⟩ q1043 dX0_put_56 (P := True) (X := False) (Or.inr ⟨a, 0, _, rfl, ha, by decide, fun _ => trivial, fun z => absurd rfl z⟩) (fun z => z.elim) fun _ => ?_
  refine r_alen hG dX0_put_59 (P := fun x => x = Int32.ofNat n) ⟨a, 0, _, _, rfl, ha, rfl, rfl⟩ fun x hx => ?_
  subst hx
  refine r_asks hG hX hn ⟨zdec rfl, zdec rfl⟩ dX0_put_60 (zdec rfl) (fun hv => ?_) (fun hv => zbx_of (hF.2 hv) fun x => Or.inr (Or.inl ⟨rfl, x⟩))
  refine r_aload_n hG 0 dX0_put_63 rfl ?_
  refine r_ckA hG (t := 0) (by decide) ⟨zdec rfl, zdec rfl⟩ q1043 dX0_put_64 (P := True) (X := False) (Or.inr ⟨a, 0, _, rfl, ha, by decide, fun _ => trivial, fun z => absurd rfl z⟩) (fun z => z.elim) fun _ => ?_
  refine r_iload_n hG 1 dX0_put_67 rfl ?_
  refine r_iload_n hG 2 dX0_put_68 rfl ?_
  refine r_iastore hG dX0_put_69 (P := K 1) ⟨a, n, g, rfl, ha, hv, hF.1 hv⟩ fun h' hK => ?_
  refine r_iconst hG (v := 1) dX0_put_70 (by decide) ?_
  exact r_iret hG dX0_put_71 (zKi_in hK)
theorem zw0_put {sa : Nat → Nat} {G : zG} {f : Nat} {K : Int32 → zH → Prop} {X1 X2 : zH → Prop} (hG : zOk sa G cX0_put 3 RX0 "put" (some .int) 20 11000 (zKi K)) (hX : zOkX G (zkc "java/lang/NullPointerException" X1 (zkc "java/lang/IndexOutOfBoundsException" X2 zk0)) []) {h : zH} {mc ms : Nat} {a0 : Option Nat} {a1 a2 : Int32} (hF : zf0_put f h mc ms a0 a1 a2 K X1 X2) : zW G 0 h mc ms [(0, R_ a0), (1, I_ a1), (2, I_ a2)] [] := by
  unfold zf0_put at hF
  refine r_aload_n hG 0 dX0_put_0 rfl ?_
  rcases hF with ⟨rfl, hN⟩ | ⟨a, t, n, g, rfl, ha, ht, hn, hF⟩
  · refine r_inA hG (t := 1) (by decide) q1038 dX0_put_1 (P := fun x => x = 0) (Or.inl ⟨rfl, rfl⟩) fun x hx => ?_
    subst hx
    refine r_if_eq hG 27 dX0_put_4 (by decide) zT0 (fun _ => ?_) (fun z => z.elim)
    refine r_aload_n hG 0 dX0_put_27 rfl ?_
    refine r_inA hG (t := 2) (by decide) q1039 dX0_put_28 (P := fun x => x = 0) (Or.inl ⟨rfl, rfl⟩) fun x hx => ?_
    subst hx
    refine r_if_eq hG 54 dX0_put_31 (by decide) zT0 (fun _ => ?_) (fun z => z.elim)
    refine r_iload_n hG 1 dX0_put_54 rfl ?_
    refine r_aload_n hG 0 dX0_put_55 rfl ?_
    refine r_ckA hG (t := 0) (by decide) ⟨zdec rfl, zdec rfl⟩ q1043 dX0_put_56 (P := True) (X := False) (Or.inl ⟨rfl, trivial⟩) (fun z => z.elim) fun _ => ?_
    exact r_alenN hG ⟨zdec rfl, zdec rfl⟩ dX0_put_59 (P := fun _ => False) (X := X1 h) (Or.inl ⟨rfl, hN⟩) (fun x => r_out0 hG hX (Or.inl ⟨rfl, x⟩)) (fun _ z => z.elim)
  · refine r_inA hG (t := 1) (by decide) q1038 dX0_put_1 (P := fun x => x = if t = 1 then 1 else 0) (zin_a ha ht rfl) fun x hx => ?_
    by_cases c1 : t = 1
    · rw [if_pos c1] at hx
      subst hx c1
      exact r_if_eq hG 27 dX0_put_4 (by decide) zT1 (fun z => z.elim) (fun _ => zw0_put_7 hG hX ha hn hF)
    · rw [if_neg c1] at hx
      subst hx
      refine r_if_eq hG 27 dX0_put_4 (by decide) zT0 (fun _ => ?_) (fun z => z.elim)
      refine r_aload_n hG 0 dX0_put_27 rfl ?_
      refine r_inA hG (t := 2) (by decide) q1039 dX0_put_28 (P := fun x => x = if t = 2 then 1 else 0) (zin_a ha ht rfl) fun x hx => ?_
      by_cases c2 : t = 2
      · rw [if_pos c2] at hx
        subst hx c2
        exact r_if_eq hG 54 dX0_put_31 (by decide) zT1 (fun z => z.elim) (fun _ => zw0_put_34 hG hX ha hn hF)
      · rw [if_neg c2] at hx
        subst hx
        have c0 : t = 0 := by omega
        subst c0
        exact r_if_eq hG 54 dX0_put_31 (by decide) zT0 (fun _ => zw0_put_54 hG hX ha hn hF) (fun z => z.elim)
theorem zm0_put {sa : Nat → Nat} (f : Nat) (h : zH) (mc ms : Nat) (a0 : Option Nat) (a1 a2 : Int32) (K : Int32 → zH → Prop) (X1 X2 : zH → Prop) : zCtX sa yX0_put (ws_ yX0_put cX0_put 3 (some .int)) 20 11000 h mc ms [R_ a0, I_ a1, I_ a2] (zf0_put f h mc ms a0 a1 a2 K X1 X2) (zKi K) (zkc "java/lang/NullPointerException" X1 (zkc "java/lang/IndexOutOfBoundsException" X2 zk0)) := fun l D sz hfl hsa => zMetX_of hfl hsa (by decide) rfl (zdec rfl) (fun G hG hX hF => zw0_put hG hX hF)
theorem zpn_Storm : zpn "PaneKeepsWeather$Storm" [2, 4] := by
  intro ci hci
  simp only [List.mem_cons, List.not_mem_nil, or_false] at hci
  rcases hci with rfl | rfl | rfl | rfl | rfl | rfl
  · exact ⟨_, rfl, by decide +kernel, by decide +kernel, by decide +kernel, by decide +kernel, by decide +kernel, by decide +kernel⟩
  · exact ⟨_, rfl, by decide +kernel, by decide +kernel, by decide +kernel, by decide +kernel, by decide +kernel, by decide +kernel⟩
  · exact ⟨_, rfl, by decide +kernel, by decide +kernel, by decide +kernel, by decide +kernel, by decide +kernel, by decide +kernel⟩
  · exact ⟨_, rfl, by decide +kernel, by decide +kernel, by decide +kernel, by decide +kernel, by decide +kernel, by decide +kernel⟩
  · exact ⟨_, rfl, by decide +kernel, by decide +kernel, by decide +kernel, by decide +kernel, by decide +kernel, by decide +kernel⟩
  · exact ⟨_, rfl, by decide +kernel, by decide +kernel, by decide +kernel, by decide +kernel, by decide +kernel, by decide +kernel⟩
theorem zpn_Noon : zpn "PaneKeepsWeather$Noon" [3, 5] := by
  intro ci hci
  simp only [List.mem_cons, List.not_mem_nil, or_false] at hci
  rcases hci with rfl | rfl | rfl | rfl | rfl | rfl
  · exact ⟨_, rfl, by decide +kernel, by decide +kernel, by decide +kernel, by decide +kernel, by decide +kernel, by decide +kernel⟩
  · exact ⟨_, rfl, by decide +kernel, by decide +kernel, by decide +kernel, by decide +kernel, by decide +kernel, by decide +kernel⟩
  · exact ⟨_, rfl, by decide +kernel, by decide +kernel, by decide +kernel, by decide +kernel, by decide +kernel, by decide +kernel⟩
  · exact ⟨_, rfl, by decide +kernel, by decide +kernel, by decide +kernel, by decide +kernel, by decide +kernel, by decide +kernel⟩
  · exact ⟨_, rfl, by decide +kernel, by decide +kernel, by decide +kernel, by decide +kernel, by decide +kernel, by decide +kernel⟩
  · exact ⟨_, rfl, by decide +kernel, by decide +kernel, by decide +kernel, by decide +kernel, by decide +kernel, by decide +kernel⟩
theorem zpn_Snow : zpn "PaneKeepsWeather$Snow" [4] := by
  intro ci hci
  simp only [List.mem_cons, List.not_mem_nil, or_false] at hci
  rcases hci with rfl | rfl | rfl | rfl | rfl | rfl
  · exact ⟨_, rfl, by decide +kernel, by decide +kernel, by decide +kernel, by decide +kernel, by decide +kernel, by decide +kernel⟩
  · exact ⟨_, rfl, by decide +kernel, by decide +kernel, by decide +kernel, by decide +kernel, by decide +kernel, by decide +kernel⟩
  · exact ⟨_, rfl, by decide +kernel, by decide +kernel, by decide +kernel, by decide +kernel, by decide +kernel, by decide +kernel⟩
  · exact ⟨_, rfl, by decide +kernel, by decide +kernel, by decide +kernel, by decide +kernel, by decide +kernel, by decide +kernel⟩
  · exact ⟨_, rfl, by decide +kernel, by decide +kernel, by decide +kernel, by decide +kernel, by decide +kernel, by decide +kernel⟩
  · exact ⟨_, rfl, by decide +kernel, by decide +kernel, by decide +kernel, by decide +kernel, by decide +kernel, by decide +kernel⟩
theorem zpn_Sunday : zpn "PaneKeepsWeather$Sunday" [5] := by
  intro ci hci
  simp only [List.mem_cons, List.not_mem_nil, or_false] at hci
  rcases hci with rfl | rfl | rfl | rfl | rfl | rfl
  · exact ⟨_, rfl, by decide +kernel, by decide +kernel, by decide +kernel, by decide +kernel, by decide +kernel, by decide +kernel⟩
  · exact ⟨_, rfl, by decide +kernel, by decide +kernel, by decide +kernel, by decide +kernel, by decide +kernel, by decide +kernel⟩
  · exact ⟨_, rfl, by decide +kernel, by decide +kernel, by decide +kernel, by decide +kernel, by decide +kernel, by decide +kernel⟩
  · exact ⟨_, rfl, by decide +kernel, by decide +kernel, by decide +kernel, by decide +kernel, by decide +kernel, by decide +kernel⟩
  · exact ⟨_, rfl, by decide +kernel, by decide +kernel, by decide +kernel, by decide +kernel, by decide +kernel, by decide +kernel⟩
  · exact ⟨_, rfl, by decide +kernel, by decide +kernel, by decide +kernel, by decide +kernel, by decide +kernel, by decide +kernel⟩
theorem zpn_Dusk : zpn "PaneKeepsWeather$Dusk" [6] := by
  intro ci hci
  simp only [List.mem_cons, List.not_mem_nil, or_false] at hci
  rcases hci with rfl | rfl | rfl | rfl | rfl | rfl
  · exact ⟨_, rfl, by decide +kernel, by decide +kernel, by decide +kernel, by decide +kernel, by decide +kernel, by decide +kernel⟩
  · exact ⟨_, rfl, by decide +kernel, by decide +kernel, by decide +kernel, by decide +kernel, by decide +kernel, by decide +kernel⟩
  · exact ⟨_, rfl, by decide +kernel, by decide +kernel, by decide +kernel, by decide +kernel, by decide +kernel, by decide +kernel⟩
  · exact ⟨_, rfl, by decide +kernel, by decide +kernel, by decide +kernel, by decide +kernel, by decide +kernel, by decide +kernel⟩
  · exact ⟨_, rfl, by decide +kernel, by decide +kernel, by decide +kernel, by decide +kernel, by decide +kernel, by decide +kernel⟩
  · exact ⟨_, rfl, by decide +kernel, by decide +kernel, by decide +kernel, by decide +kernel, by decide +kernel, by decide +kernel⟩
theorem zw0_as {sa : Nat → Nat} {G : zG} {f : Nat} {K : Option Nat → zH → Prop} {X3 : zH → Prop} (hG : zOk sa G cX0_as 2 RX0 "as" (some (.object "PaneKeepsWeather$Pane")) 20 11000 (zKr K)) (hX : zOkX G (zkc "java/lang/ClassCastException" X3 zk0) []) {h : zH} {mc ms : Nat} {a0 : Option Nat} {a1 : Int32} (hF : zf0_as f h mc ms a0 a1 K X3) : zW G 0 h mc ms [(0, R_ a0), (1, I_ a1)] [] := by
  unfold zf0_as at hF
  refine r_iload_n hG 1 dX0_as_0 rfl ?_
  have hQ : zckP h mc ms a0 (zsub a1) (K a0 h) (X3 h) := by
    rcases hF with ⟨rfl, hk⟩ | ⟨b, ci, fs, rfl, hb, hci, y, n⟩
    · exact Or.inl ⟨rfl, hk⟩
    · exact Or.inr ⟨b, ci, fs, rfl, hb, hci, y, n⟩
  by_cases c1 : a1 = 1
  · subst c1
    refine r_tin hG 1 36 dX0_as_1 rfl (by decide) (by decide) rfl (by decide) ?_
    refine r_aload_n hG 0 dX0_as_36 rfl ?_
    refine r_ckP hG (ok := [2, 4]) zpn_Storm ⟨zdec rfl, zdec rfl⟩ q145 dX0_as_37 hQ (fun x => r_out0 hG hX (Or.inl ⟨rfl, x⟩)) (fun hk => ?_)
    exact r_aret hG (Or.inl ⟨_, rfl⟩) dX0_as_40 (zKr_in hk)
  by_cases c2 : a1 = 2
  · subst c2
    refine r_tin hG 2 41 dX0_as_1 rfl (by decide) (by decide) rfl (by decide) ?_
    refine r_aload_n hG 0 dX0_as_41 rfl ?_
    refine r_ckP hG (ok := [3, 5]) zpn_Noon ⟨zdec rfl, zdec rfl⟩ q190 dX0_as_42 hQ (fun x => r_out0 hG hX (Or.inl ⟨rfl, x⟩)) (fun hk => ?_)
    exact r_aret hG (Or.inl ⟨_, rfl⟩) dX0_as_45 (zKr_in hk)
  by_cases c3 : a1 = 3
  · subst c3
    refine r_tin hG 3 46 dX0_as_1 rfl (by decide) (by decide) rfl (by decide) ?_
    refine r_aload_n hG 0 dX0_as_46 rfl ?_
    refine r_ckP hG (ok := [4]) zpn_Snow ⟨zdec rfl, zdec rfl⟩ q202 dX0_as_47 hQ (fun x => r_out0 hG hX (Or.inl ⟨rfl, x⟩)) (fun hk => ?_)
    exact r_aret hG (Or.inl ⟨_, rfl⟩) dX0_as_50 (zKr_in hk)
  by_cases c4 : a1 = 4
  · subst c4
    refine r_tin hG 4 51 dX0_as_1 rfl (by decide) (by decide) rfl (by decide) ?_
    refine r_aload_n hG 0 dX0_as_51 rfl ?_
    refine r_ckP hG (ok := [5]) zpn_Sunday ⟨zdec rfl, zdec rfl⟩ q214 dX0_as_52 hQ (fun x => r_out0 hG hX (Or.inl ⟨rfl, x⟩)) (fun hk => ?_)
    exact r_aret hG (Or.inl ⟨_, rfl⟩) dX0_as_55 (zKr_in hk)
  by_cases c5 : a1 = 5
  · subst c5
    refine r_tin hG 5 56 dX0_as_1 rfl (by decide) (by decide) rfl (by decide) ?_
    refine r_aload_n hG 0 dX0_as_56 rfl ?_
    refine r_ckP hG (ok := [6]) zpn_Dusk ⟨zdec rfl, zdec rfl⟩ q226 dX0_as_57 hQ (fun x => r_out0 hG hX (Or.inl ⟨rfl, x⟩)) (fun hk => ?_)
    exact r_aret hG (Or.inl ⟨_, rfl⟩) dX0_as_60 (zKr_in hk)
  have hk : K a0 h := by
    rcases hQ with ⟨_, hk⟩ | ⟨b, ci, fs, _, hb, hci, y, n⟩
    · exact hk
    · refine y ?_
      unfold zsub
      rw [if_neg c1, if_neg c2, if_neg c3, if_neg c4, if_neg c5]
      exact hci
  refine r_tout hG 61 dX0_as_1 ?_ (by decide) ?_
  · have u : ∀ v : Int32, a1 ≠ v → a1.toInt ≠ v.toInt := fun v n z => n (Int32.toInt_inj.mp z)
    have u1 := u 1 c1
    have u2 := u 2 c2
    have u3 := u 3 c3
    have u4 := u 4 c4
    have u5 := u 5 c5
    rw [show (1 : Int32).toInt = 1 by decide] at u1
    rw [show (2 : Int32).toInt = 2 by decide] at u2
    rw [show (3 : Int32).toInt = 3 by decide] at u3
    rw [show (4 : Int32).toInt = 4 by decide] at u4
    rw [show (5 : Int32).toInt = 5 by decide] at u5
    omega
  · refine r_aload_n hG 0 dX0_as_61 rfl ?_
    exact r_aret hG (Or.inl ⟨_, rfl⟩) dX0_as_62 (zKr_in hk)
theorem zm0_as {sa : Nat → Nat} (f : Nat) (h : zH) (mc ms : Nat) (a0 : Option Nat) (a1 : Int32) (K : Option Nat → zH → Prop) (X3 : zH → Prop) : zCtX sa yX0_as (ws_ yX0_as cX0_as 2 (some (.object "PaneKeepsWeather$Pane"))) 20 11000 h mc ms [R_ a0, I_ a1] (zf0_as f h mc ms a0 a1 K X3) (zKr K) (zkc "java/lang/ClassCastException" X3 zk0) := fun l D sz hfl hsa => zMetX_of hfl hsa (by decide) rfl (zdec rfl) (fun G hG hX hF => zw0_as hG hX hF)
