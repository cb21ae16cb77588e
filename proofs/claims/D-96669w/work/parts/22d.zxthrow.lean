/-! THE Z-KIT for the class: what the machine itself throws -/
set_option maxRecDepth 100000
/-- words out of the tables that are kept as standing facts -/
def zBw : List Cond := zCs.map (fun q => Cond.castable q.1 q.2) ++ zDc.map Cond.declares
theorem zw_words {D : zD} {A : Nat → Prop} {s : State} {args : Array Value} {L : List Cond} (hts : ∀ w ∈ lw_all, w.before args s = true) (hWd : zWd D A s) (h1 : (L.filter goodWord).all (fun w => decide (w ∈ lw_tbl)) = true) (h2 : (L.filter fun w => !goodWord w).all (fun w => decide (w ∈ zBw)) = true) : ∀ w ∈ L, w.before args s = true := by
  refine vx_hat (B := zBw) (fun w hw => hts w (List.mem_filter.mpr ⟨of_decide_eq_true (List.all_eq_true.mp h1 w hw), (List.mem_filter.mp hw).2⟩)) (fun w hw => of_decide_eq_true (List.all_eq_true.mp h2 w hw)) ?_
  intro w hw
  rcases List.mem_append.mp hw with z | z
  · obtain ⟨q, hq, rfl⟩ := List.mem_map.mp z
    exact va_Nw.use rfl (hWd.2.1 q hq)
  · obtain ⟨q, hq, rfl⟩ := List.mem_map.mp z
    exact va_Nw.use rfl (hWd.2.2.2.2.1 q hq)
def zch : List String := ["java/lang/RuntimeException", "java/lang/Exception"]
theorem zwN1 : ((vx_atN 8).filter goodWord).all (fun w => decide (w ∈ lw_tbl)) = true := by decide +kernel
theorem zwN2 : ((vx_atN 8).filter fun w => !goodWord w).all (fun w => decide (w ∈ zBw)) = true := by decide +kernel
theorem zwN3 : (vx_atN 8).all vx_ot = true := by decide +kernel
theorem zwS1 : ((vx_atM "java/lang/NegativeArraySizeException" zch).filter goodWord).all (fun w => decide (w ∈ lw_tbl)) = true := by decide +kernel
theorem zwS2 : ((vx_atM "java/lang/NegativeArraySizeException" zch).filter fun w => !goodWord w).all (fun w => decide (w ∈ zBw)) = true := by decide +kernel
theorem zwS3 : (vx_atM "java/lang/NegativeArraySizeException" zch).all vx_ot = true := by decide +kernel
theorem zwC1 : ((vx_atM "java/lang/ClassCastException" zch).filter goodWord).all (fun w => decide (w ∈ lw_tbl)) = true := by decide +kernel
theorem zwC2 : ((vx_atM "java/lang/ClassCastException" zch).filter fun w => !goodWord w).all (fun w => decide (w ∈ zBw)) = true := by decide +kernel
theorem zwC3 : (vx_atM "java/lang/ClassCastException" zch).all vx_ot = true := by decide +kernel
theorem zwI1 : ((vx_at0 "PaneKeepsWeather" 563 "java/lang/IndexOutOfBoundsException" zch).filter goodWord).all (fun w => decide (w ∈ lw_tbl)) = true := by decide +kernel
theorem zwI2 : ((vx_at0 "PaneKeepsWeather" 563 "java/lang/IndexOutOfBoundsException" zch).filter fun w => !goodWord w).all (fun w => decide (w ∈ zBw)) = true := by decide +kernel
theorem z_noTr {l : Launch} (h : l.flags = flags0) : l.stackTraces = false := by
  unfold Launch.stackTraces
  rw [h]
  decide +kernel
theorem zP.grow {D : zD} {A : Nat → Prop} {h : zH} {H H1 : Heap} (hP : zP D A h H) (g : ∀ q : Nat, q < H.size → H1[q]? = H[q]?) : zP D A h H1 := by
  obtain ⟨ws, hv, hp, hd⟩ := hP
  exact ⟨ws, hv, hp.kept (fun k x hx => g x.1 (hp k x hx).lt), hd⟩
def zNoteN (G : zG) (pc : Nat) (h : zH) (mc ms : Nat) (L : zL) (st : List zV) : Prop := match G with
  | ⟨⟨p, l, e, R, s, m, args, below, meth, c⟩, D, A, Q, MC, MS⟩ => ∀ (H : Heap) (locs : List Loc) (cells slots : Nat) (ls : Array Slot), zP D A h H → va_S A s.heap H locs → cells + mc ≤ MC → slots + ms ≤ MS → lv_has ls c.maxLocals (zlm L) → vx_NoteN p l e R s m args below meth c H locs cells slots Q (F0 m pc ls (st.map zval))
def zNote (G : zG) (pc : Nat) (h : zH) (mc ms : Nat) (L : zL) (st : List zV) (E tx : String) : Prop := match G with
  | ⟨⟨p, l, e, R, s, m, args, below, meth, c⟩, D, A, Q, MC, MS⟩ => ∀ (H : Heap) (locs : List Loc) (cells slots : Nat) (ls : Array Slot), zP D A h H → va_S A s.heap H locs → cells + mc ≤ MC → slots + ms ≤ MS → lv_has ls c.maxLocals (zlm L) → vx_Note p l e R s m args below meth c H locs cells slots Q (F0 m pc ls (st.map zval)) E tx
section ZXT
variable {sa : Nat → Nat} {G : zG} {cc : ByteArray} {nL : Nat} {own nm : String} {ret : Option FieldType} {nf nl : Nat} {K : Option zV → zH → Prop} {KX : String → zH → Prop} {hh : List (Nat × Nat × Nat × Nat)} {pc : Nat} {h : zH} {mc ms : Nat} {L : zL} {st : List zV} {E : String}
theorem z_npe (hG : zOk sa G cc nL own nm ret nf nl K) (hr : 8 ≤ nf ∧ zlen st + 10240 ≤ nl) (hm : 8 ≤ mc ∧ 2000 ≤ ms) (kx : zThr G pc h (mc - 8) (ms - 2000) L st "java/lang/NullPointerException") : zNoteN G pc h mc ms L st := by
  obtain ⟨⟨p, l, e, R, s, m, args, below, meth, c⟩, D, A, Q, MC, MS⟩ := G
  obtain ⟨hx, hb, hml, hrt, hlk, hnm, hown, hts, hWd, hA, hRc, hRs, hnf, hnl, hfl, hsa, hQ⟩ := hG
  intro H locs cells slots ls hP hS hc hs hl
  exact vx_npe hx (z_noTr hfl) (zw_words hts hWd zwN1 zwN2) (fun w hw => List.all_eq_true.mp zwN3 w hw) hWd.2.2.2.2.2.2.2.2.1 hWd.2.2.2.2.2.2.2.2.2.1 hS hl.1 (by omega) (by rw [zsum_eq]; omega) (by omega) (by omega) hlk
    fun H1 q9 ce g1 g2 g3 g4 g5 g6 => kx H1 locs (cells + 1) (slots + 8) ls q9 ce (hP.grow g2) g3 (by omega) (by omega) hl g4 g5 g6
theorem z_vm (hG : zOk sa G cc nL own nm ret nf nl K) {tx : String} (hr : 8 ≤ nf ∧ zlen st + 10240 ≤ nl) (hm : 8 ≤ mc ∧ 2000 ≤ ms) (hE : E = "java/lang/NegativeArraySizeException" ∨ E = "java/lang/ClassCastException") (h1 : (tx == notModelled) = false) (h2 : (stringBytes (stringToUtf16 tx)).size ≤ 1000) (kx : zThr G pc h (mc - 8) (ms - 2000) L st E) : zNote G pc h mc ms L st E tx := by
  obtain ⟨⟨p, l, e, R, s, m, args, below, meth, c⟩, D, A, Q, MC, MS⟩ := G
  obtain ⟨hx, hb, hml, hrt, hlk, hnm, hown, hts, hWd, hA, hRc, hRs, hnf, hnl, hfl, hsa, hQ⟩ := hG
  intro H locs cells slots ls hP hS hc hs hl
  have hz : zch.length = 2 := rfl
  rcases hE with rfl | rfl
  · exact vx_vm hx (z_noTr hfl) (names := zch) (nb := 1000) (by decide +kernel) (by decide +kernel) (by decide +kernel) (by decide +kernel) (zw_words hts hWd zwS1 zwS2) (fun w hw => List.all_eq_true.mp zwS3 w hw) hWd.2.2.2.2.2.2.2.2.1 hWd.2.2.2.2.2.2.2.2.2.1 hS hl.1 h1 h2 (Nat.le_refl _) (by omega) (by rw [zsum_eq]; omega) (by omega) (by omega) (by omega) hlk
      fun H1 q9 ce g1 g2 g3 g4 g5 g6 => kx H1 locs (cells + 3) (slots + (1000 + 10)) ls q9 ce (hP.grow g2) g3 (by omega) (by omega) hl g4 g5 g6
  · exact vx_vm hx (z_noTr hfl) (names := zch) (nb := 1000) (by decide +kernel) (by decide +kernel) (by decide +kernel) (by decide +kernel) (zw_words hts hWd zwC1 zwC2) (fun w hw => List.all_eq_true.mp zwC3 w hw) hWd.2.2.2.2.2.2.2.2.1 hWd.2.2.2.2.2.2.2.2.2.1 hS hl.1 h1 h2 (Nat.le_refl _) (by omega) (by rw [zsum_eq]; omega) (by omega) (by omega) (by omega) hlk
      fun H1 q9 ce g1 g2 g3 g4 g5 g6 => kx H1 locs (cells + 3) (slots + (1000 + 10)) ls q9 ce (hP.grow g2) g3 (by omega) (by omega) hl g4 g5 g6
/-- an array's length, or NullPointerException -/
def alnN (h : zH) (mc ms : Nat) (v : Option Nat) (P : Int32 → Prop) (X : Prop) : Prop := (v = none ∧ zbx mc ms X) ∨ aln h v P
theorem r_alenN (hG : zOk sa G cc nL own nm ret nf nl K) {v : Option Nat} {P : Int32 → Prop} {X : Prop} (hr : 8 ≤ nf ∧ zlen st + 10240 ≤ nl) (hd : decode cc pc = .ok (.arraylength, 1)) (hF : alnN h mc ms v P X) (kx : X → zThr G pc h (mc - 8) (ms - 2000) L st "java/lang/NullPointerException") (kk : ∀ n, P n → zW G (pc + 1) h mc ms L (I_ n :: st)) : zW G pc h mc ms L (R_ v :: st) := by
  rcases hF with ⟨rfl, h8, h2, hX⟩ | hF
  · have hN := z_npe hG hr ⟨h8, h2⟩ (kx hX)
    obtain ⟨⟨p, l, e, R, s, m, args, below, meth, c⟩, D, A, Q, MC, MS⟩ := G
    exact fun H locs cells slots ls hP hS hc hs hl => vx_arraylengthN hG.1 hG.2.1 hd (hN H locs cells slots ls hP hS hc hs hl)
  · exact r_alen hG hd hF kk
/-- a new array, or NegativeArraySizeException -/
def nwAN (h : zH) (mc ms t : Nat) (n : Int32) (P : Nat → zH → Prop) (X : Prop) : Prop := (n < 0 ∧ zbx mc ms X) ∨ nwA h mc ms t n P
theorem r_newaN (hG : zOk sa G cc nL own nm ret nf nl K) {atype : ArrayType} {t : Nat} {n : Int32} {ty : FieldType} {P : Nat → zH → Prop} {X : Prop} (hr : 8 ≤ nf ∧ zlen st + 10240 ≤ nl) (hw : Cond.arrayClass (newarray.typeOf atype) ∈ lw_all) (hty : newarray.typeOf atype = ty) (ht : ztys[t]? = some ty) (hz : ∀ (cA : ClassId) (N' : Nat), vp_cell cA (N', .inl (fun _ => 0)) = arrV cA N' (fun _ => defaultValue ty)) (hcb : componentBytes ty ≤ 4) (hpr : ∀ C : String, ty ≠ .object C) (hd : decode cc pc = .ok (.newarray atype, 2)) (hF : nwAN h mc ms t n P X) (kx : X → zThr G pc h (mc - 8) (ms - 2000) L st "java/lang/NegativeArraySizeException") (kk : ∀ (q : Nat) (h' : zH), P q h' → zW G (pc + 2) h' (mc - 1) (ms - n.toNatClampNeg) L (R_ (some q) :: st)) : zW G pc h mc ms L (I_ n :: st) := by
  rcases hF with ⟨h0, h8, h2, hX⟩ | hF
  · have hN := z_vm hG (tx := toString n) hr ⟨h8, h2⟩ (Or.inl rfl) (negative_text_modelled h0) (Nat.le_trans (negative_text_bytes n) (zdec rfl)) (kx hX)
    obtain ⟨⟨p, l, e, R, s, m, args, below, meth, c⟩, D, A, Q, MC, MS⟩ := G
    exact fun H locs cells slots ls hP hS hc hs hl => vx_newarrayZ hG.1 hG.2.1 h0 hd fun tx e => by rw [e]; exact hN H locs cells slots ls hP hS hc hs hl
  · exact r_newa hG hw hty ht hz hcb hpr hd hF kk
/-- new IndexOutOfBoundsException, thrown out of the method -/
theorem r_throwI (hG : zOk sa G cc nL "PaneKeepsWeather" nm ret nf nl K) (hX : zOkX G KX hh) {ik : Nat} (hk : Cond.classLink "PaneKeepsWeather" ik "java/lang/IndexOutOfBoundsException" ∈ lw_all) (hi : Cond.initialized "java/lang/IndexOutOfBoundsException" ∈ lw_all) (hgood : (Cond.classLink "PaneKeepsWeather" ik "java/lang/IndexOutOfBoundsException" :: Cond.initialized "java/lang/IndexOutOfBoundsException" :: vx_at0 "PaneKeepsWeather" 563 "java/lang/IndexOutOfBoundsException" zch).all vx_ot = true) (d0 : decode cc pc = .ok (.new ik, 3)) (d3 : decode cc (pc + 3) = .ok (.dup, 1)) (d4 : decode cc (pc + 4) = .ok (.invokespecial 563, 3)) (d7 : decode cc (pc + 7) = .ok (.athrow, 1)) (hno : ∀ x ∈ tableOf hh, covers x (pc + 7) = false) (hr : 6 ≤ nf ∧ zlen st + 100 ≤ nl) (hm : 8 ≤ mc ∧ 2000 ≤ ms) (hK : KX "java/lang/IndexOutOfBoundsException" h) : zW G pc h mc ms L st := by
  obtain ⟨⟨p, l, e, R, s, m, args, below, meth, c⟩, D, A, Q, MC, MS⟩ := G
  obtain ⟨ht, K0, rfl⟩ := hX
  obtain ⟨hx, hb, hml, hrt, hlk, hnm, hown, hts, hWd, hA, hRc, hRs, hnf, hnl, hfl, hsa, hQ⟩ := hG
  intro H locs cells slots ls hP hS hc hs hl
  exact vx_throw0 hx hb (z_noTr hfl) (names := zch) hown (by decide +kernel) (by decide +kernel) (hts _ hk) (hts _ hi) (zw_words hts hWd zwI1 zwI2) (fun w hw => List.all_eq_true.mp hgood w hw) hWd.2.2.2.2.2.2.2.2.1 hWd.2.2.2.2.2.2.2.2.2.1 hS hl.1 d0 d3 d4 d7 (by rw [ht]; exact hno) (by show 2 + 3 < R.frames; omega) (by rw [zsum_eq]; show _ + (13 * (2 + 1) + 42) ≤ R.locals; omega) (by omega) (by omega) hlk
    (fun t _ g1 g2 => ⟨⟨h, hK, hP.grow g2⟩, ⟨Nat.le_trans hS.1 g1, fun q h1 h2 => (g2 q (Nat.lt_of_lt_of_le h1 hS.1)).trans (hS.2.1 q h1 h2)⟩⟩) hS.2.2 (by omega) (by omega)
end ZXT
