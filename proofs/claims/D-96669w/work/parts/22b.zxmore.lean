/-! THE Z-KIT for the class: what is left: arrays of arrays, texts, the statics of Throwable -/
set_option maxRecDepth 100000
def zk0 : String → zH → Prop := fun _ _ => False
def zkc (E0 : String) (X : zH → Prop) (KX : String → zH → Prop) : String → zH → Prop := fun E h => (E = E0 ∧ X h) ∨ KX E h
/-- a row of arrays: the value is an array of the kind t1 -/
def astA (h : zH) (v : Option Nat) (t : Nat) (i : Int32) (x : Option Nat) (t1 : Nat) (P : zH → Prop) : Prop := (∃ (b : Nat) (y : vp_A), x = some b ∧ h b = some (.inl (t1, y))) ∧ astR h v t i x P
/-- into an array of texts: one of the text constants -/
def astS (sa : Nat → Nat) (h : zH) (v : Option Nat) (i : Int32) (x : Option Nat) (P : zH → Prop) : Prop := (∃ j : Nat, j < 14 ∧ x = some (sa j)) ∧ astR h v 7 i x P
def strL (sa : Nat → Nat) (v : Option Nat) (P : Int32 → Prop) : Prop := ∃ j : Nat, j < 14 ∧ v = some (sa j) ∧ P (Int32.ofNat (zsl.getD j 0))
def strC (sa : Nat → Nat) (v : Option Nat) (i : Int32) (P : Int32 → Prop) : Prop := ∃ j : Nat, j < 14 ∧ v = some (sa j) ∧ vp_in i (zsl.getD j 0) ∧ P ((zsb.getD j []).getD i.toNatClampNeg 0)
/-- the first text constant's places: is a byte among its letters (-1: no) -/
def strX (sa : Nat → Nat) (v : Option Nat) (c : Int32) (P : Int32 → Prop) : Prop := v = some (sa 0) ∧ 0 ≤ c ∧ c < 256 ∧ P (match (zsb.getD 0 []).findIdx? (fun b => b == c) with
  | some k => Int32.ofNat k
  | none => -1)
theorem vp_cls (cA : ClassId) (y : vp_A) : (vp_cell cA y).cls = cA ∧ (vp_cell cA y).vm = .none := by
  obtain ⟨n1, f | f | f | f | f⟩ := y <;> exact ⟨rfl, rfl⟩
section ZXM
variable {sa : Nat → Nat} {G : zG} {cc : ByteArray} {nL : Nat} {own nm : String} {ret : Option FieldType} {nf nl : Nat} {K : Option zV → zH → Prop} {pc : Nat} {h : zH} {mc ms : Nat} {L : zL} {st : List zV}
theorem r_anewA (hG : zOk sa G cc nL own nm ret nf nl K) {ix t : Nat} {C : String} {t1 : FieldType} {n : Int32} {P : Nat → zH → Prop} (hw : Cond.classLink own ix C ∈ lw_all) (ht : ztys[t]? = some (.array t1)) (ho : t1 ∈ zAoA) (hC : (FieldType.array t1).toString = C) (hd : decode cc pc = .ok (.anewarray ix, 3)) (hF : nwR h mc ms t n P) (kk : ∀ (q : Nat) (h' : zH), P q h' → zW G (pc + 3) h' (mc - 1) (ms - n.toNatClampNeg) L (R_ (some q) :: st)) : zW G pc h mc ms L (I_ n :: st) := by
  obtain ⟨⟨p, l, e, R, s, m, args, below, meth, c⟩, D, A, Q, MC, MS⟩ := G
  obtain ⟨h1, h2, h3, h4, hp⟩ := hF
  intro H locs cells slots ls hP hS hc hs hl
  obtain ⟨ws, hv, hPp, hD⟩ := hP
  have hts := hG.2.2.2.2.2.2.2.1
  have hRc : R.cells = MC := hG.2.2.2.2.2.2.2.2.2.2.1
  have hRs : R.slots = MS := hG.2.2.2.2.2.2.2.2.2.2.2.1
  have hWd := hG.2.2.2.2.2.2.2.2.1
  have hA := hG.2.2.2.2.2.2.2.2.2.1
  have hb4 : n.toNatClampNeg * 4 ≤ 536870912 := calc n.toNatClampNeg * 4 ≤ 100000 * 4 := Nat.mul_le_mul h2 (Nat.le_refl 4)
    _ ≤ 536870912 := Nat.le_of_ble_eq_true rfl
  refine W.anewA hG.1 hG.2.1 hG.2.2.2.2.2.2.1 (by rw [hC]; exact hts _ hw) (over_moved (Vm.Alike.refl _) (hWd.2.2.2.2.2.2.2.1 t1 ho)) rfl hd rfl h1 hb4 (by omega) (by omega) fun cA kA comp f1 f2 f3 f4 => ?_
  have hcA : cA = D.2.1 t := by
    have hA2 : va_RA s (D.2.1 t) (.array t1) := (hWd.1.2 t _ (zty ht)).2
    exact Option.some.inj (f1.symm.trans hA2)
  subst hcA
  generalize hH1 : H.push ({ cls := D.2.1 t, slots := Array.replicate n.toNatClampNeg .null, vm := .none } : Cell) = H1
  have z1 : H1.size = H.size + 1 := by rw [← hH1, Array.size_push]
  have e1 : H1[H.size]? = some (arrV (D.2.1 t) n.toNatClampNeg (fun _ => .null)) := by rw [← hH1, Array.getElem?_push_size, ← arrV_new]
  have o1 : ∀ q : Nat, q < H.size → H1[q]? = H[q]? := fun q hq => by rw [← hH1, Array.getElem?_push, if_neg (Nat.ne_of_lt hq)]
  have hk : ∀ (k : Nat) (x : Nat × va_E), (zws D ws)[k]? = some x → H1[x.1]? = H[x.1]? := fun k x hx => o1 x.1 ((hPp k x hx).lt)
  have ez : zws D ws ++ [(H.size, (.inl (D.2.1 t, n.toNatClampNeg, .inr (.inr (.inr (.inr (fun _ => none))))) : va_E))] = zws D (ws ++ [(H.size, .inl (t, n.toNatClampNeg, .inr (.inr (.inr (.inr (fun _ => none))))))]) := zws_push (e := .inl (t, n.toNatClampNeg, .inr (.inr (.inr (.inr (fun _ => none))))))
  have hP1 : va_P D.1 zcl (zws D ws ++ [(H.size, (.inl (D.2.1 t, n.toNatClampNeg, .inr (.inr (.inr (.inr (fun _ => none))))) : va_E))]) H1 := by
    refine (hPp.kept hk).app (fun k x hx => ?_)
    have hz : k < 1 := (List.getElem?_eq_some_iff.mp hx).1
    rw [show k = 0 by omega] at hx
    cases hx
    show H1[H.size]? = some (vp_cell _ _)
    rw [vp_cell_q]
    exact e1
  have hD1 : va_D A (zws D ws ++ [(H.size, (.inl (D.2.1 t, n.toNatClampNeg, .inr (.inr (.inr (.inr (fun _ => none))))) : va_E))]) := hD.push hPp rfl (hA _ hS.1)
  rw [ez] at hP1 hD1
  obtain ⟨hq, hv1⟩ := zv_push hv hD1
  exact kk H.size _ (hp _ hq) H1 locs (cells + 1) (slots + n.toNatClampNeg) ls ⟨_, hv1, hP1, hD1⟩ ⟨Nat.le_trans hS.1 (by omega), fun x g1 g2 => (o1 x (Nat.lt_of_lt_of_le g1 hS.1)).trans (hS.2.1 x g1 g2), hS.2.2⟩ (by omega) (by omega) hl
theorem r_aastoreA (hG : zOk sa G cc nL own nm ret nf nl K) {v x : Option Nat} {i : Int32} {P : zH → Prop} (hd : decode cc pc = .ok (.aastore, 1)) (hF : astA h v 6 i x 5 P) (kk : ∀ h', P h' → zW G (pc + 1) h' mc ms L st) : zW G pc h mc ms L (R_ x :: I_ i :: R_ v :: st) := by
  obtain ⟨⟨p, l, e, R, s, m, args, below, meth, c⟩, D, A, Q, MC, MS⟩ := G
  obtain ⟨hx0, hb0, hml, hrt, hlk, hnm, hown, hts, hWd, hA, hRc, hRs, hnf, hnl, hfl, hsa, hQ⟩ := hG
  obtain ⟨⟨b, y, rfl, hb⟩, a, n, f, rfl, ha, hin, hp⟩ := hF
  intro H locs cells slots ls hP hS hc hs hl
  obtain ⟨ws, hv, hPp, hD⟩ := hP
  obtain ⟨j, hj⟩ := List.getElem?_of_mem ((hv a _).mp ha)
  obtain ⟨k, hk⟩ := List.getElem?_of_mem ((hv b _).mp hb)
  have hin2 : ¬ i < 0 ∧ i.toNatClampNeg < n := ⟨fun q => hin (Or.inl q), Nat.not_le.mp fun q => hin (Or.inr q)⟩
  obtain ⟨comp, cA, kA, hcomp, hidx, hkA, hkindA, hnameA⟩ := arrayOverA_spec (hWd.2.2.2.2.2.2.2.1 (.object "PaneKeepsWeather$Node") List.mem_cons_self)
  have h6 : va_RA s (D.2.1 6) (.array (.object "PaneKeepsWeather$Node")) := (hWd.1.2 6 _ (zty rfl)).2
  have h5 : va_RA s (D.2.1 5) (.object "PaneKeepsWeather$Node") := (hWd.1.2 5 _ (zty rfl)).2
  obtain ⟨k5, c5, a1, a2, a3, a4⟩ := h5
  have hc6 : cA = D.2.1 6 := Option.some.inj (hnameA.symm.trans h6)
  have hc5 : comp = D.2.1 5 := Option.some.inj (hcomp.symm.trans a4)
  subst hc6
  subst hc5
  have hcv : H[b]? = some (vp_cell (D.2.1 5) y) := hPp k _ (zws_at hk)
  have e1 : (zws D ws).set j (a, (.inl (D.2.1 6, n, .inr (.inr (.inr (.inr (va_up f i.toNatClampNeg (some b)))))) : va_E)) = zws D (ws.set j (a, .inl (6, n, .inr (.inr (.inr (.inr (va_up f i.toNatClampNeg (some b)))))))) := zws_set (e := .inl (6, n, .inr (.inr (.inr (.inr (va_up f i.toNatClampNeg (some b)))))))
  refine W.aast hx0 hb0 (hPp j _ (zws_at hj)) (fun q h => by cases h) (fun h => by cases h) hkA hkindA rfl a1 ⟨hin2.1, by show _ < (arrV _ _ _).slots.size; rw [arrV_size]; exact hin2.2⟩ hcv (fun q h => by rw [(vp_cls _ _).2] at h; cases h) (by rw [(vp_cls _ _).1]; exact a1) (by rw [(vp_cls _ _).1]; exact va_asg _ _) rfl rfl hd fun H1 e z oq => ?_
  have hP1 : va_P D.1 zcl ((zws D ws).set j (a, (.inl (D.2.1 6, n, .inr (.inr (.inr (.inr (va_up f i.toNatClampNeg (some b)))))) : va_E))) H1 := by
    refine hPp.set hD (zws_at hj) ?_ oq
    show H1[a]? = some (vp_cell _ _)
    rw [e]
    rw [vp_cell_q, vp_cell_q, arrV_store]
    congr 2
    funext q
    by_cases hq : q = i.toNatClampNeg
    · subst hq
      simp [updV, va_up, va_rf]
    · simp [updV, va_up, hq]
  have hD1 : va_D A ((zws D ws).set j (a, (.inl (D.2.1 6, n, .inr (.inr (.inr (.inr (va_up f i.toNatClampNeg (some b)))))) : va_E))) := hD.set (zws_at hj)
  rw [e1] at hP1 hD1
  exact kk _ hp H1 _ cells slots ls ⟨_, zv_set hv hD hj, hP1, hD1⟩ (hS.put z oq (hD.2 j _ (zws_at hj))) hc hs hl
theorem r_aastoreS (hG : zOk sa G cc nL own nm ret nf nl K) {v x : Option Nat} {i : Int32} {P : zH → Prop} (hd : decode cc pc = .ok (.aastore, 1)) (hF : astS sa h v i x P) (kk : ∀ h', P h' → zW G (pc + 1) h' mc ms L st) : zW G pc h mc ms L (R_ x :: I_ i :: R_ v :: st) := by
  obtain ⟨⟨p, l, e, R, s, m, args, below, meth, c⟩, D, A, Q, MC, MS⟩ := G
  obtain ⟨hx0, hb0, hml, hrt, hlk, hnm, hown, hts, hWd, hA, hRc, hRs, hnf, hnl, hfl, hsa, hQ⟩ := hG
  obtain ⟨⟨j0, hj0, rfl⟩, a, n, f, rfl, ha, hin, hp⟩ := hF
  intro H locs cells slots ls hP hS hc hs hl
  obtain ⟨ws, j, hv, hPp, hD, hj⟩ := hP.at ha
  have hO := ((hWd.2.2.2.2.2.2.2.2.2.2.2.2.1.1 j0 hj0).1).kept (fun q g1 g2 => hS.2.1 q g1 g2)
  have hsa' : D.2.2.1 = sa := hsa
  rw [hsa'] at hO
  obtain ⟨cell, g1, g2, g3, g4⟩ := hO
  obtain ⟨kC, hkC, -⟩ := Vm.findClass_spec g3
  have hAny : va_Any "java/lang/String" s H (sa j0) := ⟨cell, g1, g2, ⟨kC, hkC⟩, fun comp hc0 => by rw [show comp = cell.cls from Option.some.inj (hc0.symm.trans g3)]; exact va_asg _ _⟩
  have e1 : (zws D ws).set j (a, (.inl (D.2.1 7, n, .inr (.inr (.inr (.inr (va_up f i.toNatClampNeg (some (sa j0))))))) : va_E)) = zws D (ws.set j (a, .inl (7, n, .inr (.inr (.inr (.inr (va_up f i.toNatClampNeg (some (sa j0))))))))) := zws_set (e := .inl (7, n, .inr (.inr (.inr (.inr (va_up f i.toNatClampNeg (some (sa j0))))))))
  refine va_astqM hx0 hb0 hWd.1 hPp hD hS j 7 (zws_at hj) (zty rfl) hAny hin hd fun H1 locs1 hP1 hD1 hS1 => ?_
  rw [e1] at hP1 hD1
  exact kk _ hp H1 locs1 cells slots ls ⟨_, zv_set hv hD hj, hP1, hD1⟩ hS1 hc hs hl
theorem r_gets_us (hG : zOk sa G cc nL own nm ret nf nl K) {ix : Nat} (hw : Cond.fieldLink own ix "java/lang/Throwable" "UNASSIGNED_STACK" "[Ljava/lang/StackTraceElement;" ∈ lw_all) (hd : decode cc pc = .ok (.getstatic ix, 3)) (kk : ∀ o : Option Nat, zW G (pc + 3) h mc ms L (R_ o :: st)) : zW G pc h mc ms L st := by
  obtain ⟨⟨p, l, e, R, s, m, args, below, meth, c⟩, D, A, Q, MC, MS⟩ := G
  have hts := hG.2.2.2.2.2.2.2.1
  have hWd := hG.2.2.2.2.2.2.2.2.1
  intro H locs cells slots ls hP hS hc hs hl
  rcases hWd.2.2.2.2.2.2.2.2.1.1 with h1 | ⟨t, h1⟩
  · exact va_gets hG.1 hG.2.1 h1 hS hG.2.2.2.2.2.2.1 (hts _ hw) (fun x z => z) hd (kk none H locs cells slots ls hP hS hc hs hl)
  · exact va_gets hG.1 hG.2.1 h1 hS hG.2.2.2.2.2.2.1 (hts _ hw) (fun x z => z) hd (kk (some t) H locs cells slots ls hP hS hc hs hl)
theorem r_gets_ss (hG : zOk sa G cc nL own nm ret nf nl K) {ix : Nat} (hw : Cond.fieldLink own ix "java/lang/Throwable" "SUPPRESSED_SENTINEL" "Ljava/util/List;" ∈ lw_all) (hd : decode cc pc = .ok (.getstatic ix, 3)) (kk : ∀ o : Option Nat, zW G (pc + 3) h mc ms L (R_ o :: st)) : zW G pc h mc ms L st := by
  obtain ⟨⟨p, l, e, R, s, m, args, below, meth, c⟩, D, A, Q, MC, MS⟩ := G
  have hts := hG.2.2.2.2.2.2.2.1
  have hWd := hG.2.2.2.2.2.2.2.2.1
  intro H locs cells slots ls hP hS hc hs hl
  rcases hWd.2.2.2.2.2.2.2.2.2.1.1 with h1 | ⟨t, h1⟩
  · exact va_gets hG.1 hG.2.1 h1 hS hG.2.2.2.2.2.2.1 (hts _ hw) (fun x z => z) hd (kk none H locs cells slots ls hP hS hc hs hl)
  · exact va_gets hG.1 hG.2.1 h1 hS hG.2.2.2.2.2.2.1 (hts _ hw) (fun x z => z) hd (kk (some t) H locs cells slots ls hP hS hc hs hl)
theorem r_ldcS (hG : zOk sa G cc nL own nm ret nf nl K) {ix : Nat} (i : Nat) (hi : i < 14) (hx : (own, ix) = ("PaneKeepsWeather", (zsx.getD i (0, "")).1)) (hd : decode cc pc = .ok (.ldc ix, 2)) (kk : zW G (pc + 2) h mc ms L (R_ (some (sa i)) :: st)) : zW G pc h mc ms L st := by
  obtain ⟨⟨p, l, e, R, s, m, args, below, meth, c⟩, D, A, Q, MC, MS⟩ := G
  obtain ⟨hx0, hb, hml, hrt, hlk, hnm, hown, hts, hWd, hA, hRc, hRs, hnf, hnl, hfl, hsa, hQ⟩ := hG
  cases hx
  have hk := hWd.2.2.2.2.2.2.2.2.2.2.2.2.2.1 i hi
  rw [hsa] at hk
  exact fun H locs cells slots ls hP hS hc hs hl => va_ldcS hx0 hb hown hk hd (kk H locs cells slots ls hP hS hc hs hl)
theorem r_ldcwS (hG : zOk sa G cc nL own nm ret nf nl K) {ix : Nat} (i : Nat) (hi : i < 14) (hx : (own, ix) = ("PaneKeepsWeather", (zsx.getD i (0, "")).1)) (hd : decode cc pc = .ok (.ldc_w ix, 3)) (kk : zW G (pc + 3) h mc ms L (R_ (some (sa i)) :: st)) : zW G pc h mc ms L st := by
  obtain ⟨⟨p, l, e, R, s, m, args, below, meth, c⟩, D, A, Q, MC, MS⟩ := G
  obtain ⟨hx0, hb, hml, hrt, hlk, hnm, hown, hts, hWd, hA, hRc, hRs, hnf, hnl, hfl, hsa, hQ⟩ := hG
  cases hx
  have hk := hWd.2.2.2.2.2.2.2.2.2.2.2.2.2.1 i hi
  rw [hsa] at hk
  intro H locs cells slots ls hP hS hc hs hl T hT X
  obtain ⟨t, a1, b1⟩ := kk H locs cells slots ls hP hS hc hs hl T hT X
  exact ⟨t, X.ldcStringW hx0 hown (text := (zsx.getD i (0, "")).2) (a := sa i) hk.1 hk.2 (g := F0 m pc ls (st.map zval)) rfl (by rw [hb]; exact hd) t a1, b1⟩
theorem r_strL (hG : zOk sa G cc nL own nm ret nf nl K) {ix : Nat} {v : Option Nat} {P : Int32 → Prop} (hw : Cond.methodLink own ix ⟨"java/lang/String", "length", "()I"⟩ ∈ lw_all) (hr : 20 ≤ nf ∧ 600 ≤ nl) (hd : decode cc pc = .ok (.invokevirtual ix, 3)) (hlen : zlen st ≤ 8) (hF : strL sa v P) (kk : ∀ n, P n → zW G (pc + 3) h mc ms L (I_ n :: st)) : zW G pc h mc ms L (R_ v :: st) := by
  obtain ⟨j, hj, rfl, hp⟩ := hF
  refine r_callTi hG (hM := zmJ3_length sa 20 h 0 0 _ (fun r h' => h' = h ∧ P r)) (hg := lw_V hw q477 q478 q107 q479) (hd0 := zhv_J3_length) (hr := ⟨by omega, by omega⟩) (mc2 := mc) (ms2 := ms) (hm := z0a) (hs0 := z0a) (hd := hd) (hst := rfl) (hn := rfl) (hlen := hlen) (hF := ⟨j, hj, rfl, tL_length hj ⟨rfl, hp⟩⟩) (kk := fun r h' hK => ?_)
  obtain ⟨rfl, hp⟩ := hK
  exact kk r hp
theorem r_strC (hG : zOk sa G cc nL own nm ret nf nl K) {ix : Nat} {v : Option Nat} {i : Int32} {P : Int32 → Prop} (hw : Cond.methodLink own ix ⟨"java/lang/String", "charAt", "(I)C"⟩ ∈ lw_all) (hr : 20 ≤ nf ∧ 600 ≤ nl) (hd : decode cc pc = .ok (.invokevirtual ix, 3)) (hlen : zlen st ≤ 8) (hF : strC sa v i P) (kk : ∀ n, P n → zW G (pc + 3) h mc ms L (I_ n :: st)) : zW G pc h mc ms L (I_ i :: R_ v :: st) := by
  obtain ⟨j, hj, rfl, hin, hp⟩ := hF
  refine r_callTi hG (hM := zmJ3_charAt sa 20 h 0 0 _ _ (fun r h' => h' = h ∧ P r)) (hg := lw_V hw q487 q488 q107 q489) (hd0 := zhv_J3_charAt) (hr := ⟨by omega, by omega⟩) (mc2 := mc) (ms2 := ms) (hm := z0a) (hs0 := z0a) (hd := hd) (hst := rfl) (hn := rfl) (hlen := hlen) (hF := ⟨j, hj, rfl, tL_charAt hj hin ⟨rfl, hp⟩⟩) (kk := fun r h' hK => ?_)
  obtain ⟨rfl, hp⟩ := hK
  exact kk r hp
theorem r_strX (hG : zOk sa G cc nL own nm ret nf nl K) {ix : Nat} {v : Option Nat} {i : Int32} {P : Int32 → Prop} (hw : Cond.methodLink own ix ⟨"java/lang/String", "indexOf", "(I)I"⟩ ∈ lw_all) (hr : 20 ≤ nf ∧ 600 ≤ nl) (hd : decode cc pc = .ok (.invokevirtual ix, 3)) (hlen : zlen st ≤ 8) (hF : strX sa v i P) (kk : ∀ n, P n → zW G (pc + 3) h mc ms L (I_ n :: st)) : zW G pc h mc ms L (I_ i :: R_ v :: st) := by
  obtain ⟨rfl, h0, h1, hp⟩ := hF
  refine r_callTi hG (hM := zmJ3_indexOf sa 20 h 0 0 _ _ (fun r h' => h' = h ∧ P r)) (hg := lw_V hw q535 q536 q107 q537) (hd0 := zhv_J3_indexOf) (hr := ⟨by omega, by omega⟩) (mc2 := mc) (ms2 := ms) (hm := z0a) (hs0 := z0a) (hd := hd) (hst := rfl) (hn := rfl) (hlen := hlen) (hF := ⟨0, by decide, rfl, tL_index 11 rfl h0 h1 ⟨rfl, hp⟩⟩) (kk := fun r h' hK => ?_)
  obtain ⟨rfl, hp⟩ := hK
  exact kk r hp
end ZXM
