/-! THE Z-KIT for the class: references, arrays of references, nest mates, texts, casts, dispatch -/
set_option maxRecDepth 100000
def pfx (h : zH) (v : Option Nat) (cs : List Nat) (k : Nat) (w : Value) (P : zH → Prop) : Prop := pf h v cs k w P
/-- a store into an array of references: the value is none, or an object of one of the classes cs -/
def asR (h : zH) (v : Option Nat) (t : Nat) (i : Int32) (x : Option Nat) (cs : List Nat) (P : zH → Prop) : Prop := (x = none ∨ ∃ (b ci : Nat) (fs : List Value), x = some b ∧ h b = some (.inr (ci, fs)) ∧ ci ∈ cs) ∧ astR h v t i x P
def nwR (h : zH) (mc ms t : Nat) (n : Int32) (P : Nat → zH → Prop) : Prop := ¬ n < 0 ∧ n.toNatClampNeg ≤ 100000 ∧ 1 ≤ mc ∧ n.toNatClampNeg ≤ ms ∧ ∀ q : Nat, h q = none → P q (hup h q (.inl (t, n.toNatClampNeg, .inr (.inr (.inr (.inr (fun _ => none)))))))
section ZX
variable {sa : Nat → Nat} {G : zG} {cc : ByteArray} {nL : Nat} {own nm : String} {ret : Option FieldType} {nf nl : Nat} {K : Option zV → zH → Prop} {pc : Nat} {h : zH} {mc ms : Nat} {L : zL} {st : List zV}
theorem r_null (hG : zOk sa G cc nL own nm ret nf nl K) (hd : decode cc pc = .ok (.aconst_null, 1)) (k : zW G (pc + 1) h mc ms L (R_ none :: st)) : zW G pc h mc ms L st := by
  obtain ⟨⟨p, l, e, R, s, m, args, below, meth, c⟩, D, A, Q, MC, MS⟩ := G
  exact fun H locs cells slots ls hP hS hc hs hl => lv_null hG.1 hG.2.1 hd (k H locs cells slots ls hP hS hc hs hl)
theorem r_ifnull (hG : zOk sa G cc nL own nm ret nf nl K) {o : Option Nat} {off : Int} (tgt : Nat) {F1 F2 : Prop} {inst : Decidable (o = none)} (hd : decode cc pc = .ok (.ifnull off, 3)) (ht : (pc : Int) + off = (tgt : Int)) (hF : @ite Prop (o = none) inst F1 F2) (kt : F1 → zW G tgt h mc ms L st) (kf : F2 → zW G (pc + 3) h mc ms L st) : zW G pc h mc ms L (R_ o :: st) := by
  obtain ⟨⟨p, l, e, R, s, m, args, below, meth, c⟩, D, A, Q, MC, MS⟩ := G
  cases o with
  | none => exact fun H locs cells slots ls hP hS hc hs hl => lv_ifnullN hG.1 hG.2.1 hd ht (kt (by rw [if_pos rfl] at hF; exact hF) H locs cells slots ls hP hS hc hs hl)
  | some a => exact fun H locs cells slots ls hP hS hc hs hl => lv_ifnull hG.1 hG.2.1 hd (kf (by rw [if_neg (fun z => by cases z)] at hF; exact hF) H locs cells slots ls hP hS hc hs hl)
theorem r_ifnonnull (hG : zOk sa G cc nL own nm ret nf nl K) {o : Option Nat} {off : Int} (tgt : Nat) {F1 F2 : Prop} {inst : Decidable (o = none)} (hd : decode cc pc = .ok (.ifnonnull off, 3)) (ht : (pc : Int) + off = (tgt : Int)) (hF : @ite Prop (o = none) inst F2 F1) (kt : F1 → zW G tgt h mc ms L st) (kf : F2 → zW G (pc + 3) h mc ms L st) : zW G pc h mc ms L (R_ o :: st) := by
  obtain ⟨⟨p, l, e, R, s, m, args, below, meth, c⟩, D, A, Q, MC, MS⟩ := G
  cases o with
  | none => exact fun H locs cells slots ls hP hS hc hs hl => lv_ifnonnullN hG.1 hG.2.1 hd (kf (by rw [if_pos rfl] at hF; exact hF) H locs cells slots ls hP hS hc hs hl)
  | some a => exact fun H locs cells slots ls hP hS hc hs hl => lv_ifnonnull hG.1 hG.2.1 hd ht (kt (by rw [if_neg (fun z => by cases z)] at hF; exact hF) H locs cells slots ls hP hS hc hs hl)
theorem r_aaload (hG : zOk sa G cc nL own nm ret nf nl K) {v : Option Nat} {t : Nat} {ty : FieldType} {i : Int32} {P : Option Nat → Prop} (ht : ztys[t]? = some ty) (hr : ty.isReference = true) (hd : decode cc pc = .ok (.aaload, 1)) (hF : aldR h v t i P) (kk : ∀ n, P n → zW G (pc + 1) h mc ms L (R_ n :: st)) : zW G pc h mc ms L (I_ i :: R_ v :: st) := by
  obtain ⟨⟨p, l, e, R, s, m, args, below, meth, c⟩, D, A, Q, MC, MS⟩ := G
  obtain ⟨a, n, f, rfl, ha, hin, hp⟩ := hF
  intro H locs cells slots ls hP hS hc hs hl
  obtain ⟨ws, j, hv, hPp, hD, hj⟩ := hP.at ha
  have hlt : i.toNatClampNeg < n := Nat.not_le.mp fun q => hin (Or.inr q)
  have hK := hG.2.2.2.2.2.2.2.2.1.1
  have hcell : H[a]? = some (arrV (D.2.1 t) n (fun j => va_rf (f j))) := hPp j _ (zws_at hj)
  exact W.aald (v := va_rf (f i.toNatClampNeg)) (ty := ty) hG.1 hG.2.1 hcell ((hK.2 t _ (zty ht)).1 n (fun j => va_rf (f j))) hr (fun q => by cases q) (by show ¬ (i < 0 ∨ (arrV _ _ _).slots.size ≤ _); rw [arrV_size]; exact hin) (by show (arrV _ _ _).slots[_]? = _; rw [arrV_read _ _ hlt]) rfl rfl hd (kk _ hp H locs cells slots ls hP hS hc hs hl)
/-- which classes may stand in an array of C -/
def zSt (E : String) (ci : Nat) : Prop := ∃ r : vw_C, zcl[ci]? = some r ∧ (r.1 = E ∨ (r.1, E) ∈ zCs)
theorem r_aastore (hG : zOk sa G cc nL own nm ret nf nl K) {v x : Option Nat} {t : Nat} {E : String} {cs : List Nat} {i : Int32} {P : zH → Prop} (ht : ztys[t]? = some (.object E)) (hcs : ∀ ci ∈ cs, zSt E ci) (hd : decode cc pc = .ok (.aastore, 1)) (hF : asR h v t i x cs P) (kk : ∀ h', P h' → zW G (pc + 1) h' mc ms L st) : zW G pc h mc ms L (R_ x :: I_ i :: R_ v :: st) := by
  obtain ⟨⟨p, l, e, R, s, m, args, below, meth, c⟩, D, A, Q, MC, MS⟩ := G
  obtain ⟨hx0, a, n, f, rfl, ha, hin, hp⟩ := hF
  intro H locs cells slots ls hP hS hc hs hl
  obtain ⟨ws, hv, hPp, hD⟩ := hP
  obtain ⟨j, hj⟩ := List.getElem?_of_mem ((hv a _).mp ha)
  have hWd := hG.2.2.2.2.2.2.2.2.1
  have e1 : (zws D ws).set j (a, (.inl (D.2.1 t, n, .inr (.inr (.inr (.inr (va_up f i.toNatClampNeg x))))) : va_E)) = zws D (ws.set j (a, .inl (t, n, .inr (.inr (.inr (.inr (va_up f i.toNatClampNeg x))))))) := zws_set (e := .inl (t, n, .inr (.inr (.inr (.inr (va_up f i.toNatClampNeg x))))))
  have go : ∀ (H1 : Heap) (locs1 : List Loc), va_P D.1 zcl ((zws D ws).set j (a, (.inl (D.2.1 t, n, .inr (.inr (.inr (.inr (va_up f i.toNatClampNeg x))))) : va_E))) H1 → va_D A ((zws D ws).set j (a, (.inl (D.2.1 t, n, .inr (.inr (.inr (.inr (va_up f i.toNatClampNeg x))))) : va_E))) → va_S A s.heap H1 locs1 → W p l e R s m args below meth c H1 locs1 cells slots Q (F0 m (pc + 1) ls (st.map zval)) := by
    intro H1 locs1 hP1 hD1 hS1
    rw [e1] at hP1 hD1
    exact kk _ hp H1 locs1 cells slots ls ⟨_, zv_set hv hD hj, hP1, hD1⟩ hS1 hc hs hl
  rcases hx0 with rfl | ⟨b, ci, fs, rfl, hb, hci⟩
  · exact va_astqN hG.1 hG.2.1 hWd.1 hPp hD hS j t (zws_at hj) (zty ht) hin hd go
  · obtain ⟨k, hk⟩ := List.getElem?_of_mem ((hv b _).mp hb)
    obtain ⟨r, hr, hr2⟩ := hcs ci hci
    rcases hr2 with rfl | hr2
    · exact va_astq hG.1 hG.2.1 hWd.1 hPp hD hS j t k ci (zws_at hj) (zty ht) (zws_at hk) hr hin hd go
    · exact va_astqO hG.1 hG.2.1 hWd.1 hPp hD hS j t k ci (zws_at hj) (zty ht) (hWd.2.1 _ hr2) (zws_at hk) hr hin hd go
theorem r_anewO (hG : zOk sa G cc nL own nm ret nf nl K) {ix t : Nat} {C : String} {n : Int32} {P : Nat → zH → Prop} (hw : Cond.classLink own ix C ∈ lw_all) (ht : ztys[t]? = some (.object C)) (ho : C ∈ zAoO) (hd : decode cc pc = .ok (.anewarray ix, 3)) (hF : nwR h mc ms t n P) (kk : ∀ (q : Nat) (h' : zH), P q h' → zW G (pc + 3) h' (mc - 1) (ms - n.toNatClampNeg) L (R_ (some q) :: st)) : zW G pc h mc ms L (I_ n :: st) := by
  obtain ⟨⟨p, l, e, R, s, m, args, below, meth, c⟩, D, A, Q, MC, MS⟩ := G
  obtain ⟨h1, h2, h3, h4, hp⟩ := hF
  intro H locs cells slots ls hP hS hc hs hl
  obtain ⟨ws, hv, hPp, hD⟩ := hP
  have hts := hG.2.2.2.2.2.2.2.1
  have hRc : R.cells = MC := hG.2.2.2.2.2.2.2.2.2.2.1
  have hRs : R.slots = MS := hG.2.2.2.2.2.2.2.2.2.2.2.1
  have hWd := hG.2.2.2.2.2.2.2.2.1
  refine va_newq hG.1 hG.2.1 hG.2.2.2.2.2.2.1 (hts _ hw) (hWd.2.2.2.2.2.2.1 C ho) hWd.1 hPp hD hS hG.2.2.2.2.2.2.2.2.2.1 h1 rfl ?_ (by omega) (by omega) hd fun q cA H1 hK1 hP1 hD1 hS1 => ?_
  · calc n.toNatClampNeg * 4 ≤ 100000 * 4 := Nat.mul_le_mul h2 (Nat.le_refl 4)
      _ ≤ 536870912 := Nat.le_of_ble_eq_true rfl
  · have hA1 : va_RA s cA (.object C) := (hK1.2 (zTys D).length (cA, .object C) (by rw [List.getElem?_append_right (Nat.le_refl _), Nat.sub_self]; rfl)).2
    have hA2 : va_RA s (D.2.1 t) (.object C) := (hWd.1.2 t _ (zty ht)).2
    obtain ⟨k1, c1, a1, a2, a3, a4⟩ := hA1
    obtain ⟨k2, c2, b1, b2, b3, b4⟩ := hA2
    have hcA : cA = D.2.1 t := Option.some.inj (a4.symm.trans b4)
    subst hcA
    have e1 : zws D ws ++ [(q, (.inl (D.2.1 t, n.toNatClampNeg, .inr (.inr (.inr (.inr (fun _ => none))))) : va_E))] = zws D (ws ++ [(q, .inl (t, n.toNatClampNeg, .inr (.inr (.inr (.inr (fun _ => none))))))]) := zws_push (e := .inl (t, n.toNatClampNeg, .inr (.inr (.inr (.inr (fun _ => none))))))
    rw [e1] at hP1 hD1
    obtain ⟨hq, hv1⟩ := zv_push hv hD1
    exact kk q _ (hp q hq) H1 locs (cells + 1) (slots + n.toNatClampNeg) ls ⟨_, hv1, hP1, hD1⟩ hS1 (by omega) (by omega) hl
/-! nest mates' fields -/
def zFn2 (own : String) (ix ci k : Nat) : Prop := ∃ (ref C host : String) (T : u_T) (N : Nat), zcl[ci]? = some (C, T, N) ∧ (∀ w ∈ u_ws C T N, w ∈ lw_all) ∧ k < N ∧ (own, ix, ref, (T k).2.1, (T k).2.2.1, host) ∈ zFn ∧ ref = (T k).1
def zFnp (own : String) (ix ci k : Nat) (ty : FieldType) : Prop := ∃ (ref C host : String) (T : u_T) (N : Nat) (ty0 : Nat → FieldType), zcl[ci]? = some (C, T, N) ∧ (∀ w ∈ u_ws C T N, w ∈ lw_all) ∧ k < N ∧ (own, ix, ref, (T k).2.1, (T k).2.2.1, host) ∈ zFn ∧ ref = (T k).1 ∧ (∀ k, k < N → parseFieldDescriptor (T k).2.2.1 = some (ty0 k)) ∧ (∀ a, a < N → ∀ b, b < N → a ≠ b → (T a).2.1 ≠ (T b).2.1) ∧ (T k).2.2.2 = false ∧ ty0 k = ty
theorem r_gfIN (hG : zOk sa G cc nL own nm ret nf nl K) {ix k : Nat} {cs : List Nat} {v : Option Nat} {P : Int32 → Prop} (hf : ∀ ci ∈ cs, zFn2 own ix ci k) (hd : decode cc pc = .ok (.getfield ix, 3)) (hF : gfI h v cs k P) (kk : ∀ n, P n → zW G (pc + 3) h mc ms L (I_ n :: st)) : zW G pc h mc ms L (R_ v :: st) := by
  obtain ⟨⟨p, l, e, R, s, m, args, below, meth, c⟩, D, A, Q, MC, MS⟩ := G
  obtain ⟨a, ci, fs, n, rfl, ha, hci, hk, hp⟩ := hF
  intro H locs cells slots ls hP hS hc hs hl
  obtain ⟨ws, i, hv, hPp, hD, hi⟩ := hP.at ha
  obtain ⟨ref, C, host, T, N, hcl, hin, hkN, hlk, rfl⟩ := hf ci hci
  have hts := hG.2.2.2.2.2.2.2.1
  have hWd := hG.2.2.2.2.2.2.2.2.1
  exact va_getN hG.1 hG.2.1 hts hin hG.2.2.2.2.2.2.1 hWd.1 hPp i (zws_at hi) hcl k hkN (va_Nw.use rfl (hWd.2.2.2.1 _ hlk)) (fun x z => z) hk hd (kk n hp H locs cells slots ls hP hS hc hs hl)
theorem r_gfRN (hG : zOk sa G cc nL own nm ret nf nl K) {ix k : Nat} {cs : List Nat} {v : Option Nat} {P : Option Nat → Prop} (hf : ∀ ci ∈ cs, zFn2 own ix ci k) (hd : decode cc pc = .ok (.getfield ix, 3)) (hF : gfR h v cs k P) (kk : ∀ n, P n → zW G (pc + 3) h mc ms L (R_ n :: st)) : zW G pc h mc ms L (R_ v :: st) := by
  obtain ⟨⟨p, l, e, R, s, m, args, below, meth, c⟩, D, A, Q, MC, MS⟩ := G
  obtain ⟨a, ci, fs, n, rfl, ha, hci, hk, hp⟩ := hF
  intro H locs cells slots ls hP hS hc hs hl
  obtain ⟨ws, i, hv, hPp, hD, hi⟩ := hP.at ha
  obtain ⟨ref, C, host, T, N, hcl, hin, hkN, hlk, rfl⟩ := hf ci hci
  have hts := hG.2.2.2.2.2.2.2.1
  have hWd := hG.2.2.2.2.2.2.2.2.1
  exact va_getN hG.1 hG.2.1 hts hin hG.2.2.2.2.2.2.1 hWd.1 hPp i (zws_at hi) hcl k hkN (va_Nw.use rfl (hWd.2.2.2.1 _ hlk)) (fun x z => z) hk hd (kk n hp H locs cells slots ls hP hS hc hs hl)
theorem r_pfN (hG : zOk sa G cc nL own nm ret nf nl K) {ix k : Nat} {cs : List Nat} {v : Option Nat} {w : zV} {ty : FieldType} {P : zH → Prop} (hf : ∀ ci ∈ cs, zFnp own ix ci k ty) (hn : narrow ty (zval w) = zval w) (hfit : fits ty (zval w) = true) (hd : decode cc pc = .ok (.putfield ix, 3)) (hF : pf h v cs k (zval w) P) (kk : ∀ h', P h' → zW G (pc + 3) h' mc ms L st) : zW G pc h mc ms L (w :: R_ v :: st) := by
  obtain ⟨⟨p, l, e, R, s, m, args, below, meth, c⟩, D, A, Q, MC, MS⟩ := G
  obtain ⟨a, ci, fs, rfl, ha, hci, hk, hp⟩ := hF
  intro H locs cells slots ls hP hS hc hs hl
  obtain ⟨ws, i, hv, hPp, hD, hi'⟩ := hP.at ha
  obtain ⟨ref, C, host, T, N, ty0, hcl, hin, hkN, hlk, rfl, hty, hnm, hfin, hty0⟩ := hf ci hci
  have hts := hG.2.2.2.2.2.2.2.1
  have hWd := hG.2.2.2.2.2.2.2.2.1
  have hd0 : parseFieldDescriptor (T k).2.2.1 = some ty := by rw [hty k hkN, hty0]
  refine va_putN hG.1 hG.2.1 hts hin ty0 hty hnm hG.2.2.2.2.2.2.1 hWd.1 hPp hD hS i (zws_at hi') hcl k hkN (va_Nw.use rfl (hWd.2.2.2.1 _ hlk)) (fun x z => z) hfin hd0 hn hfit hk hd fun H1 locs1 hP1 hD1 hS1 => ?_
  have e1 : (zws D ws).set i (a, (.inr (ci, fs.set k (zval w)) : va_E)) = zws D (ws.set i (a, .inr (ci, fs.set k (zval w)))) := zws_set (e := .inr (ci, fs.set k (zval w)))
  rw [e1] at hP1 hD1
  exact kk _ hp H1 locs1 cells slots ls ⟨_, zv_set hv hD hi', hP1, hD1⟩ hS1 hc hs hl
/-! Math -/
theorem r_mmax (hG : zOk sa G cc nL own nm ret nf nl K) {ix : Nat} {x y : Int32} (h1 : Cond.methodLink own ix Lib.Math.max.name ∈ lw_all) (h2 : Cond.static Lib.Math.max.name ∈ lw_all) (h3 : Cond.initialized "java/lang/Math" ∈ lw_all) (h4 : Cond.code Lib.Math.max.name Lib.Math.max.code 2 (some .int) ∈ lw_all) (hr : 1 ≤ nf ∧ zlen st + 13 ≤ nl) (hd : decode cc pc = .ok (.invokestatic ix, 3)) (k : zW G (pc + 3) h mc ms L (I_ (if x < y then y else x) :: st)) : zW G pc h mc ms L (I_ y :: I_ x :: st) := by
  obtain ⟨⟨p, l, e, R, s, m, args, below, meth, c⟩, D, A, Q, MC, MS⟩ := G
  obtain ⟨hx, hb, hml, hrt, hlk, hnm, hown, hts, hWd, hA, hRc, hRs, hnf, hnl, hfl, hsa, hQ⟩ := hG
  exact fun H locs cells slots ls hP hS hc hs hl => va_mmax hx hb hl.1.symm hown (hts _ h1) (hts _ h2) (hts _ h3) (hts _ h4) (by omega) (by rw [zsum_eq]; omega) (by omega) (by omega) hd (k H locs cells slots ls hP hS hc hs hl)
theorem r_mmin (hG : zOk sa G cc nL own nm ret nf nl K) {ix : Nat} {x y : Int32} (h1 : Cond.methodLink own ix Lib.Math.min.name ∈ lw_all) (h2 : Cond.static Lib.Math.min.name ∈ lw_all) (h3 : Cond.initialized "java/lang/Math" ∈ lw_all) (h4 : Cond.code Lib.Math.min.name Lib.Math.min.code 2 (some .int) ∈ lw_all) (hr : 1 ≤ nf ∧ zlen st + 13 ≤ nl) (hd : decode cc pc = .ok (.invokestatic ix, 3)) (k : zW G (pc + 3) h mc ms L (I_ (if y < x then y else x) :: st)) : zW G pc h mc ms L (I_ y :: I_ x :: st) := by
  obtain ⟨⟨p, l, e, R, s, m, args, below, meth, c⟩, D, A, Q, MC, MS⟩ := G
  obtain ⟨hx, hb, hml, hrt, hlk, hnm, hown, hts, hWd, hA, hRc, hRs, hnf, hnl, hfl, hsa, hQ⟩ := hG
  exact fun H locs cells slots ls hP hS hc hs hl => va_mmin hx hb hl.1.symm hown (hts _ h1) (hts _ h2) (hts _ h3) (hts _ h4) (by omega) (by rw [zsum_eq]; omega) (by omega) (by omega) hd (k H locs cells slots ls hP hS hc hs hl)
theorem r_mabs (hG : zOk sa G cc nL own nm ret nf nl K) {ix : Nat} {x : Int32} (h1 : Cond.methodLink own ix Lib.Math.abs.name ∈ lw_all) (h2 : Cond.static Lib.Math.abs.name ∈ lw_all) (h3 : Cond.initialized "java/lang/Math" ∈ lw_all) (h4 : Cond.code Lib.Math.abs.name Lib.Math.abs.code 1 (some .int) ∈ lw_all) (hr : 1 ≤ nf ∧ zlen st + 13 ≤ nl) (hd : decode cc pc = .ok (.invokestatic ix, 3)) (k : zW G (pc + 3) h mc ms L (I_ (if 0 ≤ x then x else 0 - x) :: st)) : zW G pc h mc ms L (I_ x :: st) := by
  obtain ⟨⟨p, l, e, R, s, m, args, below, meth, c⟩, D, A, Q, MC, MS⟩ := G
  obtain ⟨hx, hb, hml, hrt, hlk, hnm, hown, hts, hWd, hA, hRc, hRs, hnf, hnl, hfl, hsa, hQ⟩ := hG
  exact fun H locs cells slots ls hP hS hc hs hl => va_mabs hx hb hl.1.symm hown (hts _ h1) (hts _ h2) (hts _ h3) (hts _ h4) (by omega) (by rw [zsum_eq]; omega) (by omega) (by omega) hd (k H locs cells slots ls hP hS hc hs hl)
/-! arraycopy between arrays of one kind of number -/
def cpI (h : zH) (v0 : Option Nat) (sp : Int32) (v1 : Option Nat) (dp n : Int32) (P : zH → Prop) : Prop := ∃ (a0 a1 t n0 n1 : Nat) (ty : FieldType) (f g : Nat → Int32), v0 = some a0 ∧ v1 = some a1 ∧ ztys[t]? = some ty ∧ refKind ty = false ∧ h a0 = some (.inl (t, n0, .inl f)) ∧ h a1 = some (.inl (t, n1, .inl g)) ∧ ¬ sp < 0 ∧ ¬ dp < 0 ∧ ¬ n < 0 ∧ sp.toNatClampNeg + n.toNatClampNeg ≤ n0 ∧ dp.toNatClampNeg + n.toNatClampNeg ≤ n1 ∧ (∀ i, i < n.toNatClampNeg → fits ty (.int (f (sp.toNatClampNeg + i))) = true) ∧ P (hup h a1 (.inl (t, n1, .inl (va_cpy f g sp.toNatClampNeg dp.toNatClampNeg n.toNatClampNeg))))
theorem r_copyI (hG : zOk sa G cc nL own nm ret nf nl K) {ix : Nat} {v0 v1 : Option Nat} {sp dp n : Int32} {P : zH → Prop} (h1 : Cond.methodLink own ix arraycopyName ∈ lw_all) (h2 : Cond.native arraycopyName ∈ lw_all) (h3 : Cond.static arraycopyName ∈ lw_all) (h4 : Cond.initialized "java/lang/System" ∈ lw_all) (hr : 1 ≤ nf ∧ zlen st + (nativeFrameWords "java/lang/System" "arraycopy" 5 + 11) ≤ nl) (hd : decode cc pc = .ok (.invokestatic ix, 3)) (hF : cpI h v0 sp v1 dp n P) (kk : ∀ h', P h' → zW G (pc + 3) h' mc ms L st) : zW G pc h mc ms L (I_ n :: I_ dp :: R_ v1 :: I_ sp :: R_ v0 :: st) := by
  obtain ⟨⟨p, l, e, R, s, m, args, below, meth, c⟩, D, A, Q, MC, MS⟩ := G
  obtain ⟨hx, hb, hml, hrt, hlk, hnm, hown, hts, hWd, hA, hRc, hRs, hnf, hnl, hfl, hsa, hQ⟩ := hG
  obtain ⟨a0, a1, t, n0, n1, ty, f, g, rfl, rfl, ht, hpr, ha0, ha1, g1, g2, g3, g4, g5, hfit, hp⟩ := hF
  intro H locs cells slots ls hP hS hc hs hl
  obtain ⟨ws, hv, hPp, hD⟩ := hP
  obtain ⟨j0, hj0⟩ := List.getElem?_of_mem ((hv a0 _).mp ha0)
  obtain ⟨j1, hj1⟩ := List.getElem?_of_mem ((hv a1 _).mp ha1)
  refine va_copyi hx hb hl.1.symm hown (hts _ h1) (hts _ h2) (hts _ h3) (hts _ h4) hWd.1 hPp hD hS j0 j1 t t (zws_at hj0) (zws_at hj1) (zty ht) (zty ht) hpr g1 g2 g3 g4 g5 hfit (by omega) (by rw [zsum_eq]; omega) hd fun H1 locs1 hP1 hD1 hS1 => ?_
  have e1 : (zws D ws).set j1 (a1, (.inl (D.2.1 t, n1, .inl (va_cpy f g sp.toNatClampNeg dp.toNatClampNeg n.toNatClampNeg)) : va_E)) = zws D (ws.set j1 (a1, .inl (t, n1, .inl (va_cpy f g sp.toNatClampNeg dp.toNatClampNeg n.toNatClampNeg)))) := zws_set (e := .inl (t, n1, .inl (va_cpy f g sp.toNatClampNeg dp.toNatClampNeg n.toNatClampNeg)))
  rw [e1] at hP1 hD1
  exact kk _ hp H1 locs1 cells slots ls ⟨_, zv_set hv hD hj1, hP1, hD1⟩ hS1 hc hs hl
end ZX
