/-! THE Z-KIT's RULES FOR THE HEAP: fields, arrays, new cells -/
set_option maxRecDepth 100000
/-- a field link of a class's table: place k of class ci -/
def zFld (own : String) (ix ci k : Nat) : Prop := ∃ (ref C : String) (T : u_T) (N : Nat), zcl[ci]? = some (C, T, N) ∧ (∀ w ∈ u_ws C T N, w ∈ lw_all) ∧ k < N ∧ Cond.fieldLink own ix ref (T k).2.1 (T k).2.2.1 ∈ lw_all ∧ (ref = (T k).1 ∨ Cond.sameField ref (T k).1 (T k).2.1 (T k).2.2.1 ∈ lw_all)
/-- and one that may be written: not final, or a final one in its own class -/
def zFlp (own : String) (fin : Bool) (ix ci k : Nat) (ty : FieldType) : Prop := ∃ (ref C : String) (T : u_T) (N : Nat) (ty0 : Nat → FieldType), zcl[ci]? = some (C, T, N) ∧ (∀ w ∈ u_ws C T N, w ∈ lw_all) ∧ k < N ∧ Cond.fieldLink own ix ref (T k).2.1 (T k).2.2.1 ∈ lw_all ∧ (ref = (T k).1 ∨ Cond.sameField ref (T k).1 (T k).2.1 (T k).2.2.1 ∈ lw_all) ∧ (∀ k, k < N → parseFieldDescriptor (T k).2.2.1 = some (ty0 k)) ∧ (∀ a, a < N → ∀ b, b < N → a ≠ b → (T a).2.1 ≠ (T b).2.1) ∧ (T k).2.2.2 = fin ∧ (fin = true → (T k).1 = own) ∧ ty0 k = ty
/-- a class that may be made -/
def zNew (own : String) (ix ci : Nat) (fs : List Value) : Prop := ∃ (C : String) (T : u_T) (N : Nat) (ty0 : Nat → FieldType), zcl[ci]? = some (C, T, N) ∧ (∀ w ∈ u_ws C T N, w ∈ lw_all) ∧ (∀ k, k < N → parseFieldDescriptor (T k).2.2.1 = some (ty0 k)) ∧ Cond.classLink own ix C ∈ lw_all ∧ Cond.instantiable C N ∈ lw_all ∧ Cond.initialized C ∈ lw_all ∧ (List.range N).map (fun j => defaultValue (ty0 j)) = fs
def gfI (h : zH) (v : Option Nat) (cs : List Nat) (k : Nat) (P : Int32 → Prop) : Prop := ∃ (a ci : Nat) (fs : List Value) (n : Int32), v = some a ∧ h a = some (.inr (ci, fs)) ∧ ci ∈ cs ∧ fs[k]? = some (.int n) ∧ P n
def gfJ (h : zH) (v : Option Nat) (cs : List Nat) (k : Nat) (P : Int64 → Prop) : Prop := ∃ (a ci : Nat) (fs : List Value) (n : Int64), v = some a ∧ h a = some (.inr (ci, fs)) ∧ ci ∈ cs ∧ fs[k]? = some (.long n) ∧ P n
def gfR (h : zH) (v : Option Nat) (cs : List Nat) (k : Nat) (P : Option Nat → Prop) : Prop := ∃ (a ci : Nat) (fs : List Value) (n : Option Nat), v = some a ∧ h a = some (.inr (ci, fs)) ∧ ci ∈ cs ∧ fs[k]? = some (va_rf n) ∧ P n
def pf (h : zH) (v : Option Nat) (cs : List Nat) (k : Nat) (w : Value) (P : zH → Prop) : Prop := ∃ (a ci : Nat) (fs : List Value), v = some a ∧ h a = some (.inr (ci, fs)) ∧ ci ∈ cs ∧ k < fs.length ∧ P (hup h a (.inr (ci, fs.set k w)))
/-- arrays of ints, bytes, shorts, booleans by the place t of their kind -/
def aldI (h : zH) (v : Option Nat) (t : Nat) (i : Int32) (P : Int32 → Prop) : Prop := ∃ (a n : Nat) (f : Nat → Int32), v = some a ∧ h a = some (.inl (t, n, .inl f)) ∧ vp_in i n ∧ P (f i.toNatClampNeg)
def astI (h : zH) (v : Option Nat) (t : Nat) (i x : Int32) (P : zH → Prop) : Prop := ∃ (a n : Nat) (f : Nat → Int32), v = some a ∧ h a = some (.inl (t, n, .inl f)) ∧ vp_in i n ∧ P (hup h a (.inl (t, n, .inl (upd f i.toNatClampNeg x))))
def aldR (h : zH) (v : Option Nat) (t : Nat) (i : Int32) (P : Option Nat → Prop) : Prop := ∃ (a n : Nat) (f : Nat → Option Nat), v = some a ∧ h a = some (.inl (t, n, .inr (.inr (.inr (.inr f))))) ∧ vp_in i n ∧ P (f i.toNatClampNeg)
def astR (h : zH) (v : Option Nat) (t : Nat) (i : Int32) (x : Option Nat) (P : zH → Prop) : Prop := ∃ (a n : Nat) (f : Nat → Option Nat), v = some a ∧ h a = some (.inl (t, n, .inr (.inr (.inr (.inr f))))) ∧ vp_in i n ∧ P (hup h a (.inl (t, n, .inr (.inr (.inr (.inr (va_up f i.toNatClampNeg x)))))))
def aln (h : zH) (v : Option Nat) (P : Int32 → Prop) : Prop := ∃ (a t : Nat) (ty : FieldType) (x : vp_A), v = some a ∧ h a = some (.inl (t, x)) ∧ ztys[t]? = some ty ∧ P (Int32.ofNat x.1)
def nwO (h : zH) (mc ms ci : Nat) (fs : List Value) (P : Nat → zH → Prop) : Prop := 1 ≤ mc ∧ fs.length ≤ ms ∧ ∀ q : Nat, h q = none → P q (hup h q (.inr (ci, fs)))
def nwA (h : zH) (mc ms t : Nat) (n : Int32) (P : Nat → zH → Prop) : Prop := ¬ n < 0 ∧ n.toNatClampNeg ≤ 100000 ∧ 1 ≤ mc ∧ n.toNatClampNeg ≤ ms ∧ ∀ q : Nat, h q = none → P q (hup h q (.inl (t, n.toNatClampNeg, .inl (fun _ => 0))))
section ZH
variable {sa : Nat → Nat} {G : zG} {cc : ByteArray} {nL : Nat} {own nm : String} {ret : Option FieldType} {nf nl : Nat} {K : Option zV → zH → Prop} {pc : Nat} {h : zH} {mc ms : Nat} {L : zL} {st : List zV}
theorem z_same {args : Array Value} {s : State} (hts : ∀ w ∈ lw_all, w.before args s = true) {ref o n d : String} (hs : ref = o ∨ Cond.sameField ref o n d ∈ lw_all) : ∀ x, s.fieldFound? o n d = some x → s.fieldFound? ref n d = some x := by
  intro x hx
  rcases hs with e | e
  · rw [e]; exact hx
  · exact u_same (hts _ e) x hx
theorem r_gfI (hG : zOk sa G cc nL own nm ret nf nl K) {ix k : Nat} {cs : List Nat} {v : Option Nat} {P : Int32 → Prop} (hf : ∀ ci ∈ cs, zFld own ix ci k) (hd : decode cc pc = .ok (.getfield ix, 3)) (hF : gfI h v cs k P) (kk : ∀ n, P n → zW G (pc + 3) h mc ms L (I_ n :: st)) : zW G pc h mc ms L (R_ v :: st) := by
  obtain ⟨⟨p, l, e, R, s, m, args, below, meth, c⟩, D, A, Q, MC, MS⟩ := G
  obtain ⟨a, ci, fs, n, rfl, ha, hci, hk, hp⟩ := hF
  intro H locs cells slots ls hP hS hc hs hl
  obtain ⟨ws, i, hv, hPp, hD, hi⟩ := hP.at ha
  obtain ⟨ref, C, T, N, hcl, hin, hkN, hlk, hsame⟩ := hf ci hci
  have hts := hG.2.2.2.2.2.2.2.1
  exact va_get hG.1 hG.2.1 hts hin hG.2.2.2.2.2.2.1 hG.2.2.2.2.2.2.2.2.1.1 hPp i (zws_at hi) hcl k hkN (hts _ hlk) (z_same hts hsame) hk hd (kk n hp H locs cells slots ls hP hS hc hs hl)
theorem r_gfJ (hG : zOk sa G cc nL own nm ret nf nl K) {ix k : Nat} {cs : List Nat} {v : Option Nat} {P : Int64 → Prop} (hf : ∀ ci ∈ cs, zFld own ix ci k) (hd : decode cc pc = .ok (.getfield ix, 3)) (hF : gfJ h v cs k P) (kk : ∀ n, P n → zW G (pc + 3) h mc ms L (J_ n :: st)) : zW G pc h mc ms L (R_ v :: st) := by
  obtain ⟨⟨p, l, e, R, s, m, args, below, meth, c⟩, D, A, Q, MC, MS⟩ := G
  obtain ⟨a, ci, fs, n, rfl, ha, hci, hk, hp⟩ := hF
  intro H locs cells slots ls hP hS hc hs hl
  obtain ⟨ws, i, hv, hPp, hD, hi⟩ := hP.at ha
  obtain ⟨ref, C, T, N, hcl, hin, hkN, hlk, hsame⟩ := hf ci hci
  have hts := hG.2.2.2.2.2.2.2.1
  exact va_get hG.1 hG.2.1 hts hin hG.2.2.2.2.2.2.1 hG.2.2.2.2.2.2.2.2.1.1 hPp i (zws_at hi) hcl k hkN (hts _ hlk) (z_same hts hsame) hk hd (kk n hp H locs cells slots ls hP hS hc hs hl)
theorem r_gfR (hG : zOk sa G cc nL own nm ret nf nl K) {ix k : Nat} {cs : List Nat} {v : Option Nat} {P : Option Nat → Prop} (hf : ∀ ci ∈ cs, zFld own ix ci k) (hd : decode cc pc = .ok (.getfield ix, 3)) (hF : gfR h v cs k P) (kk : ∀ n, P n → zW G (pc + 3) h mc ms L (R_ n :: st)) : zW G pc h mc ms L (R_ v :: st) := by
  obtain ⟨⟨p, l, e, R, s, m, args, below, meth, c⟩, D, A, Q, MC, MS⟩ := G
  obtain ⟨a, ci, fs, n, rfl, ha, hci, hk, hp⟩ := hF
  intro H locs cells slots ls hP hS hc hs hl
  obtain ⟨ws, i, hv, hPp, hD, hi⟩ := hP.at ha
  obtain ⟨ref, C, T, N, hcl, hin, hkN, hlk, hsame⟩ := hf ci hci
  have hts := hG.2.2.2.2.2.2.2.1
  exact va_get hG.1 hG.2.1 hts hin hG.2.2.2.2.2.2.1 hG.2.2.2.2.2.2.2.2.1.1 hPp i (zws_at hi) hcl k hkN (hts _ hlk) (z_same hts hsame) hk hd (kk n hp H locs cells slots ls hP hS hc hs hl)
theorem r_pf {fin : Bool} (hG : zOk sa G cc nL own nm ret nf nl K) {ix k : Nat} {cs : List Nat} {v : Option Nat} {w : zV} {ty : FieldType} {P : zH → Prop} (hf : ∀ ci ∈ cs, zFlp own fin ix ci k ty) (hi : fin = true → nm = "<init>") (hn : narrow ty (zval w) = zval w) (hfit : fits ty (zval w) = true) (hd : decode cc pc = .ok (.putfield ix, 3)) (hF : pf h v cs k (zval w) P) (kk : ∀ h', P h' → zW G (pc + 3) h' mc ms L st) : zW G pc h mc ms L (w :: R_ v :: st) := by
  obtain ⟨⟨p, l, e, R, s, m, args, below, meth, c⟩, D, A, Q, MC, MS⟩ := G
  obtain ⟨a, ci, fs, rfl, ha, hci, hk, hp⟩ := hF
  intro H locs cells slots ls hP hS hc hs hl
  obtain ⟨ws, i, hv, hPp, hD, hi'⟩ := hP.at ha
  obtain ⟨ref, C, T, N, ty0, hcl, hin, hkN, hlk, hsame, hty, hnm, hfin, hown, hty0⟩ := hf ci hci
  have hts := hG.2.2.2.2.2.2.2.1
  have hd0 : parseFieldDescriptor (T k).2.2.1 = some ty := by rw [hty k hkN, hty0]
  have hkk : ∀ (H1 : Heap) (locs1 : List Loc), va_P D.1 zcl ((zws D ws).set i (a, .inr (ci, fs.set k (zval w)))) H1 → va_D A ((zws D ws).set i (a, .inr (ci, fs.set k (zval w)))) → va_S A s.heap H1 locs1 → W p l e R s m args below meth c H1 locs1 cells slots Q (F0 m (pc + 3) ls (st.map zval)) := by
    intro H1 locs1 hP1 hD1 hS1
    have e1 : (zws D ws).set i (a, (.inr (ci, fs.set k (zval w)) : va_E)) = zws D (ws.set i (a, .inr (ci, fs.set k (zval w)))) := zws_set (e := .inr (ci, fs.set k (zval w)))
    rw [e1] at hP1 hD1
    exact kk _ hp H1 locs1 cells slots ls ⟨_, zv_set hv hD hi', hP1, hD1⟩ hS1 hc hs hl
  cases fin with
  | false => exact va_put hG.1 hG.2.1 hts hin ty0 hty hnm hG.2.2.2.2.2.2.1 hG.2.2.2.2.2.2.2.2.1.1 hPp hD hS i (zws_at hi') hcl k hkN (hts _ hlk) (z_same hts hsame) hfin hd0 hn hfit hk hd hkk
  | true => exact va_putF hG.1 hG.2.1 hts hin ty0 hty hnm hG.2.2.2.2.2.2.1 hG.2.2.2.2.2.2.2.2.1.1 hPp hD hS i (zws_at hi') hcl k hkN (hts _ hlk) (z_same hts hsame) hfin (by rw [hG.2.2.2.2.2.1]; exact hi rfl) (hown rfl) hd0 hn hfit hk hd hkk
theorem r_iaload (hG : zOk sa G cc nL own nm ret nf nl K) {v : Option Nat} {i : Int32} {P : Int32 → Prop} (hd : decode cc pc = .ok (.iaload, 1)) (hF : aldI h v 0 i P) (kk : ∀ n, P n → zW G (pc + 1) h mc ms L (I_ n :: st)) : zW G pc h mc ms L (I_ i :: R_ v :: st) := by
  obtain ⟨⟨p, l, e, R, s, m, args, below, meth, c⟩, D, A, Q, MC, MS⟩ := G
  obtain ⟨a, n, f, rfl, ha, hin, hp⟩ := hF
  intro H locs cells slots ls hP hS hc hs hl
  obtain ⟨ws, j, hv, hPp, hD, hj⟩ := hP.at ha
  exact va_iald hG.1 hG.2.1 hG.2.2.2.2.2.2.2.2.1.1 hPp j 0 (zws_at hj) (zty rfl) hin hd (kk _ hp H locs cells slots ls hP hS hc hs hl)
theorem r_baloadB (hG : zOk sa G cc nL own nm ret nf nl K) {v : Option Nat} {i : Int32} {P : Int32 → Prop} (hd : decode cc pc = .ok (.baload, 1)) (hF : aldI h v 1 i P) (kk : ∀ n, P n → zW G (pc + 1) h mc ms L (I_ n :: st)) : zW G pc h mc ms L (I_ i :: R_ v :: st) := by
  obtain ⟨⟨p, l, e, R, s, m, args, below, meth, c⟩, D, A, Q, MC, MS⟩ := G
  obtain ⟨a, n, f, rfl, ha, hin, hp⟩ := hF
  intro H locs cells slots ls hP hS hc hs hl
  obtain ⟨ws, j, hv, hPp, hD, hj⟩ := hP.at ha
  exact va_bald hG.1 hG.2.1 hG.2.2.2.2.2.2.2.2.1.1 hPp j 1 (zws_at hj) (zty rfl) hin hd (kk _ hp H locs cells slots ls hP hS hc hs hl)
theorem r_saload (hG : zOk sa G cc nL own nm ret nf nl K) {v : Option Nat} {i : Int32} {P : Int32 → Prop} (hd : decode cc pc = .ok (.saload, 1)) (hF : aldI h v 2 i P) (kk : ∀ n, P n → zW G (pc + 1) h mc ms L (I_ n :: st)) : zW G pc h mc ms L (I_ i :: R_ v :: st) := by
  obtain ⟨⟨p, l, e, R, s, m, args, below, meth, c⟩, D, A, Q, MC, MS⟩ := G
  obtain ⟨a, n, f, rfl, ha, hin, hp⟩ := hF
  intro H locs cells slots ls hP hS hc hs hl
  obtain ⟨ws, j, hv, hPp, hD, hj⟩ := hP.at ha
  exact va_sald hG.1 hG.2.1 hG.2.2.2.2.2.2.2.2.1.1 hPp j 2 (zws_at hj) (zty rfl) hin hd (kk _ hp H locs cells slots ls hP hS hc hs hl)
theorem r_baloadZ (hG : zOk sa G cc nL own nm ret nf nl K) {v : Option Nat} {i : Int32} {P : Int32 → Prop} (hd : decode cc pc = .ok (.baload, 1)) (hF : aldI h v 3 i P) (kk : ∀ n, P n → zW G (pc + 1) h mc ms L (I_ n :: st)) : zW G pc h mc ms L (I_ i :: R_ v :: st) := by
  obtain ⟨⟨p, l, e, R, s, m, args, below, meth, c⟩, D, A, Q, MC, MS⟩ := G
  obtain ⟨a, n, f, rfl, ha, hin, hp⟩ := hF
  intro H locs cells slots ls hP hS hc hs hl
  obtain ⟨ws, j, hv, hPp, hD, hj⟩ := hP.at ha
  exact va_zald hG.1 hG.2.1 hG.2.2.2.2.2.2.2.2.1.1 hPp j 3 (zws_at hj) (zty rfl) hin hd (kk _ hp H locs cells slots ls hP hS hc hs hl)
theorem r_iastore (hG : zOk sa G cc nL own nm ret nf nl K) {v : Option Nat} {i x : Int32} {P : zH → Prop} (hd : decode cc pc = .ok (.iastore, 1)) (hF : astI h v 0 i x P) (kk : ∀ h', P h' → zW G (pc + 1) h' mc ms L st) : zW G pc h mc ms L (I_ x :: I_ i :: R_ v :: st) := by
  obtain ⟨⟨p, l, e, R, s, m, args, below, meth, c⟩, D, A, Q, MC, MS⟩ := G
  obtain ⟨a, n, f, rfl, ha, hin, hp⟩ := hF
  intro H locs cells slots ls hP hS hc hs hl
  obtain ⟨ws, j, hv, hPp, hD, hj⟩ := hP.at ha
  refine va_iast hG.1 hG.2.1 hG.2.2.2.2.2.2.2.2.1.1 hPp hD hS j 0 (zws_at hj) (zty rfl) hin hd fun H1 locs1 hP1 hD1 hS1 => ?_
  have e1 : (zws D ws).set j (a, (.inl (D.2.1 0, n, .inl (upd f i.toNatClampNeg x)) : va_E)) = zws D (ws.set j (a, .inl (0, n, .inl (upd f i.toNatClampNeg x)))) := zws_set (e := .inl (0, n, .inl (upd f i.toNatClampNeg x)))
  rw [e1] at hP1 hD1
  exact kk _ hp H1 locs1 cells slots ls ⟨_, zv_set hv hD hj, hP1, hD1⟩ hS1 hc hs hl
theorem r_bastoreB (hG : zOk sa G cc nL own nm ret nf nl K) {v : Option Nat} {i x : Int32} {P : zH → Prop} (hd : decode cc pc = .ok (.bastore, 1)) (hF : astI h v 1 i (vp_nar .byte x) P) (kk : ∀ h', P h' → zW G (pc + 1) h' mc ms L st) : zW G pc h mc ms L (I_ x :: I_ i :: R_ v :: st) := by
  obtain ⟨⟨p, l, e, R, s, m, args, below, meth, c⟩, D, A, Q, MC, MS⟩ := G
  obtain ⟨a, n, f, rfl, ha, hin, hp⟩ := hF
  intro H locs cells slots ls hP hS hc hs hl
  obtain ⟨ws, j, hv, hPp, hD, hj⟩ := hP.at ha
  refine va_bast hG.1 hG.2.1 hG.2.2.2.2.2.2.2.2.1.1 hPp hD hS j 1 (zws_at hj) (zty rfl) hin hd fun H1 locs1 hP1 hD1 hS1 => ?_
  have e1 : (zws D ws).set j (a, (.inl (D.2.1 1, n, .inl (upd f i.toNatClampNeg (vp_nar .byte x))) : va_E)) = zws D (ws.set j (a, .inl (1, n, .inl (upd f i.toNatClampNeg (vp_nar .byte x))))) := zws_set (e := .inl (1, n, .inl (upd f i.toNatClampNeg (vp_nar .byte x))))
  rw [e1] at hP1 hD1
  exact kk _ hp H1 locs1 cells slots ls ⟨_, zv_set hv hD hj, hP1, hD1⟩ hS1 hc hs hl
theorem r_sastore (hG : zOk sa G cc nL own nm ret nf nl K) {v : Option Nat} {i x : Int32} {P : zH → Prop} (hd : decode cc pc = .ok (.sastore, 1)) (hF : astI h v 2 i (vp_nar .short x) P) (kk : ∀ h', P h' → zW G (pc + 1) h' mc ms L st) : zW G pc h mc ms L (I_ x :: I_ i :: R_ v :: st) := by
  obtain ⟨⟨p, l, e, R, s, m, args, below, meth, c⟩, D, A, Q, MC, MS⟩ := G
  obtain ⟨a, n, f, rfl, ha, hin, hp⟩ := hF
  intro H locs cells slots ls hP hS hc hs hl
  obtain ⟨ws, j, hv, hPp, hD, hj⟩ := hP.at ha
  refine va_sast hG.1 hG.2.1 hG.2.2.2.2.2.2.2.2.1.1 hPp hD hS j 2 (zws_at hj) (zty rfl) hin hd fun H1 locs1 hP1 hD1 hS1 => ?_
  have e1 : (zws D ws).set j (a, (.inl (D.2.1 2, n, .inl (upd f i.toNatClampNeg (vp_nar .short x))) : va_E)) = zws D (ws.set j (a, .inl (2, n, .inl (upd f i.toNatClampNeg (vp_nar .short x))))) := zws_set (e := .inl (2, n, .inl (upd f i.toNatClampNeg (vp_nar .short x))))
  rw [e1] at hP1 hD1
  exact kk _ hp H1 locs1 cells slots ls ⟨_, zv_set hv hD hj, hP1, hD1⟩ hS1 hc hs hl
theorem r_bastoreZ (hG : zOk sa G cc nL own nm ret nf nl K) {v : Option Nat} {i x : Int32} {P : zH → Prop} (hd : decode cc pc = .ok (.bastore, 1)) (hF : astI h v 3 i (vp_nar .boolean x) P) (kk : ∀ h', P h' → zW G (pc + 1) h' mc ms L st) : zW G pc h mc ms L (I_ x :: I_ i :: R_ v :: st) := by
  obtain ⟨⟨p, l, e, R, s, m, args, below, meth, c⟩, D, A, Q, MC, MS⟩ := G
  obtain ⟨a, n, f, rfl, ha, hin, hp⟩ := hF
  intro H locs cells slots ls hP hS hc hs hl
  obtain ⟨ws, j, hv, hPp, hD, hj⟩ := hP.at ha
  refine va_zast hG.1 hG.2.1 hG.2.2.2.2.2.2.2.2.1.1 hPp hD hS j 3 (zws_at hj) (zty rfl) hin hd fun H1 locs1 hP1 hD1 hS1 => ?_
  have e1 : (zws D ws).set j (a, (.inl (D.2.1 3, n, .inl (upd f i.toNatClampNeg (vp_nar .boolean x))) : va_E)) = zws D (ws.set j (a, .inl (3, n, .inl (upd f i.toNatClampNeg (vp_nar .boolean x))))) := zws_set (e := .inl (3, n, .inl (upd f i.toNatClampNeg (vp_nar .boolean x))))
  rw [e1] at hP1 hD1
  exact kk _ hp H1 locs1 cells slots ls ⟨_, zv_set hv hD hj, hP1, hD1⟩ hS1 hc hs hl
theorem r_alen (hG : zOk sa G cc nL own nm ret nf nl K) {v : Option Nat} {P : Int32 → Prop} (hd : decode cc pc = .ok (.arraylength, 1)) (hF : aln h v P) (kk : ∀ n, P n → zW G (pc + 1) h mc ms L (I_ n :: st)) : zW G pc h mc ms L (R_ v :: st) := by
  obtain ⟨⟨p, l, e, R, s, m, args, below, meth, c⟩, D, A, Q, MC, MS⟩ := G
  obtain ⟨a, t, ty, x, rfl, ha, ht, hp⟩ := hF
  intro H locs cells slots ls hP hS hc hs hl
  obtain ⟨ws, j, hv, hPp, hD, hj⟩ := hP.at ha
  exact va_alen hG.1 hG.2.1 hG.2.2.2.2.2.2.2.2.1.1 hPp j t (zws_at hj) (zty ht) rfl hd (kk _ hp H locs cells slots ls hP hS hc hs hl)
theorem r_new (hG : zOk sa G cc nL own nm ret nf nl K) {ix ci : Nat} {fs : List Value} {P : Nat → zH → Prop} (hf : zNew own ix ci fs) (hd : decode cc pc = .ok (.new ix, 3)) (hF : nwO h mc ms ci fs P) (kk : ∀ (q : Nat) (h' : zH), P q h' → zW G (pc + 3) h' (mc - 1) (ms - fs.length) L (R_ (some q) :: st)) : zW G pc h mc ms L st := by
  obtain ⟨⟨p, l, e, R, s, m, args, below, meth, c⟩, D, A, Q, MC, MS⟩ := G
  obtain ⟨h1, h2, hp⟩ := hF
  obtain ⟨C, T, N, ty0, hcl, hin, hty, hlk, hins, hini, hfs⟩ := hf
  have hN : fs.length = N := by rw [← hfs]; simp
  intro H locs cells slots ls hP hS hc hs hl
  obtain ⟨ws, hv, hPp, hD⟩ := hP
  have hts := hG.2.2.2.2.2.2.2.1
  have hRc : R.cells = MC := hG.2.2.2.2.2.2.2.2.2.2.1
  have hRs : R.slots = MS := hG.2.2.2.2.2.2.2.2.2.2.2.1
  refine va_new (ci := ci) (fs := fs) hG.1 hG.2.1 hts hin ty0 hty hG.2.2.2.2.2.2.1 (hts _ hlk) (hts _ hins) (hts _ hini) hG.2.2.2.2.2.2.2.2.1.1 hPp hD hS hG.2.2.2.2.2.2.2.2.2.1 hcl ?_ (by omega) (by omega) hd fun q H1 hP1 hD1 hS1 => ?_
  · intro j hj
    rw [← hfs]
    unfold vp_V
    rw [List.getD_eq_getElem?_getD, List.getElem?_map, List.getElem?_range hj]
    rfl
  · have e1 : zws D ws ++ [(q, (.inr (ci, fs) : va_E))] = zws D (ws ++ [(q, .inr (ci, fs))]) := zws_push (e := .inr (ci, fs))
    rw [e1] at hP1 hD1
    obtain ⟨hq, hv1⟩ := zv_push hv hD1
    rw [← hN]
    exact kk q _ (hp q hq) H1 locs (cells + 1) (slots + fs.length) ls ⟨_, hv1, hP1, hD1⟩ hS1 (by omega) (by omega) hl
theorem r_newa (hG : zOk sa G cc nL own nm ret nf nl K) {atype : ArrayType} {t : Nat} {n : Int32} {ty : FieldType} {P : Nat → zH → Prop} (hw : Cond.arrayClass (newarray.typeOf atype) ∈ lw_all) (hty : newarray.typeOf atype = ty) (ht : ztys[t]? = some ty) (hz : ∀ (cA : ClassId) (N' : Nat), vp_cell cA (N', .inl (fun _ => 0)) = arrV cA N' (fun _ => defaultValue ty)) (hcb : componentBytes ty ≤ 4) (hpr : ∀ C : String, ty ≠ .object C) (hd : decode cc pc = .ok (.newarray atype, 2)) (hF : nwA h mc ms t n P) (kk : ∀ (q : Nat) (h' : zH), P q h' → zW G (pc + 2) h' (mc - 1) (ms - n.toNatClampNeg) L (R_ (some q) :: st)) : zW G pc h mc ms L (I_ n :: st) := by
  obtain ⟨⟨p, l, e, R, s, m, args, below, meth, c⟩, D, A, Q, MC, MS⟩ := G
  obtain ⟨h1, h2, h3, h4, hp⟩ := hF
  intro H locs cells slots ls hP hS hc hs hl
  obtain ⟨ws, hv, hPp, hD⟩ := hP
  have hts := hG.2.2.2.2.2.2.2.1
  have hRc : R.cells = MC := hG.2.2.2.2.2.2.2.2.2.2.1
  have hRs : R.slots = MS := hG.2.2.2.2.2.2.2.2.2.2.2.1
  have hWd := hG.2.2.2.2.2.2.2.2.1
  refine va_newa (a0 := (n.toNatClampNeg, .inl (fun _ => 0))) hG.1 hG.2.1 (hts _ hw) hty hWd.1 hPp hD hS hG.2.2.2.2.2.2.2.2.2.1 (fun cA => hz cA _) h1 rfl ?_ (by omega) (by omega) hd fun q cA H1 hK1 hP1 hD1 hS1 => ?_
  · calc n.toNatClampNeg * componentBytes ty ≤ 100000 * 4 := Nat.mul_le_mul h2 hcb
      _ ≤ 536870912 := Nat.le_of_ble_eq_true rfl
  · have hA1 : va_RA s cA ty := (hK1.2 (zTys D).length (cA, ty) (by rw [List.getElem?_append_right (Nat.le_refl _), Nat.sub_self]; rfl)).2
    have hA2 : va_RA s (D.2.1 t) ty := (hWd.1.2 t _ (zty ht)).2
    have hcA : cA = D.2.1 t := by
      cases ty with
      | object C => exact absurd rfl (hpr C)
      | _ => exact Option.some.inj (hA1.symm.trans hA2)
    subst hcA
    have e1 : zws D ws ++ [(q, (.inl (D.2.1 t, n.toNatClampNeg, .inl (fun _ => 0)) : va_E))] = zws D (ws ++ [(q, .inl (t, n.toNatClampNeg, .inl (fun _ => 0)))]) := zws_push (e := .inl (t, n.toNatClampNeg, .inl (fun _ => 0)))
    rw [e1] at hP1 hD1
    obtain ⟨hq, hv1⟩ := zv_push hv hD1
    exact kk q _ (hp q hq) H1 locs (cells + 1) (slots + n.toNatClampNeg) ls ⟨_, hv1, hP1, hD1⟩ hS1 (by omega) (by omega) hl
end ZH
