/-! THE Z-KIT's RULES: a rule an instruction, out of the kit's rows -/
set_option maxRecDepth 100000
section ZR
variable {sa : Nat → Nat} {G : zG} {cc : ByteArray} {nL : Nat} {own nm : String} {ret : Option FieldType} {nf nl : Nat} {K : Option zV → zH → Prop} {pc : Nat} {h : zH} {mc ms : Nat} {L : zL} {st : List zV}
theorem r_iconst (hG : zOk sa G cc nL own nm ret nf nl K) {n : Int} {v : Int32} (hd : decode cc pc = .ok (.iconst n, 1)) (hv : Int32.ofInt n = v) (k : zW G (pc + 1) h mc ms L (I_ v :: st)) : zW G pc h mc ms L st := by
  obtain ⟨⟨p, l, e, R, s, m, args, below, meth, c⟩, D, A, Q, MC, MS⟩ := G
  exact fun H locs cells slots ls hP hS hc hs hl => lv_iconst hG.1 hG.2.1 hd hv (k H locs cells slots ls hP hS hc hs hl)
theorem r_bipush (hG : zOk sa G cc nL own nm ret nf nl K) {n : Int} {v : Int32} (hd : decode cc pc = .ok (.bipush n, 2)) (hv : (Int8.ofInt n).toInt32 = v) (k : zW G (pc + 2) h mc ms L (I_ v :: st)) : zW G pc h mc ms L st := by
  obtain ⟨⟨p, l, e, R, s, m, args, below, meth, c⟩, D, A, Q, MC, MS⟩ := G
  exact fun H locs cells slots ls hP hS hc hs hl => lv_bipush hG.1 hG.2.1 hd hv (k H locs cells slots ls hP hS hc hs hl)
theorem r_sipush (hG : zOk sa G cc nL own nm ret nf nl K) {n : Int} {v : Int32} (hd : decode cc pc = .ok (.sipush n, 3)) (hv : (Int16.ofInt n).toInt32 = v) (k : zW G (pc + 3) h mc ms L (I_ v :: st)) : zW G pc h mc ms L st := by
  obtain ⟨⟨p, l, e, R, s, m, args, below, meth, c⟩, D, A, Q, MC, MS⟩ := G
  exact fun H locs cells slots ls hP hS hc hs hl => lv_sipush hG.1 hG.2.1 hd hv (k H locs cells slots ls hP hS hc hs hl)
theorem r_lconst (hG : zOk sa G cc nL own nm ret nf nl K) {n : Fin 2} {v : Int64} (hd : decode cc pc = .ok (.lconst n, 1)) (hv : Int64.ofNat (n : Nat) = v) (k : zW G (pc + 1) h mc ms L (J_ v :: st)) : zW G pc h mc ms L st := by
  obtain ⟨⟨p, l, e, R, s, m, args, below, meth, c⟩, D, A, Q, MC, MS⟩ := G
  exact fun H locs cells slots ls hP hS hc hs hl => lv_lconst hG.1 hG.2.1 hd hv (k H locs cells slots ls hP hS hc hs hl)
theorem r_ldc (hG : zOk sa G cc nL own nm ret nf nl K) {ix : Nat} {v : Int32} (hw : Jvm.Cond.constant own ix v ∈ lw_all) (hd : decode cc pc = .ok (.ldc ix, 2)) (k : zW G (pc + 2) h mc ms L (I_ v :: st)) : zW G pc h mc ms L st := by
  obtain ⟨⟨p, l, e, R, s, m, args, below, meth, c⟩, D, A, Q, MC, MS⟩ := G
  exact fun H locs cells slots ls hP hS hc hs hl => lv_ldc hG.1 hG.2.1 hG.2.2.2.2.2.2.1 (hG.2.2.2.2.2.2.2.1 _ hw) hd (k H locs cells slots ls hP hS hc hs hl)
theorem r_ldcw (hG : zOk sa G cc nL own nm ret nf nl K) {ix : Nat} {v : Int32} (hw : Jvm.Cond.constant own ix v ∈ lw_all) (hd : decode cc pc = .ok (.ldc_w ix, 3)) (k : zW G (pc + 3) h mc ms L (I_ v :: st)) : zW G pc h mc ms L st := by
  obtain ⟨⟨p, l, e, R, s, m, args, below, meth, c⟩, D, A, Q, MC, MS⟩ := G
  exact fun H locs cells slots ls hP hS hc hs hl => lv_ldcw hG.1 hG.2.1 hG.2.2.2.2.2.2.1 (hG.2.2.2.2.2.2.2.1 _ hw) hd (k H locs cells slots ls hP hS hc hs hl)
theorem r_ldc2 (hG : zOk sa G cc nL own nm ret nf nl K) {ix : Nat} {v : Int64} (hw : Jvm.Cond.constantLong own ix v ∈ lw_all) (hd : decode cc pc = .ok (.ldc2_w ix, 3)) (k : zW G (pc + 3) h mc ms L (J_ v :: st)) : zW G pc h mc ms L st := by
  obtain ⟨⟨p, l, e, R, s, m, args, below, meth, c⟩, D, A, Q, MC, MS⟩ := G
  exact fun H locs cells slots ls hP hS hc hs hl => lv_ldc2 hG.1 hG.2.1 hG.2.2.2.2.2.2.1 (hG.2.2.2.2.2.2.2.1 _ hw) hd (k H locs cells slots ls hP hS hc hs hl)
theorem r_iload_n (hG : zOk sa G cc nL own nm ret nf nl K) {i : Fin 4} {x : Int32} (k0 : Nat) (hd : decode cc pc = .ok (.iload_n i, 1)) (hx : L[k0]? = some ((i : Nat), I_ x)) (k : zW G (pc + 1) h mc ms L (I_ x :: st)) : zW G pc h mc ms L st := by
  obtain ⟨⟨p, l, e, R, s, m, args, below, meth, c⟩, D, A, Q, MC, MS⟩ := G
  exact fun H locs cells slots ls hP hS hc hs hl => lv_iload_n hG.1 hG.2.1 hd rfl (lv_at hl k0 (zlm_at hx)) (k H locs cells slots ls hP hS hc hs hl)
theorem r_iload (hG : zOk sa G cc nL own nm ret nf nl K) {i : Nat} {x : Int32} (k0 : Nat) (hd : decode cc pc = .ok (.iload i, 2)) (hx : L[k0]? = some (i, I_ x)) (k : zW G (pc + 2) h mc ms L (I_ x :: st)) : zW G pc h mc ms L st := by
  obtain ⟨⟨p, l, e, R, s, m, args, below, meth, c⟩, D, A, Q, MC, MS⟩ := G
  exact fun H locs cells slots ls hP hS hc hs hl => lv_iload hG.1 hG.2.1 hd (lv_at hl k0 (zlm_at hx)) (k H locs cells slots ls hP hS hc hs hl)
theorem r_lload_n (hG : zOk sa G cc nL own nm ret nf nl K) {i : Fin 4} {x : Int64} (k0 : Nat) (hd : decode cc pc = .ok (.lload_n i, 1)) (hx : L[k0]? = some ((i : Nat), J_ x)) (k : zW G (pc + 1) h mc ms L (J_ x :: st)) : zW G pc h mc ms L st := by
  obtain ⟨⟨p, l, e, R, s, m, args, below, meth, c⟩, D, A, Q, MC, MS⟩ := G
  exact fun H locs cells slots ls hP hS hc hs hl => lv_lload_n hG.1 hG.2.1 hd rfl (lv_at hl k0 (zlm_at hx)) (k H locs cells slots ls hP hS hc hs hl)
theorem r_lload (hG : zOk sa G cc nL own nm ret nf nl K) {i : Nat} {x : Int64} (k0 : Nat) (hd : decode cc pc = .ok (.lload i, 2)) (hx : L[k0]? = some (i, J_ x)) (k : zW G (pc + 2) h mc ms L (J_ x :: st)) : zW G pc h mc ms L st := by
  obtain ⟨⟨p, l, e, R, s, m, args, below, meth, c⟩, D, A, Q, MC, MS⟩ := G
  exact fun H locs cells slots ls hP hS hc hs hl => lv_lload hG.1 hG.2.1 hd (lv_at hl k0 (zlm_at hx)) (k H locs cells slots ls hP hS hc hs hl)
theorem r_aload_n (hG : zOk sa G cc nL own nm ret nf nl K) {i : Fin 4} {o : Option Nat} (k0 : Nat) (hd : decode cc pc = .ok (.aload_n i, 1)) (hx : L[k0]? = some ((i : Nat), R_ o)) (k : zW G (pc + 1) h mc ms L (R_ o :: st)) : zW G pc h mc ms L st := by
  obtain ⟨⟨p, l, e, R, s, m, args, below, meth, c⟩, D, A, Q, MC, MS⟩ := G
  cases o with
  | none => exact fun H locs cells slots ls hP hS hc hs hl => lv_aload_nN hG.1 hG.2.1 hd rfl (lv_at hl k0 (zlm_at hx)) (k H locs cells slots ls hP hS hc hs hl)
  | some a => exact fun H locs cells slots ls hP hS hc hs hl => lv_aload_n hG.1 hG.2.1 hd rfl (lv_at hl k0 (zlm_at hx)) (k H locs cells slots ls hP hS hc hs hl)
theorem r_aload (hG : zOk sa G cc nL own nm ret nf nl K) {i : Nat} {o : Option Nat} (k0 : Nat) (hd : decode cc pc = .ok (.aload i, 2)) (hx : L[k0]? = some (i, R_ o)) (k : zW G (pc + 2) h mc ms L (R_ o :: st)) : zW G pc h mc ms L st := by
  obtain ⟨⟨p, l, e, R, s, m, args, below, meth, c⟩, D, A, Q, MC, MS⟩ := G
  cases o with
  | none => exact fun H locs cells slots ls hP hS hc hs hl => lv_aloadN hG.1 hG.2.1 hd (lv_at hl k0 (zlm_at hx)) (k H locs cells slots ls hP hS hc hs hl)
  | some a => exact fun H locs cells slots ls hP hS hc hs hl => lv_aload hG.1 hG.2.1 hd (lv_at hl k0 (zlm_at hx)) (k H locs cells slots ls hP hS hc hs hl)
theorem r_istore_n (hG : zOk sa G cc nL own nm ret nf nl K) {i : Fin 4} {x : Int32} (L' : zL) (hd : decode cc pc = .ok (.istore_n i, 1)) (hi : (i : Nat) < nL) (hL : zst (i : Nat) (I_ x) L = L') (k : zW G (pc + 1) h mc ms L' st) : zW G pc h mc ms L (I_ x :: st) := by
  obtain ⟨⟨p, l, e, R, s, m, args, below, meth, c⟩, D, A, Q, MC, MS⟩ := G
  exact fun H locs cells slots ls hP hS hc hs hl => lv_istore_n (nL := c.maxLocals) hG.1 hG.2.1 hd rfl hl (by rw [hG.2.2.1]; exact hi) (zst_map (i : Nat) (I_ x) L) (fun ls' hl' => k H locs cells slots ls' hP hS hc hs (by rw [← hL]; exact hl'))
theorem r_istore (hG : zOk sa G cc nL own nm ret nf nl K) {i : Nat} {x : Int32} (L' : zL) (hd : decode cc pc = .ok (.istore i, 2)) (hi : i < nL) (hL : zst i (I_ x) L = L') (k : zW G (pc + 2) h mc ms L' st) : zW G pc h mc ms L (I_ x :: st) := by
  obtain ⟨⟨p, l, e, R, s, m, args, below, meth, c⟩, D, A, Q, MC, MS⟩ := G
  exact fun H locs cells slots ls hP hS hc hs hl => lv_istore (nL := c.maxLocals) hG.1 hG.2.1 hd hl (by rw [hG.2.2.1]; exact hi) (zst_map i (I_ x) L) (fun ls' hl' => k H locs cells slots ls' hP hS hc hs (by rw [← hL]; exact hl'))
theorem r_lstore_n (hG : zOk sa G cc nL own nm ret nf nl K) {i : Fin 4} {x : Int64} (L' : zL) (hd : decode cc pc = .ok (.lstore_n i, 1)) (hi : (i : Nat) + 1 < nL) (hL : zst2 (i : Nat) (J_ x) L = L') (k : zW G (pc + 1) h mc ms L' st) : zW G pc h mc ms L (J_ x :: st) := by
  obtain ⟨⟨p, l, e, R, s, m, args, below, meth, c⟩, D, A, Q, MC, MS⟩ := G
  exact fun H locs cells slots ls hP hS hc hs hl => lv_lstore_n (nL := c.maxLocals) hG.1 hG.2.1 hd rfl hl (by rw [hG.2.2.1]; exact hi) (zst2_map (i : Nat) (J_ x) L) (fun ls' hl' => k H locs cells slots ls' hP hS hc hs (by rw [← hL]; exact hl'))
theorem r_lstore (hG : zOk sa G cc nL own nm ret nf nl K) {i : Nat} {x : Int64} (L' : zL) (hd : decode cc pc = .ok (.lstore i, 2)) (hi : i + 1 < nL) (hL : zst2 i (J_ x) L = L') (k : zW G (pc + 2) h mc ms L' st) : zW G pc h mc ms L (J_ x :: st) := by
  obtain ⟨⟨p, l, e, R, s, m, args, below, meth, c⟩, D, A, Q, MC, MS⟩ := G
  exact fun H locs cells slots ls hP hS hc hs hl => lv_lstore (nL := c.maxLocals) hG.1 hG.2.1 hd hl (by rw [hG.2.2.1]; exact hi) (zst2_map i (J_ x) L) (fun ls' hl' => k H locs cells slots ls' hP hS hc hs (by rw [← hL]; exact hl'))
theorem r_astore_n (hG : zOk sa G cc nL own nm ret nf nl K) {i : Fin 4} {o : Option Nat} (L' : zL) (hd : decode cc pc = .ok (.astore_n i, 1)) (hi : (i : Nat) < nL) (hL : zst (i : Nat) (R_ o) L = L') (k : zW G (pc + 1) h mc ms L' st) : zW G pc h mc ms L (R_ o :: st) := by
  obtain ⟨⟨p, l, e, R, s, m, args, below, meth, c⟩, D, A, Q, MC, MS⟩ := G
  cases o with
  | none => exact fun H locs cells slots ls hP hS hc hs hl => lv_astore_nN (nL := c.maxLocals) hG.1 hG.2.1 hd rfl hl (by rw [hG.2.2.1]; exact hi) (zst_map (i : Nat) (R_ none) L) (fun ls' hl' => k H locs cells slots ls' hP hS hc hs (by rw [← hL]; exact hl'))
  | some a => exact fun H locs cells slots ls hP hS hc hs hl => lv_astore_n (nL := c.maxLocals) hG.1 hG.2.1 hd rfl hl (by rw [hG.2.2.1]; exact hi) (zst_map (i : Nat) (R_ (some a)) L) (fun ls' hl' => k H locs cells slots ls' hP hS hc hs (by rw [← hL]; exact hl'))
theorem r_astore (hG : zOk sa G cc nL own nm ret nf nl K) {i : Nat} {o : Option Nat} (L' : zL) (hd : decode cc pc = .ok (.astore i, 2)) (hi : i < nL) (hL : zst i (R_ o) L = L') (k : zW G (pc + 2) h mc ms L' st) : zW G pc h mc ms L (R_ o :: st) := by
  obtain ⟨⟨p, l, e, R, s, m, args, below, meth, c⟩, D, A, Q, MC, MS⟩ := G
  cases o with
  | none => exact fun H locs cells slots ls hP hS hc hs hl => lv_astoreN (nL := c.maxLocals) hG.1 hG.2.1 hd hl (by rw [hG.2.2.1]; exact hi) (zst_map i (R_ none) L) (fun ls' hl' => k H locs cells slots ls' hP hS hc hs (by rw [← hL]; exact hl'))
  | some a => exact fun H locs cells slots ls hP hS hc hs hl => lv_astore (nL := c.maxLocals) hG.1 hG.2.1 hd hl (by rw [hG.2.2.1]; exact hi) (zst_map i (R_ (some a)) L) (fun ls' hl' => k H locs cells slots ls' hP hS hc hs (by rw [← hL]; exact hl'))
theorem r_iinc (hG : zOk sa G cc nL own nm ret nf nl K) {i : Nat} {n : Int} {x v : Int32} (k0 : Nat) (L' : zL) (hd : decode cc pc = .ok (.iinc i n, 3)) (hx : L[k0]? = some (i, I_ x)) (hv : x + Int32.ofInt n = v) (hi : i < nL) (hL : zst i (I_ v) L = L') (k : zW G (pc + 3) h mc ms L' st) : zW G pc h mc ms L st := by
  obtain ⟨⟨p, l, e, R, s, m, args, below, meth, c⟩, D, A, Q, MC, MS⟩ := G
  exact fun H locs cells slots ls hP hS hc hs hl => lv_iinc (nL := c.maxLocals) hG.1 hG.2.1 hd hl (zlm_at hx) hv (by rw [hG.2.2.1]; exact hi) (zst_map i (I_ v) L) (fun ls' hl' => k H locs cells slots ls' hP hS hc hs (by rw [← hL]; exact hl'))
theorem r_iadd (hG : zOk sa G cc nL own nm ret nf nl K) {x y : Int32} (hd : decode cc pc = .ok (.iadd, 1)) (k : zW G (pc + 1) h mc ms L (I_ (x + y) :: st)) : zW G pc h mc ms L (I_ y :: I_ x :: st) := by
  obtain ⟨⟨p, l, e, R, s, m, args, below, meth, c⟩, D, A, Q, MC, MS⟩ := G
  exact fun H locs cells slots ls hP hS hc hs hl => lv_iadd hG.1 hG.2.1 hd (k H locs cells slots ls hP hS hc hs hl)
theorem r_isub (hG : zOk sa G cc nL own nm ret nf nl K) {x y : Int32} (hd : decode cc pc = .ok (.isub, 1)) (k : zW G (pc + 1) h mc ms L (I_ (x - y) :: st)) : zW G pc h mc ms L (I_ y :: I_ x :: st) := by
  obtain ⟨⟨p, l, e, R, s, m, args, below, meth, c⟩, D, A, Q, MC, MS⟩ := G
  exact fun H locs cells slots ls hP hS hc hs hl => lv_isub hG.1 hG.2.1 hd (k H locs cells slots ls hP hS hc hs hl)
theorem r_imul (hG : zOk sa G cc nL own nm ret nf nl K) {x y : Int32} (hd : decode cc pc = .ok (.imul, 1)) (k : zW G (pc + 1) h mc ms L (I_ (x * y) :: st)) : zW G pc h mc ms L (I_ y :: I_ x :: st) := by
  obtain ⟨⟨p, l, e, R, s, m, args, below, meth, c⟩, D, A, Q, MC, MS⟩ := G
  exact fun H locs cells slots ls hP hS hc hs hl => lv_imul hG.1 hG.2.1 hd (k H locs cells slots ls hP hS hc hs hl)
theorem r_iand (hG : zOk sa G cc nL own nm ret nf nl K) {x y : Int32} (hd : decode cc pc = .ok (.iand, 1)) (k : zW G (pc + 1) h mc ms L (I_ (x &&& y) :: st)) : zW G pc h mc ms L (I_ y :: I_ x :: st) := by
  obtain ⟨⟨p, l, e, R, s, m, args, below, meth, c⟩, D, A, Q, MC, MS⟩ := G
  exact fun H locs cells slots ls hP hS hc hs hl => lv_iand hG.1 hG.2.1 hd (k H locs cells slots ls hP hS hc hs hl)
theorem r_ior (hG : zOk sa G cc nL own nm ret nf nl K) {x y : Int32} (hd : decode cc pc = .ok (.ior, 1)) (k : zW G (pc + 1) h mc ms L (I_ (x ||| y) :: st)) : zW G pc h mc ms L (I_ y :: I_ x :: st) := by
  obtain ⟨⟨p, l, e, R, s, m, args, below, meth, c⟩, D, A, Q, MC, MS⟩ := G
  exact fun H locs cells slots ls hP hS hc hs hl => lv_ior hG.1 hG.2.1 hd (k H locs cells slots ls hP hS hc hs hl)
theorem r_ixor (hG : zOk sa G cc nL own nm ret nf nl K) {x y : Int32} (hd : decode cc pc = .ok (.ixor, 1)) (k : zW G (pc + 1) h mc ms L (I_ (x ^^^ y) :: st)) : zW G pc h mc ms L (I_ y :: I_ x :: st) := by
  obtain ⟨⟨p, l, e, R, s, m, args, below, meth, c⟩, D, A, Q, MC, MS⟩ := G
  exact fun H locs cells slots ls hP hS hc hs hl => lv_ixor hG.1 hG.2.1 hd (k H locs cells slots ls hP hS hc hs hl)
theorem r_ishl (hG : zOk sa G cc nL own nm ret nf nl K) {x y : Int32} (hd : decode cc pc = .ok (.ishl, 1)) (k : zW G (pc + 1) h mc ms L (I_ (x <<< (y &&& 31)) :: st)) : zW G pc h mc ms L (I_ y :: I_ x :: st) := by
  obtain ⟨⟨p, l, e, R, s, m, args, below, meth, c⟩, D, A, Q, MC, MS⟩ := G
  exact fun H locs cells slots ls hP hS hc hs hl => lv_ishl hG.1 hG.2.1 hd (k H locs cells slots ls hP hS hc hs hl)
theorem r_ishr (hG : zOk sa G cc nL own nm ret nf nl K) {x y : Int32} (hd : decode cc pc = .ok (.ishr, 1)) (k : zW G (pc + 1) h mc ms L (I_ (x >>> (y &&& 31)) :: st)) : zW G pc h mc ms L (I_ y :: I_ x :: st) := by
  obtain ⟨⟨p, l, e, R, s, m, args, below, meth, c⟩, D, A, Q, MC, MS⟩ := G
  exact fun H locs cells slots ls hP hS hc hs hl => lv_ishr hG.1 hG.2.1 hd (k H locs cells slots ls hP hS hc hs hl)
theorem r_iushr (hG : zOk sa G cc nL own nm ret nf nl K) {x y : Int32} (hd : decode cc pc = .ok (.iushr, 1)) (k : zW G (pc + 1) h mc ms L (I_ (x.toUInt32 >>> (y.toUInt32 &&& Int32.toUInt32 31)).toInt32 :: st)) : zW G pc h mc ms L (I_ y :: I_ x :: st) := by
  obtain ⟨⟨p, l, e, R, s, m, args, below, meth, c⟩, D, A, Q, MC, MS⟩ := G
  exact fun H locs cells slots ls hP hS hc hs hl => lv_iushr hG.1 hG.2.1 hd rfl (k H locs cells slots ls hP hS hc hs hl)
theorem r_idiv (hG : zOk sa G cc nL own nm ret nf nl K) {x y : Int32} (hd : decode cc pc = .ok (.idiv, 1)) (hn : ¬ y = 0) (k : zW G (pc + 1) h mc ms L (I_ (x / y) :: st)) : zW G pc h mc ms L (I_ y :: I_ x :: st) := by
  obtain ⟨⟨p, l, e, R, s, m, args, below, meth, c⟩, D, A, Q, MC, MS⟩ := G
  exact fun H locs cells slots ls hP hS hc hs hl => lv_idiv hG.1 hG.2.1 hd hn (k H locs cells slots ls hP hS hc hs hl)
theorem r_irem (hG : zOk sa G cc nL own nm ret nf nl K) {x y : Int32} (hd : decode cc pc = .ok (.irem, 1)) (hn : ¬ y = 0) (k : zW G (pc + 1) h mc ms L (I_ (x - x / y * y) :: st)) : zW G pc h mc ms L (I_ y :: I_ x :: st) := by
  obtain ⟨⟨p, l, e, R, s, m, args, below, meth, c⟩, D, A, Q, MC, MS⟩ := G
  exact fun H locs cells slots ls hP hS hc hs hl => lv_irem hG.1 hG.2.1 hd hn (k H locs cells slots ls hP hS hc hs hl)
theorem r_ldiv (hG : zOk sa G cc nL own nm ret nf nl K) {x y : Int64} (hd : decode cc pc = .ok (.ldiv, 1)) (hn : ¬ y = 0) (k : zW G (pc + 1) h mc ms L (J_ (x / y) :: st)) : zW G pc h mc ms L (J_ y :: J_ x :: st) := by
  obtain ⟨⟨p, l, e, R, s, m, args, below, meth, c⟩, D, A, Q, MC, MS⟩ := G
  exact fun H locs cells slots ls hP hS hc hs hl => lv_ldiv hG.1 hG.2.1 hd hn (k H locs cells slots ls hP hS hc hs hl)
theorem r_lrem (hG : zOk sa G cc nL own nm ret nf nl K) {x y : Int64} (hd : decode cc pc = .ok (.lrem, 1)) (hn : ¬ y = 0) (k : zW G (pc + 1) h mc ms L (J_ (x - x / y * y) :: st)) : zW G pc h mc ms L (J_ y :: J_ x :: st) := by
  obtain ⟨⟨p, l, e, R, s, m, args, below, meth, c⟩, D, A, Q, MC, MS⟩ := G
  exact fun H locs cells slots ls hP hS hc hs hl => lv_lrem hG.1 hG.2.1 hd hn (k H locs cells slots ls hP hS hc hs hl)
theorem r_ladd (hG : zOk sa G cc nL own nm ret nf nl K) {x y : Int64} (hd : decode cc pc = .ok (.ladd, 1)) (k : zW G (pc + 1) h mc ms L (J_ (x + y) :: st)) : zW G pc h mc ms L (J_ y :: J_ x :: st) := by
  obtain ⟨⟨p, l, e, R, s, m, args, below, meth, c⟩, D, A, Q, MC, MS⟩ := G
  exact fun H locs cells slots ls hP hS hc hs hl => lv_ladd hG.1 hG.2.1 hd (k H locs cells slots ls hP hS hc hs hl)
theorem r_lsub (hG : zOk sa G cc nL own nm ret nf nl K) {x y : Int64} (hd : decode cc pc = .ok (.lsub, 1)) (k : zW G (pc + 1) h mc ms L (J_ (x - y) :: st)) : zW G pc h mc ms L (J_ y :: J_ x :: st) := by
  obtain ⟨⟨p, l, e, R, s, m, args, below, meth, c⟩, D, A, Q, MC, MS⟩ := G
  exact fun H locs cells slots ls hP hS hc hs hl => lv_lsub hG.1 hG.2.1 hd (k H locs cells slots ls hP hS hc hs hl)
theorem r_lmul (hG : zOk sa G cc nL own nm ret nf nl K) {x y : Int64} (hd : decode cc pc = .ok (.lmul, 1)) (k : zW G (pc + 1) h mc ms L (J_ (x * y) :: st)) : zW G pc h mc ms L (J_ y :: J_ x :: st) := by
  obtain ⟨⟨p, l, e, R, s, m, args, below, meth, c⟩, D, A, Q, MC, MS⟩ := G
  exact fun H locs cells slots ls hP hS hc hs hl => lv_lmul hG.1 hG.2.1 hd (k H locs cells slots ls hP hS hc hs hl)
theorem r_ineg (hG : zOk sa G cc nL own nm ret nf nl K) {x : Int32} (hd : decode cc pc = .ok (.ineg, 1)) (k : zW G (pc + 1) h mc ms L (I_ (-x) :: st)) : zW G pc h mc ms L (I_ x :: st) := by
  obtain ⟨⟨p, l, e, R, s, m, args, below, meth, c⟩, D, A, Q, MC, MS⟩ := G
  exact fun H locs cells slots ls hP hS hc hs hl => lv_ineg hG.1 hG.2.1 hd (k H locs cells slots ls hP hS hc hs hl)
theorem r_i2l (hG : zOk sa G cc nL own nm ret nf nl K) {x : Int32} (hd : decode cc pc = .ok (.i2l, 1)) (k : zW G (pc + 1) h mc ms L (J_ x.toInt64 :: st)) : zW G pc h mc ms L (I_ x :: st) := by
  obtain ⟨⟨p, l, e, R, s, m, args, below, meth, c⟩, D, A, Q, MC, MS⟩ := G
  exact fun H locs cells slots ls hP hS hc hs hl => lv_i2l hG.1 hG.2.1 hd rfl (k H locs cells slots ls hP hS hc hs hl)
theorem r_l2i (hG : zOk sa G cc nL own nm ret nf nl K) {x : Int64} (hd : decode cc pc = .ok (.l2i, 1)) (k : zW G (pc + 1) h mc ms L (I_ x.toInt32 :: st)) : zW G pc h mc ms L (J_ x :: st) := by
  obtain ⟨⟨p, l, e, R, s, m, args, below, meth, c⟩, D, A, Q, MC, MS⟩ := G
  exact fun H locs cells slots ls hP hS hc hs hl => lv_l2i hG.1 hG.2.1 hd rfl (k H locs cells slots ls hP hS hc hs hl)
theorem r_i2b (hG : zOk sa G cc nL own nm ret nf nl K) {x : Int32} (hd : decode cc pc = .ok (.i2b, 1)) (k : zW G (pc + 1) h mc ms L (I_ x.toInt8.toInt32 :: st)) : zW G pc h mc ms L (I_ x :: st) := by
  obtain ⟨⟨p, l, e, R, s, m, args, below, meth, c⟩, D, A, Q, MC, MS⟩ := G
  exact fun H locs cells slots ls hP hS hc hs hl => lv_i2b hG.1 hG.2.1 hd rfl (k H locs cells slots ls hP hS hc hs hl)
theorem r_i2s (hG : zOk sa G cc nL own nm ret nf nl K) {x : Int32} (hd : decode cc pc = .ok (.i2s, 1)) (k : zW G (pc + 1) h mc ms L (I_ x.toInt16.toInt32 :: st)) : zW G pc h mc ms L (I_ x :: st) := by
  obtain ⟨⟨p, l, e, R, s, m, args, below, meth, c⟩, D, A, Q, MC, MS⟩ := G
  exact fun H locs cells slots ls hP hS hc hs hl => lv_i2s hG.1 hG.2.1 hd rfl (k H locs cells slots ls hP hS hc hs hl)
theorem r_lcmp (hG : zOk sa G cc nL own nm ret nf nl K) {x y : Int64} (hd : decode cc pc = .ok (.lcmp, 1)) (k : zW G (pc + 1) h mc ms L (I_ (lg_cmp x y) :: st)) : zW G pc h mc ms L (J_ y :: J_ x :: st) := by
  obtain ⟨⟨p, l, e, R, s, m, args, below, meth, c⟩, D, A, Q, MC, MS⟩ := G
  exact fun H locs cells slots ls hP hS hc hs hl => W.lcmp hG.1 hG.2.1 hd (k H locs cells slots ls hP hS hc hs hl)
theorem r_dup (hG : zOk sa G cc nL own nm ret nf nl K) {v : zV} (hd : decode cc pc = .ok (.dup, 1)) (hv : zcat v = 1) (k : zW G (pc + 1) h mc ms L (v :: v :: st)) : zW G pc h mc ms L (v :: st) := by
  obtain ⟨⟨p, l, e, R, s, m, args, below, meth, c⟩, D, A, Q, MC, MS⟩ := G
  exact fun H locs cells slots ls hP hS hc hs hl => lv_dup hG.1 hG.2.1 hd (by rw [zcat_eq]; exact hv) (k H locs cells slots ls hP hS hc hs hl)
theorem r_pop (hG : zOk sa G cc nL own nm ret nf nl K) {v : zV} (hd : decode cc pc = .ok (.pop, 1)) (hv : zcat v = 1) (k : zW G (pc + 1) h mc ms L st) : zW G pc h mc ms L (v :: st) := by
  obtain ⟨⟨p, l, e, R, s, m, args, below, meth, c⟩, D, A, Q, MC, MS⟩ := G
  exact fun H locs cells slots ls hP hS hc hs hl => lv_pop hG.1 hG.2.1 hd (by rw [zcat_eq]; exact hv) (k H locs cells slots ls hP hS hc hs hl)
theorem r_if_eq (hG : zOk sa G cc nL own nm ret nf nl K) {x : Int32} {off : Int} (tgt : Nat) {F1 F2 : Prop} {inst : Decidable (x = 0)} (hd : decode cc pc = .ok (.ifCond .eq off, 3)) (ht : (pc : Int) + off = (tgt : Int)) (hF : @ite Prop (x = 0) inst F1 F2) (kt : F1 → zW G tgt h mc ms L st) (kf : F2 → zW G (pc + 3) h mc ms L st) : zW G pc h mc ms L (I_ x :: st) := by
  obtain ⟨⟨p, l, e, R, s, m, args, below, meth, c⟩, D, A, Q, MC, MS⟩ := G
  exact fun H locs cells slots ls hP hS hc hs hl => lv_if_eq hG.1 hG.2.1 hd ht (fun q => kt (by rw [if_pos q] at hF; exact hF) H locs cells slots ls hP hS hc hs hl) (fun q => kf (by rw [if_neg q] at hF; exact hF) H locs cells slots ls hP hS hc hs hl)
theorem r_if_ne (hG : zOk sa G cc nL own nm ret nf nl K) {x : Int32} {off : Int} (tgt : Nat) {F1 F2 : Prop} {inst : Decidable (x = 0)} (hd : decode cc pc = .ok (.ifCond .ne off, 3)) (ht : (pc : Int) + off = (tgt : Int)) (hF : @ite Prop (x = 0) inst F2 F1) (kt : F1 → zW G tgt h mc ms L st) (kf : F2 → zW G (pc + 3) h mc ms L st) : zW G pc h mc ms L (I_ x :: st) := by
  obtain ⟨⟨p, l, e, R, s, m, args, below, meth, c⟩, D, A, Q, MC, MS⟩ := G
  exact fun H locs cells slots ls hP hS hc hs hl => lv_if_ne hG.1 hG.2.1 hd ht (fun q => kt (by rw [if_neg q] at hF; exact hF) H locs cells slots ls hP hS hc hs hl) (fun q => kf (by rw [if_pos q] at hF; exact hF) H locs cells slots ls hP hS hc hs hl)
theorem r_if_lt (hG : zOk sa G cc nL own nm ret nf nl K) {x : Int32} {off : Int} (tgt : Nat) {F1 F2 : Prop} {inst : Decidable (x < 0)} (hd : decode cc pc = .ok (.ifCond .lt off, 3)) (ht : (pc : Int) + off = (tgt : Int)) (hF : @ite Prop (x < 0) inst F1 F2) (kt : F1 → zW G tgt h mc ms L st) (kf : F2 → zW G (pc + 3) h mc ms L st) : zW G pc h mc ms L (I_ x :: st) := by
  obtain ⟨⟨p, l, e, R, s, m, args, below, meth, c⟩, D, A, Q, MC, MS⟩ := G
  exact fun H locs cells slots ls hP hS hc hs hl => lv_if_lt hG.1 hG.2.1 hd ht (fun q => kt (by rw [if_pos q] at hF; exact hF) H locs cells slots ls hP hS hc hs hl) (fun q => kf (by rw [if_neg q] at hF; exact hF) H locs cells slots ls hP hS hc hs hl)
theorem r_if_ge (hG : zOk sa G cc nL own nm ret nf nl K) {x : Int32} {off : Int} (tgt : Nat) {F1 F2 : Prop} {inst : Decidable (x < 0)} (hd : decode cc pc = .ok (.ifCond .ge off, 3)) (ht : (pc : Int) + off = (tgt : Int)) (hF : @ite Prop (x < 0) inst F2 F1) (kt : F1 → zW G tgt h mc ms L st) (kf : F2 → zW G (pc + 3) h mc ms L st) : zW G pc h mc ms L (I_ x :: st) := by
  obtain ⟨⟨p, l, e, R, s, m, args, below, meth, c⟩, D, A, Q, MC, MS⟩ := G
  exact fun H locs cells slots ls hP hS hc hs hl => lv_if_ge hG.1 hG.2.1 hd ht (fun q => kt (by rw [if_neg (Int32.not_lt.mpr q)] at hF; exact hF) H locs cells slots ls hP hS hc hs hl) (fun q => kf (by rw [if_pos (Int32.not_le.mp q)] at hF; exact hF) H locs cells slots ls hP hS hc hs hl)
theorem r_if_gt (hG : zOk sa G cc nL own nm ret nf nl K) {x : Int32} {off : Int} (tgt : Nat) {F1 F2 : Prop} {inst : Decidable (0 < x)} (hd : decode cc pc = .ok (.ifCond .gt off, 3)) (ht : (pc : Int) + off = (tgt : Int)) (hF : @ite Prop (0 < x) inst F1 F2) (kt : F1 → zW G tgt h mc ms L st) (kf : F2 → zW G (pc + 3) h mc ms L st) : zW G pc h mc ms L (I_ x :: st) := by
  obtain ⟨⟨p, l, e, R, s, m, args, below, meth, c⟩, D, A, Q, MC, MS⟩ := G
  exact fun H locs cells slots ls hP hS hc hs hl => lv_if_gt hG.1 hG.2.1 hd ht (fun q => kt (by rw [if_pos q] at hF; exact hF) H locs cells slots ls hP hS hc hs hl) (fun q => kf (by rw [if_neg q] at hF; exact hF) H locs cells slots ls hP hS hc hs hl)
theorem r_if_le (hG : zOk sa G cc nL own nm ret nf nl K) {x : Int32} {off : Int} (tgt : Nat) {F1 F2 : Prop} {inst : Decidable (0 < x)} (hd : decode cc pc = .ok (.ifCond .le off, 3)) (ht : (pc : Int) + off = (tgt : Int)) (hF : @ite Prop (0 < x) inst F2 F1) (kt : F1 → zW G tgt h mc ms L st) (kf : F2 → zW G (pc + 3) h mc ms L st) : zW G pc h mc ms L (I_ x :: st) := by
  obtain ⟨⟨p, l, e, R, s, m, args, below, meth, c⟩, D, A, Q, MC, MS⟩ := G
  exact fun H locs cells slots ls hP hS hc hs hl => lv_if_le hG.1 hG.2.1 hd ht (fun q => kt (by rw [if_neg (Int32.not_lt.mpr q)] at hF; exact hF) H locs cells slots ls hP hS hc hs hl) (fun q => kf (by rw [if_pos (Int32.not_le.mp q)] at hF; exact hF) H locs cells slots ls hP hS hc hs hl)
theorem r_icmp_eq (hG : zOk sa G cc nL own nm ret nf nl K) {x y : Int32} {off : Int} (tgt : Nat) {F1 F2 : Prop} {inst : Decidable (x = y)} (hd : decode cc pc = .ok (.if_icmp .eq off, 3)) (ht : (pc : Int) + off = (tgt : Int)) (hF : @ite Prop (x = y) inst F1 F2) (kt : F1 → zW G tgt h mc ms L st) (kf : F2 → zW G (pc + 3) h mc ms L st) : zW G pc h mc ms L (I_ y :: I_ x :: st) := by
  obtain ⟨⟨p, l, e, R, s, m, args, below, meth, c⟩, D, A, Q, MC, MS⟩ := G
  exact fun H locs cells slots ls hP hS hc hs hl => lv_icmp_eq hG.1 hG.2.1 hd ht (fun q => kt (by rw [if_pos q] at hF; exact hF) H locs cells slots ls hP hS hc hs hl) (fun q => kf (by rw [if_neg q] at hF; exact hF) H locs cells slots ls hP hS hc hs hl)
theorem r_icmp_ne (hG : zOk sa G cc nL own nm ret nf nl K) {x y : Int32} {off : Int} (tgt : Nat) {F1 F2 : Prop} {inst : Decidable (x = y)} (hd : decode cc pc = .ok (.if_icmp .ne off, 3)) (ht : (pc : Int) + off = (tgt : Int)) (hF : @ite Prop (x = y) inst F2 F1) (kt : F1 → zW G tgt h mc ms L st) (kf : F2 → zW G (pc + 3) h mc ms L st) : zW G pc h mc ms L (I_ y :: I_ x :: st) := by
  obtain ⟨⟨p, l, e, R, s, m, args, below, meth, c⟩, D, A, Q, MC, MS⟩ := G
  exact fun H locs cells slots ls hP hS hc hs hl => lv_icmp_ne hG.1 hG.2.1 hd ht (fun q => kt (by rw [if_neg q] at hF; exact hF) H locs cells slots ls hP hS hc hs hl) (fun q => kf (by rw [if_pos q] at hF; exact hF) H locs cells slots ls hP hS hc hs hl)
theorem r_icmp_lt (hG : zOk sa G cc nL own nm ret nf nl K) {x y : Int32} {off : Int} (tgt : Nat) {F1 F2 : Prop} {inst : Decidable (x < y)} (hd : decode cc pc = .ok (.if_icmp .lt off, 3)) (ht : (pc : Int) + off = (tgt : Int)) (hF : @ite Prop (x < y) inst F1 F2) (kt : F1 → zW G tgt h mc ms L st) (kf : F2 → zW G (pc + 3) h mc ms L st) : zW G pc h mc ms L (I_ y :: I_ x :: st) := by
  obtain ⟨⟨p, l, e, R, s, m, args, below, meth, c⟩, D, A, Q, MC, MS⟩ := G
  exact fun H locs cells slots ls hP hS hc hs hl => lv_icmp_lt hG.1 hG.2.1 hd ht (fun q => kt (by rw [if_pos q] at hF; exact hF) H locs cells slots ls hP hS hc hs hl) (fun q => kf (by rw [if_neg q] at hF; exact hF) H locs cells slots ls hP hS hc hs hl)
theorem r_icmp_ge (hG : zOk sa G cc nL own nm ret nf nl K) {x y : Int32} {off : Int} (tgt : Nat) {F1 F2 : Prop} {inst : Decidable (x < y)} (hd : decode cc pc = .ok (.if_icmp .ge off, 3)) (ht : (pc : Int) + off = (tgt : Int)) (hF : @ite Prop (x < y) inst F2 F1) (kt : F1 → zW G tgt h mc ms L st) (kf : F2 → zW G (pc + 3) h mc ms L st) : zW G pc h mc ms L (I_ y :: I_ x :: st) := by
  obtain ⟨⟨p, l, e, R, s, m, args, below, meth, c⟩, D, A, Q, MC, MS⟩ := G
  exact fun H locs cells slots ls hP hS hc hs hl => lv_icmp_ge hG.1 hG.2.1 hd ht (fun q => kt (by rw [if_neg (Int32.not_lt.mpr q)] at hF; exact hF) H locs cells slots ls hP hS hc hs hl) (fun q => kf (by rw [if_pos (Int32.not_le.mp q)] at hF; exact hF) H locs cells slots ls hP hS hc hs hl)
theorem r_icmp_gt (hG : zOk sa G cc nL own nm ret nf nl K) {x y : Int32} {off : Int} (tgt : Nat) {F1 F2 : Prop} {inst : Decidable (y < x)} (hd : decode cc pc = .ok (.if_icmp .gt off, 3)) (ht : (pc : Int) + off = (tgt : Int)) (hF : @ite Prop (y < x) inst F1 F2) (kt : F1 → zW G tgt h mc ms L st) (kf : F2 → zW G (pc + 3) h mc ms L st) : zW G pc h mc ms L (I_ y :: I_ x :: st) := by
  obtain ⟨⟨p, l, e, R, s, m, args, below, meth, c⟩, D, A, Q, MC, MS⟩ := G
  exact fun H locs cells slots ls hP hS hc hs hl => lv_icmp_gt hG.1 hG.2.1 hd ht (fun q => kt (by rw [if_pos q] at hF; exact hF) H locs cells slots ls hP hS hc hs hl) (fun q => kf (by rw [if_neg q] at hF; exact hF) H locs cells slots ls hP hS hc hs hl)
theorem r_icmp_le (hG : zOk sa G cc nL own nm ret nf nl K) {x y : Int32} {off : Int} (tgt : Nat) {F1 F2 : Prop} {inst : Decidable (y < x)} (hd : decode cc pc = .ok (.if_icmp .le off, 3)) (ht : (pc : Int) + off = (tgt : Int)) (hF : @ite Prop (y < x) inst F2 F1) (kt : F1 → zW G tgt h mc ms L st) (kf : F2 → zW G (pc + 3) h mc ms L st) : zW G pc h mc ms L (I_ y :: I_ x :: st) := by
  obtain ⟨⟨p, l, e, R, s, m, args, below, meth, c⟩, D, A, Q, MC, MS⟩ := G
  exact fun H locs cells slots ls hP hS hc hs hl => lv_icmp_le hG.1 hG.2.1 hd ht (fun q => kt (by rw [if_neg (Int32.not_lt.mpr q)] at hF; exact hF) H locs cells slots ls hP hS hc hs hl) (fun q => kf (by rw [if_pos (Int32.not_le.mp q)] at hF; exact hF) H locs cells slots ls hP hS hc hs hl)
theorem r_goto (hG : zOk sa G cc nL own nm ret nf nl K) {off : Int} (tgt : Nat) (hd : decode cc pc = .ok (.goto off, 3)) (ht : (pc : Int) + off = (tgt : Int)) (k : zW G tgt h mc ms L st) : zW G pc h mc ms L st := by
  obtain ⟨⟨p, l, e, R, s, m, args, below, meth, c⟩, D, A, Q, MC, MS⟩ := G
  exact fun H locs cells slots ls hP hS hc hs hl => lv_goto hG.1 hG.2.1 hd ht (k H locs cells slots ls hP hS hc hs hl)
theorem r_sub (hG : zOk sa G cc nL own nm ret nf nl K) (ks : List Nat) {L' : zL} (hL : zpick L ks = L') (k : zW G pc h mc ms L' st) : zW G pc h mc ms L st := by
  obtain ⟨⟨p, l, e, R, s, m, args, below, meth, c⟩, D, A, Q, MC, MS⟩ := G
  exact fun H locs cells slots ls hP hS hc hs hl => k H locs cells slots ls hP hS hc hs (lv_sub hl ks (by rw [zlm_pick, hL]))
theorem r_tin (hG : zOk sa G cc nL own nm ret nf nl K) {x : Int32} {dflt lo hi : Int} {offs : Array Int} {len : Nat} {off : Int} (v : Int32) (tgt : Nat) (hd : decode cc pc = .ok (.tableswitch dflt lo hi offs, len)) (hx : x = v) (h1 : ¬ v.toInt < lo) (h2 : ¬ hi < v.toInt) (ho : offs[(v.toInt - lo).toNat]? = some off) (ht : (pc : Int) + off = (tgt : Int)) (k : zW G tgt h mc ms L st) : zW G pc h mc ms L (I_ x :: st) := by
  subst hx
  obtain ⟨⟨p, l, e, R, s, m, args, below, meth, c⟩, D, A, Q, MC, MS⟩ := G
  exact fun H locs cells slots ls hP hS hc hs hl => lv_tableIn hG.1 hG.2.1 hd h1 h2 ho ht (k H locs cells slots ls hP hS hc hs hl)
theorem r_tout (hG : zOk sa G cc nL own nm ret nf nl K) {x : Int32} {dflt lo hi : Int} {offs : Array Int} {len : Nat} (tgt : Nat) (hd : decode cc pc = .ok (.tableswitch dflt lo hi offs, len)) (hx : x.toInt < lo ∨ hi < x.toInt) (ht : (pc : Int) + dflt = (tgt : Int)) (k : zW G tgt h mc ms L st) : zW G pc h mc ms L (I_ x :: st) := by
  obtain ⟨⟨p, l, e, R, s, m, args, below, meth, c⟩, D, A, Q, MC, MS⟩ := G
  exact fun H locs cells slots ls hP hS hc hs hl => lv_tableOut hG.1 hG.2.1 hd hx ht (k H locs cells slots ls hP hS hc hs hl)
theorem r_look (hG : zOk sa G cc nL own nm ret nf nl K) {x : Int32} {dflt : Int} {ps : Array (Int × Int)} {len : Nat} {off : Int} (tgt : Nat) (hd : decode cc pc = .ok (.lookupswitch dflt ps, len)) (hp : (ps.toList.zip (ps.toList.drop 1)).all (fun (a, next) => a.1 < next.1) = true) (ho : Op.lookupswitch.offset ps.toList dflt x.toInt = off) (ht : (pc : Int) + off = (tgt : Int)) (k : zW G tgt h mc ms L st) : zW G pc h mc ms L (I_ x :: st) := by
  obtain ⟨⟨p, l, e, R, s, m, args, below, meth, c⟩, D, A, Q, MC, MS⟩ := G
  exact fun H locs cells slots ls hP hS hc hs hl => lv_lookup hG.1 hG.2.1 hd hp ho ht (k H locs cells slots ls hP hS hc hs hl)
theorem r_iret (hG : zOk sa G cc nL own nm (some .int) nf nl K) {x : Int32} (hd : decode cc pc = .ok (.ireturn, 1)) (hK : K (some (I_ x)) h) : zW G pc h mc ms L [I_ x] := by
  obtain ⟨⟨p, l, e, R, s, m, args, below, meth, c⟩, D, A, Q, MC, MS⟩ := G
  obtain ⟨hx, hb, hml, hr, hlk, hnm, hown, hts, hWd, hA, hRc, hRs, hnf, hnl, hfl, hsa, hQ⟩ := hG
  intro H locs cells slots ls hP hS hc hs hl
  refine W.widen (k := MC) (n := MS) (by omega) (by omega) ?_
  refine hQ _ _ _ ?_
  exact W.iret hx hb hr (fun t ht hW => ⟨⟨some (I_ x), h, rfl, hK, by rw [ht]; exact hP⟩, hS.F ht⟩) hS.2.2 hd hlk
theorem r_zret (hG : zOk sa G cc nL own nm (some .boolean) nf nl K) {x : Int32} (hd : decode cc pc = .ok (.ireturn, 1)) (hn : narrow .boolean (.int x) = .int x) (hK : K (some (I_ x)) h) : zW G pc h mc ms L [I_ x] := by
  obtain ⟨⟨p, l, e, R, s, m, args, below, meth, c⟩, D, A, Q, MC, MS⟩ := G
  obtain ⟨hx, hb, hml, hr, hlk, hnm, hown, hts, hWd, hA, hRc, hRs, hnf, hnl, hfl, hsa, hQ⟩ := hG
  intro H locs cells slots ls hP hS hc hs hl
  refine W.widen (k := MC) (n := MS) (by omega) (by omega) ?_
  refine hQ _ _ _ ?_
  exact W.zret hx hb hr hn (fun t ht hW => ⟨⟨some (I_ x), h, rfl, hK, by rw [ht]; exact hP⟩, hS.F ht⟩) hS.2.2 hd hlk
theorem r_vret (hG : zOk sa G cc nL own nm none nf nl K) (hd : decode cc pc = .ok (.return_, 1)) (hK : K none h) : zW G pc h mc ms L [] := by
  obtain ⟨⟨p, l, e, R, s, m, args, below, meth, c⟩, D, A, Q, MC, MS⟩ := G
  obtain ⟨hx, hb, hml, hr, hlk, hnm, hown, hts, hWd, hA, hRc, hRs, hnf, hnl, hfl, hsa, hQ⟩ := hG
  intro H locs cells slots ls hP hS hc hs hl
  refine W.widen (k := MC) (n := MS) (by omega) (by omega) ?_
  refine hQ _ _ _ ?_
  exact W.vret hx hb hr (fun t ht hW => ⟨⟨none, h, rfl, hK, by rw [ht]; exact hP⟩, hS.F ht⟩) hS.2.2 hd hlk
theorem r_lret (hG : zOk sa G cc nL own nm (some .long) nf nl K) {x : Int64} (hd : decode cc pc = .ok (.lreturn, 1)) (hK : K (some (J_ x)) h) : zW G pc h mc ms L [J_ x] := by
  obtain ⟨⟨p, l, e, R, s, m, args, below, meth, c⟩, D, A, Q, MC, MS⟩ := G
  obtain ⟨hx, hb, hml, hr, hlk, hnm, hown, hts, hWd, hA, hRc, hRs, hnf, hnl, hfl, hsa, hQ⟩ := hG
  intro H locs cells slots ls hP hS hc hs hl
  refine W.widen (k := MC) (n := MS) (by omega) (by omega) ?_
  refine hQ _ _ _ ?_
  exact W.lret hx hb hr (fun t ht hW => ⟨⟨some (J_ x), h, rfl, hK, by rw [ht]; exact hP⟩, hS.F ht⟩) hS.2.2 hd hlk
theorem r_aret {rt : FieldType} (hG : zOk sa G cc nL own nm (some rt) nf nl K) (hrt : (∃ n, rt = .object n) ∨ ∃ t, rt = .array t) {o : Option Nat} (hd : decode cc pc = .ok (.areturn, 1)) (hK : K (some (R_ o)) h) : zW G pc h mc ms L [R_ o] := by
  obtain ⟨⟨p, l, e, R, s, m, args, below, meth, c⟩, D, A, Q, MC, MS⟩ := G
  obtain ⟨hx, hb, hml, hr, hlk, hnm, hown, hts, hWd, hA, hRc, hRs, hnf, hnl, hfl, hsa, hQ⟩ := hG
  intro H locs cells slots ls hP hS hc hs hl
  refine W.widen (k := MC) (n := MS) (by omega) (by omega) ?_
  refine hQ _ _ _ ?_
  exact W.aret hx hb hr hrt (zrf_or o) (fun t ht hW => ⟨⟨some (R_ o), h, rfl, hK, by rw [ht]; exact hP⟩, hS.F ht⟩) hS.2.2 hd hlk
theorem r_nameI {x : Int32} {P : Int32 → Prop} (hF : ∀ y, y = x → P y) (k : ∀ y, P y → zW G pc h mc ms L (I_ y :: st)) : zW G pc h mc ms L (I_ x :: st) := k x (hF x rfl)
theorem r_nameJ {x : Int64} {P : Int64 → Prop} (hF : ∀ y, y = x → P y) (k : ∀ y, P y → zW G pc h mc ms L (J_ y :: st)) : zW G pc h mc ms L (J_ x :: st) := k x (hF x rfl)
theorem r_iincN (hG : zOk sa G cc nL own nm ret nf nl K) {i : Nat} {n : Int} {x n' : Int32} {P : Int32 → Prop} (k0 : Nat) (L' : Int32 → zL) (hd : decode cc pc = .ok (.iinc i n, 3)) (hx : L[k0]? = some (i, I_ x)) (hn : Int32.ofInt n = n') (hi : i < nL) (hL : ∀ y, zst i (I_ y) L = L' y) (hF : ∀ y, y = x + n' → P y) (k : ∀ y, P y → zW G (pc + 3) h mc ms (L' y) st) : zW G pc h mc ms L st := r_iinc hG k0 (L' (x + n')) hd hx (by rw [hn]) hi (hL _) (k _ (hF _ rfl))
theorem zti {x v : Int32} (n : Int) (hv : v.toInt = n) (q : ¬ x = v) : x.toInt ≠ n := fun e => q (Int32.toInt_inj.mp (e.trans hv.symm))
theorem zn_i {x : Int32} : narrow .int (zval (I_ x)) = zval (I_ x) := rfl
theorem zf_i {x : Int32} : fits .int (zval (I_ x)) = true := rfl
theorem zn_j {x : Int64} : narrow .long (zval (J_ x)) = zval (J_ x) := rfl
theorem zf_j {x : Int64} : fits .long (zval (J_ x)) = true := rfl
def zbl (x : Int32) : Prop := x = 0 ∨ x = 1
theorem zbl0 : zbl 0 := Or.inl rfl
theorem zbl1 : zbl 1 := Or.inr rfl
theorem zn_z {x : Int32} (hx : zbl x) : narrow .boolean (zval (I_ x)) = zval (I_ x) := by
  rcases hx with rfl | rfl <;> rfl
theorem zf_z {x : Int32} (hx : zbl x) : fits .boolean (zval (I_ x)) = true := by
  rcases hx with rfl | rfl <;> rfl
theorem zn_o {C : String} {o : Option Nat} : narrow (.object C) (zval (R_ o)) = zval (R_ o) := by cases o <;> rfl
theorem zf_o {C : String} {o : Option Nat} : fits (.object C) (zval (R_ o)) = true := by cases o <;> rfl
theorem zn_a {t : FieldType} {o : Option Nat} : narrow (.array t) (zval (R_ o)) = zval (R_ o) := by cases o <;> rfl
theorem zf_a {t : FieldType} {o : Option Nat} : fits (.array t) (zval (R_ o)) = true := by cases o <;> rfl
theorem zal1 {P : Nat → Prop} {a : Nat} (h : P a) : ∀ c ∈ [a], P c := fun c hc => by rw [List.mem_singleton.mp hc]; exact h
theorem zalc {P : Nat → Prop} {a : Nat} {l : List Nat} (h : P a) (k : ∀ c ∈ l, P c) : ∀ c ∈ a :: l, P c := List.forall_mem_cons.mpr ⟨h, k⟩
end ZR
