/-! the class's methods in which the machine itself throws (rows of some sort, casts): what they compute, typed by hand -/
set_option maxRecDepth 100000
/-- the kind of array that a sort names -/
def zty3 (s : Int32) : Nat := if s = 0 then 1 else if s = 1 then 2 else 0
def znar (t : Nat) (x : Int32) : Int32 := if t = 1 then vp_nar .byte x.toInt8.toInt32 else if t = 2 then vp_nar .short x.toInt16.toInt32 else x
/-- a row: none, or an array of bytes, shorts or ints -/
def zrw (h : zH) (v : Option Nat) (N : Prop) (P : Nat → Nat → Nat → (Nat → Int32) → Prop) : Prop := (v = none ∧ N) ∨ ∃ (a t n : Nat) (g : Nat → Int32), v = some a ∧ h a = some (.inl (t, n, .inl g)) ∧ t < 3 ∧ P a t n g
/-- room for what the machine makes when it throws -/
def zbx (mc ms : Nat) (F : Prop) : Prop := 8 ≤ mc ∧ 2000 ≤ ms ∧ F
def zf0_sortOf (f : Nat) (h : zH) (a0 : Option Nat) (K : Int32 → zH → Prop) : Prop := zrw h a0 (K 2 h) fun _ t _ _ => K (if t = 1 then 0 else if t = 2 then 1 else 2) h
def zf0_lengthOf (f : Nat) (h : zH) (mc ms : Nat) (a0 : Option Nat) (a1 : Int32) (K : Int32 → zH → Prop) (X1 X3 : zH → Prop) : Prop := zrw h a0 (zbx mc ms (X1 h)) fun _ t n _ => if t = zty3 a1 then K (Int32.ofNat n) h else zbx mc ms (X3 h)
def zf0_asksPlace (f : Nat) (h : zH) (mc ms : Nat) (a0 a1 : Int32) (K : zH → Prop) (X2 : zH → Prop) : Prop := if a0 < 0 then zbx mc ms (X2 h) else if a0 < a1 then K h else zbx mc ms (X2 h)
def zf0_item (f : Nat) (h : zH) (mc ms : Nat) (a0 : Option Nat) (a1 a2 : Int32) (K : Int32 → zH → Prop) (X1 X2 X3 : zH → Prop) : Prop := zrw h a0 (zbx mc ms (X1 h)) fun _ t n g => n < 2147483648 ∧ if t = zty3 a1 then (vp_in a2 n → K (g a2.toNatClampNeg) h) ∧ (¬ vp_in a2 n → zbx mc ms (X2 h)) else zbx mc ms (X3 h)
def zf0_put (f : Nat) (h : zH) (mc ms : Nat) (a0 : Option Nat) (a1 a2 : Int32) (K : Int32 → zH → Prop) (X1 X2 : zH → Prop) : Prop := zrw h a0 (zbx mc ms (X1 h)) fun a t n g => n < 2147483648 ∧ (vp_in a1 n → K 1 (hup h a (.inl (t, n, .inl (upd g a1.toNatClampNeg (znar t a2)))))) ∧ (¬ vp_in a1 n → zbx mc ms (X2 h))
def zf0_rowOf (f : Nat) (h : zH) (mc ms : Nat) (a0 a1 : Int32) (K : Option Nat → zH → Prop) (X4 : zH → Prop) : Prop := if a1 < 0 then zbx mc ms (X4 h) else nwA h mc ms (zty3 a0) a1 fun q h' => K (some q) h'
/-- which classes of panes pass as a kind -/
def zsub (k : Int32) : List Nat := if k = 1 then [2, 4] else if k = 2 then [3, 5] else if k = 3 then [4] else if k = 4 then [5] else if k = 5 then [6] else [1, 2, 3, 4, 5, 6]
def zf0_as (f : Nat) (h : zH) (mc ms : Nat) (a0 : Option Nat) (a1 : Int32) (K : Option Nat → zH → Prop) (X3 : zH → Prop) : Prop := (a0 = none ∧ K none h) ∨ ∃ (b ci : Nat) (fs : List Value), a0 = some b ∧ h b = some (.inr (ci, fs)) ∧ ci ∈ ([1, 2, 3, 4, 5, 6] : List Nat) ∧ (ci ∈ zsub a1 → K a0 h) ∧ (¬ ci ∈ zsub a1 → zbx mc ms (X3 h))
