/-! THE LAWS: tells: places gone through upwards or downwards -/
set_option maxRecDepth 100000
theorem fo_shift {α : Type} {F : Nat → α → α} : ∀ (j i : Nat) (a : α), fo F j (i + 1) a = fo (fun k => F (k + 1)) j i a := by
  intro j
  induction j with
  | zero => intro i a; rfl
  | succ j ih =>
    intro i a
    show fo F j (i + 1 + 1) (F (i + 1) a) = fo (fun k => F (k + 1)) j (i + 1) (F (i + 1) a)
    exact ih (i + 1) _
theorem ac_front {op : Int32 → Int32 → Int32} (as : ∀ a b c, op (op a b) c = op a (op b c)) (h0 : ∀ a, op a 0 = a) (h1 : ∀ a, op 0 a = a) (F : Nat → Int32) : ∀ n, ac op F (n + 1) = op (F 0) (ac op (fun i => F (i + 1)) n) := by
  intro n
  induction n with
  | zero =>
    show op 0 (F 0) = op (F 0) 0
    rw [h0, h1]
  | succ n ih => rw [ac_s, ih, ac_s, as]
theorem ac_rev {op : Int32 → Int32 → Int32} (as : ∀ a b c, op (op a b) c = op a (op b c)) (cm : ∀ a b, op a b = op b a) (h0 : ∀ a, op a 0 = a) (h1 : ∀ a, op 0 a = a) (F : Nat → Int32) : ∀ n, ac op (fun k => F (n - 1 - k)) n = ac op F n := by
  intro n
  induction n with
  | zero => rfl
  | succ n ih =>
    rw [ac_front as h0 h1, ac_s, cm (ac op F n)]
    congr 1
    rw [← ih]
    exact ac_congr fun i hi => by
      show F (n + 1 - 1 - (i + 1)) = F (n - 1 - i)
      congr 1
      omega
theorem fi_snoc {P : Nat → Bool} : ∀ j i, i + j < 1000 → fi P (j + 1) i = if fi P j i = -1 then (if P (i + j) = true then nI (i + j) else -1) else fi P j i := by
  intro j
  induction j with
  | zero =>
    intro i hi
    have e0 : fi P 0 i = -1 := rfl
    rw [e0, if_pos rfl]
    rfl
  | succ j ih =>
    intro i hi
    have e : ∀ m, fi P (m + 1) i = if P i = true then nI i else fi P m (i + 1) := fun m => rfl
    rw [e (j + 1), e j]
    by_cases c : P i = true
    · rw [if_pos c, if_pos c, if_neg (nIn1 (by omega))]
    · rw [if_neg c, if_neg c, ih (i + 1) (by omega), show i + 1 + j = i + (j + 1) from by omega]
/-- the last hit of a walk downwards is the first of one upwards -/
theorem fi_rev {P : Nat → Bool} : ∀ n, n < 1000 → ∀ x : Int32, fo (fun k x => if P (n - 1 - k) = true then nI (n - 1 - k) else x) n 0 x = if fi P n 0 = -1 then x else fi P n 0 := by
  intro n
  induction n with
  | zero => intro _ x; rfl
  | succ n ih =>
    intro hn x
    have e : fo (fun k x => if P (n + 1 - 1 - k) = true then nI (n + 1 - 1 - k) else x) (n + 1) 0 x = fo (fun k x => if P (n - 1 - k) = true then nI (n - 1 - k) else x) n 0 (if P n = true then nI n else x) := by
      show fo (fun k x => if P (n + 1 - 1 - k) = true then nI (n + 1 - 1 - k) else x) n (0 + 1) (if P (n + 1 - 1 - 0) = true then nI (n + 1 - 1 - 0) else x) = _
      rw [fo_shift, show n + 1 - 1 - 0 = n from by omega]
      exact fo_congr _ _ _ fun k a _ _ => by
        show (if P (n + 1 - 1 - (k + 1)) = true then nI (n + 1 - 1 - (k + 1)) else a) = _
        rw [show n + 1 - 1 - (k + 1) = n - 1 - k from by omega]
    rw [e, ih (by omega), fi_snoc n 0 (by omega), Nat.zero_add]
    by_cases c : fi P n 0 = -1
    · rw [if_pos c, if_pos c]
      by_cases c2 : P n = true
      · rw [if_pos c2, if_pos c2, if_neg (nIn1 (by omega))]
      · rw [if_neg c2, if_neg c2, if_pos rfl]
    · rw [if_neg c, if_neg c, if_neg c]
section LTE
variable {G : TG} {σ : ST}
theorem te_split (s p : Nat) (o : Int32) (j last : Nat) : ∀ (n i : Nat) (a : Int32 × Int32 × Int32), fo (teF G σ s p o j last) n i a = (fo (fun k x => if hit G σ s p o j (last - k) = true then x ||| (if j = 3 then (0 : Int32) else (1 : Int32) <<< (nI (last - k) &&& 31)) else x) n i a.1, fo (fun k x => if hit G σ s p o j (last - k) = true then x + 1 else x) n i a.2.1, fo (fun k x => if hit G σ s p o j (last - k) = true then nI (last - k) else x) n i a.2.2) := by
  intro n
  induction n with
  | zero => intro i a; rfl
  | succ n ih =>
    intro i a
    show fo (teF G σ s p o j last) n (i + 1) (teF G σ s p o j last i a) = _
    rw [ih]
    have e : teF G σ s p o j last i a = if hit G σ s p o j (last - i) = true then (a.1 ||| (if j = 3 then (0 : Int32) else (1 : Int32) <<< (nI (last - i) &&& 31)), a.2.1 + 1, nI (last - i)) else a := by
      unfold teF hit
      by_cases c : foS G (laysS σ j p (nI (last - i))) s p o = -1
      · rw [if_pos c, if_pos (decide_eq_true c)]
      · rw [if_neg c, if_neg (fun z => c (of_decide_eq_true z))]
    rw [e]
    by_cases c : hit G σ s p o j (last - i) = true
    · rw [if_pos c]
      show _ = (fo _ n (i + 1) (if hit G σ s p o j (last - i) = true then _ else _), fo _ n (i + 1) (if hit G σ s p o j (last - i) = true then _ else _), fo _ n (i + 1) (if hit G σ s p o j (last - i) = true then _ else _))
      rw [if_pos c, if_pos c, if_pos c]
    · rw [if_neg c]
      show _ = (fo _ n (i + 1) (if hit G σ s p o j (last - i) = true then _ else _), fo _ n (i + 1) (if hit G σ s p o j (last - i) = true then _ else _), fo _ n (i + 1) (if hit G σ s p o j (last - i) = true then _ else _))
      rw [if_neg c, if_neg c, if_neg c]
theorem bt_rev (P : Nat → Bool) (X : Nat → Int32) (n : Nat) : fo (fun k x => if P (n - 1 - k) = true then x ||| X (n - 1 - k) else x) n 0 0 = fo (fun v a => a ||| (if P v = true then X v else 0)) n 0 0 := by
  have e := ac_rev (op := fun a b : Int32 => a ||| b) (fun a b c => Int32.or_assoc ..) (fun a b => Int32.or_comm ..) (fun a => Int32.or_zero) (fun a => Int32.zero_or) (fun v => if P v = true then X v else 0) n
  refine Eq.trans (fo_congr _ _ _ fun k a _ _ => ?_) e
  show (if P (n - 1 - k) = true then a ||| X (n - 1 - k) else a) = a ||| (if P (n - 1 - k) = true then X (n - 1 - k) else 0)
  by_cases c : P (n - 1 - k) = true
  · rw [if_pos c, if_pos c]
  · rw [if_neg c, if_neg c, Int32.or_zero]
theorem ct_rev (P : Nat → Bool) (n : Nat) : fo (fun k x => if P (n - 1 - k) = true then x + 1 else x) n 0 0 = ctC P n := by
  have e := ac_rev (op := fun a b : Int32 => a + b) (fun a b c => Int32.add_assoc ..) (fun a b => Int32.add_comm ..) (fun a => Int32.add_zero a) (fun a => Int32.zero_add a) (fun v => if P v = true then 1 else 0) n
  refine Eq.trans (fo_congr _ _ _ fun k a _ _ => ?_) (e.trans (fo_congr _ _ _ fun k a _ _ => ?_))
  · show (if P (n - 1 - k) = true then a + 1 else a) = a + (if P (n - 1 - k) = true then 1 else 0)
    by_cases c : P (n - 1 - k) = true
    · rw [if_pos c, if_pos c]
    · rw [if_neg c, if_neg c, Int32.add_zero]
  · show a + (if P k = true then 1 else 0) = (if P k = true then a + 1 else a)
    by_cases c : P k = true
    · rw [if_pos c, if_pos c]
    · rw [if_neg c, if_neg c, Int32.add_zero]
theorem te_bits (s p : Nat) (o what : Int32) {j n : Nat} (hj : ¬ j = 3) : teR j what (fo (teF G σ s p o j (n - 1)) n 0 (0, 0, -1)) = btC (hit G σ s p o j) n := by
  rw [te_split]
  unfold teR
  rw [if_neg hj]
  have e := bt_rev (hit G σ s p o j) (fun v => (1 : Int32) <<< (nI v &&& 31)) n
  refine Eq.trans (fo_congr _ _ _ fun k a _ _ => ?_) e
  show (if hit G σ s p o j (n - 1 - k) = true then a ||| (if j = 3 then (0 : Int32) else (1 : Int32) <<< (nI (n - 1 - k) &&& 31)) else a) = _
  rw [if_neg hj]
theorem te_days {n : Nat} (hn : n < 1000) (s p : Nat) (o what : Int32) : teR 3 what (fo (teF G σ s p o 3 (n - 1)) n 0 (0, 0, -1)) = if what < 60 then ctC (hit G σ s p o 3) n else fi (hit G σ s p o 3) n 0 := by
  rw [te_split]
  unfold teR
  rw [if_pos rfl]
  have e1 := ct_rev (hit G σ s p o 3) n
  have e2 := fi_rev (P := hit G σ s p o 3) n hn (-1)
  have e3 : (if fi (hit G σ s p o 3) n 0 = -1 then -1 else fi (hit G σ s p o 3) n 0) = fi (hit G σ s p o 3) n 0 := by
    by_cases c : fi (hit G σ s p o 3) n 0 = -1
    · rw [if_pos c]; exact c.symm
    · rw [if_neg c]
  rw [e3] at e2
  by_cases c : what < 60
  · rw [if_pos c, if_pos c]; exact e1
  · rw [if_neg c, if_neg c]; exact e2
theorem te_law (hW : WS σ) {s w : Nat} {o : Int32} (hw : w < 80) : teC G σ s o w = teV G σ s o w := by
  have hn := (nP_eq hW).2
  obtain ⟨-, ⟨c, r, hc, e3, hr, e4⟩, -⟩ := hW
  have ec : (σ 3 0).toNatClampNeg = c := by rw [e3, nI_clamp (by omega)]
  unfold teC teV
  by_cases w0 : w = 0
  · rw [if_pos w0, if_pos w0]
    unfold btC teP
    refine fo_congr _ _ _ fun p a _ _ => ?_
    by_cases cc : foS G σ s p o = -1
    · rw [if_pos (decide_eq_true cc), if_pos cc]
    · rw [if_neg (fun z => cc (of_decide_eq_true z)), if_neg cc, shl0]
  rw [if_neg w0, if_neg w0]
  by_cases w1 : w < 20
  · rw [if_pos w1, if_pos w1]
  rw [if_neg w1, if_neg w1]
  by_cases w2 : w < 30
  · rw [if_pos w2, if_pos w2]
    exact (te_bits (n := 6) _ _ _ _ (by decide)).symm
  rw [if_neg w2, if_neg w2]
  by_cases w3 : w < 40
  · rw [if_pos w3, if_pos w3]
    exact (te_bits (n := 10) _ _ _ _ (by decide)).symm
  rw [if_neg w3, if_neg w3]
  by_cases w4 : w < 50
  · rw [if_pos w4, if_pos w4]
    exact (te_bits (n := 10) _ _ _ _ (by decide)).symm
  rw [if_neg w4, if_neg w4]
  have t3 : ∀ what : Int32, teR 3 what (fo (teF G σ s (w % 10) o 3 364) 365 0 (0, 0, -1)) = if what < 60 then ctC (hit G σ s (w % 10) o 3) 365 else fi (hit G σ s (w % 10) o 3) 365 0 := fun what => te_days (n := 365) (by decide) s (w % 10) o what
  by_cases w5 : w < 60
  · rw [if_pos w5, if_pos (by omega), t3, if_pos (show nI w < 60 from (nI_ltI (b := 60) (by omega) (by omega)).mpr w5)]
  rw [if_neg w5]
  by_cases w6 : w < 70
  · rw [if_pos w6, if_pos w6, t3, if_neg (show ¬ nI w < 60 from fun z => w5 ((nI_ltI (b := 60) (by omega) (by omega)).mp z))]
  rw [if_neg w6, if_neg w6, ec]
  have := te_bits (G := G) (σ := σ) (n := c) s (w % 10) o (nI w) (j := 6) (by decide)
  rw [show c - 1 + 1 = c from by omega]
  exact this.symm
end LTE
