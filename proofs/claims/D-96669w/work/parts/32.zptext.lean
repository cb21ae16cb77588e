/-! TEXTS, PURE: bytes b 0 .. b (n - 1); a token (kind, value, its beginning, the place behind it); the grammar as a function that answers the place of the fault, or a meaning and the token behind -/
set_option maxRecDepth 100000
abbrev SEM : Type := (Nat → Int32) → Int32
/-- kind: 0 end, 1 key, 2 name, 3 number, 4 sign, 5 wrong -/
abbrev Tok : Type := Nat × Int32 × Nat × Nat
abbrev PR : Type := Nat ⊕ (SEM × Tok)
def tk_b (b : Nat → Int32) (n i : Nat) : Int32 := if i < n then b i else -1
abbrev tk_isS (c : Int32) : Prop := c = 32 ∨ c = 10
abbrev tk_isL (c : Int32) : Prop := 97 ≤ c.toInt ∧ c.toInt ≤ 122
abbrev tk_isD (c : Int32) : Prop := 48 ≤ c.toInt ∧ c.toInt ≤ 57
abbrev tk_isG (c : Int32) : Prop := c = 40 ∨ c = 41 ∨ c = 59 ∨ c = 43 ∨ c = 45 ∨ c = 42 ∨ c = 60 ∨ c = 61
/-- behind the blanks -/
def tk_sp (b : Nat → Int32) (n : Nat) : Nat → Nat → Nat
  | 0, i => i
  | d + 1, i => if tk_isS (tk_b b n i) then tk_sp b n d (i + 1) else i
/-- behind the letters -/
def tk_le (b : Nat → Int32) (n : Nat) : Nat → Nat → Nat
  | 0, i => i
  | d + 1, i => if tk_isL (tk_b b n i) then tk_le b n d (i + 1) else i
/-- a number's worth, and the place behind its digits -/
def tk_nv (b : Nat → Int32) (n : Nat) : Nat → Nat → Nat → Nat → Nat × Nat
  | 0, i, _, a => (a, i)
  | d + 1, i, k, a => if tk_isD (tk_b b n i) then tk_nv b n d (i + 1) (k + 1) (if k < 4 then 10 * a + ((tk_b b n i).toInt - 48).toNat else a) else (a, i)
/-- the words: six keys, six names -/
def tk_ws : List (List Int32) := [[108, 105, 103, 104, 116, 115], [99, 111, 115, 116, 115], [113, 117, 97, 114, 114, 101, 108, 115], [111, 114], [97, 110, 100], [110, 111, 116], [104, 111, 117, 114], [100, 97, 121], [119, 101, 116], [110, 117, 109, 98, 101, 114], [111, 112, 101, 110, 105, 110, 103], [98, 101, 116, 119, 101, 101, 110]]
def tk_wd (b : Nat → Int32) (n i e : Nat) : List Int32 := (List.range (e - i)).map fun k => tk_b b n (i + k)
def tk_cd (w : List Int32) : Nat := tk_ws.findIdx fun x => x == w
def tk_lex (b : Nat → Int32) (n i : Nat) : Tok :=
  if tk_b b n (tk_sp b n (n + 1) i) = -1 then (0, 0, tk_sp b n (n + 1) i, tk_sp b n (n + 1) i)
  else if tk_isL (tk_b b n (tk_sp b n (n + 1) i)) then
    (if tk_cd (tk_wd b n (tk_sp b n (n + 1) i) (tk_le b n (n + 1) (tk_sp b n (n + 1) i))) < 6 then (1, nI (tk_cd (tk_wd b n (tk_sp b n (n + 1) i) (tk_le b n (n + 1) (tk_sp b n (n + 1) i)))), tk_sp b n (n + 1) i, tk_le b n (n + 1) (tk_sp b n (n + 1) i))
    else if tk_cd (tk_wd b n (tk_sp b n (n + 1) i) (tk_le b n (n + 1) (tk_sp b n (n + 1) i))) < 12 then (2, nI (tk_cd (tk_wd b n (tk_sp b n (n + 1) i) (tk_le b n (n + 1) (tk_sp b n (n + 1) i))) - 6), tk_sp b n (n + 1) i, tk_le b n (n + 1) (tk_sp b n (n + 1) i))
    else (5, 0, tk_sp b n (n + 1) i, tk_le b n (n + 1) (tk_sp b n (n + 1) i)))
  else if tk_isD (tk_b b n (tk_sp b n (n + 1) i)) then
    (if (tk_nv b n (n + 1) (tk_sp b n (n + 1) i) 0 0).2 - tk_sp b n (n + 1) i ≤ 4 then (3, nI (tk_nv b n (n + 1) (tk_sp b n (n + 1) i) 0 0).1, tk_sp b n (n + 1) i, (tk_nv b n (n + 1) (tk_sp b n (n + 1) i) 0 0).2)
    else (5, 0, tk_sp b n (n + 1) i, (tk_nv b n (n + 1) (tk_sp b n (n + 1) i) 0 0).2))
  else if tk_isG (tk_b b n (tk_sp b n (n + 1) i)) then (4, tk_b b n (tk_sp b n (n + 1) i), tk_sp b n (n + 1) i, tk_sp b n (n + 1) i + 1)
  else (5, 0, tk_sp b n (n + 1) i, tk_sp b n (n + 1) i + 1)
abbrev tk_key (k : Nat) (t : Tok) : Prop := t.1 = 1 ∧ t.2.1 = nI k
abbrev tk_sg (c : Int32) (t : Tok) : Prop := t.1 = 4 ∧ t.2.1 = c
def tk_nx (b : Nat → Int32) (n : Nat) (t : Tok) (k : Tok → PR) : PR := if (tk_lex b n t.2.2.2).1 = 5 then .inl (tk_lex b n t.2.2.2).2.2.1 else k (tk_lex b n t.2.2.2)
def tk_bd (r : PR) (k : SEM → Tok → PR) : PR := match r with
  | .inl e => .inl e
  | .inr q => k q.1 q.2
/-- further operands -/
def tk_lp (b : Nat → Int32) (n : Nat) (R : Tok → PR) (C : Tok → Bool) (F : Int32 → SEM → SEM → SEM) : Nat → SEM → Tok → PR
  | 0, _, _ => .inl 0
  | d + 1, a, t => if C t = true then tk_nx b n t (fun u => tk_bd (R u) fun c v => tk_lp b n R C F d (F t.2.1 a c) v) else .inr (a, t)
def tk_or : Int32 → SEM → SEM → SEM := fun _ a c e => if a e = 0 then (if c e = 0 then 0 else 1) else 1
def tk_an : Int32 → SEM → SEM → SEM := fun _ a c e => if a e = 0 then 0 else (if c e = 0 then 0 else 1)
def tk_pm : Int32 → SEM → SEM → SEM := fun s a c e => if s = 43 then a e + c e else a e - c e
def tk_ti : Int32 → SEM → SEM → SEM := fun _ a c e => a e * c e
def tk_cm : Int32 → SEM → SEM → SEM := fun s a c e => if s = 60 then (if a e < c e then 1 else 0) else (if a e = c e then 1 else 0)
def tk_no : SEM → SEM := fun a e => if a e = 0 then 1 else 0
def tk_ne : SEM → SEM := fun a e => - a e
/-- the levels: 0 either, 1 both, 2 not, 3 plus, 4 times, 5 one; op: how many are open -/
def tk_ps (b : Nat → Int32) (n : Nat) : Nat → Nat → Nat → Tok → PR
  | 0, _, _, _ => .inl 0
  | d + 1, l, op, t => match l with
    | 0 => tk_bd (tk_ps b n d 1 op t) fun a u => tk_lp b n (tk_ps b n d 1 op) (fun v => decide (tk_key 3 v)) tk_or (n + 3) a u
    | 1 => tk_bd (tk_ps b n d 2 op t) fun a u => tk_lp b n (tk_ps b n d 2 op) (fun v => decide (tk_key 4 v)) tk_an (n + 3) a u
    | 2 => if tk_key 5 t then (if op < 5 then tk_nx b n t (fun u => tk_bd (tk_ps b n d 2 (op + 1) u) fun a v => .inr (tk_no a, v)) else .inl t.2.2.1)
      else tk_bd (tk_ps b n d 3 op t) fun a u => if tk_sg 60 u ∨ tk_sg 61 u then tk_nx b n u (fun v => tk_bd (tk_ps b n d 3 op v) fun c w => .inr (tk_cm u.2.1 a c, w)) else .inr (a, u)
    | 3 => tk_bd (tk_ps b n d 4 op t) fun a u => tk_lp b n (tk_ps b n d 4 op) (fun v => decide (tk_sg 43 v ∨ tk_sg 45 v)) tk_pm (n + 3) a u
    | 4 => tk_bd (tk_ps b n d 5 op t) fun a u => tk_lp b n (tk_ps b n d 5 op) (fun v => decide (tk_sg 42 v)) tk_ti (n + 3) a u
    | _ => if t.1 = 3 then tk_nx b n t (fun u => .inr ((fun _ => t.2.1), u))
      else if t.1 = 2 then tk_nx b n t (fun u => .inr ((fun e => e t.2.1.toNatClampNeg), u))
      else if tk_sg 45 t then (if op < 5 then tk_nx b n t (fun u => tk_bd (tk_ps b n d 5 (op + 1) u) fun a v => .inr (tk_ne a, v)) else .inl t.2.2.1)
      else if tk_sg 40 t then (if op < 5 then tk_nx b n t (fun u => tk_bd (tk_ps b n d 0 (op + 1) u) fun a v => if tk_sg 41 v then tk_nx b n v (fun w => .inr (a, w)) else .inl v.2.2.1) else .inl t.2.2.1)
      else .inl t.2.2.1
/-- one part of a text: its key, what it says, a sign -/
def tk_part (b : Nat → Int32) (n k : Nat) (t : Tok) : PR := if tk_key k t then tk_nx b n t (fun u => tk_bd (tk_ps b n 60 0 0 u) fun a v => if tk_sg 59 v then tk_nx b n v (fun w => .inr (a, w)) else .inl v.2.2.1) else .inl t.2.2.1
def tk_text (b : Nat → Int32) (n : Nat) : Nat ⊕ (SEM × SEM × SEM) :=
  if (tk_lex b n 0).1 = 5 then .inl (tk_lex b n 0).2.2.1 else match tk_part b n 0 (tk_lex b n 0) with
  | .inl e => .inl e
  | .inr p => match tk_part b n 1 p.2 with
    | .inl e => .inl e
    | .inr q => match tk_part b n 2 q.2 with
      | .inl e => .inl e
      | .inr r => if r.2.1 = 0 then .inr (p.1, q.1, r.1) else .inl r.2.2.2.1
/-! their bounds -/
section TB
variable {b : Nat → Int32} {n : Nat}
theorem tk_b_in {i : Nat} (h : i < n) : tk_b b n i = b i := if_pos h
theorem tk_b_out {i : Nat} (h : n ≤ i) : tk_b b n i = -1 := if_neg (by omega)
theorem tk_lt_of {i : Nat} (h : tk_b b n i ≠ -1) : i < n := by
  rcases Nat.lt_or_ge i n with z | z
  · exact z
  · exact absurd (tk_b_out z) h
theorem tk_isS_lt {i : Nat} (h : tk_isS (tk_b b n i)) : i < n := by
  refine tk_lt_of (b := b) fun z => ?_
  rw [z] at h
  revert h
  decide
theorem tk_isL_lt {i : Nat} (h : tk_isL (tk_b b n i)) : i < n := by
  refine tk_lt_of (b := b) fun z => ?_
  rw [z] at h
  revert h
  decide
theorem tk_isD_lt {i : Nat} (h : tk_isD (tk_b b n i)) : i < n := by
  refine tk_lt_of (b := b) fun z => ?_
  rw [z] at h
  revert h
  decide
theorem tk_sp_le : ∀ (d i : Nat), i ≤ n → i ≤ tk_sp b n d i ∧ tk_sp b n d i ≤ n := by
  intro d
  induction d with
  | zero => intro i h; exact ⟨Nat.le_refl _, h⟩
  | succ d ih =>
    intro i h
    unfold tk_sp
    by_cases c : tk_isS (tk_b b n i)
    · rw [if_pos c]
      have := ih (i + 1) (tk_isS_lt c)
      exact ⟨by omega, this.2⟩
    · rw [if_neg c]
      exact ⟨Nat.le_refl _, h⟩
theorem tk_le_le : ∀ (d i : Nat), i ≤ n → i ≤ tk_le b n d i ∧ tk_le b n d i ≤ n := by
  intro d
  induction d with
  | zero => intro i h; exact ⟨Nat.le_refl _, h⟩
  | succ d ih =>
    intro i h
    unfold tk_le
    by_cases c : tk_isL (tk_b b n i)
    · rw [if_pos c]
      have := ih (i + 1) (tk_isL_lt c)
      exact ⟨by omega, this.2⟩
    · rw [if_neg c]
      exact ⟨Nat.le_refl _, h⟩
/-- all between are letters -/
theorem tk_le_all : ∀ (d i j : Nat), i ≤ j → j < tk_le b n d i → tk_isL (tk_b b n j) := by
  intro d
  induction d with
  | zero => intro i j h1 h2; exact absurd h2 (by show ¬ j < i; omega)
  | succ d ih =>
    intro i j h1 h2
    unfold tk_le at h2
    by_cases c : tk_isL (tk_b b n i)
    · rw [if_pos c] at h2
      by_cases hj : j = i
      · rw [hj]; exact c
      · exact ih (i + 1) j (by omega) h2
    · rw [if_neg c] at h2
      omega
theorem tk_nv_le : ∀ (d i k a : Nat), i ≤ n → i ≤ (tk_nv b n d i k a).2 ∧ (tk_nv b n d i k a).2 ≤ n := by
  intro d
  induction d with
  | zero => intro i k a h; exact ⟨Nat.le_refl _, h⟩
  | succ d ih =>
    intro i k a h
    unfold tk_nv
    by_cases c : tk_isD (tk_b b n i)
    · rw [if_pos c]
      have := ih (i + 1) (k + 1) (if k < 4 then 10 * a + ((tk_b b n i).toInt - 48).toNat else a) (tk_isD_lt c)
      exact ⟨by omega, this.2⟩
    · rw [if_neg c]
      exact ⟨Nat.le_refl _, h⟩
/-- what a token is, and where -/
theorem tk_lex_at {i : Nat} (h : i ≤ n) : i ≤ (tk_lex b n i).2.2.1 ∧ (tk_lex b n i).2.2.1 ≤ n ∧ (tk_lex b n i).2.2.2 ≤ n ∧ (tk_lex b n i).2.2.1 ≤ (tk_lex b n i).2.2.2 ∧ ((tk_lex b n i).1 ≠ 0 → i < (tk_lex b n i).2.2.2) := by
  have h1 := tk_sp_le (b := b) (n + 1) i h
  unfold tk_lex
  generalize tk_sp b n (n + 1) i = j at h1 ⊢
  by_cases c0 : tk_b b n j = -1
  · rw [if_pos c0]
    exact ⟨h1.1, h1.2, h1.2, Nat.le_refl _, fun z => absurd rfl z⟩
  · rw [if_neg c0]
    have hj := tk_lt_of c0
    by_cases c1 : tk_isL (tk_b b n j)
    · rw [if_pos c1]
      have h2 : j < tk_le b n (n + 1) j ∧ tk_le b n (n + 1) j ≤ n := by
        have := tk_le_le (b := b) n (j + 1) hj
        unfold tk_le
        rw [if_pos c1]
        exact ⟨by omega, this.2⟩
      generalize tk_cd (tk_wd b n j (tk_le b n (n + 1) j)) = cd
      by_cases c2 : cd < 6
      · rw [if_pos c2]
        exact ⟨h1.1, h1.2, h2.2, Nat.le_of_lt h2.1, fun _ => Nat.lt_of_le_of_lt h1.1 h2.1⟩
      · rw [if_neg c2]
        by_cases c3 : cd < 12
        · rw [if_pos c3]
          exact ⟨h1.1, h1.2, h2.2, Nat.le_of_lt h2.1, fun _ => Nat.lt_of_le_of_lt h1.1 h2.1⟩
        · rw [if_neg c3]
          exact ⟨h1.1, h1.2, h2.2, Nat.le_of_lt h2.1, fun _ => Nat.lt_of_le_of_lt h1.1 h2.1⟩
    · rw [if_neg c1]
      by_cases c2 : tk_isD (tk_b b n j)
      · rw [if_pos c2]
        have h2 : j < (tk_nv b n (n + 1) j 0 0).2 ∧ (tk_nv b n (n + 1) j 0 0).2 ≤ n := by
          have := tk_nv_le (b := b) n (j + 1) (0 + 1) (if 0 < 4 then 10 * 0 + ((tk_b b n j).toInt - 48).toNat else 0) hj
          unfold tk_nv
          rw [if_pos c2]
          exact ⟨by omega, this.2⟩
        generalize tk_nv b n (n + 1) j 0 0 = v at h2 ⊢
        by_cases c3 : v.2 - j ≤ 4
        · rw [if_pos c3]
          exact ⟨h1.1, h1.2, h2.2, Nat.le_of_lt h2.1, fun _ => Nat.lt_of_le_of_lt h1.1 h2.1⟩
        · rw [if_neg c3]
          exact ⟨h1.1, h1.2, h2.2, Nat.le_of_lt h2.1, fun _ => Nat.lt_of_le_of_lt h1.1 h2.1⟩
      · rw [if_neg c2]
        by_cases c3 : tk_isG (tk_b b n j)
        · rw [if_pos c3]
          exact ⟨h1.1, h1.2, hj, Nat.le_succ _, fun _ => Nat.lt_succ_of_le h1.1⟩
        · rw [if_neg c3]
          exact ⟨h1.1, h1.2, hj, Nat.le_succ _, fun _ => Nat.lt_succ_of_le h1.1⟩
/-- how far a token is from the end -/
def tk_mu (n : Nat) (t : Tok) : Nat := if t.1 = 0 then 0 else n + 1 - t.2.2.2
theorem tk_mu_lt {t : Tok} (h : t.1 ≠ 0) (ha : t.2.2.2 ≤ n) : tk_mu n (tk_lex b n t.2.2.2) < tk_mu n t := by
  have h1 := tk_lex_at (b := b) ha
  unfold tk_mu
  rw [if_neg h]
  by_cases c : (tk_lex b n t.2.2.2).1 = 0
  · rw [if_pos c]; omega
  · rw [if_neg c]
    have := h1.2.2.2.2 c
    omega
theorem tk_mu_le {t : Tok} : tk_mu n t ≤ n + 1 := by
  unfold tk_mu
  by_cases c : t.1 = 0
  · rw [if_pos c]; omega
  · rw [if_neg c]; omega
/-- a word's code: which of the twelve, or 12 -/
theorem tk_cd_eq {w : List Int32} {k : Nat} (hk : k < 12) : tk_cd w = k ↔ w = tk_ws.getD k [] := by
  have key : ∀ k, k < 12 → tk_cd (tk_ws.getD k []) = k := by decide
  constructor
  · intro h
    have h1 : tk_cd w < tk_ws.length := by rw [h]; exact hk
    have h2 := List.findIdx_getElem (w := h1)
    have h3 : tk_ws[tk_cd w]'h1 = w := beq_iff_eq.mp h2
    have h4 : tk_ws.getD (tk_cd w) [] = w := by
      rw [List.getD_eq_getElem?_getD, List.getElem?_eq_getElem h1]
      exact h3
    rw [← h, h4]
  · intro h
    rw [h]
    exact key k hk
end TB
