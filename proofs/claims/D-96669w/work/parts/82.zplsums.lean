/-! THE LAWS: sums over the panes, and over the openings -/
set_option maxRecDepth 100000
def ac (op : Int32 → Int32 → Int32) (F : Nat → Int32) (n : Nat) : Int32 := fo (fun i a => op a (F i)) n 0 0
section AC
variable {op : Int32 → Int32 → Int32}
theorem ac_s (F : Nat → Int32) (n : Nat) : ac op F (n + 1) = op (ac op F n) (F n) := by
  unfold ac
  rw [fo_snoc, Nat.zero_add]
theorem ac_congr {F F' : Nat → Int32} {n : Nat} (h : ∀ i, i < n → F i = F' i) : ac op F n = ac op F' n := by
  unfold ac
  exact fo_congr _ _ _ fun k a _ hk => by rw [h k (by omega)]
theorem ac_zero (hz : op 0 0 = 0) {F : Nat → Int32} : ∀ n, (∀ i, i < n → F i = 0) → ac op F n = 0 := by
  intro n
  induction n with
  | zero => intro _; rfl
  | succ n ih => intro h; rw [ac_s, ih fun i hi => h i (by omega), h n (by omega), hz]
theorem ac_one (h0 : ∀ a, op a 0 = a) (h1 : ∀ a, op 0 a = a) {F : Nat → Int32} {k : Nat} : ∀ n, k < n → (∀ i, i < n → i ≠ k → F i = 0) → ac op F n = F k := by
  intro n
  induction n with
  | zero => intro hk; omega
  | succ n ih =>
    intro hk h
    rw [ac_s]
    by_cases c : k = n
    · rw [c, ac_zero (h0 0) n fun i hi => h i (by omega) (by omega), h1]
    · rw [ih (by omega) fun i hi hi2 => h i (by omega) hi2, h n (by omega) (by omega), h0]
theorem ac_add (ha : ∀ a b c d, op (op a b) (op c d) = op (op a c) (op b d)) (hz : op 0 0 = 0) (F F' : Nat → Int32) : ∀ n, ac op (fun i => op (F i) (F' i)) n = op (ac op F n) (ac op F' n) := by
  intro n
  induction n with
  | zero => exact hz.symm
  | succ n ih => rw [ac_s, ac_s, ac_s, ih, ha]
theorem ac_swap (ha : ∀ a b c d, op (op a b) (op c d) = op (op a c) (op b d)) (hz : op 0 0 = 0) (F : Nat → Nat → Int32) (n : Nat) : ∀ m, ac op (fun p => ac op (fun o => F p o) m) n = ac op (fun o => ac op (fun p => F p o) n) m := by
  intro m
  induction m with
  | zero => exact ac_zero hz n fun _ _ => rfl
  | succ m ih =>
    rw [ac_s, ← ih, ← ac_add ha hz]
    exact ac_congr fun i _ => ac_s _ _
/-- what stands in the openings, taken pane by pane or opening by opening -/
theorem own_sum (ha : ∀ a b c d, op (op a b) (op c d) = op (op a c) (op b d)) (h0 : ∀ a, op a 0 = a) (h1 : ∀ a, op 0 a = a) {σ : ST} (hW : WS σ) (hI : Iv σ) (F : Nat → Nat → Int32) : ac op (fun p => if σ 110 p = -1 then 0 else F p (σ 110 p).toNatClampNeg) (nP σ) = ac op (fun o => if σ 9 o = -1 then 0 else F (σ 9 o).toNatClampNeg o) 4 := by
  have hn := (nP_eq hW).2
  have e1 : ac op (fun p => if σ 110 p = -1 then 0 else F p (σ 110 p).toNatClampNeg) (nP σ) = ac op (fun p => ac op (fun o => if σ 110 p = nI o then F p o else 0) 4) (nP σ) := by
    refine ac_congr fun p hp => ?_
    rcases hI.2.1 p hp with z | ⟨o, ho, z⟩
    · rw [if_pos z]
      exact (ac_zero (h0 0) 4 fun o ho => if_neg (fun y => by rw [z] at y; exact nIn1 (by omega) y.symm)).symm
    · rw [if_neg (show ¬ σ 110 p = -1 from fun y => by rw [z] at y; exact nIn1 (by omega) y)]
      rw [ac_one h0 h1 (k := o) 4 ho fun i hi hne => if_neg (fun y => hne (by rw [z] at y; exact ((nI_eq (by omega) (by omega)).mp y).symm)), if_pos z, z, nI_clamp (by omega)]
  rw [e1, ac_swap ha (h0 0)]
  refine ac_congr fun o ho => ?_
  rcases hW.2.2.2.2.2.2.1 o ho with z | ⟨p, hp, z⟩
  · rw [if_pos z]
    exact ac_zero (h0 0) _ fun p hp => if_neg (fun y => by have := (hI.1 o p ho hp).mpr y; rw [z] at this; exact nIn1 (by omega) this.symm)
  · rw [if_neg (show ¬ σ 9 o = -1 from fun y => by rw [z] at y; exact nIn1 (by omega) y), z, nI_clamp (by omega)]
    rw [ac_one h0 h1 (k := p) _ hp fun i hi hne => if_neg (fun y => hne (by have := (hI.1 o i ho hi).mpr y; rw [z] at this; exact ((nI_eq (by omega) (by omega)).mp this).symm)), if_pos ((hI.1 o p ho hp).mp z)]
end AC
theorem add4 (a b c d : Int32) : (a + b) + (c + d) = (a + c) + (b + d) := by
  rw [Int32.add_assoc, Int32.add_assoc, ← Int32.add_assoc b, ← Int32.add_assoc c, Int32.add_comm b c]
theorem im_law {σ : ST} (hW : WS σ) (hI : Iv σ) : imC σ = fo (fun i a => a + (if σ 9 i = -1 then 0 else 1)) 4 0 0 := own_sum (op := fun a b => a + b) add4 Int32.add_zero Int32.zero_add hW hI (fun _ _ => 1)
theorem pr_law {G : TG} {σ : ST} (hW : WS σ) (hI : Iv σ) : prC G σ = fo (fun i a => a + (if σ 9 i = -1 then 0 else ct G σ (σ 9 i).toNatClampNeg)) 4 0 0 := own_sum (op := fun a b => a + b) add4 Int32.add_zero Int32.zero_add hW hI (fun p _ => ct G σ p)
theorem bits_pc : ∀ n, n < 7 → ∀ j, j < 2 ^ n → fo (fun p a => a + (if (nI j >>> (nI p &&& 31)) &&& 1 = 0 then 0 else 1)) n 0 0 = pc 7 0 (nI j) := by decide +kernel
