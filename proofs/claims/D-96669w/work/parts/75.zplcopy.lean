/-! THE LAWS: a copy of cells, one by one or at once -/
set_option maxRecDepth 100000
theorem cp_up (σ : ST) (S D n : Nat) (h : S < D) : ∀ m, m ≤ n → ∀ x, fo (fun k (σ' : ST) => mup σ' 48 (D + (n - 1 - k)) (σ' 48 (S + (n - 1 - k)))) m 0 σ 48 x = if D + (n - m) ≤ x ∧ x < D + n then σ 48 (S + (x - D)) else σ 48 x := by
  intro m
  induction m with
  | zero => intro _ x; rw [if_neg (by omega)]; rfl
  | succ m ih =>
    intro hm x
    have ih := ih (by omega)
    rw [fo_snoc]
    generalize fo (fun k (σ' : ST) => mup σ' 48 (D + (n - 1 - k)) (σ' 48 (S + (n - 1 - k)))) m 0 σ = a at ih ⊢
    show mup a 48 (D + (n - 1 - (0 + m))) (a 48 (S + (n - 1 - (0 + m)))) 48 x = _
    have es : a 48 (S + (n - 1 - m)) = σ 48 (S + (n - 1 - m)) := by rw [ih, if_neg (by omega)]
    rw [mup_kk, Nat.zero_add, es, ih]
    by_cases c : x = D + (n - 1 - m)
    · rw [if_pos c, if_pos (by omega)]
      exact congrArg (σ 48) (by omega)
    · rw [if_neg c]
      by_cases c2 : D + (n - m) ≤ x ∧ x < D + n
      · rw [if_pos c2, if_pos (by omega)]
      · rw [if_neg c2, if_neg (by omega)]
theorem cp_dn (σ : ST) (S D n : Nat) (h : D ≤ S ∨ S + n ≤ D) : ∀ m, m ≤ n → ∀ x, fo (fun k (σ' : ST) => mup σ' 48 (D + k) (σ' 48 (S + k))) m 0 σ 48 x = if D ≤ x ∧ x < D + m then σ 48 (S + (x - D)) else σ 48 x := by
  intro m
  induction m with
  | zero => intro _ x; rw [if_neg (by omega)]; rfl
  | succ m ih =>
    intro hm x
    have ih := ih (by omega)
    rw [fo_snoc]
    generalize fo (fun k (σ' : ST) => mup σ' 48 (D + k) (σ' 48 (S + k))) m 0 σ = a at ih ⊢
    show mup a 48 (D + (0 + m)) (a 48 (S + (0 + m))) 48 x = _
    have es : a 48 (S + m) = σ 48 (S + m) := by rw [ih, if_neg (by omega)]
    rw [mup_kk, Nat.zero_add, es, ih]
    by_cases c : x = D + m
    · rw [if_pos c, if_pos (by omega)]
      exact congrArg (σ 48) (by omega)
    · rw [if_neg c]
      by_cases c2 : D ≤ x ∧ x < D + m
      · rw [if_pos c2, if_pos (by omega)]
      · rw [if_neg c2, if_neg (by omega)]
theorem cp_law (σ : ST) {s i o j n : Nat} (hi : i + n ≤ 40) (hj : j + n ≤ 40) : cpS σ s i o j n (decide (s = o ∧ i < j)) = cpD σ s i o j n := by
  funext k x
  unfold cpD
  by_cases ck : k = 48
  · rw [if_pos ck, ck]
    unfold cpS
    by_cases c : s = o ∧ i < j
    · rw [decide_eq_true c]
      exact (cp_up σ (40 * s + i) (40 * o + j) n (by omega) n (Nat.le_refl _) x).trans (by rw [Nat.sub_self, Nat.add_zero])
    · rw [decide_eq_false c]
      exact cp_dn σ (40 * s + i) (40 * o + j) n (by omega) n (Nat.le_refl _) x
  · rw [if_neg ck]
    unfold cpS
    exact congrFun (fo_key (fun i a => if_neg ck) _ _ _) x
