/-! PURE LAYER: numbers, 'in', answers of 0 and 1 -/
set_option maxRecDepth 100000
theorem i10 : ((1 : Int32) = 0) = False := eq_false (by decide)
theorem i00 : ((0 : Int32) = 0) = True := eq_true rfl
theorem ite10 {c : Prop} [Decidable c] : ((if c then (1 : Int32) else 0) = 0) = ¬ c := by
  by_cases h : c
  · rw [if_pos h, i10]
    exact propext ⟨fun z => z.elim, fun z => z h⟩
  · rw [if_neg h]
    exact propext ⟨fun _ => h, fun _ => rfl⟩
theorem zbl_ite {c : Prop} [Decidable c] : zbl (if c then 1 else 0) = True := by
  refine eq_true ?_
  by_cases h : c
  · rw [if_pos h]; exact Or.inr rfl
  · rw [if_neg h]; exact Or.inl rfl
theorem nm_eq {α : Sort _} (e : α) (P : α → Prop) : (∀ x, x = e → P x) = P e := propext ⟨fun h => h e rfl, fun h x ex => ex ▸ h⟩
theorem q_in (f : Nat) (h : zH) (a lo hi : Int64) (K : Int32 → zH → Prop) : zf8_in f h a lo hi K = K (if lo.toInt ≤ a.toInt ∧ a.toInt ≤ hi.toInt then 1 else 0) h := by
  unfold zf8_in
  simp only [lg_cmp_lt, lg_cmp_gt, Int64.lt_iff_toInt_lt]
  by_cases h1 : a.toInt < lo.toInt
  · have h3 : ¬ (lo.toInt ≤ a.toInt ∧ a.toInt ≤ hi.toInt) := by omega
    rw [if_pos h1, if_neg h3]
  · by_cases h2 : hi.toInt < a.toInt
    · have h3 : ¬ (lo.toInt ≤ a.toInt ∧ a.toInt ≤ hi.toInt) := by omega
      rw [if_neg h1, if_pos h2, if_neg h3]
    · have h3 : lo.toInt ≤ a.toInt ∧ a.toInt ≤ hi.toInt := by omega
      rw [if_neg h1, if_neg h2, if_pos h3]
/-- between l and u: an int, by its value -/
theorem q_inL {f : Nat} {h : zH} {x : Int32} {lo hi : Int64} (l u : Int) (hl : lo.toInt = l) (hu : hi.toInt = u) {K : Int32 → zH → Prop} : zf8_in f h x.toInt64 lo hi K = K (if l ≤ x.toInt ∧ x.toInt ≤ u then 1 else 0) h := by
  rw [q_in, hl, hu, Int32.toInt_toInt64]
theorem q_inC {f : Nat} {h : zH} {x : Int32} {lo hi : Int64} (l u : Int) (hl : lo.toInt = l) (hu : hi.toInt = u) {K : Int32 → zH → Prop} : zf0_in f h x.toInt64 lo hi K = K (if l ≤ x.toInt ∧ x.toInt ≤ u then 1 else 0) h := q_inL (f := f) l u hl hu
theorem nI_pr {n : Nat} (h : n < 1000) : ((nI n - 1).toInt64).toInt = (n : Int) - 1 := by
  rw [Int32.toInt_toInt64]
  have e : (1 : Int32) = nI 1 := rfl
  rw [e, pk_sub_toInt (by omega) (by omega)]
  rfl
theorem q_op8 {f : Nat} {h : zH} {a : Int32} {K : Int32 → zH → Prop} : zf8_isOpening f h a K = K (if 0 ≤ a.toInt ∧ a.toInt ≤ 3 then 1 else 0) h := by
  unfold zf8_isOpening
  rw [q_inL 0 3 (by decide) (by decide), zbl_ite]
  exact true_and _
theorem q_op0 {f : Nat} {h : zH} {a : Int32} {K : Int32 → zH → Prop} : zf0_isOpening f h a K = K (if 0 ≤ a.toInt ∧ a.toInt ≤ 3 then 1 else 0) h := by
  unfold zf0_isOpening
  rw [q_inC 0 3 (by decide) (by decide), zbl_ite]
  exact true_and _
theorem q_sh8 {f : Nat} {h : zH} {a : Int32} {K : Int32 → zH → Prop} : zf8_isSheet f h a K = K (if 0 ≤ a.toInt ∧ a.toInt ≤ 3 then 1 else 0) h := by
  unfold zf8_isSheet
  rw [q_inL 0 3 (by decide) (by decide), zbl_ite]
  exact true_and _
theorem q_sh0 {f : Nat} {h : zH} {a : Int32} {K : Int32 → zH → Prop} : zf0_isSheet f h a K = K (if 0 ≤ a.toInt ∧ a.toInt ≤ 3 then 1 else 0) h := by
  unfold zf0_isSheet
  rw [q_inC 0 3 (by decide) (by decide), zbl_ite]
  exact true_and _
theorem q_le0 {f : Nat} {h : zH} {a : Int32} {K : Int32 → zH → Prop} : zf0_isLetter f h a K = K (if 97 ≤ a.toInt ∧ a.toInt ≤ 122 then 1 else 0) h := by
  unfold zf0_isLetter
  rw [q_inC 97 122 (by decide) (by decide), zbl_ite]
  exact true_and _
theorem q_di0 {f : Nat} {h : zH} {a : Int32} {K : Int32 → zH → Prop} : zf0_isDigit f h a K = K (if 48 ≤ a.toInt ∧ a.toInt ≤ 57 then 1 else 0) h := by
  unfold zf0_isDigit
  rw [q_inC 48 57 (by decide) (by decide), zbl_ite]
  exact true_and _
/-- an int between 0 and u is a number -/
theorem nI_bt {x : Int32} {u : Int} (h : 0 ≤ x.toInt ∧ x.toInt ≤ u) : ∃ j : Nat, (j : Int) ≤ u ∧ j < 2 ^ 31 ∧ x = nI j ∧ (j : Int) = x.toInt := by
  have h2 := x.toInt_lt
  refine ⟨x.toInt.toNat, by omega, by omega, Int32.toInt_inj.mp ?_, by omega⟩
  rw [nI_toInt (by omega)]
  omega
theorem q_within {f : Nat} {h : zH} {a lo hi : Int32} {K : Int32 → zH → Prop} : zf8_within f h a lo hi K = K (if a < lo then lo else if hi < a then hi else a) h := by
  unfold zf8_within
  by_cases h1 : a < lo
  · rw [if_pos h1, if_pos h1]
  · by_cases h2 : hi < a
    · rw [if_neg h1, if_pos h2, if_neg h1, if_pos h2]
    · rw [if_neg h1, if_neg h2, if_neg h1, if_neg h2]
/-- between 0 and hi -/
def cl0 (hi a : Int32) : Int32 := if a < 0 then 0 else if hi < a then hi else a
theorem cl0_mm {hi a x y : Int32} (h0 : 0 ≤ hi.toInt) (hx : x = if a < hi then a else hi) (hy : y = if (0 : Int32) < x then x else 0) : y = cl0 hi a := by
  subst hx hy
  have z : (0 : Int32).toInt = 0 := by decide
  unfold cl0
  simp only [Int32.lt_iff_toInt_lt, z]
  by_cases h1 : a.toInt < hi.toInt
  · have h3 : ¬ hi.toInt < a.toInt := by omega
    rw [if_pos h1, if_neg h3]
    by_cases h2 : 0 < a.toInt
    · have h4 : ¬ a.toInt < 0 := by omega
      rw [if_pos h2, if_neg h4]
    · rw [if_neg h2]
      by_cases h4 : a.toInt < 0
      · rw [if_pos h4]
      · rw [if_neg h4]
        exact Int32.toInt_inj.mp (by rw [z]; omega)
  · rw [if_neg h1]
    have h4 : ¬ a.toInt < 0 := by omega
    rw [if_neg h4]
    by_cases h2 : hi.toInt < a.toInt
    · rw [if_pos h2]
      by_cases h5 : 0 < hi.toInt
      · rw [if_pos h5]
      · rw [if_neg h5]
        exact Int32.toInt_inj.mp (by rw [z]; omega)
    · rw [if_neg h2]
      have e : hi = a := Int32.toInt_inj.mp (by omega)
      rw [e]
      by_cases h5 : 0 < a.toInt
      · rw [if_pos h5]
      · rw [if_neg h5]
        exact Int32.toInt_inj.mp (by rw [z]; omega)
theorem cl0_in {hi a : Int32} (h0 : 0 ≤ hi.toInt) : 0 ≤ (cl0 hi a).toInt ∧ (cl0 hi a).toInt ≤ hi.toInt := by
  have z : (0 : Int32).toInt = 0 := by decide
  unfold cl0
  simp only [Int32.lt_iff_toInt_lt, z]
  by_cases h1 : a.toInt < 0
  · rw [if_pos h1, z]; omega
  · rw [if_neg h1]
    by_cases h2 : hi.toInt < a.toInt
    · rw [if_pos h2]; omega
    · rw [if_neg h2]; omega
