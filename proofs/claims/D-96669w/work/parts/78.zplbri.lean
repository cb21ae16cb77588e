/-! THE LAWS: sums are never negative; the best swap -/
set_option maxRecDepth 100000
section LY
variable {G : TG} {σ : ST}
theorem lt_nI (p : Nat) (o hr : Int32) : ∃ c, c ≤ 999 ∧ lt G σ p o hr = nI c := by
  have h : 0 ≤ (lt G σ p o hr).toInt ∧ (lt G σ p o hr).toInt ≤ 999 := by
    unfold lt
    exact cl0_in (by decide)
  obtain ⟨j, hj, -, ej, -⟩ := nI_bt (u := 999) h
  exact ⟨j, by omega, ej⟩
theorem fo_sum {F : Nat → Int32} {B : Nat} (hF : ∀ i, ∃ c, c ≤ B ∧ F i = nI c) : ∀ n, ∃ m, m ≤ B * n ∧ fo (fun i a => a + F i) n 0 0 = nI m := by
  intro n
  induction n with
  | zero => exact ⟨0, by omega, rfl⟩
  | succ n ih =>
    obtain ⟨m, hm, e⟩ := ih
    obtain ⟨c, hc, e2⟩ := hF n
    refine ⟨m + c, by rw [Nat.mul_succ]; omega, ?_⟩
    rw [fo_snoc, Nat.zero_add]
    show fo (fun i a => a + F i) n 0 0 + F n = _
    rw [e, e2, nI_add]
theorem sm_nI (p : Nat) (o : Int32) : ∃ m, m ≤ 7992 ∧ sm G σ p o = nI m := by
  obtain ⟨m, hm, e⟩ := fo_sum (F := fun h => lt G σ p o (nI h)) (B := 999) (fun i => lt_nI p o (nI i)) 8
  exact ⟨m, by omega, e⟩
theorem si_nI (o : Nat) : ∃ m, m ≤ 7992 ∧ si G σ o = nI m := by
  unfold si siX
  by_cases c : σ 9 o = -1
  · rw [if_pos c]; exact ⟨0, by omega, rfl⟩
  · rw [if_neg c]
    by_cases c2 : ab σ (σ 9 o) = 1
    · rw [if_pos c2]; exact ⟨0, by omega, rfl⟩
    · rw [if_neg c2]; exact sm_nI _ _
theorem bri_nI : ∃ m, m ≤ 31968 ∧ bri G σ = nI m := by
  obtain ⟨m, hm, e⟩ := fo_sum (F := fun o => si G σ o) (B := 7992) (fun i => si_nI i) 4
  exact ⟨m, by omega, e⟩
theorem swV_or : swV G σ = -1 ∨ ∃ m, m ≤ 31968 ∧ swV G σ = nI m := by
  unfold swV
  by_cases c : qst G σ = 0
  · rw [if_pos c]; exact Or.inr bri_nI
  · rw [if_neg c]; exact Or.inl rfl
end LY
