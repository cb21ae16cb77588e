/-! THE LAWS: the best houses -/
set_option maxRecDepth 100000
section LB
variable {G : TG} {σ : ST}
theorem ct_nI (p : Nat) : ∃ c, c ≤ 999 ∧ ct G σ p = nI c := by
  have h : 0 ≤ (ct G σ p).toInt ∧ (ct G σ p).toInt ≤ 999 := by
    unfold ct
    exact cl0_in (by decide)
  obtain ⟨j, hj, -, ej, -⟩ := nI_bt (u := 999) h
  exact ⟨j, by omega, ej⟩
theorem best_law (hW : WS σ) (hI : Iv σ) (hP : 0 ≤ (σ 7 0).toInt) (hN : ∀ i, i < 4 → 0 ≤ (σ 8 i).toInt) {goal : Int32} (hg : goal = 0 ∨ goal = 1 ∨ goal = 2) : RB (bestC G σ goal) (bestS G σ goal) := by
  have hn := (nP_eq hW).2
  unfold bestC bestS
  refine sk_law (Z' := σ 111) (Z := fun p => ab σ (nI p)) (fun p hp => hI.2.2 p hp) hg (fun p _ => ct_nI p) (fun p i hp hz => sm_tab hI hp hz) (fun q p i hq hp _ => ht_tab hW hI hq hp) hN hn 4 0 (-1) 0 0 0 1 0 (0, 0, 0) (0, -1, 1) rfl (by decide) (fun _ z => ?_) (fun _ => by decide) (Or.inl rfl) (Or.inr ⟨rfl, rfl⟩)
  rw [Int32.lt_iff_toInt_lt] at z
  have e0 : (nI 0).toInt = 0 := rfl
  omega
theorem bright_law (hW : WS σ) (hI : Iv σ) (hP : 0 ≤ (σ 7 0).toInt) (hN : ∀ i, i < 4 → 0 ≤ (σ 8 i).toInt) : bestC G σ 0 = bestS G σ 0 := by
  rcases best_law (G := G) hW hI hP hN (Or.inl rfl) with ⟨-, z⟩ | ⟨z, -⟩
  · exact z
  · exact absurd z (skC_found (by decide) _ _ _ _ _ _ _ _)
/-- the answers of cheapest agree -/
theorem cheap_law (hW : WS σ) (hI : Iv σ) (hP : 0 ≤ (σ 7 0).toInt) (hN : ∀ i, i < 4 → 0 ≤ (σ 8 i).toInt) {what : Int32} : (if (bestC G σ (if what < 2 then 1 else 2)).1 = 0 then -1 else if what - what / 2 * 2 = 0 then (bestC G σ (if what < 2 then 1 else 2)).2.1 else if what = 1 then -(bestC G σ (if what < 2 then 1 else 2)).2.2 else (bestC G σ (if what < 2 then 1 else 2)).2.2) = (if what - what / 2 * 2 = 0 then (bestS G σ (if what < 2 then 1 else 2)).2.1 else if what = 1 then -(bestS G σ (if what < 2 then 1 else 2)).2.2 else (bestS G σ (if what < 2 then 1 else 2)).2.2) ∨ ¬ (0 ≤ what.toInt ∧ what.toInt ≤ 3) := by
  by_cases hw : 0 ≤ what.toInt ∧ what.toInt ≤ 3
  · refine Or.inl ?_
    by_cases c : what < 2
    · simp only [if_pos c]
      rcases best_law (G := G) hW hI hP hN (goal := 1) (Or.inr (Or.inl rfl)) with ⟨z, e⟩ | ⟨z, e⟩
      · rw [if_neg z, e]
      · rw [if_pos z, e]
        obtain ⟨j, hj, -, rfl, -⟩ := nI_bt (u := 3) hw
        have hj2 : j < 2 := (nI_ltI (b := 2) (by omega) (by omega)).mp c
        have : j = 0 ∨ j = 1 := by omega
        rcases this with rfl | rfl <;> decide
    · simp only [if_neg c]
      rcases best_law (G := G) hW hI hP hN (goal := 2) (Or.inr (Or.inr rfl)) with ⟨z, e⟩ | ⟨z, -⟩
      · rw [if_neg z, e]
      · exact absurd z (skC_found (by decide) _ _ _ _ _ _ _ _)
  · exact Or.inr hw
end LB
