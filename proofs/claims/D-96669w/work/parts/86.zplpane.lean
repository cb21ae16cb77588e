/-! THE LAWS: a new pane -/
set_option maxRecDepth 100000
theorem pa_bits : ∀ n, n < 6 → ∀ j, j < 2 ^ n → nI j &&& ((1 <<< (nI n &&& 31)) ^^^ (-1)) = nI j ∧ (nI j >>> (nI n &&& 31)) &&& 1 = 0 := by decide +kernel
def paT (σ : ST) (n : Nat) (k nb on_ : Int32) : ST := mup (mup (paS σ n k nb on_) 110 n (-1)) 111 n 0
section LPA
variable {σ : ST}
theorem Iv_paT (hW : WS σ) (hI : Iv σ) (hb : Bt σ) (h6 : nP σ < 6) (k nb on_ : Int32) : Iv (paT σ (nP σ) k nb on_) ∧ Bt (paT σ (nP σ) k nb on_) := by
  obtain ⟨j, hj, e⟩ := hb
  have pb := pa_bits (nP σ) h6 j hj
  have en : nP (paT σ (nP σ) k nb on_) = nP σ + 1 := by
    show (nI (nP σ + 1)).toNatClampNeg = nP σ + 1
    exact nI_clamp (by omega)
  have e9 : paT σ (nP σ) k nb on_ 9 = σ 9 := rfl
  have e110 : ∀ q, paT σ (nP σ) k nb on_ 110 q = if q = nP σ then -1 else σ 110 q := fun q => by
    show mup (paS σ (nP σ) k nb on_) 110 (nP σ) (-1) 110 q = _
    rw [mup_kk]
    rfl
  have e111 : ∀ q, paT σ (nP σ) k nb on_ 111 q = if q = nP σ then 0 else σ 111 q := fun q => by
    show mup (mup (paS σ (nP σ) k nb on_) 110 (nP σ) (-1)) 111 (nP σ) 0 111 q = _
    rw [mup_kk]
    rfl
  have e12 : paT σ (nP σ) k nb on_ 12 0 = nI j := by
    show σ 12 0 &&& ((1 <<< (nI (nP σ) &&& 31)) ^^^ (-1)) = nI j
    rw [e]
    exact pb.1
  refine ⟨⟨fun o q ho hq => ?_, fun q hq => ?_, fun q hq => ?_⟩, j, ?_, e12⟩
  · rw [en] at hq
    rw [e9, e110]
    by_cases c : q = nP σ
    · rw [if_pos c, c]
      refine ⟨fun z => ?_, fun z => absurd z.symm (nIn1 (by omega))⟩
      rcases hW.2.2.2.2.2.2.1 o ho with y | ⟨p, hp, y⟩
      · rw [y] at z; exact absurd z.symm (nIn1 (by omega))
      · rw [y] at z
        have := (nI_eq (by omega) (by omega)).mp z
        omega
    · rw [if_neg c]
      exact hI.1 o q ho (by omega)
  · rw [en] at hq
    rw [e110]
    by_cases c : q = nP σ
    · rw [if_pos c]; exact Or.inl rfl
    · rw [if_neg c]; exact hI.2.1 q (by omega)
  · rw [en] at hq
    unfold ab
    rw [e111, e12]
    by_cases c : q = nP σ
    · rw [if_pos c, c]; exact pb.2.symm
    · rw [if_neg c, hI.2.2 q (by omega)]
      unfold ab
      rw [e]
  · rw [en, Nat.pow_succ]
    omega
end LPA
