/-! THE LAWS: glaze keeps the standing facts -/
set_option maxRecDepth 100000
section LGW
variable {σ : ST}
theorem WS_glT (hW : WS σ) {oo : Nat} {p : Int32} (hp : p = -1 ∨ ∃ pn : Nat, pn < nP σ ∧ p = nI pn) : WS (glT σ oo p) := by
  have en : nP (glT σ oo p) = nP σ := by unfold nP; rw [glT_k (by decide) (by decide)]
  obtain ⟨w1, w2, w3, w4, w5, w6, w7, w8⟩ := hW
  unfold WS
  rw [en, glT_k (k := 13) (by decide) (by decide), glT_k (k := 3) (by decide) (by decide), glT_k (k := 4) (by decide) (by decide), glT_k (k := 6) (by decide) (by decide), glT_k (k := 1) (by decide) (by decide), glT_k (k := 5) (by decide) (by decide), glT_k (k := 2) (by decide) (by decide), glT_k (k := 10) (by decide) (by decide)]
  refine ⟨w1, w2, w3, w4, w5, w6, fun j hj => ?_, w8⟩
  rw [glT_9 oo p hj]
  by_cases c : j = oo
  · rw [if_pos c]; exact hp
  · rw [if_neg c]
    by_cases c2 : p = -1
    · rw [if_pos c2]; exact w7 j hj
    · rw [if_neg c2]
      by_cases c3 : σ 9 j = p
      · rw [if_pos c3]; exact Or.inl rfl
      · rw [if_neg c3]; exact w7 j hj
end LGW
