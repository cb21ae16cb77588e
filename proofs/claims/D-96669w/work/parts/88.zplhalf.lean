/-! THE LAWS: half -/
set_option maxRecDepth 100000
section LHF
variable {G : TG} {σ : ST}
theorem half_law (hW : WS σ) (hI : Iv σ) {oo : Nat} (ho : oo < 4) : haS (fun i => lt G σ (whC σ (nI oo)).toNatClampNeg (nI oo) (nI i)) (siC G σ oo) 8 0 0 = haS (fun i => lt G σ (σ 9 oo).toNatClampNeg (nI oo) (nI i)) (si G σ oo) 8 0 0 := by
  rw [wh_law hW hI ho, si_law hW hI ho]
/-- glaze's own answers -/
theorem glaze_ans (hW : WS σ) (hI : Iv σ) {oo : Nat} (ho : oo < 4) : whC σ (nI oo) = σ 9 oo := wh_law hW hI ho
theorem broken_ans (hI : Iv σ) {p : Int32} (hn : nP σ ≤ 6) (hp : pnl σ p) : σ 111 p.toNatClampNeg = ab σ p := by
  obtain ⟨pn, h, rfl⟩ := pnl_nat hp
  rw [nI_clamp (by omega)]
  exact hI.2.2 pn h
theorem stone_none (hW : WS σ) (hI : Iv σ) {oo : Nat} (ho : oo < 4) : (whC σ (nI oo) = -1 ∨ σ 111 (whC σ (nI oo)).toNatClampNeg = 1) ↔ (σ 9 oo = -1 ∨ ab σ (σ 9 oo) = 1) := by
  rw [wh_law hW hI ho]
  by_cases c : σ 9 oo = -1
  · exact ⟨fun _ => Or.inl c, fun _ => Or.inl c⟩
  · rw [ab_own hW hI ho c]
end LHF
