/-! THE LAWS: told; states that differ where the relation does not look -/
set_option maxRecDepth 100000
theorem Iv_of {σ σ' : ST} (hI : Iv σ) (h9 : σ' 9 = σ 9) (h12 : σ' 12 = σ 12) (h13 : σ' 13 = σ 13) (h110 : σ' 110 = σ 110) (h111 : σ' 111 = σ 111) : Iv σ' := by
  have en : nP σ' = nP σ := by unfold nP; rw [h13]
  obtain ⟨a, b, c⟩ := hI
  refine ⟨fun o p ho hp => ?_, fun p hp => ?_, fun p hp => ?_⟩
  · rw [h9, h110]; exact a o p ho (by omega)
  · rw [h110]; exact b p (by omega)
  · unfold ab
    rw [h111, h12]
    exact c p (by omega)
section LT
variable {G : TG} {σ : ST}
theorem tp_law (hW : WS σ) (hI : Iv σ) {p : Nat} (hp : p < nP σ) (what : Int32) : tpC G σ p what = tp G σ p what := by
  unfold tpC tp
  have e7 : (if σ 111 p = 0 then (0 : Int32) else 1) = ab σ (nI p) := by
    rw [hI.2.2 p hp]
    rcases ab01 σ (nI p) with z | z <;> rw [z] <;> decide
  rw [e7, wh_own hW hI hp]
theorem told_law (hW : WS σ) (hI : Iv σ) (of what : Int32) : toC G σ of what = toS G σ of what := by
  unfold toC toS
  have eo : ∀ (A : Int32), (if opn of then whC σ of else A) = (if opn of then σ 9 of.toNatClampNeg else A) := fun A => by
    by_cases c : opn of
    · rw [if_pos c, if_pos c]
      obtain ⟨oo, h1, -, rfl, -⟩ := nI_bt (u := 3) (show 0 ≤ of.toInt ∧ of.toInt ≤ 3 from c)
      rw [nI_clamp (by omega)]
      exact wh_law hW hI (by omega)
    · rw [if_neg c, if_neg c]
  have es : ∀ (A : Int32), (if opn of then siC G σ of.toNatClampNeg else A) = (if opn of then si G σ of.toNatClampNeg else A) := fun A => by
    by_cases c : opn of
    · rw [if_pos c, if_pos c]
      obtain ⟨oo, h1, -, rfl, -⟩ := nI_bt (u := 3) (show 0 ≤ of.toInt ∧ of.toInt ≤ 3 from c)
      rw [nI_clamp (by omega)]
      exact si_law hW hI (by omega)
    · rw [if_neg c, if_neg c]
  have ep : ∀ (A : Int32), (if pnl σ of then tpC G σ of.toNatClampNeg what else A) = (if pnl σ of then tp G σ of.toNatClampNeg what else A) := fun A => by
    by_cases c : pnl σ of
    · rw [if_pos c, if_pos c]
      obtain ⟨pn, hp, rfl⟩ := pnl_nat c
      have hn := (nP_eq hW).2
      rw [nI_clamp (by omega)]
      exact tp_law hW hI hp what
    · rw [if_neg c, if_neg c]
  rw [eo, es, ep]
end LT
