/-! THE LAWS: broken panes counted, spills -/
set_option maxRecDepth 100000
theorem sp_bits2 : ∀ o, o < 4 → ∀ i, i < 4 → ∀ s, s < 20 → (if nI s < aabs (nI i - nI o) then (0 : Int32) else ((1 : Int32) <<< (nI i &&& 31))) = ((if (-(nI s)).toInt ≤ (nI i - nI o).toInt ∧ (nI i - nI o).toInt ≤ (nI s).toInt then 1 else 0) <<< (nI i &&& 31)) := by decide +kernel
section LQ
variable {G : TG} {σ : ST}
theorem bm_law (hI : Iv σ) {j : Nat} (hn : nP σ < 7) (hj : j < 2 ^ nP σ) (e : σ 12 0 = nI j) : bmC σ = pc 7 0 (σ 12 0) := by
  rw [e, ← bits_pc (nP σ) hn j hj]
  unfold bmC
  refine fo_congr _ _ _ fun p a _ hp => ?_
  rw [hI.2.2 p (by omega)]
  unfold ab
  rw [e]
theorem spill_law (hW : WS σ) (hI : Iv σ) (hS : ∀ p, p < nP σ → ∃ s, s < 20 ∧ sp σ p = nI s) : saC σ = (hoS G σ).2.1 := by
  have hn := (nP_eq hW).2
  rw [ho_2]
  have e1 : saC σ = ac (fun a b => a ||| b) (fun p => if σ 110 p = -1 then 0 else (fun p o => if ab σ (nI p) = 0 then 0 else spS σ (nI o) (sp σ p)) p (σ 110 p).toNatClampNeg) (nP σ) := by
    unfold saC
    refine fo_congr _ _ _ fun p a _ hp => ?_
    have hp : p < nP σ := by omega
    refine congrArg (fun z => a ||| z) ?_
    show (if σ 110 p = -1 then 0 else if σ 111 p = 0 then 0 else spC σ p) = (if σ 110 p = -1 then 0 else if ab σ (nI p) = 0 then 0 else spS σ (nI (σ 110 p).toNatClampNeg) (sp σ p))
    rcases hI.2.1 p hp with z | ⟨o, ho, z⟩
    · rw [if_pos z, if_pos z]
    · rw [if_neg (show ¬ σ 110 p = -1 from fun y => by rw [z] at y; exact nIn1 (by omega) y), if_neg (show ¬ σ 110 p = -1 from fun y => by rw [z] at y; exact nIn1 (by omega) y)]
      show (if σ 111 p = 0 then 0 else spC σ p) = (if ab σ (nI p) = 0 then 0 else spS σ (nI (σ 110 p).toNatClampNeg) (sp σ p))
      rw [hI.2.2 p hp, z, nI_clamp (by omega)]
      by_cases c : ab σ (nI p) = 0
      · rw [if_pos c, if_pos c]
      · rw [if_neg c, if_neg c]
        obtain ⟨s, hs, es⟩ := hS p hp
        unfold spC spS
        rw [z, es]
        exact fo_congr _ _ _ fun i a _ hi => by rw [sp_bits2 o ho i (by omega) s hs]
  refine e1.trans ((own_sum (op := fun a b => a ||| b) or4 (fun _ => Int32.or_zero) (fun _ => Int32.zero_or) hW hI (fun p o => if ab σ (nI p) = 0 then 0 else spS σ (nI o) (sp σ p))).trans ?_)
  refine fo_congr _ _ _ fun o a _ ho => ?_
  show a ||| (if σ 9 o = -1 then 0 else if ab σ (nI (σ 9 o).toNatClampNeg) = 0 then 0 else spS σ (nI o) (sp σ (σ 9 o).toNatClampNeg)) = _
  rcases hW.2.2.2.2.2.2.1 o (by omega) with z | ⟨p, hp, z⟩
  · rw [if_pos z, if_pos z]
  · rw [z, nI_clamp (by omega)]
end LQ
