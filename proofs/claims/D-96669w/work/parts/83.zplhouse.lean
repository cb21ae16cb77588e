/-! THE LAWS: the house's answers -/
set_option maxRecDepth 100000
theorem or4 (a b c d : Int32) : (a ||| b) ||| (c ||| d) = (a ||| c) ||| (b ||| d) := by
  rw [Int32.or_assoc, Int32.or_assoc, ← Int32.or_assoc b, ← Int32.or_assoc c, Int32.or_comm b c]
theorem sp_bits : ∀ o, o < 4 → ∀ i, i < 4 → ∀ s, s < 2 → (if nI s < aabs (nI i - nI o) then (0 : Int32) else ((1 : Int32) <<< (nI i &&& 31))) = ((if (-(nI s)).toInt ≤ (nI i - nI o).toInt ∧ (nI i - nI o).toInt ≤ (nI s).toInt then 1 else 0) <<< (nI i &&& 31)) := by decide +kernel
section LH
variable {G : TG} {σ : ST}
theorem ho_1 : (hoS G σ).1 = fo (fun i a => a + (if σ 9 i = -1 then 0 else ct G σ (σ 9 i).toNatClampNeg)) 4 0 0 := rfl
theorem ho_2 : (hoS G σ).2.1 = fo (fun i a => a ||| (if σ 9 i = -1 then 0 else if ab σ (σ 9 i) = 0 then 0 else spS σ (nI i) (sp σ (σ 9 i).toNatClampNeg))) 4 0 0 := rfl
theorem price_law (hW : WS σ) (hI : Iv σ) : prC G σ = (hoS G σ).1 := (pr_law hW hI).trans ho_1.symm
theorem me_all (hW : WS σ) (hI : Iv σ) : meC G σ = if (hoS G σ).2.2 = 0 then 0 else 1 := by
  have e : (hoS G σ).2.2 = fo (fun i a => if a = 0 then 0 else if si G σ i < σ 8 i then 0 else 1) 4 0 1 := rfl
  rw [e]
  unfold meC
  have ef : fi (fun o => decide (siC G σ o < σ 8 o)) 4 0 = fi (fun o => decide (si G σ o < σ 8 o)) 4 0 := fi_congr 4 0 fun k _ hk => me_law hW hI (by omega)
  rw [ef]
  have key : ∀ j i, i + j < 1000 → (fi (fun o => decide (si G σ o < σ 8 o)) j i = -1 → fo (fun i a => if a = 0 then (0 : Int32) else if si G σ i < σ 8 i then 0 else 1) j i 1 = 1) ∧ (fi (fun o => decide (si G σ o < σ 8 o)) j i ≠ -1 → fo (fun i a => if a = 0 then (0 : Int32) else if si G σ i < σ 8 i then 0 else 1) j i 1 = 0) := by
    have z0 : ∀ j i, fo (fun i a => if a = 0 then (0 : Int32) else if si G σ i < σ 8 i then 0 else 1) j i 0 = 0 := by
      intro j
      induction j with
      | zero => intro i; rfl
      | succ j ih => intro i; exact ih (i + 1)
    intro j
    induction j with
    | zero => intro i _; exact ⟨fun _ => rfl, fun z => absurd rfl z⟩
    | succ j ih =>
      intro i hi
      have ih := ih (i + 1) (by omega)
      by_cases c : si G σ i < σ 8 i
      · have e1 : fi (fun o => decide (si G σ o < σ 8 o)) (j + 1) i = nI i := if_pos (decide_eq_true c)
        have e2 : fo (fun i a => if a = 0 then (0 : Int32) else if si G σ i < σ 8 i then 0 else 1) (j + 1) i 1 = 0 := by
          show fo (fun i a => if a = 0 then (0 : Int32) else if si G σ i < σ 8 i then 0 else 1) j (i + 1) (if (1 : Int32) = 0 then 0 else if si G σ i < σ 8 i then 0 else 1) = 0
          rw [if_neg (by decide), if_pos c]
          exact z0 j (i + 1)
        rw [e1, e2]
        exact ⟨fun z => absurd z (nIn1 (by omega)), fun _ => rfl⟩
      · have e1 : fi (fun o => decide (si G σ o < σ 8 o)) (j + 1) i = fi (fun o => decide (si G σ o < σ 8 o)) j (i + 1) := if_neg (show ¬ decide (si G σ i < σ 8 i) = true from fun z => c (of_decide_eq_true z))
        have e2 : fo (fun i a => if a = 0 then (0 : Int32) else if si G σ i < σ 8 i then 0 else 1) (j + 1) i 1 = fo (fun i a => if a = 0 then (0 : Int32) else if si G σ i < σ 8 i then 0 else 1) j (i + 1) 1 := by
          show fo (fun i a => if a = 0 then (0 : Int32) else if si G σ i < σ 8 i then 0 else 1) j (i + 1) (if (1 : Int32) = 0 then 0 else if si G σ i < σ 8 i then 0 else 1) = _
          rw [if_neg (by decide), if_neg c]
        rw [e1, e2]
        exact ih
  obtain ⟨k1, k2⟩ := key 4 0 (by omega)
  by_cases c : fi (fun o => decide (si G σ o < σ 8 o)) 4 0 = -1
  · rw [if_pos c, k1 c]; rfl
  · rw [if_neg c, k2 c]; rfl
end LH
