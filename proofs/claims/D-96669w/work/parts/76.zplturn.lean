/-! THE LAWS: a pane turned out -/
set_option maxRecDepth 100000
def ouT (σ : ST) (o p : Nat) : ST := mup (mup σ 9 o (-1)) 110 p (-1)
section LU
variable {G : TG} {σ : ST}
theorem ouT_9 (o p j : Nat) : ouT σ o p 9 j = if j = o then -1 else σ 9 j := by
  show mup σ 9 o (-1) 9 j = _
  rw [mup_kk]
theorem ouT_110 (o p j : Nat) : ouT σ o p 110 j = if j = p then -1 else σ 110 j := by
  show mup (mup σ 9 o (-1)) 110 p (-1) 110 j = _
  rw [mup_kk]
  rfl
theorem WS_ouT (hW : WS σ) (o p : Nat) : WS (ouT σ o p) := by
  obtain ⟨w1, w2, w3, w4, w5, w6, w7, w8⟩ := hW
  refine ⟨w1, w2, w3, w4, w5, w6, fun o' ho' => ?_, w8⟩
  rw [ouT_9]
  by_cases c : o' = o
  · rw [if_pos c]; exact Or.inl rfl
  · rw [if_neg c]; exact w7 o' ho'
theorem Iv_ouT (hW : WS σ) (hI : Iv σ) {o p : Nat} (ho : o < 4) (hp : p < nP σ) (h : σ 9 o = nI p) : Iv (ouT σ o p) := by
  have hn := (nP_eq hW).2
  have ho110 := (hI.1 o p ho hp).mp h
  refine ⟨fun o' p' ho' hp' => ?_, fun p' hp' => ?_, fun p' hp' => ?_⟩
  · have hp' : p' < nP σ := hp'
    rw [ouT_9, ouT_110]
    by_cases c : o' = o
    · rw [if_pos c]
      by_cases c2 : p' = p
      · rw [if_pos c2]
        exact ⟨fun z => absurd z.symm (nIn1 (by omega)), fun z => absurd z.symm (nIn1 (by omega))⟩
      · rw [if_neg c2]
        refine ⟨fun z => absurd z.symm (nIn1 (by omega)), fun z => ?_⟩
        rw [c] at z
        have := (hI.1 o p' ho hp').mpr z
        rw [h] at this
        exact absurd ((nI_eq (by omega) (by omega)).mp this).symm c2
    · rw [if_neg c]
      by_cases c2 : p' = p
      · rw [if_pos c2]
        refine ⟨fun z => ?_, fun z => absurd z.symm (nIn1 (by omega))⟩
        rw [c2] at z
        have := (hI.1 o' p ho' hp).mp z
        rw [ho110] at this
        exact absurd ((nI_eq (by omega) (by omega)).mp this).symm c
      · rw [if_neg c2]
        exact hI.1 o' p' ho' hp'
  · have hp' : p' < nP σ := hp'
    rw [ouT_110]
    by_cases c2 : p' = p
    · rw [if_pos c2]; exact Or.inl rfl
    · rw [if_neg c2]; exact hI.2.1 p' hp'
  · exact hI.2.2 p' hp'
theorem bc_law (hW : WS σ) (hI : Iv σ) : bcJ (qstC G σ) = pc 7 0 (qst G σ) := by
  rw [qst_law hW hI]
  obtain ⟨j, hj, e⟩ := qst_8 G σ
  rw [e]
  exact bcJ_pc j (by omega)
theorem tu_law (hW : WS σ) (hI : Iv σ) : tuM G σ = tuL G σ := by
  have hn := (nP_eq hW).2
  unfold tuM tuL
  rw [bc_law hW hI]
  refine fo_congr _ _ _ fun o a _ ho => ?_
  have ho : o < 4 := by omega
  unfold tuD tuF
  rw [wh_law hW hI ho]
  rcases hW.2.2.2.2.2.2.1 o ho with z | ⟨p, hp, z⟩
  · rw [if_pos z, if_pos z]
  · have e : bcJ (qstC G (mup σ 110 (σ 9 o).toNatClampNeg (-1))) = pc 7 0 (qst G (mup σ 9 o (-1))) := by
      rw [z, nI_clamp (by omega)]
      exact bc_law (σ := ouT σ o p) (WS_ouT hW o p) (Iv_ouT hW hI ho hp z)
    rw [if_neg (show ¬ σ 9 o = -1 from fun y => by rw [z] at y; exact nIn1 (by omega) y), if_neg (show ¬ σ 9 o = -1 from fun y => by rw [z] at y; exact nIn1 (by omega) y), e]
    by_cases c : pc 7 0 (qst G (mup σ 9 o (-1))) < a.2
    · rw [if_pos c, if_pos c, if_pos c]
    · rw [if_neg c, if_neg c, if_neg c]
end LU
