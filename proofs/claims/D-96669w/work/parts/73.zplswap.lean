/-! THE LAWS: a change of two openings, made twice, is none -/
set_option maxRecDepth 100000
section LW
variable {G : TG} {σ : ST}
theorem wh_eq {a : Nat} (hn : nP σ ≤ 6) (ha : a < nP σ) {o : Int32} (h : ∀ p, p < nP σ → (σ 110 p = o ↔ p = a)) : whC σ o = nI a := by
  rcases whC_or σ o with z | ⟨p, p1, p2, p3⟩
  · have q := fi_none (nP σ) 0 (by omega) z a (by omega) (by omega)
    exact absurd ((h a ha).mpr rfl) (of_decide_eq_false q)
  · rw [p2, (h p p1).mp p3]
theorem wh_non {o : Int32} (h : ∀ p, p < nP σ → σ 110 p ≠ o) : whC σ o = -1 := by
  rcases whC_or σ o with z | ⟨p, p1, p2, p3⟩
  · exact z
  · exact absurd p3 (h p p1)
theorem ch_twice (hW : WS σ) (hI : Iv σ) {i j : Nat} (hi : i < 4) (hj : j < 4) (hij : i < j) : chC (chC σ (nI i) (nI j)) (nI i) (nI j) = σ := by
  have hn := (nP_eq hW).2
  have ne : nI i ≠ nI j := fun z => by have := (nI_eq (by omega) (by omega)).mp z; omega
  have uni : ∀ {o a : Nat}, o < 4 → a < nP σ → σ 9 o = nI a → ∀ p, p < nP σ → (σ 110 p = nI o ↔ p = a) := fun {o a} ho ha h p hp => ⟨fun z => by
    have := (hI.1 o p ho hp).mpr z
    rw [h] at this
    exact ((nI_eq (by omega) (by omega)).mp this).symm, fun z => by rw [z]; exact (hI.1 o a ho ha).mp h⟩
  have non : ∀ {o : Nat}, o < 4 → σ 9 o = -1 → ∀ p, p < nP σ → σ 110 p ≠ nI o := fun {o} ho h p hp z => by
    have := (hI.1 o p ho hp).mpr z
    rw [h] at this
    exact nIn1 (by omega) this.symm
  have en : ∀ (a : Nat) (v : Int32), nP (mup σ 110 a v) = nP σ := fun a v => by unfold nP; rw [mup_k (by decide)]
  have en2 : ∀ (a c : Nat) (v w : Int32), nP (mup (mup σ 110 a v) 110 c w) = nP σ := fun a c v w => by unfold nP; rw [mup_k (by decide), mup_k (by decide)]
  rcases hW.2.2.2.2.2.2.1 i hi with wi | ⟨a, ha, wi⟩
  · rcases hW.2.2.2.2.2.2.1 j hj with wj | ⟨c, hc, wj⟩
    · have e : chC σ (nI i) (nI j) = σ := by
        unfold chC
        rw [wh_law hW hI hi, wh_law hW hI hj, wi, wj, if_pos rfl, if_pos rfl]
      rw [e, e]
    · have uj := uni hj hc wj
      have nii := non hi wi
      have e : chC σ (nI i) (nI j) = mup σ 110 c (nI i) := by
        unfold chC
        rw [wh_law hW hI hi, wh_law hW hI hj, wi, wj, if_neg (nIn1 (by omega)), if_pos rfl, nI_clamp (by omega)]
      rw [e]
      have w1 : whC (mup σ 110 c (nI i)) (nI i) = nI c := wh_eq (by rw [en]; exact hn) (by rw [en]; exact hc) fun p hp => by
        rw [en] at hp
        rw [mup_kk]
        by_cases z : p = c
        · rw [if_pos z]; exact ⟨fun _ => z, fun _ => rfl⟩
        · rw [if_neg z]; exact ⟨fun y => absurd y (nii p hp), fun y => absurd y z⟩
      have w2 : whC (mup σ 110 c (nI i)) (nI j) = -1 := wh_non fun p hp => by
        rw [en] at hp
        rw [mup_kk]
        by_cases z : p = c
        · rw [if_pos z]; exact ne
        · rw [if_neg z]; exact fun y => z ((uj p hp).mp y)
      unfold chC
      rw [w1, w2, if_pos rfl, if_neg (nIn1 (by omega)), nI_clamp (by omega), mup_mup]
      exact mup_id _ _ _ _ ((uj c hc).mpr rfl)
  · have ui := uni hi ha wi
    rcases hW.2.2.2.2.2.2.1 j hj with wj | ⟨c, hc, wj⟩
    · have nj := non hj wj
      have e : chC σ (nI i) (nI j) = mup σ 110 a (nI j) := by
        unfold chC
        rw [wh_law hW hI hi, wh_law hW hI hj, wi, wj, if_pos rfl, if_neg (nIn1 (by omega)), nI_clamp (by omega)]
      rw [e]
      have w1 : whC (mup σ 110 a (nI j)) (nI j) = nI a := wh_eq (by rw [en]; exact hn) (by rw [en]; exact ha) fun p hp => by
        rw [en] at hp
        rw [mup_kk]
        by_cases z : p = a
        · rw [if_pos z]; exact ⟨fun _ => z, fun _ => rfl⟩
        · rw [if_neg z]; exact ⟨fun y => absurd y (nj p hp), fun y => absurd y z⟩
      have w2 : whC (mup σ 110 a (nI j)) (nI i) = -1 := wh_non fun p hp => by
        rw [en] at hp
        rw [mup_kk]
        by_cases z : p = a
        · rw [if_pos z]; exact fun y => ne y.symm
        · rw [if_neg z]; exact fun y => z ((ui p hp).mp y)
      unfold chC
      rw [w1, w2, if_neg (nIn1 (by omega)), if_pos rfl, nI_clamp (by omega), mup_mup]
      exact mup_id _ _ _ _ ((ui a ha).mpr rfl)
    · have uj := uni hj hc wj
      have ac : a ≠ c := fun z => by
        have h1 := (ui a ha).mpr rfl
        have h2 := (uj c hc).mpr rfl
        rw [z, h2] at h1
        exact ne h1.symm
      have e : chC σ (nI i) (nI j) = mup (mup σ 110 a (nI j)) 110 c (nI i) := by
        unfold chC
        rw [wh_law hW hI hi, wh_law hW hI hj, wi, wj, if_neg (nIn1 (by omega)), if_neg (nIn1 (by omega)), nI_clamp (by omega), nI_clamp (by omega)]
      rw [e]
      have v110 : ∀ p, mup (mup σ 110 a (nI j)) 110 c (nI i) 110 p = if p = c then nI i else if p = a then nI j else σ 110 p := fun p => by rw [mup_kk, mup_kk]
      have w1 : whC (mup (mup σ 110 a (nI j)) 110 c (nI i)) (nI i) = nI c := wh_eq (by rw [en2]; exact hn) (by rw [en2]; exact hc) fun p hp => by
        rw [en2] at hp
        rw [v110]
        by_cases z : p = c
        · rw [if_pos z]; exact ⟨fun _ => z, fun _ => rfl⟩
        · rw [if_neg z]
          by_cases z2 : p = a
          · rw [if_pos z2]; exact ⟨fun y => absurd y.symm ne, fun y => absurd y z⟩
          · rw [if_neg z2]; exact ⟨fun y => absurd ((ui p hp).mp y) z2, fun y => absurd y z⟩
      have w2 : whC (mup (mup σ 110 a (nI j)) 110 c (nI i)) (nI j) = nI a := wh_eq (by rw [en2]; exact hn) (by rw [en2]; exact ha) fun p hp => by
        rw [en2] at hp
        rw [v110]
        by_cases z : p = c
        · rw [if_pos z]; exact ⟨fun y => absurd y ne, fun y => absurd (y.symm.trans z) ac⟩
        · rw [if_neg z]
          by_cases z2 : p = a
          · rw [if_pos z2]; exact ⟨fun _ => z2, fun _ => rfl⟩
          · rw [if_neg z2]; exact ⟨fun y => absurd ((uj p hp).mp y) z, fun y => absurd y z2⟩
      unfold chC
      rw [w1, w2, if_neg (nIn1 (by omega)), if_neg (nIn1 (by omega)), nI_clamp (by omega), nI_clamp (by omega)]
      rw [mup_mup, mup_comm _ _ _ _ _ _ ac, mup_mup, mup_comm _ _ _ _ _ _ (Ne.symm ac)]
      rw [mup_id σ 110 a (nI i) ((ui a ha).mpr rfl)]
      exact mup_id _ _ _ _ ((uj c hc).mpr rfl)
end LW
