/-! THE LAWS: two openings changed -/
set_option maxRecDepth 100000
def swT (σ : ST) (i j : Nat) : ST := fun k => if k = 9 then swS σ i j 9 else chC σ (nI i) (nI j) k
section LX
variable {G : TG} {σ : ST}
theorem qst_of {σ' : ST} (h4 : σ' 4 = σ 4) (h9 : σ' 9 = σ 9) (h11 : σ' 11 = σ 11) (h12 : σ' 12 = σ 12) : qst G σ' = qst G σ := by
  unfold qst
  exact fo_congr _ _ _ fun k a _ _ => by rw [h9, qr_of h4 h11 h12]
theorem bri_of {σ' : ST} (h4 : σ' 4 = σ 4) (h9 : σ' 9 = σ 9) (h10 : σ' 10 = σ 10) (h11 : σ' 11 = σ 11) (h12 : σ' 12 = σ 12) : bri G σ' = bri G σ := by
  unfold bri
  refine fo_congr _ _ _ fun k a _ _ => ?_
  unfold si siX ab
  rw [h9, h12, sm_of h4 h10 h11]
theorem ch_110 (hW : WS σ) (hI : Iv σ) {i j : Nat} (hi : i < 4) (hj : j < 4) (hij : i < j) {p : Nat} (hp : p < nP σ) : chC σ (nI i) (nI j) 110 p = if σ 110 p = nI i then nI j else if σ 110 p = nI j then nI i else σ 110 p := by
  have hn := (nP_eq hW).2
  have ne : nI i ≠ nI j := fun z => by have := (nI_eq (by omega) (by omega)).mp z; omega
  have uni : ∀ {o a : Nat}, o < 4 → a < nP σ → σ 9 o = nI a → (σ 110 p = nI o ↔ p = a) := fun {o a} ho ha h => ⟨fun z => by
    have := (hI.1 o p ho hp).mpr z
    rw [h] at this
    exact ((nI_eq (by omega) (by omega)).mp this).symm, fun z => by rw [z]; exact (hI.1 o a ho ha).mp h⟩
  have non : ∀ {o : Nat}, o < 4 → σ 9 o = -1 → σ 110 p ≠ nI o := fun {o} ho h z => by
    have := (hI.1 o p ho hp).mpr z
    rw [h] at this
    exact nIn1 (by omega) this.symm
  unfold chC
  rw [wh_law hW hI hi, wh_law hW hI hj]
  rcases hW.2.2.2.2.2.2.1 i hi with wi | ⟨a, ha, wi⟩
  · rw [wi, if_neg (non hi wi), if_pos rfl]
    rcases hW.2.2.2.2.2.2.1 j hj with wj | ⟨c, hc, wj⟩
    · rw [wj, if_pos rfl, if_neg (non hj wj)]
    · rw [wj, if_neg (show ¬ nI c = -1 from nIn1 (by omega)), nI_clamp (by omega), mup_kk]
      by_cases z : p = c
      · rw [if_pos z, if_pos ((uni hj hc wj).mpr z)]
      · rw [if_neg z, if_neg (fun y => z ((uni hj hc wj).mp y))]
  · rw [wi, if_neg (show ¬ nI a = -1 from nIn1 (by omega)), nI_clamp (by omega)]
    rcases hW.2.2.2.2.2.2.1 j hj with wj | ⟨c, hc, wj⟩
    · rw [wj, if_pos rfl, mup_kk]
      by_cases z : p = a
      · rw [if_pos z, if_pos ((uni hi ha wi).mpr z)]
      · rw [if_neg z, if_neg (fun y => z ((uni hi ha wi).mp y)), if_neg (non hj wj)]
    · rw [wj, if_neg (show ¬ nI c = -1 from nIn1 (by omega)), nI_clamp (by omega), mup_kk, mup_kk]
      by_cases z : p = c
      · have y := (uni hj hc wj).mpr z
        rw [if_pos z, y, if_neg (fun w => ne w.symm), if_pos rfl]
      · rw [if_neg z]
        by_cases z2 : p = a
        · rw [if_pos z2, if_pos ((uni hi ha wi).mpr z2)]
        · rw [if_neg z2, if_neg (fun y => z2 ((uni hi ha wi).mp y)), if_neg (fun y => z ((uni hj hc wj).mp y))]
theorem swT_9 {i j : Nat} (o : Nat) : swT σ i j 9 o = if o = j then σ 9 i else if o = i then σ 9 j else σ 9 o := by
  show mup (mup σ 9 i (σ 9 j)) 9 j (σ 9 i) 9 o = _
  rw [mup_kk, mup_kk]
theorem swT_k {i j k : Nat} (h9 : k ≠ 9) (h : k ≠ 110) : swT σ i j k = σ k := by
  unfold swT
  rw [if_neg h9, chC_k h]
theorem WS_swT (hW : WS σ) {i j : Nat} (hi : i < 4) (hj : j < 4) : WS (swT σ i j) := by
  have en : nP (swT σ i j) = nP σ := by unfold nP; rw [swT_k (by decide) (by decide)]
  obtain ⟨w1, w2, w3, w4, w5, w6, w7, w8⟩ := hW
  unfold WS
  rw [en, swT_k (k := 13) (by decide) (by decide), swT_k (k := 3) (by decide) (by decide), swT_k (k := 4) (by decide) (by decide), swT_k (k := 6) (by decide) (by decide), swT_k (k := 1) (by decide) (by decide), swT_k (k := 5) (by decide) (by decide), swT_k (k := 2) (by decide) (by decide), swT_k (k := 10) (by decide) (by decide)]
  refine ⟨w1, w2, w3, w4, w5, w6, fun o' ho' => ?_, w8⟩
  rw [swT_9]
  by_cases c : o' = j
  · rw [if_pos c]; exact w7 i hi
  · rw [if_neg c]
    by_cases c2 : o' = i
    · rw [if_pos c2]; exact w7 j hj
    · rw [if_neg c2]; exact w7 o' ho'
theorem Iv_swT (hW : WS σ) (hI : Iv σ) {i j : Nat} (hi : i < 4) (hj : j < 4) (hij : i < j) : Iv (swT σ i j) := by
  have hn := (nP_eq hW).2
  have en : nP (swT σ i j) = nP σ := by unfold nP; rw [swT_k (by decide) (by decide)]
  have e110 : ∀ p, p < nP σ → swT σ i j 110 p = if σ 110 p = nI i then nI j else if σ 110 p = nI j then nI i else σ 110 p := fun p hp => ch_110 hW hI hi hj hij hp
  have eqI : ∀ {a b : Nat}, a < 4 → b < 4 → (nI a = nI b ↔ a = b) := fun ha hb => nI_eq (by omega) (by omega)
  refine ⟨fun o p ho hp => ?_, fun p hp => ?_, fun p hp => ?_⟩
  · rw [en] at hp
    have hi' := hI.1 i p hi hp
    have hj' := hI.1 j p hj hp
    have ho' := hI.1 o p ho hp
    rw [e110 p hp, swT_9]
    by_cases c1 : σ 110 p = nI i
    · rw [if_pos c1, eqI hj ho]
      have m1 : ¬ σ 9 j = nI p := fun z => by have := hj'.mp z; rw [c1] at this; have := (eqI hi hj).mp this; omega
      by_cases d : o = j
      · rw [if_pos d]; exact ⟨fun _ => d.symm, fun _ => hi'.mpr c1⟩
      · rw [if_neg d]
        by_cases d2 : o = i
        · rw [if_pos d2]; exact ⟨fun z => absurd z m1, fun z => absurd z.symm d⟩
        · rw [if_neg d2]
          refine ⟨fun z => ?_, fun z => absurd z.symm d⟩
          have := ho'.mp z
          rw [c1] at this
          exact absurd ((eqI hi ho).mp this).symm d2
    · rw [if_neg c1]
      by_cases c2 : σ 110 p = nI j
      · rw [if_pos c2, eqI hi ho]
        by_cases d : o = j
        · rw [if_pos d]
          exact ⟨fun z => absurd (hi'.mp z) c1, fun z => by omega⟩
        · rw [if_neg d]
          by_cases d2 : o = i
          · rw [if_pos d2]; exact ⟨fun _ => d2.symm, fun _ => hj'.mpr c2⟩
          · rw [if_neg d2]
            refine ⟨fun z => ?_, fun z => absurd z.symm d2⟩
            have := ho'.mp z
            rw [c2] at this
            exact absurd ((eqI hj ho).mp this).symm d
      · rw [if_neg c2]
        by_cases d : o = j
        · rw [if_pos d, d]
          exact ⟨fun z => absurd (hi'.mp z) c1, fun z => absurd z c2⟩
        · rw [if_neg d]
          by_cases d2 : o = i
          · rw [if_pos d2, d2]; exact ⟨fun z => absurd (hj'.mp z) c2, fun z => absurd z c1⟩
          · rw [if_neg d2]; exact ho'
  · rw [en] at hp
    rw [e110 p hp]
    by_cases c1 : σ 110 p = nI i
    · rw [if_pos c1]; exact Or.inr ⟨j, hj, rfl⟩
    · rw [if_neg c1]
      by_cases c2 : σ 110 p = nI j
      · rw [if_pos c2]; exact Or.inr ⟨i, hi, rfl⟩
      · rw [if_neg c2]; exact hI.2.1 p hp
  · rw [en] at hp
    unfold ab
    rw [swT_k (by decide) (by decide), swT_k (by decide) (by decide)]
    exact hI.2.2 p hp
theorem sw_law (hW : WS σ) (hI : Iv σ) {i j : Nat} (hi : i < 4) (hj : j < 4) (hij : i < j) : swW G (chC σ (nI i) (nI j)) = swV G (swS σ i j) := by
  have h1 : swW G (swT σ i j) = swV G (swT σ i j) := by
    unfold swW swV
    rw [qst_law (WS_swT hW hi hj) (Iv_swT hW hI hi hj hij), bri_law (WS_swT hW hi hj) (Iv_swT hW hI hi hj hij)]
  have ks : ∀ k, k ≠ 9 → k ≠ 110 → swT σ i j k = swS σ i j k := fun k h9 h => (swT_k h9 h).trans ((mup_k h9).trans (mup_k h9)).symm
  have h2 : swV G (swT σ i j) = swV G (swS σ i j) := by
    unfold swV
    rw [qst_of (ks 4 (by decide) (by decide)) rfl (ks 11 (by decide) (by decide)) (ks 12 (by decide) (by decide)), bri_of (ks 4 (by decide) (by decide)) rfl (ks 10 (by decide) (by decide)) (ks 11 (by decide) (by decide)) (ks 12 (by decide) (by decide))]
  have h3 : swW G (swT σ i j) = swW G (chC σ (nI i) (nI j)) := rfl
  rw [← h3, h1, h2]
end LX
