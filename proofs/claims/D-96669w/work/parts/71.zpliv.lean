/-! THE LAWS: the relation between the reference's openings and the panes' own -/
set_option maxRecDepth 100000
def Iv (σ : ST) : Prop := (∀ o p : Nat, o < 4 → p < nP σ → (σ 9 o = nI p ↔ σ 110 p = nI o)) ∧ (∀ p, p < nP σ → σ 110 p = -1 ∨ ∃ o : Nat, o < 4 ∧ σ 110 p = nI o) ∧ (∀ p, p < nP σ → σ 111 p = ab σ (nI p))
theorem fi_none {P : Nat → Bool} : ∀ j i, i + j < 1000 → fi P j i = -1 → ∀ p, i ≤ p → p < i + j → P p = false := by
  intro j
  induction j with
  | zero => intro i _ _ p h1 h2; omega
  | succ j ih =>
    intro i hi h p h1 h2
    unfold fi at h
    by_cases c : P i = true
    · rw [if_pos c] at h
      exact absurd h (nIn1 (by omega))
    · rw [if_neg c] at h
      by_cases e : p = i
      · rw [e]; exact Bool.eq_false_iff.mpr c
      · exact ih (i + 1) (by omega) h p (by omega) (by omega)
section LV
variable {G : TG} {σ : ST}
theorem wh_law (hW : WS σ) (hI : Iv σ) {o : Nat} (ho : o < 4) : whC σ (nI o) = σ 9 o := by
  have hn := (nP_eq hW).2
  rcases whC_or σ (nI o) with z | ⟨p, p1, p2, p3⟩
  · rw [z]
    rcases hW.2.2.2.2.2.2.1 o ho with y | ⟨p, p1, p2⟩
    · exact y.symm
    · have := (hI.1 o p ho p1).mp p2
      have q := fi_none (nP σ) 0 (by omega) z p (by omega) (by omega)
      rw [this] at q
      exact absurd rfl (of_decide_eq_false q)
  · rw [p2]
    exact ((hI.1 o p ho p1).mpr p3).symm
theorem wh_own (hW : WS σ) (hI : Iv σ) {p : Nat} (hp : p < nP σ) : wh σ p = σ 110 p := by
  have hn := (nP_eq hW).2
  unfold wh
  rcases fi_or (fun o => decide (σ 9 o = nI p)) 4 0 with z | ⟨o, o1, o2, o3, o4⟩
  · rw [z]
    rcases hI.2.1 p hp with y | ⟨o, ho, eo⟩
    · exact y.symm
    · have := (hI.1 o p ho hp).mpr eo
      have q := fi_none 4 0 (by omega) z o (by omega) (by omega)
      exact absurd this (of_decide_eq_false q)
  · rw [o3]
    exact ((hI.1 o p (by omega) hp).mp (of_decide_eq_true o4)).symm
theorem ab_own (hW : WS σ) (hI : Iv σ) {o : Nat} (ho : o < 4) (h : σ 9 o ≠ -1) : σ 111 (σ 9 o).toNatClampNeg = ab σ (σ 9 o) := by
  have hn := (nP_eq hW).2
  rcases hW.2.2.2.2.2.2.1 o ho with y | ⟨p, p1, p2⟩
  · exact absurd y h
  · rw [p2, nI_clamp (by omega)]
    exact hI.2.2 p p1
theorem si_law (hW : WS σ) (hI : Iv σ) {o : Nat} (ho : o < 4) : siC G σ o = si G σ o := by
  unfold siC si siX
  rw [wh_law hW hI ho]
  by_cases c : σ 9 o = -1
  · rw [if_pos c, if_pos c]
  · rw [if_neg c, if_neg c, ab_own hW hI ho c]
theorem bri_law (hW : WS σ) (hI : Iv σ) : briC G σ = bri G σ := by
  unfold briC bri
  exact fo_congr _ _ _ fun k a _ h => by rw [si_law hW hI (by omega)]
theorem qr_law (hW : WS σ) (hI : Iv σ) {o o2 : Nat} (ho : o < 4) (ho2 : o2 < 4) (t : Int32) : qrC G σ (whC σ (nI o)) (whC σ (nI o2)) t = qr G σ (σ 9 o) (σ 9 o2) t := by
  rw [wh_law hW hI ho, wh_law hW hI ho2]
  unfold qrC qr qrX
  by_cases c : σ 9 o = -1
  · rw [if_pos c, if_pos c]
  · rw [if_neg c, if_neg c]
    by_cases c2 : σ 9 o2 = -1
    · rw [if_pos c2, if_pos c2]
    · rw [if_neg c2, if_neg c2, ab_own hW hI ho c, ab_own hW hI ho2 c2]
theorem qst_law (hW : WS σ) (hI : Iv σ) : qstC G σ = qst G σ := by
  unfold qstC qst
  exact fo_congr _ _ _ fun k a _ h => by rw [qr_law hW hI (by omega) (by omega)]
theorem me_law (hW : WS σ) (hI : Iv σ) {o : Nat} (ho : o < 4) : decide (siC G σ o < σ 8 o) = decide (si G σ o < σ 8 o) := by
  rw [si_law hW hI ho]
/-- the tables of the two searches agree -/
theorem sm_tab (hI : Iv σ) {p i : Nat} (hp : p < nP σ) (h : ab σ (nI p) = 0) : smC G σ p i = sm G σ p (nI i) := by
  unfold smC
  rw [hI.2.2 p hp, h, if_neg (by decide)]
theorem ht_tab (hW : WS σ) (hI : Iv σ) {q p i : Nat} (hq : q < nP σ) (hp : p < nP σ) : htC G σ q p i = htS G σ q p i := by
  have hn := (nP_eq hW).2
  unfold htC htS
  by_cases c : q = p
  · rw [if_pos c, if_pos c]
  · rw [if_neg c, if_neg c]
    unfold qrC qr
    rw [nI_clamp (by omega), nI_clamp (by omega), hI.2.2 q hq, hI.2.2 p hp]
end LV
