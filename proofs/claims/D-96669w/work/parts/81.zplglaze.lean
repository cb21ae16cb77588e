/-! THE LAWS: glaze keeps the relation -/
set_option maxRecDepth 100000
def glT (σ : ST) (oo : Nat) (p : Int32) : ST := fun k => if k = 9 then mup (glS σ p) 9 oo p 9 else glC σ (nI oo) p k
section LG
variable {G : TG} {σ : ST}
theorem glS_9 (p : Int32) {j : Nat} (hj : j < 4) : glS σ p 9 j = if p = -1 then σ 9 j else if σ 9 j = p then -1 else σ 9 j := by
  have : j = 0 ∨ j = 1 ∨ j = 2 ∨ j = 3 := by omega
  rcases this with rfl | rfl | rfl | rfl <;> rfl
theorem glT_9 (oo : Nat) (p : Int32) {j : Nat} (hj : j < 4) : glT σ oo p 9 j = if j = oo then p else if p = -1 then σ 9 j else if σ 9 j = p then -1 else σ 9 j := by
  show mup (glS σ p) 9 oo p 9 j = _
  rw [mup_kk, glS_9 p hj]
theorem gl_110 (hW : WS σ) (hI : Iv σ) {oo : Nat} (ho : oo < 4) {p : Int32} (hp : p = -1 ∨ ∃ pn : Nat, pn < nP σ ∧ p = nI pn) {q : Nat} (hq : q < nP σ) : glT σ oo p 110 q = if p = nI q then nI oo else if σ 110 q = nI oo then -1 else σ 110 q := by
  have hn := (nP_eq hW).2
  have base : (if whC σ (nI oo) = -1 then σ else mup σ 110 (whC σ (nI oo)).toNatClampNeg (-1)) 110 q = if σ 110 q = nI oo then -1 else σ 110 q := by
    rw [wh_law hW hI ho]
    have a := hI.1 oo q ho hq
    rcases hW.2.2.2.2.2.2.1 oo ho with wi | ⟨c, hc, wi⟩
    · rw [wi, if_pos rfl, if_neg (fun z => by have := a.mpr z; rw [wi] at this; exact nIn1 (by omega) this.symm)]
    · rw [wi, if_neg (show ¬ nI c = -1 from nIn1 (by omega)), nI_clamp (by omega), mup_kk]
      by_cases z : q = c
      · rw [if_pos z, if_pos (a.mp (by rw [wi, z]))]
      · rw [if_neg z, if_neg (fun y => z (by have := a.mpr y; rw [wi] at this; exact ((nI_eq (by omega) (by omega)).mp this).symm))]
  show glC σ (nI oo) p 110 q = _
  unfold glC
  rcases hp with rfl | ⟨pn, hpn, rfl⟩
  · rw [if_pos rfl, if_neg (show ¬ (-1 : Int32) = nI q from fun z => nIn1 (by omega) z.symm)]
    exact base
  · rw [if_neg (show ¬ nI pn = -1 from nIn1 (by omega)), nI_clamp (by omega), mup_kk]
    by_cases z : q = pn
    · rw [if_pos z, if_pos (by rw [z])]
    · rw [if_neg z, if_neg (fun y => z ((nI_eq (by omega) (by omega)).mp y).symm)]
      exact base
theorem glC_k {o p : Int32} {k : Nat} (hk : k ≠ 110) : glC σ o p k = σ k := by
  unfold glC
  by_cases c : p = -1
  · rw [if_pos c]
    by_cases c2 : whC σ o = -1
    · rw [if_pos c2]
    · rw [if_neg c2, mup_k hk]
  · rw [if_neg c, mup_k hk]
    by_cases c2 : whC σ o = -1
    · rw [if_pos c2]
    · rw [if_neg c2, mup_k hk]
theorem glT_k {oo : Nat} {p : Int32} {k : Nat} (h9 : k ≠ 9) (hk : k ≠ 110) : glT σ oo p k = σ k := by
  unfold glT
  rw [if_neg h9, glC_k hk]
theorem Iv_glT (hW : WS σ) (hI : Iv σ) {oo : Nat} (ho : oo < 4) {p : Int32} (hp : p = -1 ∨ ∃ pn : Nat, pn < nP σ ∧ p = nI pn) : Iv (glT σ oo p) := by
  have hn := (nP_eq hW).2
  have en : nP (glT σ oo p) = nP σ := by unfold nP; rw [glT_k (by decide) (by decide)]
  refine ⟨fun j q hj hq => ?_, fun q hq => ?_, fun q hq => ?_⟩
  · rw [en] at hq
    have a := hI.1 j q hj hq
    rw [gl_110 hW hI ho hp hq, glT_9 oo p hj]
    by_cases c1 : p = nI q
    · rw [if_pos c1]
      by_cases c2 : j = oo
      · rw [if_pos c2, c2]; exact ⟨fun _ => rfl, fun _ => c1⟩
      · rw [if_neg c2, if_neg (fun z => by rw [z] at c1; exact nIn1 (by omega) c1.symm)]
        refine ⟨fun z => ?_, fun z => absurd ((nI_eq (by omega) (by omega)).mp z).symm c2⟩
        by_cases c3 : σ 9 j = p
        · rw [if_pos c3] at z; exact absurd z.symm (nIn1 (by omega))
        · rw [if_neg c3] at z; exact absurd (z.trans c1.symm) c3
    · rw [if_neg c1]
      by_cases c2 : j = oo
      · rw [if_pos c2, c2]
        refine ⟨fun z => absurd z c1, fun z => ?_⟩
        by_cases c3 : σ 110 q = nI oo
        · rw [if_pos c3] at z; exact absurd z.symm (nIn1 (by omega))
        · rw [if_neg c3] at z; exact absurd z c3
      · rw [if_neg c2]
        have l : (if p = -1 then σ 9 j else if σ 9 j = p then -1 else σ 9 j) = nI q ↔ σ 9 j = nI q := by
          by_cases d : p = -1
          · rw [if_pos d]
          · rw [if_neg d]
            by_cases d2 : σ 9 j = p
            · rw [if_pos d2, d2]; exact ⟨fun z => absurd z.symm (nIn1 (by omega)), fun z => absurd z c1⟩
            · rw [if_neg d2]
        rw [l, a]
        by_cases d : σ 110 q = nI oo
        · rw [if_pos d, d]
          exact ⟨fun z => absurd ((nI_eq (by omega) (by omega)).mp z).symm c2, fun z => absurd z.symm (nIn1 (by omega))⟩
        · rw [if_neg d]
  · rw [en] at hq
    rw [gl_110 hW hI ho hp hq]
    by_cases c1 : p = nI q
    · rw [if_pos c1]; exact Or.inr ⟨oo, ho, rfl⟩
    · rw [if_neg c1]
      by_cases d : σ 110 q = nI oo
      · rw [if_pos d]; exact Or.inl rfl
      · rw [if_neg d]; exact hI.2.1 q hq
  · rw [en] at hq
    unfold ab
    rw [glT_k (by decide) (by decide), glT_k (by decide) (by decide)]
    exact hI.2.2 q hq
end LG
