/-! THE CLASS's CALLS: copy, taken -/
set_option maxRecDepth 100000
def tyS (s : Int32) : FieldType := if s = 0 then .byte else if s = 1 then .short else .int
/-- what the rows hold fits their kind -/
def WF (σ : ST) : Prop := ∀ s i, s < 4 → σ 45 s = 1 → i < (σ 47 s).toNatClampNeg → fits (tyS (σ 46 s)) (.int (σ 48 (40 * s + i))) = true
def cpD (σ : ST) (s i o j n : Nat) : ST := fun k => if k = 48 then (fun x => if 40 * o + j ≤ x ∧ x < 40 * o + j + n then σ 48 (40 * s + i + (x - (40 * o + j))) else σ 48 x) else σ k
theorem tyS_z {t : Nat} (ht : t ≤ 2) : ztys[rty (nI t)]? = some (tyS (nI t)) ∧ refKind (tyS (nI t)) = false := by
  have : t = 0 ∨ t = 1 ∨ t = 2 := by omega
  unfold tyS
  rcases this with rfl | rfl | rfl
  · rw [show rty (nI 0) = 1 by decide, if_pos (show nI 0 = 0 by decide)]
    exact ⟨rfl, rfl⟩
  · rw [show rty (nI 1) = 2 by decide, if_neg (show ¬ nI 1 = 0 by decide), if_pos (show nI 1 = 1 by decide)]
    exact ⟨rfl, rfl⟩
  · rw [show rty (nI 2) = 0 by decide, if_neg (show ¬ nI 2 = 0 by decide), if_neg (show ¬ nI 2 = 1 by decide)]
    exact ⟨rfl, rfl⟩
theorem sort_z {t : Nat} (ht : t ≤ 2) : (if rty (nI t) = 1 then (0 : Int32) else if rty (nI t) = 2 then 1 else 2) = nI t := by
  have : t = 0 ∨ t = 1 ∨ t = 2 := by omega
  rcases this with rfl | rfl | rfl <;> decide
section CC2
variable {f : Nat} {sa : Nat → Nat} {x : Nat} {ca : Nat → Nat} {Md : Nat → Prop} {b0 : zH} {G : TG} {pa : Nat → Nat} {rw : Nat → Option Nat} {σ σ' : ST} {h : zH} {K : Int32 → zH → Prop}
theorem C_sort (hH : WH σ) (hh : Ch sa x ca Md b0 G pa rw σ h) {s : Nat} (hs : s < 4) (h1 : σ 45 s ≠ 0) (kk : K (σ 46 s) h) : zf0_sortOf f h (rw s) K := by
  obtain ⟨a, g, r1, r2, r3⟩ := C_row hh hs h1
  rcases hH s hs with h0 | ⟨-, ⟨n, hn40, en⟩, t, ht, et⟩
  · exact absurd h0 h1
  · unfold zf0_sortOf zrw
    refine Or.inr ⟨a, _, _, g, r1, r2, rty3 _, ?_⟩
    show K (if rty (σ 46 s) = 1 then 0 else if rty (σ 46 s) = 2 then 1 else 2) h
    rw [et, sort_z ht, ← et]
    exact kk
theorem C_len (hh : Ch sa x ca Md b0 G pa rw σ h) {s : Nat} (hs : s < 4) (h1 : σ 45 s ≠ 0) {c d : Nat} {X1 X3 : zH → Prop} (kk : K (nI (σ 47 s).toNatClampNeg) h) : zf0_lengthOf f h c d (rw s) (σ 46 s) K X1 X3 := by
  obtain ⟨a, g, r1, r2, r3⟩ := C_row hh hs h1
  unfold zf0_lengthOf zrw
  refine Or.inr ⟨a, _, _, g, r1, r2, rty3 _, ?_⟩
  show (if rty (σ 46 s) = zty3 (σ 46 s) then K (Int32.ofNat (σ 47 s).toNatClampNeg) h else zbx c d (X3 h))
  rw [if_pos (show rty (σ 46 s) = zty3 (σ 46 s) from rfl)]
  exact kk
theorem C_cpD (hn : nP σ ≤ 6) (hH : WH σ) (hF : WF σ) (hh : Ch sa x ca Md b0 G pa rw σ h) {s o a c ii jj nn : Nat} (hs : s < 4) (ho : o < 4) (h1 : σ 45 s = 1) (h2 : σ 45 o = 1) (e46 : σ 46 s = σ 46 o) (ea : σ 47 s = nI a) (ha : a ≤ 40) (ec : σ 47 o = nI c) (hc : c ≤ 40) (l1 : ii + nn ≤ a) (l2 : jj + nn ≤ c) {P : zH → Prop} (kk : ∀ h', Ch sa x ca Md b0 G pa rw (cpD σ s ii o jj nn) h' → P h') : cpI h (rw s) (nI ii) (rw o) (nI jj) (nI nn) P := by
  have h1' : σ 45 s ≠ 0 := by rw [h1]; decide
  have h2' : σ 45 o ≠ 0 := by rw [h2]; decide
  obtain ⟨a1, g1, r1, r2, r3⟩ := C_row hh hs h1'
  obtain ⟨a2, g2, q1, q2, q3⟩ := C_row hh ho h2'
  have la : (σ 47 s).toNatClampNeg = a := by rw [ea, nI_clamp (by omega)]
  have lc : (σ 47 o).toNatClampNeg = c := by rw [ec, nI_clamp (by omega)]
  obtain ⟨t, ht, et⟩ : ∃ t : Nat, t ≤ 2 ∧ σ 46 o = nI t := by
    rcases hH o ho with z | ⟨-, -, z⟩
    · exact absurd z h2'
    · exact z
  obtain ⟨z1, z2⟩ := tyS_z ht
  rw [← et] at z1 z2
  have ci : (nI ii).toNatClampNeg = ii := nI_clamp (by omega)
  have cj : (nI jj).toNatClampNeg = jj := nI_clamp (by omega)
  have cn : (nI nn).toNatClampNeg = nn := nI_clamp (by omega)
  rw [e46] at r2
  refine ⟨a1, a2, rty (σ 46 o), (σ 47 s).toNatClampNeg, (σ 47 o).toNatClampNeg, tyS (σ 46 o), g1, g2, r1, q1, z1, z2, r2, q2, nI_pos (by omega), nI_pos (by omega), nI_pos (by omega), by rw [ci, cn, la]; exact l1, by rw [cj, cn, lc]; exact l2, fun i hi => ?_, ?_⟩
  · rw [ci, cn] at *
    rw [r3 _ (by omega), ← e46]
    exact hF s _ hs h1 (by omega)
  · rw [ci, cj, cn]
    refine kk _ (C_rowset hn hH hh ho h2' q1 (fun k hk => if_neg hk) (fun i hi => ?_) (fun s' i a3 a4 a5 => ?_))
    · show (if 40 * o + jj ≤ 40 * o + i ∧ 40 * o + i < 40 * o + jj + nn then σ 48 (40 * s + ii + (40 * o + i - (40 * o + jj))) else σ 48 (40 * o + i)) = va_cpy g1 g2 ii jj nn i
      by_cases c : jj ≤ i ∧ i < jj + nn
      · rw [if_pos (by omega), pk_cpy_in c.1 c.2, r3 _ (by omega)]
        exact congrArg (σ 48) (by omega)
      · rw [if_neg (by omega), pk_cpy_out (by omega), q3 _ hi]
    · show (if 40 * o + jj ≤ 40 * s' + i ∧ 40 * s' + i < 40 * o + jj + nn then σ 48 (40 * s + ii + (40 * s' + i - (40 * o + jj))) else σ 48 (40 * s' + i)) = σ 48 (40 * s' + i)
      rw [if_neg (by omega)]
theorem D_copy (hn : nP σ ≤ 6) (hH : WH σ) (hF : WF σ) (hh : Ch sa x ca Md b0 G pa rw σ h) {mc ms : Nat} {s i o j n : Int32} (k0 : ¬ ((0 ≤ s.toInt ∧ s.toInt ≤ 3) ∧ (0 ≤ o.toInt ∧ o.toInt ≤ 3)) → K (-2) h) (k11 : ∀ sn on_ : Nat, sn < 4 → s = nI sn → on_ < 4 → o = nI on_ → (σ 45 sn = 0 ∨ σ 45 on_ = 0) → K (-11) h) (k13 : ∀ sn on_ : Nat, sn < 4 → s = nI sn → on_ < 4 → o = nI on_ → σ 45 sn = 1 → σ 45 on_ = 1 → ¬ σ 46 sn = σ 46 on_ → K (-13) h) (k12 : ∀ sn on_ a c : Nat, sn < 4 → s = nI sn → on_ < 4 → o = nI on_ → σ 45 sn = 1 → σ 45 on_ = 1 → σ 46 sn = σ 46 on_ → σ 47 sn = nI a → a ≤ 40 → σ 47 on_ = nI c → c ≤ 40 → ¬ (0 ≤ n.toInt ∧ 0 ≤ i.toInt ∧ 0 ≤ j.toInt ∧ i.toInt + n.toInt ≤ a ∧ j.toInt + n.toInt ≤ c) → K (-12) h) (kk : ∀ sn on_ a c ii jj nn : Nat, sn < 4 → s = nI sn → on_ < 4 → o = nI on_ → σ 45 sn = 1 → σ 45 on_ = 1 → σ 46 sn = σ 46 on_ → σ 47 sn = nI a → a ≤ 40 → σ 47 on_ = nI c → c ≤ 40 → n = nI nn → i = nI ii → j = nI jj → ii + nn ≤ a → jj + nn ≤ c → ∀ h', Ch sa x ca Md b0 G pa rw (cpD σ sn ii on_ jj nn) h' → K (nI nn) h') : zf0_copy f h mc ms (some x) s i o j n K := by
  unfold zf0_copy
  rw [q_sh0]
  simp only [ite10, ifn]
  by_cases c1 : 0 ≤ s.toInt ∧ s.toInt ≤ 3
  · rw [if_pos c1, q_sh0]
    simp only [ite10, ifn]
    by_cases c2 : 0 ≤ o.toInt ∧ o.toInt ≤ 3
    · rw [if_pos c2]
      obtain ⟨sn, hsn, -, rfl, -⟩ := nI_bt (x := s) (u := 3) c1
      obtain ⟨on_, hon, -, rfl, -⟩ := nI_bt (x := o) (u := 3) c2
      have hsn : sn < 4 := by omega
      have hon : on_ < 4 := by omega
      simp only [zcQ hh, C_t34 hh hsn, C_t34 hh hon, C_sh hh hsn, C_sh hh hon]
      rcases hH sn hsn with h0 | ⟨h1, ⟨a, ha40, ea⟩, t, ht, et⟩
      · rw [if_pos (C_rown hh hsn h0)]
        exact k11 sn on_ hsn rfl hon rfl (Or.inl h0)
      · have h1' : σ 45 sn ≠ 0 := by rw [h1]; decide
        rw [if_neg (show ¬ rw sn = none from by obtain ⟨a, g, r1, -⟩ := C_row hh hsn h1'; rw [r1]; simp)]
        rcases hH on_ hon with h0 | ⟨h2, ⟨c, hc40, ec⟩, t2, ht2, et2⟩
        · rw [if_pos (C_rown hh hon h0)]
          exact k11 sn on_ hsn rfl hon rfl (Or.inr h0)
        · have h2' : σ 45 on_ ≠ 0 := by rw [h2]; decide
          rw [if_neg (show ¬ rw on_ = none from by obtain ⟨a, g, r1, -⟩ := C_row hh hon h2'; rw [r1]; simp)]
          refine C_sort hH hh hsn h1' (C_sort hH hh hon h2' ?_)
          by_cases c46 : σ 46 sn = σ 46 on_
          · rw [if_pos c46]
            refine C_sort hH hh hsn h1' ⟨0, 0, Nat.zero_le _, Nat.zero_le _, C_len hh hsn h1' (C_sort hH hh hon h2' ⟨0, 0, Nat.zero_le _, Nat.zero_le _, C_len hh hon h2' ?_⟩)⟩
            rw [ea, ec, nI_clamp (by omega), nI_clamp (by omega)]
            have k12 := k12 sn on_ a c hsn rfl hon rfl h1 h2 c46 ea ha40 ec hc40
            have neg : ∀ {y : Int32}, y < 0 → ¬ 0 ≤ y.toInt := fun {y} z => by
              rw [Int32.lt_iff_toInt_lt] at z
              have e0 : (0 : Int32).toInt = 0 := rfl
              omega
            by_cases d1 : n < 0
            · rw [if_pos d1]; exact k12 (fun z => neg d1 z.1)
            · rw [if_neg d1]
              by_cases d2 : i < 0
              · rw [if_pos d2]; exact k12 (fun z => neg d2 z.2.1)
              · rw [if_neg d2]
                by_cases d3 : j < 0
                · rw [if_pos d3]; exact k12 (fun z => neg d3 z.2.2.1)
                · rw [if_neg d3]
                  obtain ⟨nn, hnn, rfl⟩ := nI_of d1
                  obtain ⟨ii, hii, rfl⟩ := nI_of d2
                  obtain ⟨jj, hjj, rfl⟩ := nI_of d3
                  rw [nI_toInt hnn, nI_toInt hii, nI_toInt hjj] at k12
                  by_cases d4 : a < ii
                  · rw [if_pos ((nI_ltI (by omega) (by omega)).mpr d4)]; exact k12 (by omega)
                  · rw [if_neg (fun z => d4 ((nI_ltI (by omega) (by omega)).mp z))]
                    by_cases d5 : c < jj
                    · rw [if_pos ((nI_ltI (by omega) (by omega)).mpr d5)]; exact k12 (by omega)
                    · rw [if_neg (fun z => d5 ((nI_ltI (by omega) (by omega)).mp z)), pk_sub (by omega), pk_sub (by omega)]
                      by_cases d6 : a - ii < nn
                      · rw [if_pos ((nI_ltI (by omega) (by omega)).mpr d6)]; exact k12 (by omega)
                      · rw [if_neg (fun z => d6 ((nI_ltI (by omega) (by omega)).mp z))]
                        by_cases d7 : c - jj < nn
                        · rw [if_pos ((nI_ltI (by omega) (by omega)).mpr d7)]; exact k12 (by omega)
                        · rw [if_neg (fun z => d7 ((nI_ltI (by omega) (by omega)).mp z))]
                          exact C_cpD hn hH hF hh hsn hon h1 h2 c46 ea ha40 ec hc40 (by omega) (by omega) (kk sn on_ a c ii jj nn hsn rfl hon rfl h1 h2 c46 ea ha40 ec hc40 rfl rfl rfl (by omega) (by omega))
          · rw [if_neg c46]
            exact k13 sn on_ hsn rfl hon rfl h1 h2 c46
    · rw [if_neg c2]
      exact k0 (fun z => c2 z.2)
  · rw [if_neg c1]
    exact k0 (fun z => c1 z.1)
end CC2
