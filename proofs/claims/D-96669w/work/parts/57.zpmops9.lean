/-! THE REFERENCE's CALLS: brightest, cheapest, settle, copy -/
set_option maxRecDepth 100000
/-- the house of four digits, laid -/
def stF : Nat → ST × Int32 → ST × Int32 := fun k a => (mup a.1 9 (3 - k) ((a.2 - a.2 / 10 * 10) - 1), a.2 / 10)
def stS (σ : ST) (digits : Int32) : ST := (fo stF 4 0 (σ, digits)).1
section M9
variable {f : Nat} {m : Nat} {ad : Nat → Nat} {b : zH} {σ : ST} {h : zH} {K : Int32 → zH → Prop}
theorem O_brightest (ok : mOk m ad) (hf : 400 ≤ f) (hW : WS σ) (hh : Mh m ad b σ h) {what : Int32} (k0 : ¬ (0 ≤ what.toInt ∧ what.toInt ≤ 1) → K (-2) h) (kk : (0 ≤ what.toInt ∧ what.toInt ≤ 1) → ∀ σ1 h', Mh m ad b σ1 h' → offF σ1 σ → K (if what = 0 then (bestS (Gm σ) σ 0).2.1 else (bestS (Gm σ) σ 0).2.2) h') : zf8_brightest f h (some m) what K := by
  unfold zf8_brightest
  rw [q_inL 0 1 (by decide) (by decide)]
  simp only [ite10, ifn]
  by_cases c : 0 ≤ what.toInt ∧ what.toInt ≤ 1
  · rw [if_pos c]
    simp only [zmQ ok hh]
    refine L_finds ok hf hW hh fun σ1 h' hh' ho hB => ?_
    simp only [zmQ ok hh']
    have kk := kk c σ1 h' hh' ho
    rw [hB.2.1, hB.2.2]
    by_cases c0 : what = 0
    · rw [if_pos c0] at kk ⊢; exact kk
    · rw [if_neg c0] at kk ⊢; exact kk
  · rw [if_neg c]
    exact k0 c
theorem O_cheapest (ok : mOk m ad) (hf : 400 ≤ f) (hW : WS σ) (hh : Mh m ad b σ h) {what : Int32} (k0 : ¬ (0 ≤ what.toInt ∧ what.toInt ≤ 3) → K (-2) h) (kk : (0 ≤ what.toInt ∧ what.toInt ≤ 3) → ∀ σ1 h', Mh m ad b σ1 h' → offF σ1 σ → K (if what - what / 2 * 2 = 0 then (bestS (Gm σ) σ (if what < 2 then 1 else 2)).2.1 else if what = 1 then -(bestS (Gm σ) σ (if what < 2 then 1 else 2)).2.2 else (bestS (Gm σ) σ (if what < 2 then 1 else 2)).2.2) h') : zf8_cheapest f h (some m) what K := by
  unfold zf8_cheapest zj8_cheapest_26
  rw [q_inL 0 3 (by decide) (by decide)]
  simp only [ite10, ifn]
  by_cases c : 0 ≤ what.toInt ∧ what.toInt ≤ 3
  · rw [if_pos c]
    have kk := kk c
    have go : ∀ g : Int32, g = (if what < 2 then 1 else 2) → zrc h (some m) 13 (zf8_finds f h (some m) g fun h4 => if (what - what / 2 * 2) = 0 then (gfI h4 (some m) [13] 35 fun x7 => K x7 h4) else (if what = 1 then (gfI h4 (some m) [13] 36 fun x6 => K (-x6) h4) else (gfI h4 (some m) [13] 36 fun x5 => K x5 h4))) := by
      intro g hg
      rw [← hg] at kk
      simp only [zmQ ok hh]
      refine L_finds ok hf hW hh fun σ1 h' hh' ho hB => ?_
      simp only [zmQ ok hh']
      have kk := kk σ1 h' hh' ho
      rw [hB.2.1, hB.2.2]
      by_cases c0 : what - what / 2 * 2 = 0
      · rw [if_pos c0] at kk ⊢; exact kk
      · rw [if_neg c0] at kk ⊢
        by_cases c1 : what = 1
        · rw [if_pos c1] at kk ⊢; exact kk
        · rw [if_neg c1] at kk ⊢; exact kk
    by_cases c2 : what < 2
    · rw [if_pos c2]
      exact go 1 (by rw [if_pos c2])
    · rw [if_neg c2]
      exact go 2 (by rw [if_neg c2])
  · rw [if_neg c]
    exact k0 c
theorem O_settle (ok : mOk m ad) (hf : 400 ≤ f) (hW : WS σ) (hh : Mh m ad b σ h) (kk : ∀ σ1 h', offF σ1 σ → Mh m ad b (stS σ1 (bestS (Gm σ) σ 0).2.1) h' → K (bestS (Gm σ) σ 0).2.2 h') : zf8_settle f h (some m) K := by
  unfold zf8_settle
  simp only [zmQ ok hh]
  refine L_finds ok hf hW hh fun σ1 h' hh' ho hB => ?_
  simp only [zmQ ok hh']
  rw [hB.2.1]
  have go : ∀ (j k g : Nat) (v : Int32) (a : ST × Int32) (h : zH), k + j = 4 → j < g → (j ≠ 0 → v = nI (3 - k)) → (j = 0 → v = -1) → Mh m ad b a.1 h → a.1 36 = σ1 36 → (∀ h', Mh m ad b (fo stF j k a).1 h' → K (bestS (Gm σ) σ 0).2.2 h') → zl8_settle_12 f K g h (some m) a.2 v := by
    intro j
    induction j with
    | zero =>
      intro k g v a h h1 h2 _ hv hh h36 kk
      obtain ⟨g, rfl⟩ : ∃ g', g = g' + 1 := ⟨g - 1, by omega⟩
      show zb8_settle_12 f K (zl8_settle_12 f K g) h (some m) a.2 v
      unfold zb8_settle_12
      rw [hv rfl, if_pos (by decide)]
      simp only [zmQ ok hh]
      rw [h36, hB.2.2]
      exact kk h hh
    | succ j ih =>
      intro k g v a h h1 h2 hv _ hh h36 kk
      obtain ⟨g, rfl⟩ : ∃ g', g = g' + 1 := ⟨g - 1, by omega⟩
      show zb8_settle_12 f K (zl8_settle_12 f K g) h (some m) a.2 v
      unfold zb8_settle_12
      rw [hv (by omega), if_neg (nI_pos (by omega))]
      simp only [zmQ ok hh]
      refine Mst (n := 4) ok hh (by decide) (vp_in_nI (by omega) (by omega)) fun h3 hh3 => ?_
      rw [nI_clamp (by omega)] at hh3
      simp only [nm_eq]
      refine ih (k + 1) g _ (stF k a) h3 (by omega) (by omega) (fun z => ?_) (fun z => ?_) hh3 (show mup a.1 9 (3 - k) ((a.2 - a.2 / 10 * 10) - 1) 36 = σ1 36 from (mup_ne9 (by decide)).trans h36) kk
      · have : 3 - k = (3 - (k + 1)) + 1 := by omega
        rw [this, pk_m1]
      · have : 3 - k = 0 := by omega
        rw [this]
        decide
  exact go 4 0 f 3 (σ1, (bestS (Gm σ) σ 0).2.1) h' rfl (by omega) (fun _ => rfl) (fun z => by omega) hh' rfl fun h3 hh3 => kk σ1 h3 ho hh3
theorem O_copy (ok : mOk m ad) (hf : 400 ≤ f) (hH : WH σ) (hh : Mh m ad b σ h) {s i o j n : Int32} (k0 : ¬ ((0 ≤ s.toInt ∧ s.toInt ≤ 3) ∧ (0 ≤ o.toInt ∧ o.toInt ≤ 3)) → K (-2) h) (k11 : ∀ sn on_ : Nat, sn < 4 → s = nI sn → on_ < 4 → o = nI on_ → (σ 45 sn = 0 ∨ σ 45 on_ = 0) → K (-11) h) (k13 : ∀ sn on_ : Nat, sn < 4 → s = nI sn → on_ < 4 → o = nI on_ → σ 45 sn = 1 → σ 45 on_ = 1 → ¬ σ 46 sn = σ 46 on_ → K (-13) h) (k12 : ∀ sn on_ a c : Nat, sn < 4 → s = nI sn → on_ < 4 → o = nI on_ → σ 45 sn = 1 → σ 45 on_ = 1 → σ 46 sn = σ 46 on_ → σ 47 sn = nI a → a ≤ 40 → σ 47 on_ = nI c → c ≤ 40 → ¬ (0 ≤ n.toInt ∧ 0 ≤ i.toInt ∧ 0 ≤ j.toInt ∧ i.toInt + n.toInt ≤ a ∧ j.toInt + n.toInt ≤ c) → K (-12) h) (kk : ∀ sn on_ a c ii jj nn : Nat, sn < 4 → s = nI sn → on_ < 4 → o = nI on_ → σ 45 sn = 1 → σ 45 on_ = 1 → σ 46 sn = σ 46 on_ → σ 47 sn = nI a → a ≤ 40 → σ 47 on_ = nI c → c ≤ 40 → n = nI nn → i = nI ii → j = nI jj → ii + nn ≤ a → jj + nn ≤ c → ∀ h', Mh m ad b (cpS σ sn ii on_ jj nn (decide (sn = on_ ∧ ii < jj))) h' → K (nI nn) h') : zf8_copy f h (some m) s i o j n K := by
  have z0 : (0 : Int32).toInt = 0 := by decide
  unfold zf8_copy
  rw [q_sh8]
  simp only [ite10, ifn]
  by_cases c1 : 0 ≤ s.toInt ∧ s.toInt ≤ 3
  · rw [if_pos c1, q_sh8]
    simp only [ite10, ifn]
    by_cases c2 : 0 ≤ o.toInt ∧ o.toInt ≤ 3
    · rw [if_pos c2]
      obtain ⟨sn, hsn, rfl⟩ := opn_nat c1
      obtain ⟨on_, hon, rfl⟩ := opn_nat c2
      simp only [zmQ ok hh, nI_clamp (show sn < 2 ^ 31 by omega), nI_clamp (show on_ < 2 ^ 31 by omega)]
      refine ⟨vp_in_nI hsn (by omega), ?_⟩
      rcases hH sn hsn with z | ⟨z, ⟨a, ha, h47⟩, t, ht, h46⟩
      · rw [if_pos z]
        exact k11 sn on_ hsn rfl hon rfl (Or.inl z)
      rw [if_neg (by rw [z]; decide)]
      refine ⟨vp_in_nI hon (by omega), ?_⟩
      rcases hH on_ hon with y | ⟨y, ⟨c, hc, g47⟩, t2, ht2, g46⟩
      · rw [if_pos y]
        exact k11 sn on_ hsn rfl hon rfl (Or.inr y)
      rw [if_neg (by rw [y]; decide)]
      refine ⟨vp_in_nI hsn (by omega), vp_in_nI hon (by omega), ?_⟩
      by_cases cs : σ 46 sn = σ 46 on_
      · rw [if_pos cs]
        have k12 := k12 sn on_ a c hsn rfl hon rfl z y cs h47 ha g47 hc
        by_cases d1 : n < 0
        · rw [if_pos d1]
          exact k12 (fun w => by rw [Int32.lt_iff_toInt_lt, z0] at d1; omega)
        rw [if_neg d1]
        by_cases d2 : i < 0
        · rw [if_pos d2]
          exact k12 (fun w => by rw [Int32.lt_iff_toInt_lt, z0] at d2; omega)
        rw [if_neg d2]
        by_cases d3 : j < 0
        · rw [if_pos d3]
          exact k12 (fun w => by rw [Int32.lt_iff_toInt_lt, z0] at d3; omega)
        rw [if_neg d3]
        refine ⟨vp_in_nI hsn (by omega), ?_⟩
        rw [h47]
        rw [Int32.lt_iff_toInt_lt, z0] at d1 d2 d3
        have hnl := n.toInt_lt
        have hil := i.toInt_lt
        have hjl := j.toInt_lt
        have ea : (nI a - n).toInt = a - n.toInt := by rw [sub_toInt (by rw [nI_toInt (by omega)]; omega) (by rw [nI_toInt (by omega)]; omega), nI_toInt (by omega)]
        have ec : (nI c - n).toInt = c - n.toInt := by rw [sub_toInt (by rw [nI_toInt (by omega)]; omega) (by rw [nI_toInt (by omega)]; omega), nI_toInt (by omega)]
        by_cases d4 : nI a - n < i
        · rw [if_pos d4]
          rw [Int32.lt_iff_toInt_lt, ea] at d4
          exact k12 (fun w => by omega)
        rw [if_neg d4]
        refine ⟨vp_in_nI hon (by omega), ?_⟩
        rw [g47]
        by_cases d5 : nI c - n < j
        · rw [if_pos d5]
          rw [Int32.lt_iff_toInt_lt, ec] at d5
          exact k12 (fun w => by omega)
        rw [if_neg d5]
        rw [Int32.lt_iff_toInt_lt, ea] at d4
        rw [Int32.lt_iff_toInt_lt, ec] at d5
        obtain ⟨nn, n1, -, rfl, n2⟩ := nI_bt (x := n) (u := 40) ⟨by omega, by omega⟩
        obtain ⟨ii, i1, -, rfl, i2⟩ := nI_bt (x := i) (u := 40) ⟨by omega, by omega⟩
        obtain ⟨jj, j1, -, rfl, j2⟩ := nI_bt (x := j) (u := 40) ⟨by omega, by omega⟩
        have kk := kk sn on_ a c ii jj nn hsn rfl hon rfl z y cs h47 ha g47 hc rfl rfl rfl (by omega) (by omega)
        have go : ∀ (up : Int32), up = (if decide (sn = on_ ∧ ii < jj) = true then 1 else 0) → zj8_copy_116 f K h (some m) (nI sn) (nI ii) (nI on_) (nI jj) (nI nn) up := by
          intro up hup
          unfold zj8_copy_116
          unfold cpS at kk
          generalize decide (sn = on_ ∧ ii < jj) = bu at kk hup
          have lp : ∀ (d k g : Nat) (σ1 : ST) (h : zH), k + d = nn → d < g → Mh m ad b σ1 h → (∀ h', Mh m ad b (fo (fun k (σ' : ST) => mup σ' 48 (40 * on_ + jj + (if bu = true then nn - 1 - k else k)) (σ' 48 (40 * sn + ii + (if bu = true then nn - 1 - k else k)))) d k σ1) h' → K (nI nn) h') → zl8_copy_121 f K g h (some m) (nI sn) (nI ii) (nI on_) (nI jj) (nI nn) up (nI k) := by
            intro d
            induction d with
            | zero =>
              intro k g σ1 h h1 h2 hh kk
              obtain ⟨g, rfl⟩ : ∃ g', g = g' + 1 := ⟨g - 1, by omega⟩
              show zb8_copy_121 f K (zl8_copy_121 f K g) h (some m) (nI sn) (nI ii) (nI on_) (nI jj) (nI nn) up (nI k)
              unfold zb8_copy_121
              rw [if_neg (fun z => by have := (nI_ltI (by omega) (by omega)).mp z; omega)]
              exact kk h hh
            | succ d ih =>
              intro k g σ1 h h1 h2 hh kk
              obtain ⟨g, rfl⟩ : ∃ g', g = g' + 1 := ⟨g - 1, by omega⟩
              show zb8_copy_121 f K (zl8_copy_121 f K g) h (some m) (nI sn) (nI ii) (nI on_) (nI jj) (nI nn) up (nI k)
              unfold zb8_copy_121
              rw [if_pos ((nI_ltI (by omega) (by omega)).mpr (by omega))]
              have st : ∀ q : Nat, q < nn → q = (if bu = true then nn - 1 - k else k) → zj8_copy_145 f (zl8_copy_121 f K g) K h (some m) (nI sn) (nI ii) (nI on_) (nI jj) (nI nn) up (nI k) (nI q) := by
                intro q hq hq2
                unfold zj8_copy_145
                simp only [zmQ ok hh, e40s, nI_add, nm_eq, nI_1, nI_clamp (show 40 * sn + ii + q < 2 ^ 31 by omega)]
                refine ⟨vp_in_nI (by omega) (by omega), Mst (n := 160) ok hh (by decide) (vp_in_nI (by omega) (by omega)) fun h3 hh3 => ?_⟩
                rw [nI_clamp (by omega)] at hh3
                rw [hq2] at hh3
                exact ih (k + 1) g _ h3 (by omega) (by omega) hh3 kk
              cases bu with
              | true =>
                have hup : up = 1 := hup
                rw [hup] at st ⊢
                rw [if_neg (by decide)]
                have e1 : nI nn - 1 - nI k = nI (nn - 1 - k) := by
                  have e1 : (1 : Int32) = nI 1 := rfl
                  rw [e1, pk_sub (by omega), pk_sub (by omega)]
                rw [e1]
                exact st (nn - 1 - k) (by omega) rfl
              | false =>
                have hup : up = 0 := hup
                rw [hup] at st ⊢
                rw [if_pos rfl]
                exact st k (by omega) rfl
          exact lp nn 0 f σ h (by omega) (by omega) hh kk
        unfold zj8_copy_115
        by_cases e1 : sn = on_
        · rw [if_pos (by rw [e1])]
          by_cases e2 : ii < jj
          · rw [if_pos ((nI_ltI (by omega) (by omega)).mpr e2)]
            exact go 1 (by rw [if_pos (decide_eq_true ⟨e1, e2⟩)])
          · rw [if_neg (fun z => e2 ((nI_ltI (by omega) (by omega)).mp z))]
            exact go 0 (by rw [if_neg (fun z => e2 (of_decide_eq_true z).2)])
        · rw [if_neg (fun z => e1 ((nI_eq (by omega) (by omega)).mp z))]
          exact go 0 (by rw [if_neg (fun z => e1 (of_decide_eq_true z).1)])
      · rw [if_neg cs]
        exact k13 sn on_ hsn rfl hon rfl z y cs
    · rw [if_neg c2]
      exact k0 (fun z => c2 z.2)
  · rw [if_neg c1]
    exact k0 (fun z => c1 z.1)
end M9
