/-! THE REFERENCE's CALLS: house, taken, sheet, cell, film, text -/
set_option maxRecDepth 100000
def ovS (k : Nat) : Nat → Int32 → Int32
  | 0, x => x
  | d + 1, x => if x = -1 then x else if x = nI k then x else ovS k d (if x = 0 then -1 else if x = 3 then 1 else if x = 4 then 2 else 0)
/-- does a kind pass as another -/
def tkn (k x : Nat) : Bool := x == k || (k == 0) || (x == 3 && k == 1) || (x == 4 && k == 2)
theorem ov_tk : ∀ k, k < 6 → ∀ x, x < 6 → (ovS k 4 (nI x) = nI k ↔ tkn k x = true) := by decide
/-- a sheet is laid -/
def shC (σ : ST) (s : Nat) (sort n : Int32) : ST := mup (mup (mup σ 45 s (if sort < 0 then 0 else 1)) 46 s sort) 47 s n
def shS (σ : ST) (s : Nat) (sort n : Int32) : ST := fo (fun i σ => mup σ 48 (40 * s + i) 0) (if sort < 0 then 0 else n.toNatClampNeg) 0 (shC σ s sort n)
def shOk (s sort n : Int32) : Prop := (0 ≤ s.toInt ∧ s.toInt ≤ 3) ∧ (-1 ≤ sort.toInt ∧ sort.toInt ≤ 2) ∧ (sort = -1 ∨ n.toInt ≤ 40)
def narS (sort v : Int32) : Int32 := if sort = 0 then v.toInt8.toInt32 else if sort = 1 then v.toInt16.toInt32 else v
/-- the sheets' standing facts -/
def WH (σ : ST) : Prop := ∀ s, s < 4 → σ 45 s = 0 ∨ (σ 45 s = 1 ∧ (∃ n : Nat, n ≤ 40 ∧ σ 47 s = nI n) ∧ ∃ t : Nat, t ≤ 2 ∧ σ 46 s = nI t)
section M5
variable {f : Nat} {m : Nat} {ad : Nat → Nat} {b : zH} {σ : ST} {h : zH} {K : Int32 → zH → Prop}
theorem vpn0 : vp_nar .boolean 0 = 0 := by decide
theorem vpn1 : vp_nar .boolean 1 = 1 := by decide
theorem O_house (ok : mOk m ad) (hf : 400 ≤ f) (hW : WS σ) (hh : Mh m ad b σ h) {what : Int32} (kk : ∀ h', Mh m ad b σ h' → K (if what = 0 then bri (Gm σ) σ else if what = 1 then (hoS (Gm σ) σ).1 else if what = 2 then (if qst (Gm σ) σ = 0 then 1 else 0) else if what = 3 then (if (hoS (Gm σ) σ).2.2 = 0 then 0 else 1) else if what = 4 then (hoS (Gm σ) σ).2.1 else if what = 5 then qst (Gm σ) σ else -2) h') : zf8_house f h (some m) what K := by
  unfold zf8_house zj8_house_34
  rw [q_inL 0 5 (by decide) (by decide)]
  simp only [ite10, ifn]
  unfold hoS at kk
  have go : ∀ (w : Int32), (w = 1 ∨ w = 3 ∨ w = 4) → ∀ (j i g : Nat) (a : Int32 × Int32 × Int32) (h : zH), i + j = 4 → j < g → Mh m ad b σ h → (∀ h', Mh m ad b σ h' → K (if w = 1 then (fo (fun i (a : Int32 × Int32 × Int32) => (a.1 + (if σ 9 i = -1 then 0 else ct (Gm σ) σ (σ 9 i).toNatClampNeg), a.2.1 ||| (if σ 9 i = -1 then 0 else if ab σ (σ 9 i) = 0 then 0 else spS σ (nI i) (sp σ (σ 9 i).toNatClampNeg)), if a.2.2 = 0 then 0 else if si (Gm σ) σ i < σ 8 i then 0 else 1)) j i a).1 else if w = 3 then (if (fo (fun i (a : Int32 × Int32 × Int32) => (a.1 + (if σ 9 i = -1 then 0 else ct (Gm σ) σ (σ 9 i).toNatClampNeg), a.2.1 ||| (if σ 9 i = -1 then 0 else if ab σ (σ 9 i) = 0 then 0 else spS σ (nI i) (sp σ (σ 9 i).toNatClampNeg)), if a.2.2 = 0 then 0 else if si (Gm σ) σ i < σ 8 i then 0 else 1)) j i a).2.2 = 0 then 0 else 1) else (fo (fun i (a : Int32 × Int32 × Int32) => (a.1 + (if σ 9 i = -1 then 0 else ct (Gm σ) σ (σ 9 i).toNatClampNeg), a.2.1 ||| (if σ 9 i = -1 then 0 else if ab σ (σ 9 i) = 0 then 0 else spS σ (nI i) (sp σ (σ 9 i).toNatClampNeg)), if a.2.2 = 0 then 0 else if si (Gm σ) σ i < σ 8 i then 0 else 1)) j i a).2.1) h') → zl8_house_69 f K g h (some m) w a.1 a.2.1 a.2.2 (nI i) := by
    intro w hw j
    induction j with
    | zero =>
      intro i g a h h1 h2 hh kk
      obtain ⟨g, rfl⟩ : ∃ g', g = g' + 1 := ⟨g - 1, by omega⟩
      show zb8_house_69 f K (zl8_house_69 f K g) h (some m) w a.1 a.2.1 a.2.2 (nI i)
      unfold zb8_house_69
      have e : i = 4 := by omega
      subst e
      rw [if_neg (by decide)]
      have kk : K (if w = 1 then a.1 else if w = 3 then (if a.2.2 = 0 then 0 else 1) else a.2.1) h := kk h hh
      by_cases c1 : w = 1
      · rw [if_pos c1] at kk ⊢; exact kk
      rw [if_neg c1] at kk ⊢
      by_cases c3 : w = 3
      · rw [if_pos c3] at kk ⊢
        by_cases c0 : a.2.2 = 0
        · rw [if_pos c0] at kk ⊢; exact kk
        · rw [if_neg c0] at kk ⊢; exact kk
      rw [if_neg c3] at kk ⊢
      exact kk
    | succ j ih =>
      intro i g a h h1 h2 hh kk
      obtain ⟨g, rfl⟩ : ∃ g', g = g' + 1 := ⟨g - 1, by omega⟩
      show zb8_house_69 f K (zl8_house_69 f K g) h (some m) w a.1 a.2.1 a.2.2 (nI i)
      unfold zb8_house_69
      rw [if_pos (show nI i < 4 from (nI_ltI (b := 4) (by omega) (by omega)).mpr (by omega))]
      have ih := fun h' hh' => ih (i + 1) g (a.1 + (if σ 9 i = -1 then 0 else ct (Gm σ) σ (σ 9 i).toNatClampNeg), a.2.1 ||| (if σ 9 i = -1 then 0 else if ab σ (σ 9 i) = 0 then 0 else spS σ (nI i) (sp σ (σ 9 i).toNatClampNeg)), if a.2.2 = 0 then 0 else if si (Gm σ) σ i < σ 8 i then 0 else 1) h' (by omega) (by omega) hh' kk
      have s129 : ∀ (x s0 : Int32) h', x = a.1 + (if σ 9 i = -1 then 0 else ct (Gm σ) σ (σ 9 i).toNatClampNeg) → s0 = (if σ 9 i = -1 then 0 else if ab σ (σ 9 i) = 0 then 0 else spS σ (nI i) (sp σ (σ 9 i).toNatClampNeg)) → Mh m ad b σ h' → zj8_house_129 f (zl8_house_69 f K g) K h' (some m) w x a.2.2 (nI i) s0 a.2.1 := by
        intro x s0 h' hx hs hh'
        unfold zj8_house_129 zj8_house_156 zj8_house_157
        simp only [zmQ ok hh', nm_eq, nI_1]
        rw [hx, hs]
        by_cases c0 : a.2.2 = 0
        · rw [if_pos c0]
          have := ih h' hh'
          rw [if_pos c0] at this
          exact this
        · rw [if_neg c0]
          refine L_sumIn ok hf hW hh' (by omega) fun h3 hh3 => ?_
          simp only [zmQ ok hh3, nI_clamp (show i < 2 ^ 31 by omega)]
          refine ⟨vp_in_nI (by omega) (by omega), ?_⟩
          have := ih h3 hh3
          rw [if_neg c0] at this
          by_cases c1 : si (Gm σ) σ i < σ 8 i
          · rw [if_pos c1] at this ⊢; exact this
          · rw [if_neg c1] at this ⊢; exact this
      have s102 : ∀ (s0 : Int32) h', s0 = (if σ 9 i = -1 then 0 else ct (Gm σ) σ (σ 9 i).toNatClampNeg) → Mh m ad b σ h' → zj8_house_102 f (zl8_house_69 f K g) K h' (some m) w a.2.1 a.2.2 (nI i) s0 a.1 := by
        intro s0 h' hs hh'
        unfold zj8_house_102
        simp only [zmQ ok hh', L_isBroken ok hh', nm_eq, nI_clamp (show i < 2 ^ 31 by omega)]
        refine ⟨vp_in_nI (by omega) (by omega), ?_⟩
        rcases th_of hW (show i < 4 by omega) with z | ⟨p, p1, p6, p2, p3⟩
        · rw [if_pos z, if_pos rfl]
          exact s129 _ _ h' (by rw [hs]) (by rw [if_pos z]) hh'
        · rw [p2, if_neg p3]
          rcases ab01 σ (nI p) with z | z
          · rw [if_pos z]
            exact s129 _ _ h' (by rw [hs]) (by rw [p2, if_neg p3, if_pos z]) hh'
          · rw [if_neg (by rw [z]; decide)]
            refine L_spiltFrom ok hf hW hh' (by omega) p6 p2 ?_
            exact s129 _ _ h' (by rw [hs]) (by rw [p2, if_neg p3, if_neg (by rw [z]; decide), nI_clamp (by omega)]) hh'
      simp only [zmQ ok hh, nI_clamp (show i < 2 ^ 31 by omega)]
      refine ⟨vp_in_nI (by omega) (by omega), ?_⟩
      rcases th_of hW (show i < 4 by omega) with z | ⟨p, p1, p6, p2, p3⟩
      · rw [if_pos z]
        exact s102 0 h (by rw [if_pos z]) hh
      · rw [p2, if_neg p3]
        refine ⟨vp_in_nI (by omega) (by omega), L_costsOf ok hf hW hh p6 fun h' hh' => ?_⟩
        exact s102 _ h' (by rw [p2, if_neg p3, nI_clamp (by omega)]) hh'
  by_cases c : 0 ≤ what.toInt ∧ what.toInt ≤ 5
  · rw [if_pos c]
    obtain ⟨j, hj, -, rfl, -⟩ := nI_bt c
    have : j = 0 ∨ j = 1 ∨ j = 2 ∨ j = 3 ∨ j = 4 ∨ j = 5 := by omega
    rcases this with rfl | rfl | rfl | rfl | rfl | rfl
    · simp (config := { decide := true }) only [show nI 0 = (0 : Int32) from rfl, ite_true, ite_false, reduceIte, zmQ ok hh] at kk ⊢
      exact L_brightNow ok hf hW hh kk
    · simp (config := { decide := true }) only [show nI 1 = (1 : Int32) from rfl, ite_true, ite_false, reduceIte, zmQ ok hh] at kk ⊢
      exact go 1 (by decide) 4 0 f (0, 0, 1) h rfl (by omega) hh (by simp (config := { decide := true }) only [ite_true, ite_false, reduceIte]; exact kk)
    · simp (config := { decide := true }) only [show nI 2 = (2 : Int32) from rfl, ite_true, ite_false, reduceIte, zmQ ok hh] at kk ⊢
      refine L_quarrelSet ok hf hW hh fun h' hh' => ?_
      have kk := kk h' hh'
      by_cases c0 : qst (Gm σ) σ = 0
      · rw [if_pos c0] at kk ⊢; exact kk
      · rw [if_neg c0] at kk ⊢; exact kk
    · simp (config := { decide := true }) only [show nI 3 = (3 : Int32) from rfl, ite_true, ite_false, reduceIte, zmQ ok hh] at kk ⊢
      exact go 3 (by decide) 4 0 f (0, 0, 1) h rfl (by omega) hh (by simp (config := { decide := true }) only [ite_true, ite_false, reduceIte]; exact kk)
    · simp (config := { decide := true }) only [show nI 4 = (4 : Int32) from rfl, ite_true, ite_false, reduceIte, zmQ ok hh] at kk ⊢
      exact go 4 (by decide) 4 0 f (0, 0, 1) h rfl (by omega) hh (by simp (config := { decide := true }) only [ite_true, ite_false, reduceIte]; exact kk)
    · simp (config := { decide := true }) only [show nI 5 = (5 : Int32) from rfl, ite_true, ite_false, reduceIte, zmQ ok hh] at kk ⊢
      exact L_quarrelSet ok hf hW hh kk
  · rw [if_neg c]
    have ne : ∀ i : Int32, (0 ≤ i.toInt ∧ i.toInt ≤ 5) → ¬ what = i := fun i hi z => c (by rw [z]; exact hi)
    rw [if_neg (ne 0 (by decide)), if_neg (ne 1 (by decide)), if_neg (ne 2 (by decide)), if_neg (ne 3 (by decide)), if_neg (ne 4 (by decide)), if_neg (ne 5 (by decide))] at kk
    exact kk h hh
theorem O_taken (ok : mOk m ad) (hf : 400 ≤ f) (hW : WS σ) (hh : Mh m ad b σ h) {p k : Int32} (k0 : ¬ (0 ≤ k.toInt ∧ k.toInt ≤ 5) → K (-2) h) (k1 : (0 ≤ k.toInt ∧ k.toInt ≤ 5) → ¬ pnl σ p → K (-11) h) (kk : ∀ kn pn : Nat, kn < 6 → k = nI kn → pn < nP σ → p = nI pn → K (if tkn kn (σ 10 pn).toNatClampNeg then σ 11 (3 * pn) else -13) h) : zf8_taken f h (some m) p k K := by
  have hn := (nP_eq hW).2
  unfold zf8_taken
  rw [q_inL 0 5 (by decide) (by decide)]
  simp only [ite10, ifn]
  by_cases c : 0 ≤ k.toInt ∧ k.toInt ≤ 5
  · rw [if_pos c]
    simp only [zmQ ok hh, L_isPane ok hW hh, ite10, ifn]
    by_cases cp : pnl σ p
    · rw [if_pos cp]
      obtain ⟨kn, hk, -, rfl, -⟩ := nI_bt c
      obtain ⟨pn, hp, rfl⟩ := pnl_nat cp
      have kk := kk kn pn (by omega) rfl hp rfl
      obtain ⟨x, hx1, hx2, hx3⟩ : ∃ x : Nat, x < 6 ∧ σ 10 pn = nI x ∧ (σ 10 pn).toNatClampNeg = x := by
        obtain ⟨x, h1, h2, h3, h4⟩ := nI_bt (hW.2.2.2.2.2.2.2 pn (by omega))
        exact ⟨x, by omega, h3, by rw [h3, nI_clamp (by omega)]⟩
      rw [hx3] at kk
      rw [nI_clamp (by omega)]
      refine ⟨vp_in_nI (by omega) (by omega), ?_⟩
      rw [hx2]
      have go : ∀ (d g : Nat) (y : Int32), d < g → (ovS kn d y = -1 ∨ ovS kn d y = nI kn) → (zj8_taken_51 f K h (some m) (nI pn) (nI kn) (ovS kn d y)) → zl8_taken_33 f K g h (some m) (nI pn) (nI kn) y := by
        intro d
        induction d with
        | zero =>
          intro g y h1 h2 h3
          obtain ⟨g, rfl⟩ : ∃ g', g = g' + 1 := ⟨g - 1, by omega⟩
          show zb8_taken_33 f K (zl8_taken_33 f K g) h (some m) (nI pn) (nI kn) y
          unfold zb8_taken_33
          have h2 : y = -1 ∨ y = nI kn := h2
          have h3 : zj8_taken_51 f K h (some m) (nI pn) (nI kn) y := h3
          by_cases c1 : y = -1
          · rw [if_pos c1]; exact h3
          · rw [if_neg c1, if_pos (h2.resolve_left c1)]; exact h3
        | succ d ih =>
          intro g y h1 h2 h3
          obtain ⟨g, rfl⟩ : ∃ g', g = g' + 1 := ⟨g - 1, by omega⟩
          show zb8_taken_33 f K (zl8_taken_33 f K g) h (some m) (nI pn) (nI kn) y
          unfold zb8_taken_33
          unfold ovS at h2 h3
          by_cases c1 : y = -1
          · rw [if_pos c1] at h3 ⊢; exact h3
          rw [if_neg c1] at h2 h3 ⊢
          by_cases c2 : y = nI kn
          · rw [if_pos c2] at h3 ⊢; exact h3
          rw [if_neg c2] at h2 h3 ⊢
          unfold zf8_over
          have ih := ih g _ (by omega) h2 h3
          by_cases d0 : y = 0
          · rw [if_pos d0] at ih ⊢; exact ih
          rw [if_neg d0] at ih ⊢
          by_cases d3 : y = 3
          · rw [if_pos d3] at ih ⊢; exact ih
          rw [if_neg d3] at ih ⊢
          by_cases d4 : y = 4
          · rw [if_pos d4] at ih ⊢; exact ih
          rw [if_neg d4] at ih ⊢
          exact ih
      have fin : ∀ k, k < 6 → ∀ x, x < 6 → (ovS k 4 (nI x) = -1 ∨ ovS k 4 (nI x) = nI k) := by decide
      refine go 4 f (nI x) (by omega) (fin kn (by omega) x hx1) ?_
      unfold zj8_taken_51
      simp only [zmQ ok hh]
      by_cases ct : tkn kn x = true
      · rw [if_pos ((ov_tk kn (by omega) x hx1).mpr ct), e3m, nI_clamp (by omega)]
        rw [if_pos ct] at kk
        exact ⟨vp_in_nI (by omega) (by omega), kk⟩
      · rw [if_neg (fun z => ct ((ov_tk kn (by omega) x hx1).mp z))]
        rw [if_neg ct] at kk
        exact kk
    · rw [if_neg cp]
      exact k1 c cp
  · rw [if_neg c]
    exact k0 c
theorem O_sheet (ok : mOk m ad) (hf : 400 ≤ f) (hh : Mh m ad b σ h) {s sort n : Int32} (k0 : ¬ shOk s sort n → K (-2) h) (k14 : shOk s sort n → ¬ sort = -1 → n < 0 → K (-14) h) (kk : ∀ sn : Nat, sn < 4 → s = nI sn → shOk s sort n → (sort = -1 ∨ ¬ n < 0) → ∀ h', Mh m ad b (shS σ sn sort n) h' → K 1 h') : zf8_sheet f h (some m) s sort n K := by
  have z0 : (0 : Int32).toInt = 0 := by decide
  unfold shOk at k0 k14 kk
  unfold zf8_sheet zj8_sheet_34 zj8_sheet_45
  rw [q_sh8]
  simp only [ite10, ifn]
  by_cases c1 : 0 ≤ s.toInt ∧ s.toInt ≤ 3
  · rw [if_pos c1, q_inL (-1) 2 (by decide) (by decide)]
    simp only [ite10, ifn]
    by_cases c2 : -1 ≤ sort.toInt ∧ sort.toInt ≤ 2
    · rw [if_pos c2]
      obtain ⟨sn, hsn, rfl⟩ := opn_nat c1
      have neg : (sort < 0) ↔ sort = -1 := by
        rw [Int32.lt_iff_toInt_lt, z0]
        constructor
        · intro z
          refine Int32.toInt_inj.mp ?_
          have e : (-1 : Int32).toInt = -1 := by decide
          rw [e]; omega
        · intro z; rw [z]; decide
      have z40 : (40 < n) ↔ ¬ n.toInt ≤ 40 := by
        rw [Int32.lt_iff_toInt_lt]
        have e : (40 : Int32).toInt = 40 := by decide
        rw [e]; omega
      have main : (sort = -1 ∨ (n.toInt ≤ 40 ∧ ¬ n < 0)) → ∀ v : Int32, v = (if sort < 0 then 0 else 1) → zj8_sheet_59 f K h (some m) (nI sn) sort n v (nI sn) (some (ad 45)) := by
        intro hs v hv
        have vv : vp_nar .boolean v = v := by
          rw [hv]
          by_cases c : sort < 0
          · rw [if_pos c]; exact vpn0
          · rw [if_neg c]; exact vpn1
        unfold zj8_sheet_59
        rw [vv]
        refine Mst ok hh (by decide) (vp_in_nI hsn (by omega)) fun h1 hh1 => ?_
        rw [nI_clamp (by omega), hv] at hh1
        simp only [zmQ ok hh1]
        refine Mst ok hh1 (by decide) (vp_in_nI hsn (by omega)) fun h2 hh2 => ?_
        rw [nI_clamp (by omega)] at hh2
        simp only [zmQ ok hh2]
        refine Mst ok hh2 (by decide) (vp_in_nI hsn (by omega)) fun h3 hh3 => ?_
        rw [nI_clamp (by omega)] at hh3
        have kk := kk sn hsn rfl ⟨c1, c2, hs.elim Or.inl fun z => Or.inr z.1⟩ (hs.elim Or.inl fun z => Or.inr z.2)
        unfold shS at kk
        have hh3 : Mh m ad b (shC σ sn sort n) h3 := hh3
        by_cases cn : sort < 0
        · obtain ⟨f', rfl⟩ : ∃ g', f = g' + 1 := ⟨f - 1, by omega⟩
          show zb8_sheet_77 (f' + 1) K (zl8_sheet_77 (f' + 1) K f') h3 (some m) (nI sn) sort n 0
          unfold zb8_sheet_77
          rw [if_pos cn] at kk
          rw [if_pos cn, ite_self]
          exact kk h3 hh3
        · rw [if_neg cn] at kk
          have hnn : ∃ j : Nat, j ≤ 40 ∧ n = nI j := by
            have h2 := hs.resolve_left (fun z => cn (neg.mpr z))
            obtain ⟨j, j1, j2, j3, j4⟩ := nI_bt (x := n) (u := 40) ⟨by have := h2.2; rw [Int32.lt_iff_toInt_lt, z0] at this; omega, h2.1⟩
            exact ⟨j, by omega, j3⟩
          obtain ⟨j, hj, rfl⟩ := hnn
          rw [nI_clamp (by omega)] at kk
          have go : ∀ (d i g : Nat) (σ1 : ST) (h : zH), i + d = j → d < g → Mh m ad b σ1 h → (∀ h', Mh m ad b (fo (fun i σ => mup σ 48 (40 * sn + i) 0) d i σ1) h' → K 1 h') → zl8_sheet_77 f K g h (some m) (nI sn) sort (nI j) (nI i) := by
            intro d
            induction d with
            | zero =>
              intro i g σ1 h h1 h2 hh kk
              obtain ⟨g, rfl⟩ : ∃ g', g = g' + 1 := ⟨g - 1, by omega⟩
              show zb8_sheet_77 f K (zl8_sheet_77 f K g) h (some m) (nI sn) sort (nI j) (nI i)
              unfold zb8_sheet_77
              rw [if_neg (fun z => by have := (nI_ltI (by omega) (by omega)).mp z; omega)]
              exact kk h hh
            | succ d ih =>
              intro i g σ1 h h1 h2 hh kk
              obtain ⟨g, rfl⟩ : ∃ g', g = g' + 1 := ⟨g - 1, by omega⟩
              show zb8_sheet_77 f K (zl8_sheet_77 f K g) h (some m) (nI sn) sort (nI j) (nI i)
              unfold zb8_sheet_77
              rw [if_pos ((nI_ltI (by omega) (by omega)).mpr (by omega)), if_neg cn]
              have e40 : (40 : Int32) * nI sn + nI i = nI (40 * sn + i) := by
                have : (40 : Int32) * nI sn = nI (40 * sn) := pk_mul 40 sn
                rw [this, nI_add]
              simp only [zmQ ok hh, nm_eq, nI_1]
              rw [e40]
              refine Mst (n := 160) ok hh (by decide) (vp_in_nI (by omega) (by omega)) fun h4 hh4 => ?_
              rw [nI_clamp (by omega)] at hh4
              exact ih (i + 1) g _ h4 (by omega) (by omega) hh4 kk
          exact go j 0 f _ h3 (by omega) (by omega) hh3 kk
      simp only [zmQ ok hh]
      by_cases cn : sort < 0
      · rw [if_pos cn, if_pos cn, if_pos cn]
        exact main (Or.inl (neg.mp cn)) 0 (by rw [if_pos cn])
      · have cn1 : ¬ sort = -1 := fun z => cn (neg.mpr z)
        rw [if_neg cn, if_neg cn, if_neg cn]
        by_cases c40 : 40 < n
        · rw [if_pos c40]
          exact k0 (fun z => z.2.2.elim cn1 (z40.mp c40))
        · rw [if_neg c40]
          have c40 : n.toInt ≤ 40 := by
            rcases Int.lt_or_le 40 n.toInt with y | y
            · exact absurd (z40.mpr (by omega)) c40
            · exact y
          by_cases cz : n < 0
          · rw [if_pos cz]
            exact k14 ⟨c1, c2, Or.inr c40⟩ cn1 cz
          · rw [if_neg cz]
            exact main (Or.inr ⟨c40, cz⟩) 1 (by rw [if_neg cn])
    · rw [if_neg c2]
      exact k0 (fun z => c2 z.2.1)
  · rw [if_neg c1]
    exact k0 (fun z => c1 z.1)
theorem e40s (s i : Nat) : (40 : Int32) * nI s + nI i = nI (40 * s + i) := by
  have : (40 : Int32) * nI s = nI (40 * s) := pk_mul 40 s
  rw [this, nI_add]
theorem O_cell (ok : mOk m ad) (hH : WH σ) (hh : Mh m ad b σ h) {s i v : Int32} (k0 : ¬ (0 ≤ s.toInt ∧ s.toInt ≤ 3) → K (-2) h) (k11 : ∀ sn : Nat, sn < 4 → s = nI sn → σ 45 sn = 0 → K (-11) h) (k12 : ∀ sn n : Nat, sn < 4 → s = nI sn → σ 45 sn = 1 → σ 47 sn = nI n → n ≤ 40 → ¬ (0 ≤ i.toInt ∧ i.toInt ≤ (n : Int) - 1) → K (-12) h) (kk : ∀ sn n j : Nat, sn < 4 → s = nI sn → σ 45 sn = 1 → σ 47 sn = nI n → n ≤ 40 → j < n → i = nI j → ∀ h', Mh m ad b (mup σ 48 (40 * sn + j) (narS (σ 46 sn) v)) h' → K 1 h') : zf8_cell f h (some m) s i v K := by
  unfold zf8_cell zj8_cell_83
  rw [q_sh8]
  simp only [ite10, ifn]
  by_cases c1 : 0 ≤ s.toInt ∧ s.toInt ≤ 3
  · rw [if_pos c1]
    obtain ⟨sn, hsn, rfl⟩ := opn_nat c1
    simp only [zmQ ok hh, nI_clamp (show sn < 2 ^ 31 by omega)]
    refine ⟨vp_in_nI hsn (by omega), ?_⟩
    rcases hH sn hsn with z | ⟨z, ⟨n, hn, h47⟩, t, ht, h46⟩
    · rw [if_pos z]
      exact k11 sn hsn rfl z
    · rw [if_neg (by rw [z]; decide)]
      refine ⟨vp_in_nI hsn (by omega), ?_⟩
      rw [h47, q_inL 0 ((n : Int) - 1) (by decide) (nI_pr (by omega))]
      simp only [ite10, ifn]
      by_cases c2 : 0 ≤ i.toInt ∧ i.toInt ≤ (n : Int) - 1
      · rw [if_pos c2]
        obtain ⟨j, j1, -, rfl, j3⟩ := nI_bt c2
        have kk := kk sn n j hsn rfl z h47 hn (by omega) rfl
        simp only [zmQ ok hh, nI_clamp (show sn < 2 ^ 31 by omega), e40s]
        refine ⟨vp_in_nI hsn (by omega), ?_⟩
        have fin : ∀ x : Int32, x = narS (σ 46 sn) v → astI h (some (ad 48)) 0 (nI (40 * sn + j)) x fun h14 => K 1 h14 := by
          intro x hx
          refine Mst (n := 160) ok hh (by decide) (vp_in_nI (by omega) (by omega)) ?_
          rw [nI_clamp (by omega), hx]
          exact kk
        unfold narS at fin
        by_cases d0 : σ 46 sn = 0
        · rw [if_pos d0] at fin ⊢; exact fin _ rfl
        rw [if_neg d0] at fin ⊢
        refine ⟨vp_in_nI hsn (by omega), ?_⟩
        by_cases d1 : σ 46 sn = 1
        · rw [if_pos d1] at fin ⊢; exact fin _ rfl
        rw [if_neg d1] at fin ⊢
        exact fin _ rfl
      · rw [if_neg c2]
        exact k12 sn n hsn rfl z h47 hn c2
  · rw [if_neg c1]
    exact k0 c1
end M5
