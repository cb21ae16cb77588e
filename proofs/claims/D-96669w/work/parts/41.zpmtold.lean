/-! THE REFERENCE: told, where, spilt, set, glaze, stone, feed, force, light, half, count -/
set_option maxRecDepth 100000
abbrev opn (a : Int32) : Prop := 0 ≤ a.toInt ∧ a.toInt ≤ 3
abbrev pnl (σ : ST) (a : Int32) : Prop := 0 ≤ a.toInt ∧ a.toInt ≤ (nP σ : Int) - 1
def wh (σ : ST) (p : Nat) : Int32 := fi (fun o => decide (σ 9 o = nI p)) 4 0
def tp (G : TG) (σ : ST) (p : Nat) (what : Int32) : Int32 := if what = 2 then σ 11 (3 * p) else if what = 3 then σ 11 (3 * p + 1) else if what = 4 then σ 11 (3 * p + 2) else if what = 5 then σ 10 p else if what = 6 then wh σ p else if what = 7 then ab σ (nI p) else if what = 8 then ct G σ p else sp σ p
def toS (G : TG) (σ : ST) (of what : Int32) : Int32 := if what = 0 then σ 7 0 else if what = 1 then (if opn of then σ 8 of.toNatClampNeg else -2) else if what = 10 then (if opn of then σ 9 of.toNatClampNeg else -2) else if what = 11 then (if opn of then si G σ of.toNatClampNeg else -2) else if 2 ≤ what.toInt ∧ what.toInt ≤ 9 then (if pnl σ of then tp G σ of.toNatClampNeg what else -2) else -2
theorem opn_nat {a : Int32} (h : opn a) : ∃ o : Nat, o < 4 ∧ a = nI o := by
  obtain ⟨j, h1, h2, h3, h4⟩ := nI_bt h
  exact ⟨j, by omega, h3⟩
theorem pnl_nat {σ : ST} {a : Int32} (h : pnl σ a) : ∃ p : Nat, p < nP σ ∧ a = nI p := by
  obtain ⟨j, h1, h2, h3, h4⟩ := nI_bt h
  exact ⟨j, by omega, h3⟩
theorem e3t (p j : Nat) : (3 : Int32) * nI p + nI (j + 2) - 2 = nI (3 * p + j) := by
  rw [e3m, nI_add]
  have e : (2 : Int32) = nI 2 := rfl
  rw [e, pk_sub (by omega)]
  congr 1
section MT
variable {f : Nat} {m : Nat} {ad : Nat → Nat} {b : zH} {σ : ST} {h : zH} {K : Int32 → zH → Prop}
theorem L_whereIs (ok : mOk m ad) (hf : 400 ≤ f) (hh : Mh m ad b σ h) {p : Nat} : zf8_whereIs f h (some m) (nI p) K = K (wh σ p) h := by
  have go : ∀ (j i g : Nat), i + j = 4 → j < g → zl8_whereIs_2 f K g h (some m) (nI p) (nI i) = K (fi (fun o => decide (σ 9 o = nI p)) j i) h := by
    intro j
    induction j with
    | zero =>
      intro i g h1 h2
      obtain ⟨g, rfl⟩ : ∃ g', g = g' + 1 := ⟨g - 1, by omega⟩
      show zb8_whereIs_2 f K (zl8_whereIs_2 f K g) h (some m) (nI p) (nI i) = _
      unfold zb8_whereIs_2
      have e : i = 4 := by omega
      subst e
      rw [if_neg (by decide)]
      rfl
    | succ j ih =>
      intro i g h1 h2
      obtain ⟨g, rfl⟩ : ∃ g', g = g' + 1 := ⟨g - 1, by omega⟩
      show zb8_whereIs_2 f K (zl8_whereIs_2 f K g) h (some m) (nI p) (nI i) = K (if decide (σ 9 i = nI p) = true then nI i else fi (fun o => decide (σ 9 o = nI p)) j (i + 1)) h
      unfold zb8_whereIs_2
      rw [if_pos (show nI i < 4 from (nI_ltI (b := 4) (by omega) (by omega)).mpr (by omega))]
      simp only [zmQ ok hh, nm_eq, nI_1, decide_eq_true_eq, nI_clamp (show i < 2 ^ 31 by omega), eq_true (vp_in_nI (show i < 4 by omega) (show 4 < 2 ^ 31 by omega)), true_and]
      by_cases c : σ 9 i = nI p
      · rw [if_pos c, if_pos c]
      · rw [if_neg c, if_neg c]
        exact ih (i + 1) g (by omega) (by omega)
  exact go 4 0 f rfl (by omega)
theorem L_isOf (ok : mOk m ad) (hW : WS σ) (hh : Mh m ad b σ h) {what of : Int32} : zf8_isOf f h (some m) what of K = K (if what = 0 ∨ (what = 1 ∨ 9 < what) ∧ opn of ∨ (¬ what = 1 ∧ ¬ 9 < what) ∧ pnl σ of then 1 else 0) h := by
  unfold zf8_isOf zj8_isOf_33 zj8_isOf_15
  simp only [zmQ ok hh, L_isPane ok hW hh, q_op8, ite10, ifn]
  by_cases c0 : what = 0
  · rw [if_pos c0, if_pos (Or.inl c0)]
  rw [if_neg c0]
  by_cases c1 : what = 1
  · rw [if_pos c1]
    by_cases co : opn of
    · rw [if_pos co, if_pos (Or.inr (Or.inl ⟨Or.inl c1, co⟩))]; rfl
    · rw [if_neg co, if_neg (by rintro (z | z | z); exact c0 z; exact co z.2; exact z.1.1 c1)]
  rw [if_neg c1]
  by_cases c9 : 9 < what
  · rw [if_pos c9]
    by_cases co : opn of
    · rw [if_pos co, if_pos (Or.inr (Or.inl ⟨Or.inr c9, co⟩))]; rfl
    · rw [if_neg co, if_neg (by rintro (z | z | z); exact c0 z; exact co z.2; exact z.1.2 c9)]
  rw [if_neg c9]
  by_cases cp : pnl σ of
  · rw [if_pos cp, if_pos (Or.inr (Or.inr ⟨⟨c1, c9⟩, cp⟩))]
  · rw [if_neg cp, if_neg (by rintro (z | z | z); exact c0 z; exact z.1.elim c1 c9; exact cp z.2)]
theorem L_told (ok : mOk m ad) (hf : 400 ≤ f) (hW : WS σ) (hh : Mh m ad b σ h) {what of : Int32} (kk : ∀ h', Mh m ad b σ h' → K (toS (Gm σ) σ of what) h') : zf8_told f h (some m) of what K := by
  have hn := (nP_eq hW).2
  unfold toS tp at kk
  unfold zf8_told
  rw [q_inL 0 11 (by decide) (by decide)]
  simp only [ite10, ifn]
  by_cases c : 0 ≤ what.toInt ∧ what.toInt ≤ 11
  · rw [if_pos c]
    simp only [zmQ ok hh, L_isOf ok hW hh, ite10, ifn]
    obtain ⟨j, hj, -, rfl, -⟩ := nI_bt c
    have : j = 0 ∨ j = 1 ∨ j = 2 ∨ j = 3 ∨ j = 4 ∨ j = 5 ∨ j = 6 ∨ j = 7 ∨ j = 8 ∨ j = 9 ∨ j = 10 ∨ j = 11 := by omega
    rcases this with rfl | rfl | rfl | rfl | rfl | rfl | rfl | rfl | rfl | rfl | rfl | rfl
    · simp (config := { decide := true }) only [show nI 0 = (0 : Int32) from rfl, ite_true, ite_false, reduceIte, true_or, false_or, or_false, true_and, false_and, and_true, not_true_eq_false, not_false_eq_true, and_self] at kk ⊢
      exact kk h hh
    · simp (config := { decide := true }) only [show nI 1 = (1 : Int32) from rfl, ite_true, ite_false, reduceIte, true_or, false_or, or_false, true_and, false_and, and_true, not_true_eq_false, not_false_eq_true, and_self] at kk ⊢
      by_cases co : opn of
      · rw [if_pos co] at kk ⊢
        obtain ⟨o, ho, rfl⟩ := opn_nat co
        rw [nI_clamp (by omega)] at kk
        rw [nI_clamp (by omega)]
        exact ⟨vp_in_nI (by omega) (by omega), kk h hh⟩
      · rw [if_neg co] at kk ⊢; exact kk h hh
    · simp (config := { decide := true }) only [show nI 2 = (2 : Int32) from rfl, ite_true, ite_false, reduceIte, true_or, false_or, or_false, true_and, false_and, and_true, not_true_eq_false, not_false_eq_true, and_self] at kk ⊢
      by_cases co : pnl σ of
      · rw [if_pos co] at kk ⊢
        obtain ⟨p, hp, rfl⟩ := pnl_nat co
        rw [nI_clamp (by omega)] at kk
        rw [show (3 : Int32) * nI p + 2 - 2 = nI (3 * p + 0) from e3t p 0, nI_clamp (by omega)]
        exact ⟨vp_in_nI (by omega) (by omega), kk h hh⟩
      · rw [if_neg co] at kk ⊢; exact kk h hh
    · simp (config := { decide := true }) only [show nI 3 = (3 : Int32) from rfl, ite_true, ite_false, reduceIte, true_or, false_or, or_false, true_and, false_and, and_true, not_true_eq_false, not_false_eq_true, and_self] at kk ⊢
      by_cases co : pnl σ of
      · rw [if_pos co] at kk ⊢
        obtain ⟨p, hp, rfl⟩ := pnl_nat co
        rw [nI_clamp (by omega)] at kk
        rw [show (3 : Int32) * nI p + 3 - 2 = nI (3 * p + 1) from e3t p 1, nI_clamp (by omega)]
        exact ⟨vp_in_nI (by omega) (by omega), kk h hh⟩
      · rw [if_neg co] at kk ⊢; exact kk h hh
    · simp (config := { decide := true }) only [show nI 4 = (4 : Int32) from rfl, ite_true, ite_false, reduceIte, true_or, false_or, or_false, true_and, false_and, and_true, not_true_eq_false, not_false_eq_true, and_self] at kk ⊢
      by_cases co : pnl σ of
      · rw [if_pos co] at kk ⊢
        obtain ⟨p, hp, rfl⟩ := pnl_nat co
        rw [nI_clamp (by omega)] at kk
        rw [show (3 : Int32) * nI p + 4 - 2 = nI (3 * p + 2) from e3t p 2, nI_clamp (by omega)]
        exact ⟨vp_in_nI (by omega) (by omega), kk h hh⟩
      · rw [if_neg co] at kk ⊢; exact kk h hh
    · simp (config := { decide := true }) only [show nI 5 = (5 : Int32) from rfl, ite_true, ite_false, reduceIte, true_or, false_or, or_false, true_and, false_and, and_true, not_true_eq_false, not_false_eq_true, and_self] at kk ⊢
      by_cases co : pnl σ of
      · rw [if_pos co] at kk ⊢
        obtain ⟨p, hp, rfl⟩ := pnl_nat co
        rw [nI_clamp (by omega)] at kk
        rw [nI_clamp (by omega)]
        exact ⟨vp_in_nI (by omega) (by omega), kk h hh⟩
      · rw [if_neg co] at kk ⊢; exact kk h hh
    · simp (config := { decide := true }) only [show nI 6 = (6 : Int32) from rfl, ite_true, ite_false, reduceIte, true_or, false_or, or_false, true_and, false_and, and_true, not_true_eq_false, not_false_eq_true, and_self] at kk ⊢
      by_cases co : pnl σ of
      · rw [if_pos co] at kk ⊢
        obtain ⟨p, hp, rfl⟩ := pnl_nat co
        rw [nI_clamp (by omega)] at kk
        rw [L_whereIs ok hf hh]
        exact kk h hh
      · rw [if_neg co] at kk ⊢; exact kk h hh
    · simp (config := { decide := true }) only [show nI 7 = (7 : Int32) from rfl, ite_true, ite_false, reduceIte, true_or, false_or, or_false, true_and, false_and, and_true, not_true_eq_false, not_false_eq_true, and_self] at kk ⊢
      by_cases co : pnl σ of
      · rw [if_pos co] at kk ⊢
        obtain ⟨p, hp, rfl⟩ := pnl_nat co
        rw [nI_clamp (by omega)] at kk
        exact kk h hh
      · rw [if_neg co] at kk ⊢; exact kk h hh
    · simp (config := { decide := true }) only [show nI 8 = (8 : Int32) from rfl, ite_true, ite_false, reduceIte, true_or, false_or, or_false, true_and, false_and, and_true, not_true_eq_false, not_false_eq_true, and_self] at kk ⊢
      by_cases co : pnl σ of
      · rw [if_pos co] at kk ⊢
        obtain ⟨p, hp, rfl⟩ := pnl_nat co
        rw [nI_clamp (by omega)] at kk
        exact L_costsOf ok hf hW hh (by omega) kk
      · rw [if_neg co] at kk ⊢; exact kk h hh
    · simp (config := { decide := true }) only [show nI 9 = (9 : Int32) from rfl, ite_true, ite_false, reduceIte, true_or, false_or, or_false, true_and, false_and, and_true, not_true_eq_false, not_false_eq_true, and_self] at kk ⊢
      by_cases co : pnl σ of
      · rw [if_pos co] at kk ⊢
        obtain ⟨p, hp, rfl⟩ := pnl_nat co
        rw [nI_clamp (by omega)] at kk
        exact L_spillsOf ok hh (by omega) (kk h hh)
      · rw [if_neg co] at kk ⊢; exact kk h hh
    · simp (config := { decide := true }) only [show nI 10 = (10 : Int32) from rfl, ite_true, ite_false, reduceIte, true_or, false_or, or_false, true_and, false_and, and_true, not_true_eq_false, not_false_eq_true, and_self] at kk ⊢
      by_cases co : opn of
      · rw [if_pos co] at kk ⊢
        obtain ⟨o, ho, rfl⟩ := opn_nat co
        rw [nI_clamp (by omega)] at kk
        rw [nI_clamp (by omega)]
        exact ⟨vp_in_nI (by omega) (by omega), kk h hh⟩
      · rw [if_neg co] at kk ⊢; exact kk h hh
    · simp (config := { decide := true }) only [show nI 11 = (11 : Int32) from rfl, ite_true, ite_false, reduceIte, true_or, false_or, or_false, true_and, false_and, and_true, not_true_eq_false, not_false_eq_true, and_self] at kk ⊢
      by_cases co : opn of
      · rw [if_pos co] at kk ⊢
        obtain ⟨o, ho, rfl⟩ := opn_nat co
        rw [nI_clamp (by omega)] at kk
        exact L_sumIn ok hf hW hh ho kk
      · rw [if_neg co] at kk ⊢; exact kk h hh
  · rw [if_neg c]
    have n0 : ¬ what = 0 := fun z => c (by rw [z]; decide)
    have n1 : ¬ what = 1 := fun z => c (by rw [z]; decide)
    have n10 : ¬ what = 10 := fun z => c (by rw [z]; decide)
    have n11 : ¬ what = 11 := fun z => c (by rw [z]; decide)
    rw [if_neg n0, if_neg n1, if_neg n10, if_neg n11, if_neg (by omega)] at kk
    exact kk h hh
/-- what a stone spills -/
def spS (σ : ST) (o : Int32) (far : Int32) : Int32 := fo (fun i a => a ||| ((if (-far).toInt ≤ (nI i - o).toInt ∧ (nI i - o).toInt ≤ far.toInt then 1 else 0) <<< (nI i &&& 31))) 4 0 0
theorem L_spiltFrom (ok : mOk m ad) (hf : 400 ≤ f) (hW : WS σ) (hh : Mh m ad b σ h) {o p : Nat} (ho : o < 4) (hp : p < 6) (hop : σ 9 o = nI p) (kk : K (spS σ (nI o) (sp σ p)) h) : zf8_spiltFrom f h (some m) (nI o) K := by
  have go : ∀ (j i g : Nat) (a : Int32), i + j = 4 → j < g → K (fo (fun i a => a ||| ((if (-(sp σ p)).toInt ≤ (nI i - nI o).toInt ∧ (nI i - nI o).toInt ≤ (sp σ p).toInt then 1 else 0) <<< (nI i &&& 31))) j i a) h → zl8_spiltFrom_16 f K g h (nI o) (sp σ p) a (nI i) := by
    intro j
    induction j with
    | zero =>
      intro i g a h1 h2 kk
      obtain ⟨g, rfl⟩ : ∃ g', g = g' + 1 := ⟨g - 1, by omega⟩
      show zb8_spiltFrom_16 f K (zl8_spiltFrom_16 f K g) h (nI o) (sp σ p) a (nI i)
      unfold zb8_spiltFrom_16
      have e : i = 4 := by omega
      subst e
      rw [if_neg (by decide)]
      exact kk
    | succ j ih =>
      intro i g a h1 h2 kk
      obtain ⟨g, rfl⟩ : ∃ g', g = g' + 1 := ⟨g - 1, by omega⟩
      show zb8_spiltFrom_16 f K (zl8_spiltFrom_16 f K g) h (nI o) (sp σ p) a (nI i)
      unfold zb8_spiltFrom_16 zj8_spiltFrom_44
      rw [if_pos (show nI i < 4 from (nI_ltI (b := 4) (by omega) (by omega)).mpr (by omega))]
      rw [q_inL (-(sp σ p)).toInt (sp σ p).toInt (by rw [Int32.toInt_toInt64]) (by rw [Int32.toInt_toInt64])]
      simp only [nm_eq, nI_1, ite10, ifn]
      have go := ih (i + 1) g _ (by omega) (by omega) kk
      by_cases c : (-(sp σ p)).toInt ≤ (nI i - nI o).toInt ∧ (nI i - nI o).toInt ≤ (sp σ p).toInt
      · rw [if_pos c]; simp only [if_pos c] at go; exact go
      · rw [if_neg c]; simp only [if_neg c] at go; exact go
  unfold zf8_spiltFrom
  simp only [zmQ ok hh, nI_clamp (show o < 2 ^ 31 by omega)]
  refine ⟨vp_in_nI (by omega) (by omega), ?_⟩
  rw [hop]
  exact L_spillsOf ok hh hp (go 4 0 f 0 rfl (by omega) kk)
end MT
