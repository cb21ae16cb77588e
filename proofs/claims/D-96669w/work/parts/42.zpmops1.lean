/-! THE REFERENCE's CALLS: set, glaze, stone, feed, force, light, half, house, count -/
set_option maxRecDepth 100000
def laysS (σ : ST) (j of : Nat) (v : Int32) : ST := if j = 0 then mup σ 7 0 v else if j = 1 then mup σ 8 of v else if j < 5 then mup σ 11 (3 * of + (j - 2)) v else if j = 5 then mup σ 10 of v else mup σ 4 0 v
/-- what set takes -/
def seOk (σ : ST) (what of v : Int32) : Prop := (what = 0 ∧ 0 ≤ v.toInt ∧ v.toInt ≤ 9999) ∨ (what = 1 ∧ opn of ∧ 0 ≤ v.toInt ∧ v.toInt ≤ 999) ∨ (what = 2 ∧ pnl σ of ∧ 0 ≤ v.toInt ∧ v.toInt ≤ 9) ∨ (what = 3 ∧ pnl σ of ∧ 0 ≤ v.toInt ∧ v.toInt ≤ 364) ∨ (what = 4 ∧ pnl σ of ∧ 0 ≤ v.toInt ∧ v.toInt ≤ 9)
def glS (σ : ST) (pane : Int32) : ST := fo (fun i σ => mup σ 9 i (if pane = -1 then σ 9 i else if σ 9 i = pane then -1 else σ 9 i)) 4 0 σ
def haS (L : Nat → Int32) (all : Int32) : Nat → Nat → Int32 → Int32
  | 0, _, _ => -1
  | j + 1, i, s => if 0 < all then (if 2 * (s + L i) < all then haS L all j (i + 1) (s + L i) else nI i) else -1
def hoS (G : TG) (σ : ST) : Int32 × Int32 × Int32 := fo (fun i a => (a.1 + (if σ 9 i = -1 then 0 else ct G σ (σ 9 i).toNatClampNeg), a.2.1 ||| (if σ 9 i = -1 then 0 else if ab σ (σ 9 i) = 0 then 0 else spS σ (nI i) (sp σ (σ 9 i).toNatClampNeg)), if a.2.2 = 0 then 0 else if si G σ i < σ 8 i then 0 else 1)) 4 0 (0, 0, 1)
def pc : Nat → Int32 → Int32 → Int32
  | 0, n, _ => n
  | d + 1, n, v => if v = 0 then n else pc d (n + 1) (v &&& (v - 1))
def pcEnd : Nat → Int32 → Bool
  | 0, v => v == 0
  | d + 1, v => v == 0 || pcEnd d (v &&& (v - 1))
theorem pcEnd_64 : ∀ j, j < 64 → pcEnd 6 (nI j) = true := by decide +kernel
section MO
variable {f : Nat} {m : Nat} {ad : Nat → Nat} {b : zH} {σ : ST} {h : zH} {K : Int32 → zH → Prop}
theorem L_lays (ok : mOk m ad) (hh : Mh m ad b σ h) {j of : Nat} {v ofI : Int32} (hj : j ≤ 6) (hof : 1 ≤ j → j ≤ 5 → ofI = nI of ∧ (j = 1 → of < 4) ∧ of < 6) {K : zH → Prop} (kk : ∀ h', Mh m ad b (laysS σ j of v) h' → K h') : zf8_lays f h (some m) (nI j) ofI v K := by
  unfold laysS at kk
  unfold zf8_lays
  simp only [zmQ ok hh]
  have : j = 0 ∨ j = 1 ∨ j = 2 ∨ j = 3 ∨ j = 4 ∨ j = 5 ∨ j = 6 := by omega
  rcases this with rfl | rfl | rfl | rfl | rfl | rfl | rfl
  · simp (config := { decide := true }) only [show nI 0 = (0 : Int32) from rfl, ite_true, ite_false, reduceIte] at kk ⊢
    exact Mpf hh (by decide) kk
  · obtain ⟨rfl, h1, h2⟩ := hof (by decide) (by decide)
    simp (config := { decide := true }) only [show nI 1 = (1 : Int32) from rfl, ite_true, ite_false, reduceIte] at kk ⊢
    refine Mst ok hh (by decide) (vp_in_nI (h1 rfl) (by omega)) ?_
    rw [nI_clamp (by omega)]
    exact kk
  · obtain ⟨rfl, h1, h2⟩ := hof (by decide) (by decide)
    simp (config := { decide := true }) only [show nI 2 = (2 : Int32) from rfl, ite_true, ite_false, reduceIte] at kk ⊢
    rw [show (3 : Int32) * nI of + 2 - 2 = nI (3 * of + 0) from e3t of 0]
    refine Mst (n := 18) ok hh (by decide) (vp_in_nI (by omega) (by omega)) ?_
    rw [nI_clamp (by omega)]
    exact kk
  · obtain ⟨rfl, h1, h2⟩ := hof (by decide) (by decide)
    simp (config := { decide := true }) only [show nI 3 = (3 : Int32) from rfl, ite_true, ite_false, reduceIte] at kk ⊢
    rw [show (3 : Int32) * nI of + 3 - 2 = nI (3 * of + 1) from e3t of 1]
    refine Mst (n := 18) ok hh (by decide) (vp_in_nI (by omega) (by omega)) ?_
    rw [nI_clamp (by omega)]
    exact kk
  · obtain ⟨rfl, h1, h2⟩ := hof (by decide) (by decide)
    simp (config := { decide := true }) only [show nI 4 = (4 : Int32) from rfl, ite_true, ite_false, reduceIte] at kk ⊢
    rw [show (3 : Int32) * nI of + 4 - 2 = nI (3 * of + 2) from e3t of 2]
    refine Mst (n := 18) ok hh (by decide) (vp_in_nI (by omega) (by omega)) ?_
    rw [nI_clamp (by omega)]
    exact kk
  · obtain ⟨rfl, h1, h2⟩ := hof (by decide) (by decide)
    simp (config := { decide := true }) only [show nI 5 = (5 : Int32) from rfl, ite_true, ite_false, reduceIte] at kk ⊢
    refine Mst ok hh (by decide) (vp_in_nI h2 (by omega)) ?_
    rw [nI_clamp (by omega)]
    exact kk
  · simp (config := { decide := true }) only [show nI 6 = (6 : Int32) from rfl, ite_true, ite_false, reduceIte] at kk ⊢
    exact Mpf hh (by decide) kk
theorem q_most {a : Int32} : zf8_mostOf f h a K = K (if a = 0 then 9999 else if a = 1 then 999 else if a = 3 then 364 else 9) h := by
  unfold zf8_mostOf
  by_cases c0 : a = 0
  · rw [if_pos c0, if_pos c0]
  · rw [if_neg c0, if_neg c0]
    by_cases c1 : a = 1
    · rw [if_pos c1, if_pos c1]
    · rw [if_neg c1, if_neg c1]
      by_cases c3 : a = 3
      · rw [if_pos c3, if_pos c3]
      · rw [if_neg c3, if_neg c3]
theorem O_set (ok : mOk m ad) (hf : 400 ≤ f) (hW : WS σ) (hh : Mh m ad b σ h) {what of v : Int32} (k0 : ¬ seOk σ what of v → K (-2) h) (kk : ∀ j : Nat, j ≤ 4 → what = nI j → seOk σ what of v → ∀ h', Mh m ad b (laysS σ j of.toNatClampNeg v) h' → K (toS (Gm σ) σ of what) h') : zf8_set f h (some m) what of v K := by
  have hn := (nP_eq hW).2
  unfold zf8_set
  rw [q_inL 0 4 (by decide) (by decide)]
  simp only [ite10, ifn]
  by_cases c : 0 ≤ what.toInt ∧ what.toInt ≤ 4
  · rw [if_pos c]
    obtain ⟨j, hj, -, rfl, -⟩ := nI_bt c
    simp only [zmQ ok hh, L_isOf ok hW hh, ite10, ifn, q_most]
    have fin : ∀ (u : Int) (uu : Int32), uu.toInt64.toInt = u → (1 ≤ j → j ≤ 5 → of = nI of.toNatClampNeg ∧ (j = 1 → of.toNatClampNeg < 4) ∧ of.toNatClampNeg < 6) → (0 ≤ v.toInt ∧ v.toInt ≤ u → seOk σ (nI j) of v) → (¬ (0 ≤ v.toInt ∧ v.toInt ≤ u) → ¬ seOk σ (nI j) of v) → zf8_in f h v.toInt64 0 uu.toInt64 fun x7 h8 => if x7 = 0 then (K (-2) h8) else (zrc h8 (some m) 13 (zf8_told f h8 (some m) of (nI j) fun x9 h10 => zrc h10 (some m) 13 (zf8_lays f h10 (some m) (nI j) of v fun h12 => K x9 h12))) := by
      intro u uu hu h1 h2 h3
      rw [q_inL 0 u (by decide) hu]
      simp only [ite10, ifn]
      by_cases cv : 0 ≤ v.toInt ∧ v.toInt ≤ u
      · rw [if_pos cv]
        simp only [zmQ ok hh]
        refine L_told ok hf hW hh fun h' hh' => ?_
        simp only [zmQ ok hh']
        exact L_lays ok hh' (by omega) h1 (kk j (by omega) rfl (h2 cv))
      · rw [if_neg cv]
        exact k0 (h3 cv)
    have po : opn of → of = nI of.toNatClampNeg ∧ of.toNatClampNeg < 4 := by
      intro z
      obtain ⟨o, ho, rfl⟩ := opn_nat z
      rw [nI_clamp (by omega)]
      exact ⟨rfl, ho⟩
    have pp : pnl σ of → of = nI of.toNatClampNeg ∧ of.toNatClampNeg < 6 := by
      intro z
      obtain ⟨o, ho, rfl⟩ := pnl_nat z
      rw [nI_clamp (by omega)]
      exact ⟨rfl, by omega⟩
    unfold seOk at k0 fin
    have : j = 0 ∨ j = 1 ∨ j = 2 ∨ j = 3 ∨ j = 4 := by omega
    rcases this with rfl | rfl | rfl | rfl | rfl
    · have fin := fin 9999 9999 (by decide)
      simp (config := { decide := true }) only [show nI 0 = (0 : Int32) from rfl, zmQ ok hh, ite_true, ite_false, reduceIte, true_or, false_or, or_false, true_and, false_and, and_true, not_true_eq_false, not_false_eq_true, and_self] at k0 fin ⊢
      exact fin (by first | exact fun z => z.elim | exact fun z => absurd z (by decide) | trivial) (fun z => z) (fun z => z)
    · have fin := fin 999 999 (by decide)
      simp (config := { decide := true }) only [show nI 1 = (1 : Int32) from rfl, zmQ ok hh, ite_true, ite_false, reduceIte, true_or, false_or, or_false, true_and, false_and, and_true, not_true_eq_false, not_false_eq_true, and_self] at k0 fin ⊢
      by_cases co : opn of
      · rw [if_pos co]
        exact fin (fun _ _ => ⟨(po co).1, fun _ => (po co).2, by have := (po co).2; omega⟩) (fun z => ⟨co, z⟩) (fun z y => z y.2)
      · rw [if_neg co]
        exact k0 (fun z => co z.1)
    · have fin := fin 9 9 (by decide)
      simp (config := { decide := true }) only [show nI 2 = (2 : Int32) from rfl, zmQ ok hh, ite_true, ite_false, reduceIte, true_or, false_or, or_false, true_and, false_and, and_true, not_true_eq_false, not_false_eq_true, and_self] at k0 fin ⊢
      by_cases co : pnl σ of
      · rw [if_pos co]
        exact fin (fun _ _ => ⟨(pp co).1, fun z => by first | exact z.elim | omega, (pp co).2⟩) (fun z => ⟨co, z⟩) (fun z y => z y.2)
      · rw [if_neg co]
        exact k0 (fun z => co z.1)
    · have fin := fin 364 364 (by decide)
      simp (config := { decide := true }) only [show nI 3 = (3 : Int32) from rfl, zmQ ok hh, ite_true, ite_false, reduceIte, true_or, false_or, or_false, true_and, false_and, and_true, not_true_eq_false, not_false_eq_true, and_self] at k0 fin ⊢
      by_cases co : pnl σ of
      · rw [if_pos co]
        exact fin (fun _ _ => ⟨(pp co).1, fun z => by first | exact z.elim | omega, (pp co).2⟩) (fun z => ⟨co, z⟩) (fun z y => z y.2)
      · rw [if_neg co]
        exact k0 (fun z => co z.1)
    · have fin := fin 9 9 (by decide)
      simp (config := { decide := true }) only [show nI 4 = (4 : Int32) from rfl, zmQ ok hh, ite_true, ite_false, reduceIte, true_or, false_or, or_false, true_and, false_and, and_true, not_true_eq_false, not_false_eq_true, and_self] at k0 fin ⊢
      by_cases co : pnl σ of
      · rw [if_pos co]
        exact fin (fun _ _ => ⟨(pp co).1, fun z => by first | exact z.elim | omega, (pp co).2⟩) (fun z => ⟨co, z⟩) (fun z y => z y.2)
      · rw [if_neg co]
        exact k0 (fun z => co z.1)
  · rw [if_neg c]
    refine k0 fun z => c ?_
    rcases z with z | z | z | z | z <;> (rw [z.1]; decide)
theorem O_glaze (ok : mOk m ad) (hf : 400 ≤ f) (hW : WS σ) (hh : Mh m ad b σ h) {o p : Int32} (k0 : ¬ opn o ∨ ¬ (p = -1 ∨ pnl σ p) → K (-2) h) (k3 : opn o → pnl σ p → ab σ p = 1 → K (-3) h) (kk : ∀ oo : Nat, oo < 4 → o = nI oo → (p = -1 ∨ (pnl σ p ∧ ab σ p = 0)) → ∀ h', Mh m ad b (mup (glS σ p) 9 oo p) h' → K (σ 9 oo) h') : zf8_glaze f h (some m) o p K := by
  have hn := (nP_eq hW).2
  unfold zf8_glaze zj8_glaze_23
  simp only [zmQ ok hh, q_op8, L_isPane ok hW hh, L_isBroken ok hh, ite10, ifn]
  by_cases co : opn o
  · rw [if_pos co]
    obtain ⟨oo, ho, rfl⟩ := opn_nat co
    have loop : (p = -1 ∨ (pnl σ p ∧ ab σ p = 0)) → vp_in (nI oo) 4 ∧ zl8_glaze_44 f K f h (some m) (nI oo) p (σ 9 (nI oo).toNatClampNeg) 0 := by
      intro hp
      rw [nI_clamp (by omega)]
      refine ⟨vp_in_nI (by omega) (by omega), ?_⟩
      have go : ∀ (j i g : Nat) (σ1 : ST) (h : zH), i + j = 4 → j < g → Mh m ad b σ1 h → (∀ h', Mh m ad b (mup (fo (fun i σ => mup σ 9 i (if p = -1 then σ 9 i else if σ 9 i = p then -1 else σ 9 i)) j i σ1) 9 oo p) h' → K (σ 9 oo) h') → zl8_glaze_44 f K g h (some m) (nI oo) p (σ 9 oo) (nI i) := by
        intro j
        induction j with
        | zero =>
          intro i g σ1 h h1 h2 hh kk
          obtain ⟨g, rfl⟩ : ∃ g', g = g' + 1 := ⟨g - 1, by omega⟩
          show zb8_glaze_44 f K (zl8_glaze_44 f K g) h (some m) (nI oo) p (σ 9 oo) (nI i)
          unfold zb8_glaze_44
          have e : i = 4 := by omega
          subst e
          rw [if_neg (by decide)]
          simp only [zmQ ok hh]
          refine Mst ok hh (by decide) (vp_in_nI ho (by omega)) ?_
          rw [nI_clamp (by omega)]
          exact kk
        | succ j ih =>
          intro i g σ1 h h1 h2 hh kk
          obtain ⟨g, rfl⟩ : ∃ g', g = g' + 1 := ⟨g - 1, by omega⟩
          show zb8_glaze_44 f K (zl8_glaze_44 f K g) h (some m) (nI oo) p (σ 9 oo) (nI i)
          unfold zb8_glaze_44 zj8_glaze_76 zj8_glaze_83
          rw [if_pos (show nI i < 4 from (nI_ltI (b := 4) (by omega) (by omega)).mpr (by omega))]
          have st : ∀ v : Int32, v = (if p = -1 then σ1 9 i else if σ1 9 i = p then -1 else σ1 9 i) → astI h (some (ad 9)) 0 (nI i) v fun h16 => zl8_glaze_44 f K g h16 (some m) (nI oo) p (σ 9 oo) (nI (i + 1)) := by
            intro v hv
            refine Mst ok hh (by decide) (vp_in_nI (show i < 4 by omega) (by omega)) fun h' hh' => ?_
            rw [nI_clamp (by omega)] at hh'
            refine ih (i + 1) g _ h' (by omega) (by omega) hh' ?_
            rw [hv]
            exact kk
          simp only [zmQ ok hh, nm_eq, nI_1, nI_clamp (show i < 2 ^ 31 by omega)]
          by_cases c1 : p = -1
          · rw [if_pos c1]
            exact ⟨vp_in_nI (by omega) (by omega), st _ (by rw [if_pos c1])⟩
          · rw [if_neg c1]
            refine ⟨vp_in_nI (by omega) (by omega), ?_⟩
            by_cases c2 : σ1 9 i = p
            · rw [if_pos c2]
              exact st _ (by rw [if_neg c1, if_pos c2])
            · rw [if_neg c2]
              exact ⟨vp_in_nI (by omega) (by omega), st _ (by rw [if_neg c1, if_neg c2])⟩
      exact go 4 0 f σ h rfl (by omega) hh (kk oo ho rfl hp)
    by_cases c1 : p = -1
    · rw [if_pos c1, if_pos c1, if_pos rfl]
      exact loop (Or.inl c1)
    · rw [if_neg c1]
      by_cases cp : pnl σ p
      · rw [if_pos cp, if_neg c1]
        rcases ab01 σ p with z | z
        · rw [if_pos z]
          exact loop (Or.inr ⟨cp, z⟩)
        · rw [if_neg (by rw [z]; decide)]
          exact k3 co cp z
      · rw [if_neg cp]
        exact k0 (Or.inr (fun z => z.elim c1 cp))
  · rw [if_neg co]
    exact k0 (Or.inl co)
theorem O_stone (ok : mOk m ad) (hf : 400 ≤ f) (hW : WS σ) (hh : Mh m ad b σ h) {o : Int32} (k0 : ¬ opn o → K (-2) h) (k3 : ∀ oo : Nat, oo < 4 → o = nI oo → σ 9 oo = -1 ∨ ab σ (σ 9 oo) = 1 → K (-3) h) (kk : ∀ oo p : Nat, oo < 4 → o = nI oo → p < nP σ → σ 9 oo = nI p → ab σ (nI p) = 0 → ∀ h', Mh m ad b (mup σ 12 0 (σ 12 0 ||| (1 <<< (nI p &&& 31)))) h' → K (spS σ (nI oo) (sp σ p)) h') : zf8_stone f h (some m) o K := by
  have hn := (nP_eq hW).2
  unfold zf8_stone
  simp only [zmQ ok hh, q_op8, L_isBroken ok hh, ite10, ifn]
  by_cases co : opn o
  · rw [if_pos co]
    obtain ⟨oo, ho, rfl⟩ := opn_nat co
    rw [nI_clamp (by omega)]
    refine ⟨vp_in_nI (by omega) (by omega), ?_⟩
    rcases th_of hW ho with z | ⟨p, h1, h6, h2, h3⟩
    · rw [if_pos z]
      exact k3 oo ho rfl (Or.inl z)
    · rw [h2, if_neg h3, if_neg h3]
      rcases ab01 σ (nI p) with z | z
      · rw [if_pos z]
        refine Mpf hh (by decide) fun h' hh' => ?_
        simp only [zmQ ok hh']
        have hW' : WS (mup σ 12 0 (σ 12 0 ||| (1 <<< (nI p &&& 31)))) := by
          unfold WS nP
          simp only [mup_ne0 (show (13 : Nat) ≠ 12 by decide), mup_ne0 (show (3 : Nat) ≠ 12 by decide), mup_ne0 (show (4 : Nat) ≠ 12 by decide), mup_ne0 (show (6 : Nat) ≠ 12 by decide), mup_ne0 (show (1 : Nat) ≠ 12 by decide), mup_ne0 (show (5 : Nat) ≠ 12 by decide), mup_ne0 (show (2 : Nat) ≠ 12 by decide), mup_ne0 (show (9 : Nat) ≠ 12 by decide), mup_ne0 (show (10 : Nat) ≠ 12 by decide)]
          exact hW
        have kq := kk oo p ho rfl h1 h2 z h' hh'
        have e1 : sp (mup σ 12 0 (σ 12 0 ||| (1 <<< (nI p &&& 31)))) p = sp σ p := by
          unfold sp
          rw [mup_ne0 (by decide), mup_ne0 (by decide)]
        refine L_spiltFrom ok hf hW' hh' ho h6 (by rw [mup_ne0 (by decide)]; exact h2) ?_
        rw [e1]
        exact kq
      · rw [if_neg (by rw [z]; decide)]
        exact k3 oo ho rfl (Or.inr (by rw [h2]; exact z))
  · rw [if_neg co]
    exact k0 co
theorem O_feed (ok : mOk m ad) (hW : WS σ) (hh : Mh m ad b σ h) {a : Int32} (k0 : ¬ (0 ≤ a.toInt ∧ a.toInt ≤ 255) → K (-2) h) (k4 : (0 ≤ a.toInt ∧ a.toInt ≤ 255) → σ 6 0 = 160 → K (-4) h) (kk : ∀ k : Nat, k < 160 → σ 6 0 = nI k → (0 ≤ a.toInt ∧ a.toInt ≤ 255) → ∀ h', Mh m ad b (mup (mup σ 5 k a) 6 0 (nI (k + 1))) h' → K (nI (k + 1)) h') : zf8_feed f h (some m) a K := by
  obtain ⟨-, -, ⟨k, hk, h6⟩, -⟩ := hW
  unfold zf8_feed
  rw [q_inL 0 255 (by decide) (by decide)]
  simp only [zmQ ok hh, ite10, ifn]
  by_cases c : 0 ≤ a.toInt ∧ a.toInt ≤ 255
  · rw [if_pos c]
    by_cases c160 : σ 6 0 = 160
    · rw [if_pos c160]
      exact k4 c c160
    · rw [if_neg c160, h6]
      have hk2 : k < 160 := by
        rcases Nat.lt_or_ge k 160 with z | z
        · exact z
        · exact absurd (by rw [h6, show k = 160 by omega]; rfl) c160
      refine Mst ok hh (by decide) (vp_in_nI hk2 (by omega)) fun h' hh' => ?_
      rw [nI_clamp (by omega)] at hh'
      simp only [zmQ ok hh', mup_ne0 (show (6 : Nat) ≠ 5 by decide)]
      have e6 : mup σ 5 k a 6 = σ 6 := if_neg (by decide)
      rw [e6, h6, nI_1]
      refine Mpf hh' (by decide) fun h2 hh2 => ?_
      simp only [zmQ ok hh2, mup_s0]
      exact kk k hk2 h6 c h2 hh2
  · rw [if_neg c]
    exact k0 c
theorem O_force (ok : mOk m ad) (hW : WS σ) (hh : Mh m ad b σ h) {a : Int32} (k0 : ¬ (0 ≤ a.toInt ∧ a.toInt ≤ ((σ 3 0).toNatClampNeg : Int) - 1) → K (-2) h) (kk : (0 ≤ a.toInt ∧ a.toInt ≤ ((σ 3 0).toNatClampNeg : Int) - 1) → ∀ h', Mh m ad b (mup σ 4 0 a) h' → K (σ 4 0) h') : zf8_force f h (some m) a K := by
  obtain ⟨-, ⟨c, r, hc, h3, -⟩, -⟩ := hW
  have e : ((σ 3 0).toNatClampNeg : Int) = c := by rw [h3, nI_clamp (by omega)]
  unfold zf8_force
  simp only [zmQ ok hh]
  rw [e] at k0 kk
  rw [h3, q_inL 0 ((c : Int) - 1) (by decide) (nI_pr (by omega))]
  simp only [zmQ ok hh, ite10, ifn]
  by_cases cc : 0 ≤ a.toInt ∧ a.toInt ≤ (c : Int) - 1
  · rw [if_pos cc]
    exact Mpf hh (by decide) (kk cc)
  · rw [if_neg cc]
    exact k0 cc
theorem O_light (ok : mOk m ad) (hf : 400 ≤ f) (hW : WS σ) (hh : Mh m ad b σ h) {p o hr : Int32} (kk : ∀ h', Mh m ad b σ h' → K (if pnl σ p ∧ (0 ≤ o.toInt ∧ o.toInt ≤ 4) ∧ (0 ≤ hr.toInt ∧ hr.toInt ≤ 7) then lt (Gm σ) σ p.toNatClampNeg o hr else -2) h') : zf8_light f h (some m) p o hr K := by
  have hn := (nP_eq hW).2
  unfold zf8_light
  simp only [zmQ ok hh, L_isPane ok hW hh, ite10, ifn]
  by_cases c1 : pnl σ p
  · rw [if_pos c1, q_inL 0 4 (by decide) (by decide)]
    simp only [ite10, ifn]
    by_cases c2 : 0 ≤ o.toInt ∧ o.toInt ≤ 4
    · rw [if_pos c2, q_inL 0 7 (by decide) (by decide)]
      simp only [zmQ ok hh, ite10, ifn]
      by_cases c3 : 0 ≤ hr.toInt ∧ hr.toInt ≤ 7
      · rw [if_pos c3]
        rw [if_pos ⟨c1, c2, c3⟩] at kk
        obtain ⟨pp, hp, rfl⟩ := pnl_nat c1
        rw [nI_clamp (by omega)] at kk
        exact L_lightOf ok hf hW hh (by omega) kk
      · rw [if_neg c3]
        rw [if_neg (fun z => c3 z.2.2)] at kk
        exact kk h hh
    · rw [if_neg c2]
      rw [if_neg (fun z => c2 z.2.1)] at kk
      exact kk h hh
  · rw [if_neg c1]
    rw [if_neg (fun z => c1 z.1)] at kk
    exact kk h hh
theorem O_half (ok : mOk m ad) (hf : 400 ≤ f) (hW : WS σ) (hh : Mh m ad b σ h) {o : Int32} (k0 : ¬ opn o → K (-2) h) (kk : ∀ oo : Nat, oo < 4 → o = nI oo → ∀ h', Mh m ad b σ h' → K (haS (fun i => lt (Gm σ) σ (σ 9 oo).toNatClampNeg (nI oo) (nI i)) (si (Gm σ) σ oo) 8 0 0) h') : zf8_half f h (some m) o K := by
  unfold zf8_half
  simp only [zmQ ok hh, q_op8, ite10, ifn]
  by_cases co : opn o
  · rw [if_pos co]
    obtain ⟨oo, ho, rfl⟩ := opn_nat co
    have kk := kk oo ho rfl
    refine L_sumIn ok hf hW hh ho fun h' hh' => ?_
    have go : ∀ (j i g : Nat) (s : Int32) (h : zH), i + j = 8 → j < g → Mh m ad b σ h → (∀ h', Mh m ad b σ h' → K (haS (fun i => lt (Gm σ) σ (σ 9 oo).toNatClampNeg (nI oo) (nI i)) (si (Gm σ) σ oo) j i s) h') → zl8_half_21 f K g h (some m) (nI oo) (si (Gm σ) σ oo) s (nI i) := by
      intro j
      induction j with
      | zero =>
        intro i g s h h1 h2 hh kk
        obtain ⟨g, rfl⟩ : ∃ g', g = g' + 1 := ⟨g - 1, by omega⟩
        show zb8_half_21 f K (zl8_half_21 f K g) h (some m) (nI oo) (si (Gm σ) σ oo) s (nI i)
        unfold zb8_half_21
        have e : i = 8 := by omega
        subst e
        rw [if_neg (by decide)]
        exact kk h hh
      | succ j ih =>
        intro i g s h h1 h2 hh kk
        obtain ⟨g, rfl⟩ : ∃ g', g = g' + 1 := ⟨g - 1, by omega⟩
        show zb8_half_21 f K (zl8_half_21 f K g) h (some m) (nI oo) (si (Gm σ) σ oo) s (nI i)
        unfold zb8_half_21
        rw [if_pos (show nI i < 8 from (nI_ltI (b := 8) (by omega) (by omega)).mpr (by omega))]
        unfold haS at kk
        by_cases ca : 0 < si (Gm σ) σ oo
        · rw [if_pos ca] at kk ⊢
          simp only [zmQ ok hh, nm_eq, nI_1, nI_clamp (show oo < 2 ^ 31 by omega)]
          refine ⟨vp_in_nI (by omega) (by omega), ?_⟩
          have hs : ∃ p : Nat, p < 6 ∧ σ 9 oo = nI p := by
            rcases th_of hW ho with z | ⟨p, h1, h6, h2, h3⟩
            · unfold si siX at ca
              rw [if_pos z] at ca
              exact absurd ca (by decide)
            · exact ⟨p, h6, h2⟩
          obtain ⟨p, h6, hp⟩ := hs
          rw [hp] at kk ⊢
          rw [nI_clamp (by omega)] at kk
          refine L_lightOf ok hf hW hh h6 fun h' hh' => ?_
          by_cases c2 : 2 * (s + lt (Gm σ) σ p (nI oo) (nI i)) < si (Gm σ) σ oo
          · rw [if_pos c2] at kk ⊢
            have ih := ih (i + 1) g (s + lt (Gm σ) σ p (nI oo) (nI i)) h' (by omega) (by omega) hh'
            rw [hp, nI_clamp (by omega)] at ih
            exact ih kk
          · rw [if_neg c2] at kk ⊢
            exact kk h' hh'
        · rw [if_neg ca] at kk ⊢
          exact kk h hh
    exact go 8 0 f 0 h' rfl (by omega) hh' kk
  · rw [if_neg co]
    exact k0 co
theorem L_bits (hf : 400 ≤ f) {v : Int32} (hv : pcEnd 6 v = true) : zf8_bitsOf f h v K = K (pc 7 0 v) h := by
  have go : ∀ (d g : Nat) (n v : Int32), d < g → pcEnd d v = true → zl8_bitsOf_4 f K g h n v = K (pc (d + 1) n v) h := by
    intro d
    induction d with
    | zero =>
      intro g n v h1 h2
      obtain ⟨g, rfl⟩ : ∃ g', g = g' + 1 := ⟨g - 1, by omega⟩
      show zb8_bitsOf_4 f K (zl8_bitsOf_4 f K g) h n v = _
      have e : v = 0 := by simpa [pcEnd] using h2
      unfold zb8_bitsOf_4 pc
      rw [if_pos e, if_pos e]
    | succ d ih =>
      intro g n v h1 h2
      obtain ⟨g, rfl⟩ : ∃ g', g = g' + 1 := ⟨g - 1, by omega⟩
      show zb8_bitsOf_4 f K (zl8_bitsOf_4 f K g) h n v = K (if v = 0 then n else pc (d + 1) (n + 1) (v &&& (v - 1))) h
      unfold zb8_bitsOf_4
      by_cases c : v = 0
      · rw [if_pos c, if_pos c]
      · rw [if_neg c, if_neg c]
        simp only [nm_eq]
        refine ih g _ _ (by omega) ?_
        have : (v == 0 || pcEnd d (v &&& (v - 1))) = true := h2
        have e : (v == 0) = false := by simpa using c
        rw [e, Bool.false_or] at this
        exact this
  exact go 6 f 0 v (by omega) hv
theorem O_count (ok : mOk m ad) (hf : 400 ≤ f) (hW : WS σ) (hb : ∃ j : Nat, j < 64 ∧ σ 12 0 = nI j) (hh : Mh m ad b σ h) {what : Int32} (kk : K (if what = 0 then σ 13 0 else if what = 1 then fo (fun i a => a + (if σ 9 i = -1 then 0 else 1)) 4 0 0 else if what = 2 then pc 7 0 (σ 12 0) else if what = 3 then σ 3 0 else if what = 4 then σ 6 0 else if what = 5 then σ 4 0 else -2) h) : zf8_count f h (some m) what K := by
  obtain ⟨jb, hjb, hb⟩ := hb
  unfold zf8_count
  rw [q_inL 0 5 (by decide) (by decide)]
  simp only [zmQ ok hh, ite10, ifn]
  have go : ∀ (w : Int32), (w = 0 ∨ w = 1 ∨ w = 2) → ∀ (j i g : Nat) (a : Int32), i + j = 4 → j < g → K (if w = 0 then σ 13 0 else if w = 1 then fo (fun i a => a + (if σ 9 i = -1 then 0 else 1)) j i a else pc 7 0 (σ 12 0)) h → zl8_count_53 f K g h (some m) w a (nI i) := by
    intro w hw j
    induction j with
    | zero =>
      intro i g a h1 h2 kk
      obtain ⟨g, rfl⟩ : ∃ g', g = g' + 1 := ⟨g - 1, by omega⟩
      show zb8_count_53 f K (zl8_count_53 f K g) h (some m) w a (nI i)
      unfold zb8_count_53
      have e : i = 4 := by omega
      subst e
      rw [if_neg (by decide)]
      simp only [zmQ ok hh]
      by_cases c0 : w = 0
      · rw [if_pos c0] at kk ⊢; exact kk
      rw [if_neg c0] at kk ⊢
      by_cases c1 : w = 1
      · rw [if_pos c1] at kk ⊢; exact kk
      rw [if_neg c1] at kk ⊢
      rw [L_bits hf (by rw [hb]; exact pcEnd_64 jb hjb)]
      exact kk
    | succ j ih =>
      intro i g a h1 h2 kk
      obtain ⟨g, rfl⟩ : ∃ g', g = g' + 1 := ⟨g - 1, by omega⟩
      show zb8_count_53 f K (zl8_count_53 f K g) h (some m) w a (nI i)
      unfold zb8_count_53 zj8_count_74
      rw [if_pos (show nI i < 4 from (nI_ltI (b := 4) (by omega) (by omega)).mpr (by omega))]
      simp only [zmQ ok hh, nm_eq, nI_1, nI_clamp (show i < 2 ^ 31 by omega)]
      refine ⟨vp_in_nI (by omega) (by omega), ?_⟩
      have go := ih (i + 1) g (a + (if σ 9 i = -1 then 0 else 1)) (by omega) (by omega) kk
      by_cases c : σ 9 i = -1
      · rw [if_pos c] at go ⊢; exact go
      · rw [if_neg c] at go ⊢; exact go
  by_cases c : 0 ≤ what.toInt ∧ what.toInt ≤ 5
  · rw [if_pos c]
    obtain ⟨j, hj, -, rfl, -⟩ := nI_bt c
    have : j = 0 ∨ j = 1 ∨ j = 2 ∨ j = 3 ∨ j = 4 ∨ j = 5 := by omega
    rcases this with rfl | rfl | rfl | rfl | rfl | rfl
    · simp (config := { decide := true }) only [show nI 0 = (0 : Int32) from rfl, ite_true, ite_false, reduceIte] at kk ⊢
      exact go 0 (by decide) 4 0 f 0 rfl (by omega) kk
    · simp (config := { decide := true }) only [show nI 1 = (1 : Int32) from rfl, ite_true, ite_false, reduceIte] at kk ⊢
      exact go 1 (by decide) 4 0 f 0 rfl (by omega) kk
    · simp (config := { decide := true }) only [show nI 2 = (2 : Int32) from rfl, ite_true, ite_false, reduceIte] at kk ⊢
      exact go 2 (by decide) 4 0 f 0 rfl (by omega) kk
    · simp (config := { decide := true }) only [show nI 3 = (3 : Int32) from rfl, ite_true, ite_false, reduceIte] at kk ⊢
      exact kk
    · simp (config := { decide := true }) only [show nI 4 = (4 : Int32) from rfl, ite_true, ite_false, reduceIte] at kk ⊢
      exact kk
    · simp (config := { decide := true }) only [show nI 5 = (5 : Int32) from rfl, ite_true, ite_false, reduceIte] at kk ⊢
      exact kk
  · rw [if_neg c]
    have ne : ∀ i : Int32, (0 ≤ i.toInt ∧ i.toInt ≤ 5) → ¬ what = i := fun i hi z => c (by rw [z]; exact hi)
    rw [if_neg (ne 0 (by decide)), if_neg (ne 1 (by decide)), if_neg (ne 2 (by decide)), if_neg (ne 3 (by decide)), if_neg (ne 4 (by decide)), if_neg (ne 5 (by decide))] at kk
    exact kk
end MO
