/-! THE CLASS's CALLS: half, house, count, drawn, chance, turnOut, swap -/
set_option maxRecDepth 100000
def prC (G : TG) (σ : ST) : Int32 := fo (fun p a => a + (if σ 110 p = -1 then 0 else ct G σ p)) (nP σ) 0 0
def meC (G : TG) (σ : ST) : Int32 := if fi (fun o => decide (siC G σ o < σ 8 o)) 4 0 = -1 then 1 else 0
def saC (σ : ST) : Int32 := fo (fun p a => a ||| (if σ 110 p = -1 then 0 else if σ 111 p = 0 then 0 else spC σ p)) (nP σ) 0 0
def imC (σ : ST) : Int32 := fo (fun p a => a + (if σ 110 p = -1 then 0 else 1)) (nP σ) 0 0
def bmC (σ : ST) : Int32 := fo (fun p a => a + (if σ 111 p = 0 then 0 else 1)) (nP σ) 0 0
def drG : Nat → ST × Int32 → ST × Int32 := fun p a => (mup (mup a.1 229 p (a.1 11 (3 * p + 1))) 11 (3 * p + 1) (dyz (a.2 * 1103515245 + 12345)), a.2 * 1103515245 + 12345)
def drC (σ : ST) (seed : Int32) : ST := (fo drG (nP σ) 0 (σ, seed)).1
def lbC (σ : ST) : ST := fo (fun p σ => mup σ 11 (3 * p + 1) (σ 229 p)) (nP σ) 0 σ
def bcJ (a0 : Int32) : Int32 :=
  let x1 := a0 - (((a0.toUInt32 >>> ((1 : Int32).toUInt32 &&& Int32.toUInt32 31)).toInt32) &&& 1431655765)
  let x2 := (x1 &&& 858993459) + (((x1.toUInt32 >>> ((2 : Int32).toUInt32 &&& Int32.toUInt32 31)).toInt32) &&& 858993459)
  let x3 := (x2 + ((x2.toUInt32 >>> ((4 : Int32).toUInt32 &&& Int32.toUInt32 31)).toInt32)) &&& 252645135
  let x4 := x3 + ((x3.toUInt32 >>> ((8 : Int32).toUInt32 &&& Int32.toUInt32 31)).toInt32)
  let x5 := x4 + ((x4.toUInt32 >>> ((16 : Int32).toUInt32 &&& Int32.toUInt32 31)).toInt32)
  x5 &&& 63
theorem bcJ_pc : ∀ j, j < 64 → bcJ (nI j) = pc 7 0 (nI j) := by decide +kernel
def swW (G : TG) (σ : ST) : Int32 := if qstC G σ = 0 then briC G σ else -1
def chC (σ : ST) (a b : Int32) : ST := if whC σ b = -1 then (if whC σ a = -1 then σ else mup σ 110 (whC σ a).toNatClampNeg b) else mup (if whC σ a = -1 then σ else mup σ 110 (whC σ a).toNatClampNeg b) 110 (whC σ b).toNatClampNeg a
def tuD (G : TG) (σ : ST) : Nat → Int32 × Int32 → Int32 × Int32 := fun o a => if whC σ (nI o) = -1 then a else (if bcJ (qstC G (mup σ 110 (whC σ (nI o)).toNatClampNeg (-1))) < a.2 then whC σ (nI o) else a.1, if bcJ (qstC G (mup σ 110 (whC σ (nI o)).toNatClampNeg (-1))) < a.2 then bcJ (qstC G (mup σ 110 (whC σ (nI o)).toNatClampNeg (-1))) else a.2)
def tuM (G : TG) (σ : ST) : Int32 × Int32 := fo (tuD G σ) 4 0 (-1, bcJ (qstC G σ))
def swD (G : TG) (σ : ST) (i : Nat) : Nat → Int32 × Int32 → Int32 × Int32 := fun j a => (if a.2 < swW G (chC σ (nI i) (nI j)) then 10 * nI i + nI j else a.1, if a.2 < swW G (chC σ (nI i) (nI j)) then swW G (chC σ (nI i) (nI j)) else a.2)
def swM (G : TG) (σ : ST) : Int32 × Int32 := fo (fun i a => fo (swD G σ i) (3 - i) (i + 1) a) 4 0 (-1, swW G σ)
theorem WS_ge {σ σ' : ST} (hW : WS σ) (h : ∀ k, k < 14 → k ≠ 11 → σ' k = σ k) : WS σ' := WS_of hW fun k hk => h k (by revert hk; simp only [List.mem_cons, List.not_mem_nil, or_false]; omega) (by revert hk; simp only [List.mem_cons, List.not_mem_nil, or_false]; omega)
section D2
variable {f : Nat} {sa : Nat → Nat} {x : Nat} {ca : Nat → Nat} {Md : Nat → Prop} {b0 : zH} {G : TG} {pa : Nat → Nat} {rw : Nat → Option Nat} {σ : ST} {h : zH} {K : Int32 → zH → Prop}
theorem D_half (hf : 400 ≤ f) (hW : WS σ) (hB : WB σ) (hh : Ch sa x ca Md b0 G pa rw σ h) {o : Int32} (k0 : ¬ opn o → K (-2) h) (kk : ∀ oo : Nat, oo < 4 → o = nI oo → ∀ h', Ch sa x ca Md b0 G pa rw σ h' → K (haS (fun i => lt G σ (whC σ (nI oo)).toNatClampNeg (nI oo) (nI i)) (siC G σ oo) 8 0 0) h') : zf0_half f h (some x) o K := by
  have hn := (nP_eq hW).2
  unfold zf0_half
  simp only [zcQ hh, q_op0, ite10, ifn]
  by_cases co : opn o
  · rw [if_pos co]
    obtain ⟨oo, ho, rfl⟩ := opn_nat co
    have kk := kk oo ho rfl
    refine C_sumIn hf hW hB hh fun h' hh' => ?_
    simp only [zcQ hh', C_whoIn hf hW hh']
    have go : ∀ (j i g : Nat) (s : Int32) (h : zH), i + j = 8 → j < g → Ch sa x ca Md b0 G pa rw σ h → (∀ h', Ch sa x ca Md b0 G pa rw σ h' → K (haS (fun i => lt G σ (whC σ (nI oo)).toNatClampNeg (nI oo) (nI i)) (siC G σ oo) j i s) h') → zl0_half_28 f K g h (some x) (nI oo) (siC G σ oo) (whC σ (nI oo)) s (nI i) := by
      intro j
      induction j with
      | zero =>
        intro i g s h h1 h2 hh kk
        obtain ⟨g, rfl⟩ : ∃ g', g = g' + 1 := ⟨g - 1, by omega⟩
        show zb0_half_28 f K (zl0_half_28 f K g) h (some x) (nI oo) (siC G σ oo) (whC σ (nI oo)) s (nI i)
        unfold zb0_half_28
        have e : i = 8 := by omega
        subst e
        rw [if_neg (by decide)]
        exact kk h hh
      | succ j ih =>
        intro i g s h h1 h2 hh kk
        obtain ⟨g, rfl⟩ : ∃ g', g = g' + 1 := ⟨g - 1, by omega⟩
        show zb0_half_28 f K (zl0_half_28 f K g) h (some x) (nI oo) (siC G σ oo) (whC σ (nI oo)) s (nI i)
        unfold zb0_half_28
        rw [if_pos (show nI i < 8 from (nI_ltI (b := 8) (by omega) (by omega)).mpr (by omega))]
        unfold haS at kk
        by_cases cz : 0 < siC G σ oo
        · rw [if_pos cz] at kk ⊢
          simp only [zcQ hh, nm_eq, nI_1]
          rcases whC_or σ (nI oo) with z | ⟨p, p1, p2, -⟩
          · unfold siC siX at cz
            rw [if_pos z] at cz
            exact absurd cz (by decide)
          · have ih := ih (i + 1) g (s + lt G σ p (nI oo) (nI i))
            rw [p2] at kk ih ⊢
            rw [nI_clamp (by omega)] at kk ih
            refine C_lightOf hW hh p1 fun h' hh' => ?_
            by_cases c2 : 2 * (s + lt G σ p (nI oo) (nI i)) < siC G σ oo
            · rw [if_pos c2] at kk ⊢
              exact ih h' (by omega) (by omega) hh' kk
            · rw [if_neg c2] at kk ⊢
              exact kk h' hh'
        · rw [if_neg cz] at kk ⊢
          exact kk h hh
    exact go 8 0 f 0 h' rfl (by omega) hh' kk
  · rw [if_neg co]
    exact k0 co
theorem C_price (hf : 400 ≤ f) (hW : WS σ) (hh : Ch sa x ca Md b0 G pa rw σ h) (kk : ∀ h', Ch sa x ca Md b0 G pa rw σ h' → K (prC G σ) h') : zf0_price f h (some x) K := by
  obtain ⟨h13, hn⟩ := nP_eq hW
  unfold prC at kk
  have go : ∀ (j i g : Nat) (a : Int32) (h : zH), i + j = nP σ → j < g → Ch sa x ca Md b0 G pa rw σ h → (∀ h', Ch sa x ca Md b0 G pa rw σ h' → K (fo (fun p a => a + (if σ 110 p = -1 then 0 else ct G σ p)) j i a) h') → zl0_price_4 f K g h (some x) a (nI i) := by
    intro j
    induction j with
    | zero =>
      intro i g a h h1 h2 hh kk
      obtain ⟨g, rfl⟩ : ∃ g', g = g' + 1 := ⟨g - 1, by omega⟩
      show zb0_price_4 f K (zl0_price_4 f K g) h (some x) a (nI i)
      unfold zb0_price_4
      simp only [zcQ hh]
      rw [h13, if_neg (fun z => by have := (nI_ltI (by omega) (by omega)).mp z; omega)]
      exact kk h hh
    | succ j ih =>
      intro i g a h h1 h2 hh kk
      obtain ⟨g, rfl⟩ : ∃ g', g = g' + 1 := ⟨g - 1, by omega⟩
      show zb0_price_4 f K (zl0_price_4 f K g) h (some x) a (nI i)
      unfold zb0_price_4 zj0_price_35
      have hi : i < nP σ := by omega
      simp only [zcQ hh, C_pa hh hn hi, C_pI hh hi (kc6 hW (p := i) (by omega)) (k := 3) rfl, nm_eq, nI_1]
      rw [h13, if_pos ((nI_ltI (by omega) (by omega)).mpr hi)]
      have ih := fun h' hh' => ih (i + 1) g (a + (if σ 110 i = -1 then 0 else ct G σ i)) h' (by omega) (by omega) hh' kk
      by_cases c : σ 110 i = -1
      · rw [if_pos c] at ih ⊢
        exact ih h hh
      · rw [if_neg c] at ih ⊢
        exact C_costsOf hW hh hi ih
  exact go (nP σ) 0 f 0 h (by omega) (by omega) hh kk
theorem C_isMet (hf : 400 ≤ f) (hW : WS σ) (hB : WB σ) (hh : Ch sa x ca Md b0 G pa rw σ h) (kk : ∀ h', Ch sa x ca Md b0 G pa rw σ h' → K (meC G σ) h') : zf0_isMet f h (some x) K := by
  unfold meC at kk
  have go : ∀ (j i g : Nat) (h : zH), i + j = 4 → j < g → Ch sa x ca Md b0 G pa rw σ h → (∀ h', Ch sa x ca Md b0 G pa rw σ h' → K (if fi (fun o => decide (siC G σ o < σ 8 o)) j i = -1 then 1 else 0) h') → zl0_isMet_2 f K g h (some x) (nI i) := by
    intro j
    induction j with
    | zero =>
      intro i g h h1 h2 hh kk
      obtain ⟨g, rfl⟩ : ∃ g', g = g' + 1 := ⟨g - 1, by omega⟩
      show zb0_isMet_2 f K (zl0_isMet_2 f K g) h (some x) (nI i)
      unfold zb0_isMet_2
      have e : i = 4 := by omega
      subst e
      rw [if_neg (by decide)]
      exact kk h hh
    | succ j ih =>
      intro i g h h1 h2 hh kk
      obtain ⟨g, rfl⟩ : ∃ g', g = g' + 1 := ⟨g - 1, by omega⟩
      show zb0_isMet_2 f K (zl0_isMet_2 f K g) h (some x) (nI i)
      unfold zb0_isMet_2
      rw [if_pos (show nI i < 4 from (nI_ltI (b := 4) (by omega) (by omega)).mpr (by omega))]
      simp only [zcQ hh]
      refine C_sumIn hf hW hB hh fun h' hh' => ?_
      simp only [zcQ hh', nm_eq, nI_1, nI_clamp (show i < 2 ^ 31 by omega)]
      refine ⟨vp_in_nI (by omega) (by omega), ?_⟩
      have kk : ∀ h', Ch sa x ca Md b0 G pa rw σ h' → K (if (if decide (siC G σ i < σ 8 i) = true then nI i else fi (fun o => decide (siC G σ o < σ 8 o)) j (i + 1)) = -1 then 1 else 0) h' := kk
      by_cases c : siC G σ i < σ 8 i
      · rw [if_pos (decide_eq_true c), if_neg (nIn1 (by omega))] at kk
        rw [if_pos c]
        exact kk h' hh'
      · rw [if_neg (fun z => c (of_decide_eq_true z))] at kk
        rw [if_neg c]
        exact ih (i + 1) g h' (by omega) (by omega) hh' kk
  exact go 4 0 f h rfl (by omega) hh kk
theorem C_spiltAll (hf : 400 ≤ f) (hW : WS σ) (hh : Ch sa x ca Md b0 G pa rw σ h) (kk : K (saC σ) h) : zf0_spiltAll f h (some x) K := by
  obtain ⟨h13, hn⟩ := nP_eq hW
  unfold saC at kk
  have go : ∀ (j i g : Nat) (a : Int32), i + j = nP σ → j < g → K (fo (fun p a => a ||| (if σ 110 p = -1 then 0 else if σ 111 p = 0 then 0 else spC σ p)) j i a) h → zl0_spiltAll_4 f K g h (some x) a (nI i) := by
    intro j
    induction j with
    | zero =>
      intro i g a h1 h2 kk
      obtain ⟨g, rfl⟩ : ∃ g', g = g' + 1 := ⟨g - 1, by omega⟩
      show zb0_spiltAll_4 f K (zl0_spiltAll_4 f K g) h (some x) a (nI i)
      unfold zb0_spiltAll_4
      simp only [zcQ hh]
      rw [h13, if_neg (fun z => by have := (nI_ltI (by omega) (by omega)).mp z; omega)]
      exact kk
    | succ j ih =>
      intro i g a h1 h2 kk
      obtain ⟨g, rfl⟩ : ∃ g', g = g' + 1 := ⟨g - 1, by omega⟩
      show zb0_spiltAll_4 f K (zl0_spiltAll_4 f K g) h (some x) a (nI i)
      unfold zb0_spiltAll_4 zj0_spiltAll_46 zj0_spiltAll_47
      have hi : i < nP σ := by omega
      have hkc := kc6 hW (p := i) (by omega)
      simp only [zcQ hh, C_pa hh hn hi, C_pI hh hi hkc (k := 3) rfl, C_pI hh hi hkc (k := 4) rfl, nm_eq, nI_1]
      rw [h13, if_pos ((nI_ltI (by omega) (by omega)).mpr hi)]
      have ih := ih (i + 1) g (a ||| (if σ 110 i = -1 then 0 else if σ 111 i = 0 then 0 else spC σ i)) (by omega) (by omega) kk
      by_cases c : σ 110 i = -1
      · rw [if_pos c] at ih ⊢
        exact ih
      · rw [if_neg c] at ih ⊢
        by_cases c2 : σ 111 i = 0
        · rw [if_pos c2] at ih ⊢
          exact ih
        · rw [if_neg c2] at ih ⊢
          exact C_spilt hf hW hh hi ih
  exact go (nP σ) 0 f 0 (by omega) (by omega) kk
theorem D_house (hf : 400 ≤ f) (hW : WS σ) (hB : WB σ) (hh : Ch sa x ca Md b0 G pa rw σ h) {what : Int32} (kk : ∀ h', Ch sa x ca Md b0 G pa rw σ h' → K (if what = 0 then briC G σ else if what = 1 then prC G σ else if what = 2 then (if qstC G σ = 0 then 1 else 0) else if what = 3 then meC G σ else if what = 4 then saC σ else if what = 5 then qstC G σ else -2) h') : zf0_house f h (some x) what K := by
  unfold zf0_house
  simp only [zcQ hh]
  by_cases c0 : what = 0
  · rw [if_pos c0] at kk ⊢; exact C_bright hf hW hB hh kk
  rw [if_neg c0] at kk ⊢
  by_cases c1 : what = 1
  · rw [if_pos c1] at kk ⊢; exact C_price hf hW hh kk
  rw [if_neg c1] at kk ⊢
  by_cases c2 : what = 2
  · rw [if_pos c2] at kk ⊢
    refine C_quarrelSet hf hW hB hh fun h' hh' => ?_
    have kk := kk h' hh'
    by_cases c : qstC G σ = 0
    · rw [if_pos c] at kk ⊢; exact kk
    · rw [if_neg c] at kk ⊢; exact kk
  rw [if_neg c2] at kk ⊢
  by_cases c3 : what = 3
  · rw [if_pos c3] at kk ⊢
    refine C_isMet hf hW hB hh fun h' hh' => ?_
    have kk := kk h' hh'
    unfold meC at kk ⊢
    by_cases c : fi (fun o => decide (siC G σ o < σ 8 o)) 4 0 = -1
    · rw [if_pos c] at kk ⊢; rw [if_neg (by decide)]; exact kk
    · rw [if_neg c] at kk ⊢; rw [if_pos rfl]; exact kk
  rw [if_neg c3] at kk ⊢
  by_cases c4 : what = 4
  · rw [if_pos c4] at kk ⊢; exact C_spiltAll hf hW hh (kk h hh)
  rw [if_neg c4] at kk ⊢
  by_cases c5 : what = 5
  · rw [if_pos c5] at kk ⊢; exact C_quarrelSet hf hW hB hh kk
  rw [if_neg c5] at kk ⊢
  exact kk h hh
theorem C_inMany (hf : 400 ≤ f) (hW : WS σ) (hh : Ch sa x ca Md b0 G pa rw σ h) (kk : K (imC σ) h) : zf0_inMany f h (some x) K := by
  obtain ⟨h13, hn⟩ := nP_eq hW
  unfold imC at kk
  have go : ∀ (j i g : Nat) (a : Int32), i + j = nP σ → j < g → K (fo (fun p a => a + (if σ 110 p = -1 then 0 else 1)) j i a) h → zl0_inMany_4 f K g h (some x) a (nI i) := by
    intro j
    induction j with
    | zero =>
      intro i g a h1 h2 kk
      obtain ⟨g, rfl⟩ : ∃ g', g = g' + 1 := ⟨g - 1, by omega⟩
      show zb0_inMany_4 f K (zl0_inMany_4 f K g) h (some x) a (nI i)
      unfold zb0_inMany_4
      simp only [zcQ hh]
      rw [h13, if_neg (fun z => by have := (nI_ltI (by omega) (by omega)).mp z; omega)]
      exact kk
    | succ j ih =>
      intro i g a h1 h2 kk
      obtain ⟨g, rfl⟩ : ∃ g', g = g' + 1 := ⟨g - 1, by omega⟩
      show zb0_inMany_4 f K (zl0_inMany_4 f K g) h (some x) a (nI i)
      unfold zb0_inMany_4 zj0_inMany_31
      have hi : i < nP σ := by omega
      simp only [zcQ hh, C_pa hh hn hi, C_pI hh hi (kc6 hW (p := i) (by omega)) (k := 3) rfl, nm_eq, nI_1]
      rw [h13, if_pos ((nI_ltI (by omega) (by omega)).mpr hi)]
      have ih := ih (i + 1) g (a + (if σ 110 i = -1 then 0 else 1)) (by omega) (by omega) kk
      by_cases c : σ 110 i = -1
      · rw [if_pos c] at ih ⊢; exact ih
      · rw [if_neg c] at ih ⊢; exact ih
  exact go (nP σ) 0 f 0 (by omega) (by omega) kk
theorem C_brokenMany (hf : 400 ≤ f) (hW : WS σ) (hh : Ch sa x ca Md b0 G pa rw σ h) (kk : K (bmC σ) h) : zf0_brokenMany f h (some x) K := by
  obtain ⟨h13, hn⟩ := nP_eq hW
  unfold bmC at kk
  have go : ∀ (j i g : Nat) (a : Int32), i + j = nP σ → j < g → K (fo (fun p a => a + (if σ 111 p = 0 then 0 else 1)) j i a) h → zl0_brokenMany_4 f K g h (some x) a (nI i) := by
    intro j
    induction j with
    | zero =>
      intro i g a h1 h2 kk
      obtain ⟨g, rfl⟩ : ∃ g', g = g' + 1 := ⟨g - 1, by omega⟩
      show zb0_brokenMany_4 f K (zl0_brokenMany_4 f K g) h (some x) a (nI i)
      unfold zb0_brokenMany_4
      simp only [zcQ hh]
      rw [h13, if_neg (fun z => by have := (nI_ltI (by omega) (by omega)).mp z; omega)]
      exact kk
    | succ j ih =>
      intro i g a h1 h2 kk
      obtain ⟨g, rfl⟩ : ∃ g', g = g' + 1 := ⟨g - 1, by omega⟩
      show zb0_brokenMany_4 f K (zl0_brokenMany_4 f K g) h (some x) a (nI i)
      unfold zb0_brokenMany_4 zj0_brokenMany_30
      have hi : i < nP σ := by omega
      simp only [zcQ hh, C_pa hh hn hi, C_pI hh hi (kc6 hW (p := i) (by omega)) (k := 4) rfl, nm_eq, nI_1]
      rw [h13, if_pos ((nI_ltI (by omega) (by omega)).mpr hi)]
      have ih := ih (i + 1) g (a + (if σ 111 i = 0 then 0 else 1)) (by omega) (by omega) kk
      by_cases c : σ 111 i = 0
      · rw [if_pos c] at ih ⊢; exact ih
      · rw [if_neg c] at ih ⊢; exact ih
  exact go (nP σ) 0 f 0 (by omega) (by omega) kk
theorem D_count (hf : 400 ≤ f) (hW : WS σ) (hh : Ch sa x ca Md b0 G pa rw σ h) {what : Int32} (kk : K (if what = 0 then σ 13 0 else if what = 1 then imC σ else if what = 2 then bmC σ else if what = 3 then σ 3 0 else if what = 4 then σ 6 0 else if what = 5 then σ 4 0 else -2) h) : zf0_count f h (some x) what K := by
  unfold zf0_count
  simp only [zcQ hh]
  by_cases c0 : what = 0
  · rw [if_pos c0] at kk ⊢; exact kk
  rw [if_neg c0] at kk ⊢
  by_cases c1 : what = 1
  · rw [if_pos c1] at kk ⊢; exact C_inMany hf hW hh kk
  rw [if_neg c1] at kk ⊢
  by_cases c2 : what = 2
  · rw [if_pos c2] at kk ⊢; exact C_brokenMany hf hW hh kk
  rw [if_neg c2] at kk ⊢
  by_cases c3 : what = 3
  · rw [if_pos c3] at kk ⊢; exact kk
  rw [if_neg c3] at kk ⊢
  by_cases c4 : what = 4
  · rw [if_pos c4] at kk ⊢; exact kk
  rw [if_neg c4] at kk ⊢
  by_cases c5 : what = 5
  · rw [if_pos c5] at kk ⊢; exact kk
  rw [if_neg c5] at kk ⊢
  exact kk
theorem q_bc {v : Int32} : zfJ9_bitCount f h v K = K (bcJ v) h := by
  unfold zfJ9_bitCount bcJ
  simp only [nm_eq]
theorem C_draws (hf : 400 ≤ f) (hW : WS σ) (hh : Ch sa x ca Md b0 G pa rw σ h) {s : Int32} {K : zH → Prop} (kk : ∀ h', Ch sa x ca Md b0 G pa rw (drC σ s) h' → K h') : zf0_drawsDays f h (some x) s K := by
  obtain ⟨h13, hn⟩ := nP_eq hW
  unfold drC at kk
  have go : ∀ (j i g : Nat) (a : ST × Int32) (h : zH), i + j = nP σ → j < g → Ch sa x ca Md b0 G pa rw a.1 h → WS a.1 → a.1 13 = σ 13 → (∀ h', Ch sa x ca Md b0 G pa rw (fo drG j i a).1 h' → K h') → zl0_drawsDays_4 f K g h (some x) a.2 (nI i) := by
    intro j
    induction j with
    | zero =>
      intro i g a h h1 h2 hh hW1 e13 kk
      obtain ⟨g, rfl⟩ : ∃ g', g = g' + 1 := ⟨g - 1, by omega⟩
      show zb0_drawsDays_4 f K (zl0_drawsDays_4 f K g) h (some x) a.2 (nI i)
      unfold zb0_drawsDays_4
      simp only [zcQ hh]
      rw [e13, h13, if_neg (fun z => by have := (nI_ltI (by omega) (by omega)).mp z; omega)]
      exact kk h hh
    | succ j ih =>
      intro i g a h h1 h2 hh hW1 e13 kk
      obtain ⟨g, rfl⟩ : ∃ g', g = g' + 1 := ⟨g - 1, by omega⟩
      show zb0_drawsDays_4 f K (zl0_drawsDays_4 f K g) h (some x) a.2 (nI i)
      unfold zb0_drawsDays_4
      have en : nP a.1 = nP σ := by unfold nP; rw [e13]
      have hi : i < nP a.1 := by omega
      simp only [zcQ hh, C_pa hh (by omega) hi, C_pI hh hi (kc6 hW1 (p := i) (by omega)) (k := 1) rfl, nm_eq]
      rw [e13, h13, if_pos ((nI_ltI (by omega) (by omega)).mpr (by omega))]
      refine C_st hh (show (229, 0, 6) ∈ cia by decide) (vp_in_nI (show i < 6 by omega) (by omega)) (fun κ a => agr_mup a (by decide) (by decide) (by decide)) (sameP_mup (by decide)) fun h3 hh3 => ?_
      rw [nI_clamp (by omega)] at hh3
      have en3 : nP (mup a.1 229 i (a.1 11 (3 * i + 1))) = nP a.1 := by unfold nP; rw [mup_k (by decide)]
      have hW3 : WS (mup a.1 229 i (a.1 11 (3 * i + 1))) := WS_ge hW1 fun k h1 h2 => mup_k (by omega)
      simp only [zcQ hh3, C_pa hh3 (by omega) (show i < nP (mup a.1 229 i (a.1 11 (3 * i + 1))) by omega)]
      refine C_p11 hW3 hh3 (by omega) (by decide) fun h4 hh4 => ?_
      simp only [nI_1]
      exact ih (i + 1) g (drG i a) h4 (by omega) (by omega) hh4 (WS_ge hW3 fun k h1 h2 => mup_k h2) (show mup (mup a.1 229 i (a.1 11 (3 * i + 1))) 11 (3 * i + 1) (dyz (a.2 * 1103515245 + 12345)) 13 = σ 13 by rw [mup_k (by decide), mup_k (by decide)]; exact e13) kk
  exact go (nP σ) 0 f (σ, s) h (by omega) (by omega) hh hW rfl kk
theorem C_laysD (hf : 400 ≤ f) (hW : WS σ) (hh : Ch sa x ca Md b0 G pa rw σ h) {K : zH → Prop} (kk : ∀ h', Ch sa x ca Md b0 G pa rw (lbC σ) h' → K h') : zf0_laysDays f h (some x) K := by
  obtain ⟨h13, hn⟩ := nP_eq hW
  unfold lbC at kk
  have go : ∀ (j i g : Nat) (a : ST) (h : zH), i + j = nP σ → j < g → Ch sa x ca Md b0 G pa rw a h → WS a → a 13 = σ 13 → (∀ h', Ch sa x ca Md b0 G pa rw (fo (fun p σ => mup σ 11 (3 * p + 1) (σ 229 p)) j i a) h' → K h') → zl0_laysDays_2 f K g h (some x) (nI i) := by
    intro j
    induction j with
    | zero =>
      intro i g a h h1 h2 hh hW1 e13 kk
      obtain ⟨g, rfl⟩ : ∃ g', g = g' + 1 := ⟨g - 1, by omega⟩
      show zb0_laysDays_2 f K (zl0_laysDays_2 f K g) h (some x) (nI i)
      unfold zb0_laysDays_2
      simp only [zcQ hh]
      rw [e13, h13, if_neg (fun z => by have := (nI_ltI (by omega) (by omega)).mp z; omega)]
      exact kk h hh
    | succ j ih =>
      intro i g a h h1 h2 hh hW1 e13 kk
      obtain ⟨g, rfl⟩ : ∃ g', g = g' + 1 := ⟨g - 1, by omega⟩
      show zb0_laysDays_2 f K (zl0_laysDays_2 f K g) h (some x) (nI i)
      unfold zb0_laysDays_2
      have en : nP a = nP σ := by unfold nP; rw [e13]
      have hi : i < nP a := by omega
      simp only [zcQ hh, C_pa hh (by omega) hi, nm_eq, nI_clamp (show i < 2 ^ 31 by omega)]
      rw [e13, h13, if_pos ((nI_ltI (by omega) (by omega)).mpr (by omega))]
      refine ⟨vp_in_nI (by omega) (by omega), C_p11 hW1 hh hi (by decide) fun h4 hh4 => ?_⟩
      simp only [nI_1]
      exact ih (i + 1) g _ h4 (by omega) (by omega) hh4 (WS_ge hW1 fun k h1 h2 => mup_k h2) (by rw [mup_k (by decide)]; exact e13) kk
  exact go (nP σ) 0 f σ h (by omega) (by omega) hh hW rfl kk
end D2
