/-! THE JOIN: call by call: those that read, set, pane, glaze, stone, force -/
set_option maxRecDepth 100000
theorem RR_nn {σ σ' : ST} (hR : RR σ) (hk : ∀ k, k ∈ rrk → k ≠ 7 → k ≠ 8 → k ≠ 11 → k ≠ 4 → σ' k = σ k) (hW : WS σ') (hN : Nn σ') : RR σ' := by
  obtain ⟨h1, h2, h3, h4, h5, h6, h7⟩ := hR
  have q : ∀ k, k ∈ ([45, 46, 47, 48, 9, 12, 13, 110, 111, 3, 38, 39, 40, 41, 42, 43, 44, 230, 231, 233, 240, 241, 242, 243, 244] : List Nat) → σ' k = σ k := fun k z => by
    have w : ∀ k, k ∈ ([45, 46, 47, 48, 9, 12, 13, 110, 111, 3, 38, 39, 40, 41, 42, 43, 44, 230, 231, 233, 240, 241, 242, 243, 244] : List Nat) → k ∈ rrk ∧ k ≠ 7 ∧ k ≠ 8 ∧ k ≠ 11 ∧ k ≠ 4 := by decide
    obtain ⟨w1, w2, w3, w4, w5⟩ := w k z
    exact hk k w1 w2 w3 w4 w5
  have en : nP σ' = nP σ := by unfold nP; rw [q 13 (by decide)]
  refine ⟨hW, WH_of h2 (q 45 (by decide)) (q 46 (by decide)) (q 47 (by decide)), ?_, Iv_of h4 (q 9 (by decide)) (q 12 (by decide)) (q 13 (by decide)) (q 110 (by decide)) (q 111 (by decide)), ?_, Im_of h6 (fun k z => q k ?_) (by omega) (by rw [q 3 (by decide)]; exact Nat.le_refl _), hN⟩
  · unfold WF at h3 ⊢
    rw [q 45 (by decide), q 46 (by decide), q 47 (by decide), q 48 (by decide)]
    exact h3
  · unfold Bt at h5 ⊢
    rw [en, q 12 (by decide)]
    exact h5
  · have w : ∀ k, k ∈ ([38, 39, 40, 41, 42, 43, 44, 230, 231, 233, 240, 241, 242, 243, 244] : List Nat) → k ∈ ([45, 46, 47, 48, 9, 12, 13, 110, 111, 3, 38, 39, 40, 41, 42, 43, 44, 230, 231, 233, 240, 241, 242, 243, 244] : List Nat) := by decide
    exact w k z
theorem RR_lays {σ : ST} (hR : RR σ) {what of v : Int32} {j : Nat} (hj : j ≤ 4) (ej : what = nI j) (hs : seOk σ what of v) : RR (laysS σ j of.toNatClampNeg v) := by
  have hn := (nP_eq hR.ws).2
  have hN := hR.2.2.2.2.2.2
  have n5 : ∀ a b : Nat, a < 5 → b < 5 → (nI a = nI b ↔ a = b) := fun a b h1 h2 => nI_eq (by omega) (by omega)
  subst ej
  have hj5 : j = 0 ∨ j = 1 ∨ j = 2 ∨ j = 3 ∨ j = 4 := by omega
  have wet : ∀ i : Nat, (∀ p, p < nP σ → (mup σ 11 i v 11 (3 * p + 2)) = if 3 * p + 2 = i then v else σ 11 (3 * p + 2)) := fun i p _ => mup_kk
  rcases hj5 with rfl | rfl | rfl | rfl | rfl
  · rcases hs with ⟨-, h1, h2⟩ | ⟨z, -⟩ | ⟨z, -⟩ | ⟨z, -⟩ | ⟨z, -⟩
    · refine RR_nn (σ' := mup σ 7 0 v) hR (fun k k1 k2 k3 k4 k5 => mup_k k2) (WS_of hR.ws fun k hk => mup_k (fun z => by subst z; revert hk; decide)) ⟨?_, ?_, ?_⟩
      · rw [mup_kk, if_pos rfl]; exact h1
      · exact hN.2.1
      · exact hN.2.2
    · exact absurd z (by decide)
    · exact absurd z (by decide)
    · exact absurd z (by decide)
    · exact absurd z (by decide)
  · rcases hs with ⟨z, -⟩ | ⟨-, ho, h1, h2⟩ | ⟨z, -⟩ | ⟨z, -⟩ | ⟨z, -⟩
    · exact absurd z (by decide)
    · refine RR_nn (σ' := mup σ 8 of.toNatClampNeg v) hR (fun k k1 k2 k3 k4 k5 => mup_k k3) (WS_of hR.ws fun k hk => mup_k (fun z => by subst z; revert hk; decide)) ⟨hN.1, fun i hi => ?_, hN.2.2⟩
      rw [mup_kk]
      by_cases c : i = of.toNatClampNeg
      · rw [if_pos c]; exact h1
      · rw [if_neg c]; exact hN.2.1 i hi
    · exact absurd z (by decide)
    · exact absurd z (by decide)
    · exact absurd z (by decide)
  · rcases hs with ⟨z, -⟩ | ⟨z, -⟩ | ⟨-, ho, h1, h2⟩ | ⟨z, -⟩ | ⟨z, -⟩
    · exact absurd z (by decide)
    · exact absurd z (by decide)
    · refine RR_nn (σ' := mup σ 11 (3 * of.toNatClampNeg + (2 - 2)) v) hR (fun k k1 k2 k3 k4 k5 => mup_k k4) (WS_of hR.ws fun k hk => mup_k (fun z => by subst z; revert hk; decide)) ⟨hN.1, hN.2.1, fun p hp => ?_⟩
      have hp : p < nP σ := hp
      rw [wet _ p hp, if_neg (by omega)]
      exact hN.2.2 p hp
    · exact absurd z (by decide)
    · exact absurd z (by decide)
  · rcases hs with ⟨z, -⟩ | ⟨z, -⟩ | ⟨z, -⟩ | ⟨-, ho, h1, h2⟩ | ⟨z, -⟩
    · exact absurd z (by decide)
    · exact absurd z (by decide)
    · exact absurd z (by decide)
    · refine RR_nn (σ' := mup σ 11 (3 * of.toNatClampNeg + (3 - 2)) v) hR (fun k k1 k2 k3 k4 k5 => mup_k k4) (WS_of hR.ws fun k hk => mup_k (fun z => by subst z; revert hk; decide)) ⟨hN.1, hN.2.1, fun p hp => ?_⟩
      have hp : p < nP σ := hp
      rw [wet _ p hp, if_neg (by omega)]
      exact hN.2.2 p hp
    · exact absurd z (by decide)
  · rcases hs with ⟨z, -⟩ | ⟨z, -⟩ | ⟨z, -⟩ | ⟨z, -⟩ | ⟨-, ho, h1, h2⟩
    · exact absurd z (by decide)
    · exact absurd z (by decide)
    · exact absurd z (by decide)
    · exact absurd z (by decide)
    · refine RR_nn (σ' := mup σ 11 (3 * of.toNatClampNeg + (4 - 2)) v) hR (fun k k1 k2 k3 k4 k5 => mup_k k4) (WS_of hR.ws fun k hk => mup_k (fun z => by subst z; revert hk; decide)) ⟨hN.1, hN.2.1, fun p hp => ?_⟩
      have hp : p < nP σ := hp
      rw [wet _ p hp]
      by_cases c : 3 * p + 2 = 3 * of.toNatClampNeg + (4 - 2)
      · rw [if_pos c]; exact ⟨h1, h2⟩
      · rw [if_neg c]; exact hN.2.2 p hp
theorem jn_same {σ : ST} : jn σ σ = σ := by
  funext k
  unfold jn
  by_cases c : k = 110 ∨ k = 111 ∨ 200 < k
  · rw [if_pos c]
  · rw [if_neg c]
section J1
variable {f : Nat} {sa : Nat → Nat} {x : Nat} {ca : Nat → Nat} {σ : ST} {h : zH} {m : Nat} {ad : Nat → Nat} {K : Int32 → Int32 → zH → Prop}
theorem J_set (ok : mOk m ad) (hf : 400 ≤ f) (hJ : JJ sa x ca m ad σ h) (hR : RR σ) {a1 a2 a3 : Int32} (kk : ∀ r h2, FIN sa x ca m ad h2 → K r r h2) : zf0_set f h (some x) a1 a2 a3 fun r h1 => zf8_set f h1 (some m) a1 a2 a3 fun r2 h2 => K r r2 h2 := by
  obtain ⟨pa, rw, hC, go⟩ := J_go ok hJ
  have hW := hR.ws
  have hI := hR.2.2.2.1
  refine D_set hf hW hR.wb hC (fun z => ?_) (fun j hj ej hs h1 hC1 => ?_)
  · obtain ⟨hM, -⟩ := go _ _ _ _ _ hC
    exact O_set ok hf hW hM (fun _ => kk _ _ (J_id ok hJ hR hC hM (fun _ _ => rfl) (fun _ _ => rfl))) (fun j' a b c => absurd c z)
  · obtain ⟨hM, fin⟩ := go _ _ _ _ _ hC1
    refine O_set ok hf hW hM (fun z => absurd hs z) fun j' hj' ej' _ h2 hM2 => ?_
    have e : j = j' := (nI_eq (by omega) (by omega)).mp (ej.symm.trans ej')
    subst e
    rw [told_law hW hI]
    refine kk _ _ (fin _ _ hM2 (fun _ _ => rfl) (fun t k _ _ => by rw [Gm_lays]) ?_)
    rw [jn_same]
    exact RR_lays hR hj ej hs
theorem J_told (ok : mOk m ad) (hf : 400 ≤ f) (hJ : JJ sa x ca m ad σ h) (hR : RR σ) {a1 a2 : Int32} (kk : ∀ r h2, FIN sa x ca m ad h2 → K r r h2) : zf0_told f h (some x) a1 a2 fun r h1 => zf8_told f h1 (some m) a1 a2 fun r2 h2 => K r r2 h2 := by
  obtain ⟨pa, rw, hC, go⟩ := J_go ok hJ
  refine C_told hf hR.ws hR.wb hC fun h1 hC1 => ?_
  obtain ⟨hM, -⟩ := go _ _ _ _ _ hC1
  refine L_told ok hf hR.ws hM fun h2 hM2 => ?_
  rw [told_law hR.ws hR.2.2.2.1]
  exact kk _ _ (J_id ok hJ hR hC1 hM2 (fun _ _ => rfl) (fun _ _ => rfl))
theorem J_light (ok : mOk m ad) (hf : 400 ≤ f) (hJ : JJ sa x ca m ad σ h) (hR : RR σ) {a1 a2 a3 : Int32} (kk : ∀ r h2, FIN sa x ca m ad h2 → K r r h2) : zf0_light f h (some x) a1 a2 a3 fun r h1 => zf8_light f h1 (some m) a1 a2 a3 fun r2 h2 => K r r2 h2 := by
  obtain ⟨pa, rw, hC, go⟩ := J_go ok hJ
  refine D_light hR.ws hC fun h1 hC1 => ?_
  obtain ⟨hM, -⟩ := go _ _ _ _ _ hC1
  refine O_light ok hf hR.ws hM fun h2 hM2 => ?_
  exact kk _ _ (J_id ok hJ hR hC1 hM2 (fun _ _ => rfl) (fun _ _ => rfl))
theorem sp20 (hR : RR σ) : ∀ p, p < nP σ → ∃ s, s < 20 ∧ sp σ p = nI s := fun p hp => by
  have hn := (nP_eq hR.ws).2
  exact nsp_nI (hR.ws.2.2.2.2.2.2.2 p (by omega)) (hR.2.2.2.2.2.2.2.2 p hp)
theorem J_house (ok : mOk m ad) (hf : 400 ≤ f) (hJ : JJ sa x ca m ad σ h) (hR : RR σ) {a1 : Int32} (kk : ∀ r h2, FIN sa x ca m ad h2 → K r r h2) : zf0_house f h (some x) a1 fun r h1 => zf8_house f h1 (some m) a1 fun r2 h2 => K r r2 h2 := by
  obtain ⟨pa, rw, hC, go⟩ := J_go ok hJ
  have hW := hR.ws
  have hI := hR.2.2.2.1
  refine D_house hf hW hR.wb hC fun h1 hC1 => ?_
  obtain ⟨hM, -⟩ := go _ _ _ _ _ hC1
  refine O_house ok hf hW hM fun h2 hM2 => ?_
  rw [bri_law hW hI, price_law hW hI, qst_law hW hI, me_all hW hI, spill_law hW hI (sp20 hR)]
  exact kk _ _ (J_id ok hJ hR hC1 hM2 (fun _ _ => rfl) (fun _ _ => rfl))
theorem J_half (ok : mOk m ad) (hf : 400 ≤ f) (hJ : JJ sa x ca m ad σ h) (hR : RR σ) {a1 : Int32} (kk : ∀ r h2, FIN sa x ca m ad h2 → K r r h2) : zf0_half f h (some x) a1 fun r h1 => zf8_half f h1 (some m) a1 fun r2 h2 => K r r2 h2 := by
  obtain ⟨pa, rw, hC, go⟩ := J_go ok hJ
  have hW := hR.ws
  have hI := hR.2.2.2.1
  refine D_half hf hW hR.wb hC (fun z => ?_) (fun oo ho eo h1 hC1 => ?_)
  · obtain ⟨hM, -⟩ := go _ _ _ _ _ hC
    refine O_half ok hf hW hM (fun _ => kk _ _ (J_id ok hJ hR hC hM (fun _ _ => rfl) (fun _ _ => rfl))) (fun o' a b => ?_)
    exact absurd (show opn a1 by rw [b]; exact ⟨by rw [nI_toInt (by omega)]; omega, by rw [nI_toInt (by omega)]; omega⟩) z
  · obtain ⟨hM, -⟩ := go _ _ _ _ _ hC1
    refine O_half ok hf hW hM (fun z => absurd (show opn a1 by rw [eo]; exact ⟨by rw [nI_toInt (by omega)]; omega, by rw [nI_toInt (by omega)]; omega⟩) z) fun o' ho' eo' h2 hM2 => ?_
    have e : oo = o' := (nI_eq (by omega) (by omega)).mp (eo.symm.trans eo')
    subst e
    rw [half_law hW hI ho]
    exact kk _ _ (J_id ok hJ hR hC1 hM2 (fun _ _ => rfl) (fun _ _ => rfl))
theorem J_turnOut (ok : mOk m ad) (hf : 400 ≤ f) (hJ : JJ sa x ca m ad σ h) (hR : RR σ) {a1 : Int32} (kk : ∀ r h2, FIN sa x ca m ad h2 → K r r h2) : zf0_turnOut f h (some x) a1 fun r h1 => zf8_turnOut f h1 (some m) a1 fun r2 h2 => K r r2 h2 := by
  obtain ⟨pa, rw, hC, go⟩ := J_go ok hJ
  have hW := hR.ws
  have hI := hR.2.2.2.1
  refine D_turnOut hf hW hR.wb hC (fun z => ?_) (fun c h1 hC1 => ?_)
  · obtain ⟨hM, -⟩ := go _ _ _ _ _ hC
    exact O_turnOut ok hf hW hM (fun _ => kk _ _ (J_id ok hJ hR hC hM (fun _ _ => rfl) (fun _ _ => rfl))) (fun c => absurd c z)
  · obtain ⟨hM, -⟩ := go _ _ _ _ _ hC1
    refine O_turnOut ok hf hW hM (fun z => absurd c z) fun _ h2 hM2 => ?_
    rw [tu_law hW hI]
    exact kk _ _ (J_id ok hJ hR hC1 hM2 (fun _ _ => rfl) (fun _ _ => rfl))
theorem J_swap (ok : mOk m ad) (hf : 400 ≤ f) (hJ : JJ sa x ca m ad σ h) (hR : RR σ) {a1 : Int32} (kk : ∀ r h2, FIN sa x ca m ad h2 → K r r h2) : zf0_swap f h (some x) a1 fun r h1 => zf8_swap f h1 (some m) a1 fun r2 h2 => K r r2 h2 := by
  obtain ⟨pa, rw, hC, go⟩ := J_go ok hJ
  have hW := hR.ws
  have hI := hR.2.2.2.1
  refine D_swap hf hW hR.wb (fun i j hi hj hij => ch_twice hW hI hi hj hij) hC (fun z => ?_) (fun c h1 hC1 => ?_)
  · obtain ⟨hM, -⟩ := go _ _ _ _ _ hC
    exact O_swap ok hf hW hM (fun _ => kk _ _ (J_id ok hJ hR hC hM (fun _ _ => rfl) (fun _ _ => rfl))) (fun c => absurd c z)
  · obtain ⟨hM, -⟩ := go _ _ _ _ _ hC1
    refine O_swap ok hf hW hM (fun z => absurd c z) fun _ h2 hM2 => ?_
    rw [swap_law hW hI]
    exact kk _ _ (J_id ok hJ hR hC1 hM2 (fun _ _ => rfl) (fun _ _ => rfl))
theorem offG_r {σ1 : ST} (h : offG σ1 σ) : ∀ k, (k ∈ shk ∨ k ∈ rrk) → σ1 k = σ k := fun k hk => by
  have w : ∀ k, (k ∈ shk ∨ k ∈ rrk) → k ≠ 223 ∧ (k < 225 ∨ 228 < k) ∧ (k < 300 ∨ 333 < k) := fun k hk => by
    rcases hk with z | z
    · have : ∀ k, k ∈ shk → k ≠ 223 ∧ (k < 225 ∨ 228 < k) ∧ (k < 300 ∨ 333 < k) := by decide
      exact this k z
    · have : ∀ k, k ∈ rrk → k ≠ 223 ∧ (k < 225 ∨ 228 < k) ∧ (k < 300 ∨ 333 < k) := by decide
      exact this k z
  obtain ⟨a, b, c⟩ := w k hk
  exact h k a b c
theorem offF_r {σ1 : ST} (h : offF σ1 σ) : ∀ k, (k ∈ shk ∨ k ∈ rrk) → σ1 k = σ k := fun k hk => h k (by
  rcases hk with z | z
  · have : ∀ k, k ∈ shk → k ∉ ([29, 30, 31, 32, 33, 34, 35, 36] : List Nat) := by decide
    exact this k z
  · have : ∀ k, k ∈ rrk → k ∉ ([29, 30, 31, 32, 33, 34, 35, 36] : List Nat) := by decide
    exact this k z)
theorem J_brightest (ok : mOk m ad) (hf : 400 ≤ f) (hJ : JJ sa x ca m ad σ h) (hR : RR σ) {a1 : Int32} (kk : ∀ r h2, FIN sa x ca m ad h2 → K r r h2) : zf0_brightest f h (some x) a1 fun r h1 => zf8_brightest f h1 (some m) a1 fun r2 h2 => K r r2 h2 := by
  obtain ⟨pa, rw, hC, go⟩ := J_go ok hJ
  have hW := hR.ws
  have hI := hR.2.2.2.1
  have hN := hR.2.2.2.2.2.2
  refine D_brightest hf hW hR.wb hC (fun z => ?_) (fun c σ1 h1 hC1 ho1 => ?_)
  · obtain ⟨hM, -⟩ := go _ _ _ _ _ hC
    exact O_brightest ok hf hW hM (fun _ => kk _ _ (J_id ok hJ hR hC hM (fun _ _ => rfl) (fun _ _ => rfl))) (fun c => absurd c z)
  · obtain ⟨hM, -⟩ := go _ _ _ _ _ hC1
    refine O_brightest ok hf hW hM (fun z => absurd c z) fun _ σ2 h2 hM2 ho2 => ?_
    rw [bright_law hW hI hN.1 hN.2.1]
    exact kk _ _ (J_id ok hJ hR hC1 hM2 (offG_r ho1) (offF_r ho2))
theorem J_cheapest (ok : mOk m ad) (hf : 400 ≤ f) (hJ : JJ sa x ca m ad σ h) (hR : RR σ) {a1 : Int32} (kk : ∀ r h2, FIN sa x ca m ad h2 → K r r h2) : zf0_cheapest f h (some x) a1 fun r h1 => zf8_cheapest f h1 (some m) a1 fun r2 h2 => K r r2 h2 := by
  obtain ⟨pa, rw, hC, go⟩ := J_go ok hJ
  have hW := hR.ws
  have hI := hR.2.2.2.1
  have hN := hR.2.2.2.2.2.2
  refine D_cheapest hf hW hR.wb hC (fun z => ?_) (fun c σ1 h1 hC1 ho1 => ?_)
  · obtain ⟨hM, -⟩ := go _ _ _ _ _ hC
    exact O_cheapest ok hf hW hM (fun _ => kk _ _ (J_id ok hJ hR hC hM (fun _ _ => rfl) (fun _ _ => rfl))) (fun c => absurd c z)
  · obtain ⟨hM, -⟩ := go _ _ _ _ _ hC1
    refine O_cheapest ok hf hW hM (fun z => absurd c z) fun _ σ2 h2 hM2 ho2 => ?_
    rcases cheap_law (G := Gm σ) (what := a1) hW hI hN.1 hN.2.1 with e | e
    · rw [e]
      exact kk _ _ (J_id ok hJ hR hC1 hM2 (offG_r ho1) (offF_r ho2))
    · exact absurd c e
theorem J_drawn (ok : mOk m ad) (hf : 400 ≤ f) (hJ : JJ sa x ca m ad σ h) (hR : RR σ) {a1 : Int32} (kk : ∀ r h2, FIN sa x ca m ad h2 → K r r h2) : zf0_drawn f h (some x) a1 fun r h1 => zf8_drawn f h1 (some m) a1 fun r2 h2 => K r r2 h2 := by
  obtain ⟨pa, rw, hC, go⟩ := J_go ok hJ
  have hW := hR.ws
  have hI := hR.2.2.2.1
  refine D_drawn hf hW hR.wb hC (fun h1 hC1 => ?_)
  obtain ⟨hM, -⟩ := go _ _ _ _ _ hC1
  refine O_drawn ok hf hW hM fun h2 hM2 => ?_
  rw [drawn_law hW hI]
  refine kk _ _ (J_id ok hJ hR hC1 hM2 (fun k hk => n229_k (lbC_dr σ a1) ?_) (fun k hk => n37_k (lb_dr σ a1) ?_))
  · intro z; subst z; revert hk; decide
  · intro z; subst z; revert hk; decide
theorem J_count (ok : mOk m ad) (hf : 400 ≤ f) (hJ : JJ sa x ca m ad σ h) (hR : RR σ) {a1 : Int32} (kk : ∀ r h2, FIN sa x ca m ad h2 → K r r h2) : zf0_count f h (some x) a1 fun r h1 => zf8_count f h1 (some m) a1 fun r2 h2 => K r r2 h2 := by
  obtain ⟨pa, rw, hC, go⟩ := J_go ok hJ
  have hW := hR.ws
  have hI := hR.2.2.2.1
  have hn := (nP_eq hW).2
  obtain ⟨j, hj, ej⟩ := hR.2.2.2.2.1
  have hj64 : j < 64 := Nat.lt_of_lt_of_le hj (Nat.pow_le_pow_right (n := 2) (by decide) (show nP σ ≤ 6 from hn))
  refine D_count hf hW hC ?_
  obtain ⟨hM, -⟩ := go _ _ _ _ _ hC
  refine O_count ok hf hW ⟨j, hj64, ej⟩ hM ?_
  rw [im_law hW hI, bm_law hI (by omega) hj ej]
  exact kk _ _ (J_id ok hJ hR hC hM (fun _ _ => rfl) (fun _ _ => rfl))
theorem J_tells (ok : mOk m ad) (hf : 400 ≤ f) (hJ : JJ sa x ca m ad σ h) (hR : RR σ) {mc ms : Nat} (hmc : 8 ≤ mc) (hms : 2000 ≤ ms) {a1 a2 a3 : Int32} (kk : ∀ r h2, FIN sa x ca m ad h2 → K r r h2) : zf0_tells f h mc ms (some x) a1 a2 a3 fun r h1 => zf8_tells f h1 (some m) a1 a2 a3 fun r2 h2 => K r r2 h2 := by
  obtain ⟨pa, rw, hC, go⟩ := J_go ok hJ
  have hW := hR.ws
  have hH := hR.2.1
  have un : ∀ {a b : Nat}, a < 4 → b < 4 → a1 = nI a → a1 = nI b → a = b := fun h1 h2 e1 e2 => (nI_eq (by omega) (by omega)).mp (e1.symm.trans e2)
  refine D_tells hf hW hH hR.wb hC hmc hms (fun z => ?_) (fun sn hs es hok h0 => ?_) (fun sn hs es hok h1 h8 => ?_) (fun sn w hs es ew hw hok h1 h8 h1' hC1 => ?_)
  · obtain ⟨hM, -⟩ := go _ _ _ _ _ hC
    exact O_tells ok hf hW hH hM (fun _ => kk _ _ (J_id ok hJ hR hC hM (fun _ _ => rfl) (fun _ _ => rfl))) (fun s a b c => absurd c z) (fun s a b c => absurd c z) (fun s w a b c d e => absurd e z)
  · obtain ⟨hM, -⟩ := go _ _ _ _ _ hC
    refine O_tells ok hf hW hH hM (fun z => absurd hok z) (fun s a b c d => kk _ _ (J_id ok hJ hR hC hM (fun _ _ => rfl) (fun _ _ => rfl))) (fun s a b c d => ?_) (fun s w a b c d e g => ?_)
    · rw [← un hs a es b, h0] at d; exact absurd d (by decide)
    · rw [← un hs a es b, h0] at g; exact absurd g (by decide)
  · obtain ⟨hM, -⟩ := go _ _ _ _ _ hC
    refine O_tells ok hf hW hH hM (fun z => absurd hok z) (fun s a b c d => ?_) (fun s a b c d e => kk _ _ (J_id ok hJ hR hC hM (fun _ _ => rfl) (fun _ _ => rfl))) (fun s w a b c d e g i => ?_)
    · rw [← un hs a es b, h1] at d; exact absurd d (by decide)
    · rw [← un hs a es b] at i; exact absurd i h8
  · obtain ⟨hM, -⟩ := go _ _ _ _ _ hC1
    refine O_tells ok hf hW hH hM (fun z => absurd hok z) (fun s a b c d => ?_) (fun s a b c d e => ?_) (fun s w' a b c d e g i h2 hM2 => ?_)
    · rw [← un hs a es b, h1] at d; exact absurd d (by decide)
    · rw [← un hs a es b] at e; exact absurd h8 e
    · have e1 := un hs a es b
      subst e1
      have e2 : w = w' := (nI_eq (by omega) (by omega)).mp (ew.symm.trans c)
      subst e2
      rw [te_law hW (by omega)]
      exact kk _ _ (J_id ok hJ hR hC1 hM2 (fun _ _ => rfl) (fun _ _ => rfl))
theorem J_taken (ok : mOk m ad) (hf : 400 ≤ f) (hJ : JJ sa x ca m ad σ h) (hR : RR σ) {mc ms : Nat} (hmc : 8 ≤ mc) (hms : 2000 ≤ ms) {a1 a2 : Int32} (kk : ∀ r h2, FIN sa x ca m ad h2 → K r r h2) : zf0_taken f h mc ms (some x) a1 a2 fun r h1 => zf8_taken f h1 (some m) a1 a2 fun r2 h2 => K r r2 h2 := by
  obtain ⟨pa, rw, hC, go⟩ := J_go ok hJ
  have hW := hR.ws
  have hn := (nP_eq hW).2
  have k := fun r h2 => kk r h2
  obtain ⟨hM, -⟩ := go _ _ _ _ _ hC
  have kid := J_id ok hJ hR hC hM (fun _ _ => rfl) (fun _ _ => rfl)
  have k5 : ∀ kn : Nat, kn < 6 → a2 = nI kn → (0 ≤ a2.toInt ∧ a2.toInt ≤ 5) := fun kn h e => by rw [e, nI_toInt (by omega)]; omega
  have kp : ∀ pn : Nat, pn < nP σ → a1 = nI pn → pnl σ a1 := fun pn h e => by rw [e]; exact ⟨by rw [nI_toInt (by omega)]; omega, by rw [nI_toInt (by omega)]; omega⟩
  refine D_taken hW hC hmc hms (fun z => ?_) (fun z1 z2 => ?_) (fun kn pn h1 e1 h2 e2 => ?_)
  · exact O_taken ok hf hW hM (fun _ => kk _ _ kid) (fun c => absurd c z) (fun kn pn a b c d => absurd (k5 kn a b) z)
  · exact O_taken ok hf hW hM (fun c => absurd z1 c) (fun _ _ => kk _ _ kid) (fun kn pn a b c d => absurd (kp pn c d) z2)
  · refine O_taken ok hf hW hM (fun c => absurd (k5 kn h1 e1) c) (fun _ c => absurd (kp pn h2 e2) c) (fun kn' pn' a b c d => ?_)
    have e3 : kn = kn' := (nI_eq (by omega) (by omega)).mp (e1.symm.trans b)
    have e4 : pn = pn' := (nI_eq (by omega) (by omega)).mp (e2.symm.trans d)
    subst e3
    subst e4
    exact kk _ _ kid
end J1
