/-! THE JOIN: call by call: pane, glaze, stone, feed, force, settle, chance -/
set_option maxRecDepth 100000
/-- the image's keys -/
def imk : List Nat := [38, 39, 40, 41, 42, 43, 44, 230, 231, 233, 240, 241, 242, 243, 244]
theorem RR_mk {σ σ' : ST} (hR : RR σ) (hW : WS σ') (hI : Iv σ') (hB : Bt σ') (hk : ∀ k, k ∈ ([7, 8, 45, 46, 47, 48, 38, 39, 40, 41, 42, 43, 44, 230, 231, 233, 240, 241, 242, 243, 244] : List Nat) → σ' k = σ k) (hn : nP σ ≤ nP σ') (h3 : (σ 3 0).toNatClampNeg ≤ (σ' 3 0).toNatClampNeg) (hN : ∀ p, p < nP σ' → 0 ≤ (σ' 11 (3 * p + 2)).toInt ∧ (σ' 11 (3 * p + 2)).toInt ≤ 9) : RR σ' := by
  obtain ⟨h1, h2, h3', h4, h5, h6, h7⟩ := hR
  refine ⟨hW, WH_of h2 (hk 45 (by decide)) (hk 46 (by decide)) (hk 47 (by decide)), ?_, hI, hB, Im_of h6 (fun k z => hk k ?_) hn h3, ?_, ?_, hN⟩
  · unfold WF at h3' ⊢
    rw [hk 45 (by decide), hk 46 (by decide), hk 47 (by decide), hk 48 (by decide)]
    exact h3'
  · have w : ∀ k, k ∈ ([38, 39, 40, 41, 42, 43, 44, 230, 231, 233, 240, 241, 242, 243, 244] : List Nat) → k ∈ ([7, 8, 45, 46, 47, 48, 38, 39, 40, 41, 42, 43, 44, 230, 231, 233, 240, 241, 242, 243, 244] : List Nat) := by decide
    exact w k z
  · rw [hk 7 (by decide)]; exact h7.1
  · rw [hk 8 (by decide)]; exact h7.2.1
theorem paS_k {σ : ST} {n : Nat} {k nb on_ : Int32} {j : Nat} (h : j ∉ ([10, 11, 12, 13] : List Nat)) : paS σ n k nb on_ j = σ j := by
  simp only [List.mem_cons, List.not_mem_nil, or_false, not_or] at h
  unfold paS
  rw [mup_k h.2.2.2, mup_k h.2.2.1, mup_k h.2.1, mup_k h.2.1, mup_k h.2.1, mup_k h.1]
theorem paT_k {σ : ST} {n : Nat} {k nb on_ : Int32} {j : Nat} (h : j ∉ ([10, 11, 12, 13, 110, 111] : List Nat)) : paT σ n k nb on_ j = σ j := by
  simp only [List.mem_cons, List.not_mem_nil, or_false, not_or] at h
  unfold paT
  rw [mup_k h.2.2.2.2.2, mup_k h.2.2.2.2.1, paS_k (by simp only [List.mem_cons, List.not_mem_nil, or_false, not_or]; exact ⟨h.1, h.2.1, h.2.2.1, h.2.2.2.1⟩)]
theorem RR_paT {σ : ST} (hR : RR σ) (h6 : nP σ < 6) {k nb on_ : Int32} (hk : 0 ≤ k.toInt ∧ k.toInt ≤ 5) : RR (paT σ (nP σ) k nb on_) := by
  have hIB := Iv_paT hR.ws hR.2.2.2.1 hR.2.2.2.2.1 h6 k nb on_
  have en : nP (paT σ (nP σ) k nb on_) = nP σ + 1 := by
    show (nI (nP σ + 1)).toNatClampNeg = nP σ + 1
    exact nI_clamp (by omega)
  refine RR_mk hR (WS_of (WS_pa (nb := nb) (on_ := on_) hR.ws h6 hk) fun j hj => ?_) hIB.1 hIB.2 (fun j hj => paT_k ?_) (by rw [en]; omega) (Nat.le_of_eq (by rw [paT_k (j := 3) (by decide)])) (fun p hp => ?_)
  · simp only [List.mem_cons, List.not_mem_nil, or_false] at hj
    rcases hj with rfl | rfl | rfl | rfl | rfl | rfl | rfl | rfl | rfl <;> rfl
  · have w : ∀ j, j ∈ ([7, 8, 45, 46, 47, 48, 38, 39, 40, 41, 42, 43, 44, 230, 231, 233, 240, 241, 242, 243, 244] : List Nat) → j ∉ ([10, 11, 12, 13, 110, 111] : List Nat) := by decide
    exact w j hj
  · rw [en] at hp
    have e : paT σ (nP σ) k nb on_ 11 (3 * p + 2) = if 3 * p + 2 = 3 * nP σ + 2 then 0 else σ 11 (3 * p + 2) := by
      show mup (mup (mup (mup σ 10 (nP σ) k) 11 (3 * nP σ) nb) 11 (3 * nP σ + 1) on_) 11 (3 * nP σ + 2) 0 11 (3 * p + 2) = _
      rw [mup_kk]
      by_cases c : 3 * p + 2 = 3 * nP σ + 2
      · rw [if_pos c, if_pos c]
      · rw [if_neg c, if_neg c, mup_kk, if_neg (by omega), mup_kk, if_neg (by omega), mup_k (by decide)]
    rw [e]
    by_cases c : 3 * p + 2 = 3 * nP σ + 2
    · rw [if_pos c]; decide
    · rw [if_neg c]; exact hR.2.2.2.2.2.2.2.2 p (by omega)
theorem jn_pa {σ : ST} {n : Nat} {k nb on_ : Int32} : jn (paC σ n k nb on_) (paS σ n k nb on_) = paT σ n k nb on_ := by
  funext j
  by_cases c : j = 110 ∨ j = 111 ∨ 200 < j
  · rw [jn_1 c]
    rcases c with rfl | rfl | c
    · rfl
    · rfl
    · rw [paC_k (by simp only [List.mem_cons, List.not_mem_nil, or_false]; omega), paT_k (by simp only [List.mem_cons, List.not_mem_nil, or_false]; omega)]
  · rw [jn_2 c]
    unfold paT
    rw [mup_k (by omega), mup_k (by omega)]
theorem glS_k {σ : ST} {p : Int32} {k : Nat} (h : k ≠ 9) : glS σ p k = σ k := fo_key (fun i a => mup_k h) _ _ _
theorem jn_gl {σ : ST} {oo : Nat} {p : Int32} : jn (glC σ (nI oo) p) (mup (glS σ p) 9 oo p) = glT σ oo p := by
  funext j
  by_cases c : j = 110 ∨ j = 111 ∨ 200 < j
  · rw [jn_1 c]
    unfold glT
    rw [if_neg (by omega)]
  · rw [jn_2 c]
    unfold glT
    by_cases c9 : j = 9
    · rw [if_pos c9, c9]
    · rw [if_neg c9, mup_k c9, glS_k c9, glC_k (by omega)]
theorem RR_glT {σ : ST} (hR : RR σ) {oo : Nat} (ho : oo < 4) {p : Int32} (hp : p = -1 ∨ ∃ pn : Nat, pn < nP σ ∧ p = nI pn) : RR (glT σ oo p) := by
  have en : nP (glT σ oo p) = nP σ := by unfold nP; rw [glT_k (by decide) (by decide)]
  refine RR_mk hR (WS_glT hR.ws hp) (Iv_glT hR.ws hR.2.2.2.1 ho hp) ?_ (fun j hj => glT_k (fun z => by subst z; revert hj; decide) (fun z => by subst z; revert hj; decide)) (by omega) (Nat.le_of_eq (by rw [glT_k (by decide) (by decide)])) (fun q hq => ?_)
  · have := hR.2.2.2.2.1
    unfold Bt at this ⊢
    rw [en, glT_k (by decide) (by decide)]
    exact this
  · rw [en] at hq
    rw [glT_k (by decide) (by decide)]
    exact hR.2.2.2.2.2.2.2.2 q hq
theorem jn_st {σ : ST} {p : Nat} : jn (mup σ 111 p 1) (mup σ 12 0 (σ 12 0 ||| (1 <<< (nI p &&& 31)))) = stT σ p := by
  funext j
  by_cases c : j = 110 ∨ j = 111 ∨ 200 < j
  · rw [jn_1 c]
    rcases c with rfl | rfl | c
    · rfl
    · rfl
    · unfold stT
      rw [mup_k (by omega), mup_k (by omega), mup_k (by omega)]
  · rw [jn_2 c]
    unfold stT
    rw [mup_k (k := 111) (by omega)]
theorem RR_stT {σ : ST} (hR : RR σ) {p : Nat} (hp : p < nP σ) : RR (stT σ p) := by
  have hIB := Iv_stT hR.ws hR.2.2.2.1 hR.2.2.2.2.1 hp
  have ek : ∀ j, j ≠ 12 → j ≠ 111 → stT σ p j = σ j := fun j h1 h2 => by unfold stT; rw [mup_k h2, mup_k h1]
  have en : nP (stT σ p) = nP σ := rfl
  exact RR_mk hR (WS_of hR.ws fun j hj => ek j (fun z => by subst z; revert hj; decide) (fun z => by subst z; revert hj; decide)) hIB.1 hIB.2 (fun j hj => ek j (fun z => by subst z; revert hj; decide) (fun z => by subst z; revert hj; decide)) (Nat.le_refl _) (Nat.le_refl _) (fun q hq => hR.2.2.2.2.2.2.2.2 q hq)
theorem stF_c : ∀ (j k : Nat) (a b : ST × Int32), a.1 9 = b.1 9 → a.2 = b.2 → (fo stF j k a).1 9 = (fo stF j k b).1 9 := by
  intro j
  induction j with
  | zero => intro k a b h _; exact h
  | succ j ih =>
    intro k a b h1 h2
    refine ih (k + 1) _ _ ?_ ?_
    · show mup a.1 9 (3 - k) _ 9 = mup b.1 9 (3 - k) _ 9
      unfold mup
      rw [if_pos rfl, if_pos rfl, h1, h2]
    · show a.2 / 10 = b.2 / 10
      rw [h2]
theorem stG_c : ∀ (j k : Nat) (a b : ST × Int32), a.1 110 = b.1 110 → a.2 = b.2 → (fo stG j k a).1 110 = (fo stG j k b).1 110 := by
  intro j
  induction j with
  | zero => intro k a b h _; exact h
  | succ j ih =>
    intro k a b h1 h2
    refine ih (k + 1) _ _ ?_ ?_
    · unfold stG
      rw [h2]
      by_cases c : 0 < b.2 - b.2 / 10 * 10
      · rw [if_pos c, if_pos c]
        show mup a.1 110 _ _ 110 = mup b.1 110 _ _ 110
        unfold mup
        rw [if_pos rfl, if_pos rfl, h1]
      · rw [if_neg c, if_neg c]
        exact h1
    · show a.2 / 10 = b.2 / 10
      rw [h2]
theorem st0_c {σ1 σ : ST} (hn : nP σ1 = nP σ) (h : σ1 110 = σ 110) : st0 σ1 110 = st0 σ 110 := by
  unfold st0
  rw [hn]
  have go : ∀ (j i : Nat) (a b : ST), a 110 = b 110 → fo (fun p σ => mup σ 110 p (-1)) j i a 110 = fo (fun p σ => mup σ 110 p (-1)) j i b 110 := by
    intro j
    induction j with
    | zero => intro i a b h; exact h
    | succ j ih =>
      intro i a b h
      refine ih (i + 1) _ _ ?_
      show mup a 110 i (-1) 110 = mup b 110 i (-1) 110
      unfold mup
      rw [if_pos rfl, if_pos rfl, h]
  exact go _ _ _ _ h
section J2
variable {f : Nat} {sa : Nat → Nat} {x : Nat} {ca : Nat → Nat} {σ : ST} {h : zH} {m : Nat} {ad : Nat → Nat} {K : Int32 → Int32 → zH → Prop}
theorem J_pane (ok : mOk m ad) (hJ : JJ sa x ca m ad σ h) (hR : RR σ) {mc ms : Nat} (hmc : 1 ≤ mc) (hms : 5 ≤ ms) {a1 a2 a3 : Int32} (kk : ∀ r h2, FIN sa x ca m ad h2 → K r r h2) : zf0_pane f h mc ms (some x) a1 a2 a3 fun r h1 => zf8_pane f h1 (some m) a1 a2 a3 fun r2 h2 => K r r2 h2 := by
  obtain ⟨pa, rw, hC, go⟩ := J_go ok hJ
  have hW := hR.ws
  refine D_pane hW hC hmc hms (fun z => ?_) (fun z z6 => ?_) (fun z z6 q h1 hq hC1 => ?_)
  · obtain ⟨hM, -⟩ := go _ _ _ _ _ hC
    exact O_pane ok hW hM (fun _ => kk _ _ (J_id ok hJ hR hC hM (fun _ _ => rfl) (fun _ _ => rfl))) (fun c => absurd c z) (fun c => absurd c z)
  · obtain ⟨hM, -⟩ := go _ _ _ _ _ hC
    exact O_pane ok hW hM (fun c => absurd z c) (fun _ _ => kk _ _ (J_id ok hJ hR hC hM (fun _ _ => rfl) (fun _ _ => rfl))) (fun _ c => by omega)
  · obtain ⟨hM, fin⟩ := go _ _ _ _ _ hC1
    refine O_pane ok hW hM (fun c => absurd z c) (fun _ c => by omega) (fun c c6 h2 hM2 => ?_)
    refine kk _ _ (fin _ _ hM2 (fun k hk => ?_) (fun t k _ _ => by rw [Gm_of (paS_k (j := 1) (by decide)) (paS_k (j := 2) (by decide))]) ?_)
    · have w : ∀ j, j ∈ shk → j = 10 ∨ j = 11 ∨ j = 13 ∨ (j ∉ ([10, 11, 12, 13] : List Nat) ∧ j ∉ ([10, 11, 110, 111, 13] : List Nat)) := by decide
      rcases w k hk with rfl | rfl | rfl | ⟨y1, y2⟩
      · rfl
      · rfl
      · rfl
      · rw [paS_k y1, paC_k y2]
    · rw [jn_pa]
      exact RR_paT hR z6 z.1
theorem J_glaze (ok : mOk m ad) (hf : 400 ≤ f) (hJ : JJ sa x ca m ad σ h) (hR : RR σ) {a1 a2 : Int32} (kk : ∀ r h2, FIN sa x ca m ad h2 → K r r h2) : zf0_glaze f h (some x) a1 a2 fun r h1 => zf8_glaze f h1 (some m) a1 a2 fun r2 h2 => K r r2 h2 := by
  obtain ⟨pa, rw, hC, go⟩ := J_go ok hJ
  have hW := hR.ws
  have hI := hR.2.2.2.1
  have hn := (nP_eq hW).2
  have kid := fun hM => kk (-2) h (J_id ok hJ hR hC hM (fun _ _ => rfl) (fun _ _ => rfl))
  have op : ∀ oo : Nat, oo < 4 → a1 = nI oo → opn a1 := fun oo h1 e => by rw [e]; exact ⟨by rw [nI_toInt (by omega)]; omega, by rw [nI_toInt (by omega)]; omega⟩
  refine D_glaze hf hW hR.wb hC (fun z => ?_) (fun z1 z2 z3 => ?_) (fun oo ho eo hp h1 hC1 => ?_)
  · obtain ⟨hM, -⟩ := go _ _ _ _ _ hC
    refine O_glaze ok hf hW hM (fun _ => kid hM) (fun c1 c2 _ => ?_) (fun oo ho eo hp => ?_)
    · rcases z with z | z
      · exact absurd c1 z
      · exact absurd (Or.inr c2) z
    · rcases z with z | z
      · exact absurd (op oo ho eo) z
      · rcases hp with y | y
        · exact absurd (Or.inl y) z
        · exact absurd (Or.inr y.1) z
  · obtain ⟨hM, -⟩ := go _ _ _ _ _ hC
    have z4 : ab σ a2 = 1 := by rw [← broken_ans hI hn z2]; exact z3
    refine O_glaze ok hf hW hM (fun c => ?_) (fun _ _ _ => kk _ _ (J_id ok hJ hR hC hM (fun _ _ => rfl) (fun _ _ => rfl))) (fun oo ho eo hp => ?_)
    · rcases c with c | c
      · exact absurd z1 c
      · exact absurd (Or.inr z2) c
    · rcases hp with y | y
      · obtain ⟨p, hp, ep⟩ := pnl_nat z2
        rw [y] at ep
        exact absurd ep.symm (nIn1 (by omega))
      · rw [z4] at y
        exact absurd y.2 (by decide)
  · subst eo
    obtain ⟨hM, fin⟩ := go _ _ _ _ _ hC1
    have op0 := op oo ho rfl
    refine O_glaze ok hf hW hM (fun c => ?_) (fun c1 c2 c3 => ?_) (fun o2 ho2 eo2 hp2 h2 hM2 => ?_)
    · rcases c with c | c
      · exact absurd op0 c
      · exfalso
        refine c ?_
        rcases hp with y | y
        · exact Or.inl y
        · exact Or.inr y.1
    · exfalso
      rcases hp with y | y
      · obtain ⟨p, hp, ep⟩ := pnl_nat c2
        rw [y] at ep
        exact absurd ep.symm (nIn1 (by omega))
      · have := y.2
        rw [broken_ans hI hn y.1, c3] at this
        exact absurd this (by decide)
    · have e : oo = o2 := (nI_eq (by omega) (by omega)).mp eo2
      subst e
      have hpn : a2 = -1 ∨ ∃ pn : Nat, pn < nP σ ∧ a2 = nI pn := by
        rcases hp with y | y
        · exact Or.inl y
        · obtain ⟨p, h1, h2⟩ := pnl_nat y.1
          exact Or.inr ⟨p, h1, h2⟩
      rw [wh_law hW hI ho]
      refine kk _ _ (fin _ _ hM2 (fun k hk => ?_) (fun t k _ _ => by rw [Gm_of (σ := σ) ((mup_k (by decide)).trans (glS_k (by decide))) ((mup_k (by decide)).trans (glS_k (by decide)))]) ?_)
      · have w : ∀ j, j ∈ shk → j ≠ 9 ∧ j ≠ 110 := by decide
        rw [mup_k (w k hk).1, glS_k (w k hk).1, glC_k (w k hk).2]
      · rw [jn_gl]
        exact RR_glT hR ho hpn
theorem J_stone (ok : mOk m ad) (hf : 400 ≤ f) (hJ : JJ sa x ca m ad σ h) (hR : RR σ) {a1 : Int32} (kk : ∀ r h2, FIN sa x ca m ad h2 → K r r h2) : zf0_stone f h (some x) a1 fun r h1 => zf8_stone f h1 (some m) a1 fun r2 h2 => K r r2 h2 := by
  obtain ⟨pa, rw, hC, go⟩ := J_go ok hJ
  have hW := hR.ws
  have hI := hR.2.2.2.1
  have hn := (nP_eq hW).2
  have op : ∀ oo : Nat, oo < 4 → a1 = nI oo → opn a1 := fun oo h1 e => by rw [e]; exact ⟨by rw [nI_toInt (by omega)]; omega, by rw [nI_toInt (by omega)]; omega⟩
  refine D_stone hf hW hR.wb hC (fun z => ?_) (fun oo ho eo z => ?_) (fun oo p ho eo hp hw hb h1 hC1 => ?_)
  · obtain ⟨hM, -⟩ := go _ _ _ _ _ hC
    exact O_stone ok hf hW hM (fun _ => kk _ _ (J_id ok hJ hR hC hM (fun _ _ => rfl) (fun _ _ => rfl))) (fun oo a b c => absurd (op oo a b) z) (fun oo p a b => absurd (op oo a b) z)
  · obtain ⟨hM, -⟩ := go _ _ _ _ _ hC
    subst eo
    have y := (stone_none hW hI ho).mp z
    refine O_stone ok hf hW hM (fun c => absurd (op oo ho rfl) c) (fun oo a b c => kk _ _ (J_id ok hJ hR hC hM (fun _ _ => rfl) (fun _ _ => rfl))) (fun o2 p a b c d e => ?_)
    have e0 : oo = o2 := (nI_eq (by omega) (by omega)).mp b
    subst e0
    exfalso
    rcases y with y | y
    · rw [d] at y; exact nIn1 (by omega) y
    · rw [d, e] at y; exact absurd y (by decide)
  · subst eo
    obtain ⟨hM, fin⟩ := go _ _ _ _ _ hC1
    have w9 : σ 9 oo = nI p := by rw [← wh_law hW hI ho]; exact hw
    have b9 : ab σ (nI p) = 0 := by rw [← hI.2.2 p hp]; exact hb
    refine O_stone ok hf hW hM (fun c => absurd (op oo ho rfl) c) (fun o2 a b c => ?_) (fun o2 p2 a b c d e h2 hM2 => ?_)
    · have e0 : oo = o2 := (nI_eq (by omega) (by omega)).mp b
      subst e0
      exfalso
      rcases c with c | c
      · rw [w9] at c; exact nIn1 (by omega) c
      · rw [w9, b9] at c; exact absurd c (by decide)
    · have e0 : oo = o2 := (nI_eq (by omega) (by omega)).mp b
      subst e0
      rw [w9] at d
      have e1 : p = p2 := (nI_eq (by omega) (by omega)).mp d
      subst e1
      rw [spill_one ho ((hI.1 oo p ho hp).mp w9) (sp20 hR p hp)]
      refine kk _ _ (fin _ _ hM2 (fun k hk => ?_) (fun t k _ _ => by rw [Gm_of (σ := σ) (mup_k (by decide)) (mup_k (by decide))]) ?_)
      · have w : ∀ j, j ∈ shk → j ≠ 12 ∧ j ≠ 111 := by decide
        rw [mup_k (w k hk).1, mup_k (w k hk).2]
      · rw [jn_st]
        exact RR_stT hR hp
theorem J_feed (ok : mOk m ad) (hf : 400 ≤ f) (hJ : JJ sa x ca m ad σ h) (hR : RR σ) {a1 : Int32} (kk : ∀ r h2, FIN sa x ca m ad h2 → K r r h2) : zf0_feed f h (some x) a1 fun r h1 => zf8_feed f h1 (some m) a1 fun r2 h2 => K r r2 h2 := by
  obtain ⟨pa, rw, hC, go⟩ := J_go ok hJ
  have hW := hR.ws
  refine D_feed hf hW hC (fun z => ?_) (fun z1 z2 => ?_) (fun k hk ek z h1 hC1 => ?_)
  · obtain ⟨hM, -⟩ := go _ _ _ _ _ hC
    exact O_feed ok hW hM (fun _ => kk _ _ (J_id ok hJ hR hC hM (fun _ _ => rfl) (fun _ _ => rfl))) (fun c _ => absurd c z) (fun k a b c => absurd c z)
  · obtain ⟨hM, -⟩ := go _ _ _ _ _ hC
    refine O_feed ok hW hM (fun c => absurd z1 c) (fun _ _ => kk _ _ (J_id ok hJ hR hC hM (fun _ _ => rfl) (fun _ _ => rfl))) (fun k a b c => ?_)
    rw [z2] at b
    have := (nI_eq (a := 160) (by omega) (by omega)).mp b
    omega
  · obtain ⟨hM, fin⟩ := go _ _ _ _ _ hC1
    refine O_feed ok hW hM (fun c => absurd z c) (fun _ c => ?_) (fun k2 hk2 ek2 c h2 hM2 => ?_)
    · rw [ek] at c
      have := (nI_eq (b := 160) (by omega) (by omega)).mp c
      omega
    · have e : k = k2 := (nI_eq (by omega) (by omega)).mp (ek.symm.trans ek2)
      subst e
      refine kk _ _ (fin _ _ hM2 (fun _ _ => rfl) (fun t k _ _ => congrFun (congrFun (Gm_of rfl rfl) t) k) ?_)
      show RR (jn (mup (mup σ 5 k a1) 6 0 (nI (k + 1))) (mup (mup σ 5 k a1) 6 0 (nI (k + 1))))
      rw [jn_same]
      have ek' : ∀ j, j ≠ 5 → j ≠ 6 → mup (mup σ 5 k a1) 6 0 (nI (k + 1)) j = σ j := fun j h1 h2 => by rw [mup_k h2, mup_k h1]
      obtain ⟨w1, w2, w3, w4, w5, w6, w7, w8⟩ := id hW
      refine RR_mk hR ⟨w1, w2, ⟨k + 1, by omega, ?_⟩, w4, fun i hi => ?_, w6, w7, w8⟩ (Iv_of hR.2.2.2.1 rfl rfl rfl rfl rfl) hR.2.2.2.2.1 (fun j hj => ek' j (fun z => by subst z; revert hj; decide) (fun z => by subst z; revert hj; decide)) (Nat.le_refl _) (Nat.le_refl _) (fun p hp => hR.2.2.2.2.2.2.2.2 p hp)
      · rw [mup_s0]
      · rw [mup_k (by decide), mup_kk]
        by_cases y : i = k
        · rw [if_pos y]; exact z
        · rw [if_neg y]; exact w5 i hi
theorem J_force (ok : mOk m ad) (hf : 400 ≤ f) (hJ : JJ sa x ca m ad σ h) (hR : RR σ) {a1 : Int32} (kk : ∀ r h2, FIN sa x ca m ad h2 → K r r h2) : zf0_force f h (some x) a1 fun r h1 => zf8_force f h1 (some m) a1 fun r2 h2 => K r r2 h2 := by
  obtain ⟨pa, rw, hC, go⟩ := J_go ok hJ
  have hW := hR.ws
  refine D_force hW hC (fun z => ?_) (fun z h1 hC1 => ?_)
  · obtain ⟨hM, -⟩ := go _ _ _ _ _ hC
    exact O_force ok hW hM (fun _ => kk _ _ (J_id ok hJ hR hC hM (fun _ _ => rfl) (fun _ _ => rfl))) (fun c => absurd c z)
  · obtain ⟨hM, fin⟩ := go _ _ _ _ _ hC1
    refine O_force ok hW hM (fun c => absurd z c) (fun _ h2 hM2 => ?_)
    refine kk _ _ (fin _ _ hM2 (fun _ _ => rfl) (fun t k _ _ => congrFun (congrFun (Gm_of rfl rfl) t) k) ?_)
    rw [jn_same]
    obtain ⟨w1, ⟨c, r, hc, e3, hr, e4⟩, w3, w4, w5, w6, w7, w8⟩ := id hW
    rw [e3, nI_clamp (by omega)] at z
    obtain ⟨r2, hr2, -, er2, hr3⟩ := nI_bt (x := a1) (u := (c : Int) - 1) z
    refine RR_nn hR (fun j j1 j2 j3 j4 j5 => mup_k j5) ⟨w1, ⟨c, r2, hc, e3, by omega, ?_⟩, w3, w4, w5, w6, w7, w8⟩ hR.2.2.2.2.2.2
    rw [mup_s0]; exact er2
theorem J_settle (ok : mOk m ad) (hf : 400 ≤ f) (hJ : JJ sa x ca m ad σ h) (hR : RR σ) (kk : ∀ r h2, FIN sa x ca m ad h2 → K r r h2) : zf0_settle f h (some x) fun r h1 => zf8_settle f h1 (some m) fun r2 h2 => K r r2 h2 := by
  obtain ⟨pa, rw, hC, go⟩ := J_go ok hJ
  have hW := hR.ws
  have hI := hR.2.2.2.1
  have hN := hR.2.2.2.2.2.2
  have hn := (nP_eq hW).2
  refine D_settle hf hW hR.wb hC fun σ1 h1 ho1 hC1 => ?_
  obtain ⟨hM, fin⟩ := go _ _ _ _ _ hC1
  refine O_settle ok hf hW hM fun σ2 h2 ho2 hM2 => ?_
  have eb := bright_law (G := Gm σ) hW hI hN.1 hN.2.1
  obtain ⟨d, ed, hg, hd⟩ := bestC_dist (G := Gm σ) (goal := 0) hn
  rw [← eb] at hM2 ⊢
  rw [ed] at hC1 hM2
  have k1 := offG_r ho1
  have k2 := offF_r ho2
  have hse := Iv_seT hW hI hg hd
  have hRs : RR (seT σ (nI d)) := by
    have en : nP (seT σ (nI d)) = nP σ := by unfold nP; rw [seT_k (by decide) (by decide)]
    refine RR_mk hR hse.2 hse.1 ?_ (fun j hj => seT_k (fun z => by subst z; revert hj; decide) (fun z => by subst z; revert hj; decide)) (by omega) (Nat.le_of_eq (by rw [seT_k (by decide) (by decide)])) (fun q hq => ?_)
    · have := hR.2.2.2.2.1
      unfold Bt at this ⊢
      rw [en, seT_k (by decide) (by decide)]
      exact this
    · rw [en] at hq
      rw [seT_k (by decide) (by decide)]
      exact hR.2.2.2.2.2.2.2.2 q hq
  obtain ⟨hM', fin'⟩ := go _ _ _ _ _ hC1
  refine kk _ _ (fin' _ _ hM2 (fun k hk => ?_) (fun t k _ _ => by rw [Gm_of (σ := σ) ((stS_k (by decide)).trans (k2 1 (Or.inr (by decide)))) ((stS_k (by decide)).trans (k2 2 (Or.inr (by decide))))]) (RR_of hRs fun k hk => ?_))
  · have w : ∀ j, j ∈ shk → j ≠ 9 ∧ j ≠ 110 := by decide
    rw [stS_k (w k hk).1, stC_k (w k hk).2, k1 k (Or.inl hk), k2 k (Or.inl hk)]
  · by_cases c9 : k = 9
    · subst c9
      rw [jn_2 (by decide)]
      show stS σ2 (nI d) 9 = stS σ (nI d) 9
      exact stF_c 4 0 _ _ (k2 9 (Or.inr (by decide))) rfl
    · by_cases c110 : k = 110
      · subst c110
        rw [jn_1 (Or.inl rfl)]
        show stC σ1 (nI d) 110 = stC σ (nI d) 110
        refine stG_c 4 0 _ _ (st0_c ?_ (k1 110 (Or.inr (by decide)))) rfl
        unfold nP
        rw [k1 13 (Or.inr (by decide))]
      · rw [seT_k c9 c110]
        by_cases c : k = 110 ∨ k = 111 ∨ 200 < k
        · rw [jn_1 c, stC_k c110]
          exact k1 k (Or.inr hk)
        · rw [jn_2 c, stS_k c9]
          exact k2 k (Or.inr hk)
theorem J_chance {K : Int64 → Int64 → zH → Prop} (ok : mOk m ad) (hf : 400 ≤ f) (hJ : JJ sa x ca m ad σ h) (hR : RR σ) {a1 a2 a3 : Int32} (kk : ∀ r h2, FIN sa x ca m ad h2 → K r r h2) : zf0_chance f h (some x) a1 a2 a3 fun r h1 => zf8_chance f h1 (some m) a1 a2 a3 fun r2 h2 => K r r2 h2 := by
  obtain ⟨pa, rw, hC, go⟩ := J_go ok hJ
  have hW := hR.ws
  have hI := hR.2.2.2.1
  refine D_chance hf hW hR.wb hC (fun z => ?_) (fun n n1 n2 en z σ1 h1 ho1 hC1 => ?_)
  · obtain ⟨hM, -⟩ := go _ _ _ _ _ hC
    refine O_chance ok hf hW hM (fun _ => kk _ _ (J_id ok hJ hR hC hM (fun _ _ => rfl) (fun _ _ => rfl))) (fun n n1 n2 en y => ?_)
    exact absurd ⟨⟨by rw [en, nI_toInt (by omega)]; omega, by rw [en, nI_toInt (by omega)]; omega⟩, y⟩ z
  · obtain ⟨hM, -⟩ := go _ _ _ _ _ hC1
    refine O_chance ok hf hW hM (fun c => ?_) (fun n' n1' n2' en' z' σ2 h2 ho2 hM2 => ?_)
    · exact absurd ⟨⟨by rw [en, nI_toInt (by omega)]; omega, by rw [en, nI_toInt (by omega)]; omega⟩, z⟩ c
    · have e : n = n' := (nI_eq (by omega) (by omega)).mp (en.symm.trans en')
      subst e
      rw [chance_law hW hI]
      refine kk _ _ (J_id ok hJ hR hC1 hM2 (fun k hk => n229_k ho1 ?_) (fun k hk => n37_k ho2 ?_))
      · intro z; subst z; revert hk; decide
      · intro z; subst z; revert hk; decide
end J2
