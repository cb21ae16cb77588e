/-! THE JOIN: call by call: text, sheet, cell, copy, film, panes -/
set_option maxRecDepth 100000
theorem tx_k {σ : ST} {c k j : Nat} (h1 : j ≠ 1) (h2 : j ≠ 2) (h6 : j ≠ 6) : txS σ c k j = σ j := by
  unfold txS
  rw [mup_k h6, mup_k h2]
  exact (tx_at σ c k).1 j h1
theorem tx_1 {σ : ST} {c k i : Nat} : txS σ c k 1 i = fo (fun i (σ' : ST) => mup σ' 1 (160 * c + i) (σ' 5 i)) k 0 σ 1 i := by
  unfold txS
  rw [mup_k (by decide), mup_k (by decide)]
theorem tx_2 {σ : ST} {c k t : Nat} : txS σ c k 2 t = if t = c then nI k else σ 2 t := by
  unfold txS
  rw [mup_k (by decide), mup_kk]
  have := (tx_at σ c k).1 2 (by decide)
  rw [this]
theorem tx_6 {σ : ST} {c k : Nat} : txS σ c k 6 = mup σ 6 0 0 6 := by
  have := (tx_at σ c k).1 6 (by decide)
  unfold txS
  rw [mup_self, mup_self, mup_k (by decide), this]
theorem tx_old {σ : ST} {c k t i : Nat} (h : t < c) (hi : i < 160) : txS σ c k 1 (160 * t + i) = σ 1 (160 * t + i) := by
  rw [tx_1]
  exact (tx_at σ c k).2.2 _ (Or.inl (by omega))
theorem tx_new {σ : ST} {c k i : Nat} (hi : i < k) : txS σ c k 1 (160 * c + i) = σ 5 i := by
  rw [tx_1]
  exact (tx_at σ c k).2.1 i hi
theorem tx_rng {σ : ST} (hW : WS σ) {c k : Nat} (hk : k ≤ 160) : ∀ i, i < 960 → 0 ≤ (txS σ c k 1 i).toInt ∧ (txS σ c k 1 i).toInt ≤ 255 := fun i hi => by
  rw [tx_1]
  by_cases z : i < 160 * c ∨ 160 * c + k ≤ i
  · rw [(tx_at σ c k).2.2 _ z]; exact hW.2.2.2.1 i hi
  · have := (tx_at σ c k).2.1 (i - 160 * c) (by omega)
    rw [show 160 * c + (i - 160 * c) = i by omega] at this
    rw [this]
    exact hW.2.2.2.2.1 _ (by omega)
theorem tx_text {σ : ST} (hW : WS σ) {c k : Nat} (e3 : σ 3 0 = nI c) (hc : c < 6) : ∀ t, t < c → ∃ n : Nat, n ≤ 160 ∧ σ 2 t = nI n ∧ txS σ c k 2 t = nI n ∧ tk_text (fun i => txS σ c k 1 (160 * t + i)) n = tk_text (fun i => σ 1 (160 * t + i)) n ∧ ∃ g, tk_text (fun i => σ 1 (160 * t + i)) n = .inr g := fun t ht => by
  obtain ⟨n, hn, en, g, hg⟩ := hW.2.2.2.2.2.1 t (by rw [e3, nI_clamp (by omega)]; exact ht)
  exact ⟨n, hn, en, by rw [tx_2, if_neg (by omega)]; exact en, tktext_of fun i hi => tx_old ht (by omega), g, hg⟩
theorem Gm_tx {σ : ST} (hW : WS σ) {c k : Nat} (e3 : σ 3 0 = nI c) (hc : c < 6) {σ' : ST} (h1 : σ' 1 = txS σ c k 1) (h2 : σ' 2 = txS σ c k 2) {t j : Nat} (ht : t < c) : Gm σ' t j = Gm σ t j := by
  obtain ⟨n, hn, en, en2, e, -⟩ := tx_text (k := k) hW e3 hc t ht
  unfold Gm
  rw [h1, h2, en2, en, nI_clamp (by omega), e]
theorem Gm_new {σ : ST} {c k : Nat} (hk : k ≤ 160) {g : SEM × SEM × SEM} (hg : tk_text (fun i => σ 5 i) k = .inr g) {σ' : ST} (h1 : σ' 1 = txS σ c k 1) (h2 : σ' 2 = txS σ c k 2) (j : Nat) : Gm σ' c j = pt3 g.1 g.2.1 g.2.2 j := by
  unfold Gm
  rw [h1, h2, tx_2, if_pos rfl, nI_clamp (by omega), tktext_of (b' := fun i => σ 5 i) (fun i hi => tx_new hi), hg]
  rfl
theorem WS_tx {σ : ST} (hW : WS σ) {c k : Nat} (e3 : σ 3 0 = nI c) (hc : c < 6) (hk : k ≤ 160) : WS (txS σ c k) := by
  have hrng := tx_rng (c := c) hW hk
  have htx := tx_text (k := k) hW e3 hc
  have k3 : txS σ c k 3 = σ 3 := tx_k (by decide) (by decide) (by decide)
  have k4 : txS σ c k 4 = σ 4 := tx_k (by decide) (by decide) (by decide)
  have k5 : txS σ c k 5 = σ 5 := tx_k (by decide) (by decide) (by decide)
  have k9 : txS σ c k 9 = σ 9 := tx_k (by decide) (by decide) (by decide)
  have k10 : txS σ c k 10 = σ 10 := tx_k (by decide) (by decide) (by decide)
  have k13 : txS σ c k 13 = σ 13 := tx_k (by decide) (by decide) (by decide)
  have en : nP (txS σ c k) = nP σ := by unfold nP; rw [k13]
  obtain ⟨w1, w2, w3, w4, w5, w6, w7, w8⟩ := hW
  unfold WS
  rw [en, k3, k4, k5, k9, k10, k13]
  refine ⟨w1, w2, ⟨0, by decide, ?_⟩, hrng, w5, fun t ht => ?_, w7, w8⟩
  · rw [tx_6, mup_s0]; rfl
  · rw [e3, nI_clamp (by omega)] at ht
    obtain ⟨n, hn, en, en2, e, g, hg⟩ := htx t ht
    exact ⟨n, hn, en2, g, by rw [e]; exact hg⟩
theorem WS_txn {σ : ST} (hW : WS σ) {c k : Nat} (e3 : σ 3 0 = nI c) (hc : c < 6) (hk : k ≤ 160) {g : SEM × SEM × SEM} (hg : tk_text (fun i => σ 5 i) k = .inr g) : WS (mup (txS σ c k) 3 0 (nI (c + 1))) := by
  obtain ⟨w1, ⟨c', r, hc', ec', hr, er⟩, w3, w4, w5, w6, w7, w8⟩ := WS_tx hW e3 hc hk
  have k3 : txS σ c k 3 = σ 3 := tx_k (by decide) (by decide) (by decide)
  rw [k3, e3] at ec'
  have ecc : c = c' := (nI_eq (by omega) (by omega)).mp ec'
  subst ecc
  refine ⟨w1, ⟨c + 1, r, by omega, mup_s0, by omega, er⟩, w3, w4, w5, fun t ht => ?_, w7, w8⟩
  rw [mup_s0, nI_clamp (by omega)] at ht
  by_cases z : t = c
  · refine ⟨k, hk, ?_, g, ?_⟩
    · show txS σ c k 2 t = nI k
      rw [tx_2, if_pos z]
    · show tk_text (fun i => txS σ c k 1 (160 * t + i)) k = .inr g
      rw [z, tktext_of (b' := fun i => σ 5 i) (fun i hi => tx_new hi)]
      exact hg
  · exact w6 t (by rw [k3, e3, nI_clamp (by omega)]; omega)
/-- sheets' rows, changed: all else stays -/
theorem RR_sh {σ σ' : ST} (hR : RR σ) (hk : ∀ k, k ∈ rrk → k ≠ 45 → k ≠ 46 → k ≠ 47 → k ≠ 48 → σ' k = σ k) (hH : WH σ') (hF : WF σ') : RR σ' := by
  obtain ⟨h1, h2, h3, h4, h5, h6, h7⟩ := hR
  have q : ∀ k, k ∈ ([1, 2, 3, 4, 5, 6, 7, 8, 9, 10, 11, 12, 13, 110, 111, 38, 39, 40, 41, 42, 43, 44, 230, 231, 233, 240, 241, 242, 243, 244] : List Nat) → σ' k = σ k := fun k z => by
    have w : ∀ k, k ∈ ([1, 2, 3, 4, 5, 6, 7, 8, 9, 10, 11, 12, 13, 110, 111, 38, 39, 40, 41, 42, 43, 44, 230, 231, 233, 240, 241, 242, 243, 244] : List Nat) → k ∈ rrk ∧ k ≠ 45 ∧ k ≠ 46 ∧ k ≠ 47 ∧ k ≠ 48 := by decide
    obtain ⟨w1, w2, w3, w4, w5⟩ := w k z
    exact hk k w1 w2 w3 w4 w5
  have en : nP σ' = nP σ := by unfold nP; rw [q 13 (by decide)]
  refine ⟨WS_of h1 fun k z => q k ?_, hH, hF, Iv_of h4 (q 9 (by decide)) (q 12 (by decide)) (q 13 (by decide)) (q 110 (by decide)) (q 111 (by decide)), ?_, Im_of h6 (fun k z => q k ?_) (by omega) (by rw [q 3 (by decide)]; exact Nat.le_refl _), ?_⟩
  · have w : ∀ k, k ∈ ([1, 2, 3, 4, 5, 6, 9, 10, 13] : List Nat) → k ∈ ([1, 2, 3, 4, 5, 6, 7, 8, 9, 10, 11, 12, 13, 110, 111, 38, 39, 40, 41, 42, 43, 44, 230, 231, 233, 240, 241, 242, 243, 244] : List Nat) := by decide
    exact w k z
  · unfold Bt at h5 ⊢
    rw [en, q 12 (by decide)]
    exact h5
  · have w : ∀ k, k ∈ ([38, 39, 40, 41, 42, 43, 44, 230, 231, 233, 240, 241, 242, 243, 244] : List Nat) → k ∈ ([1, 2, 3, 4, 5, 6, 7, 8, 9, 10, 11, 12, 13, 110, 111, 38, 39, 40, 41, 42, 43, 44, 230, 231, 233, 240, 241, 242, 243, 244] : List Nat) := by decide
    exact w k z
  · unfold Nn at h7 ⊢
    rw [en, q 7 (by decide), q 8 (by decide), q 11 (by decide)]
    exact h7
theorem fits_0 (s : Int32) : fits (tyS s) (.int 0) = true := by
  unfold tyS
  by_cases c0 : s = 0
  · rw [if_pos c0]; decide
  · rw [if_neg c0]
    by_cases c1 : s = 1
    · rw [if_pos c1]; decide
    · rw [if_neg c1]; rfl
theorem fits_nar (s v : Int32) : fits (tyS s) (.int (narS s v)) = true := by
  unfold tyS narS
  by_cases c0 : s = 0
  · rw [if_pos c0, if_pos c0]; exact pk_fb v
  · rw [if_neg c0, if_neg c0]
    by_cases c1 : s = 1
    · rw [if_pos c1, if_pos c1]; exact pk_fs v
    · rw [if_neg c1, if_neg c1]; rfl
theorem RR_shS {σ : ST} (hR : RR σ) {sn : Nat} (hs : sn < 4) {sort n : Int32} (hok : shOk (nI sn) sort n) (hn : sort = -1 ∨ ¬ n < 0) : RR (shS σ sn sort n) := by
  have z0 : (0 : Int32).toInt = 0 := by decide
  have hneg : sort < 0 ↔ sort = -1 := by
    rw [Int32.lt_iff_toInt_lt, z0]
    constructor
    · intro y
      have := hok.2.1.1
      exact Int32.toInt_inj.mp (by rw [show (-1 : Int32).toInt = -1 from by decide]; omega)
    · intro y; rw [y]; decide
  have hso : ¬ sort < 0 → ∃ t : Nat, t ≤ 2 ∧ sort = nI t := fun y => by
    rw [Int32.lt_iff_toInt_lt, z0] at y
    obtain ⟨t, h1, -, h2, -⟩ := nI_bt (x := sort) (u := 2) ⟨by omega, hok.2.1.2⟩
    exact ⟨t, by omega, h2⟩
  have hnn : ¬ sort < 0 → ∃ k : Nat, k ≤ 40 ∧ n = nI k := fun y => by
    have y1 : sort ≠ -1 := fun w => y (hneg.mpr w)
    have y2 := hn.resolve_left y1
    rw [Int32.lt_iff_toInt_lt, z0] at y2
    obtain ⟨k, h1, -, h2, -⟩ := nI_bt (x := n) (u := 40) ⟨by omega, hok.2.2.resolve_left y1⟩
    exact ⟨k, by omega, h2⟩
  refine RR_sh hR (fun k _ h1 h2 h3 h4 => shS_k (by simp only [List.mem_cons, List.not_mem_nil, or_false, not_or]; exact ⟨h1, h2, h3, h4⟩)) (fun s hs' => ?_) (fun s i hs' h1 hi => ?_)
  · rw [shS_45, shS_46, shS_47]
    by_cases c : s = sn
    · rw [if_pos c, if_pos c, if_pos c]
      by_cases cn : sort < 0
      · rw [if_pos cn]; exact Or.inl rfl
      · rw [if_neg cn]; exact Or.inr ⟨rfl, hnn cn, hso cn⟩
    · rw [if_neg c, if_neg c, if_neg c]; exact hR.2.1 s hs'
  · rw [shS_45] at h1
    rw [shS_47] at hi
    rw [shS_46, shS_48]
    by_cases c : s = sn
    · rw [if_pos c] at h1 hi
      rw [if_pos c]
      by_cases cn : sort < 0
      · rw [if_pos cn] at h1; exact absurd h1 (by decide)
      · rw [if_neg cn, if_pos (by rw [c]; omega)]
        exact fits_0 _
    · rw [if_neg c] at h1 hi
      rw [if_neg c]
      by_cases z : 40 * sn ≤ 40 * s + i ∧ 40 * s + i < 40 * sn + (if sort < 0 then 0 else n.toNatClampNeg)
      · rw [if_pos z]; exact fits_0 _
      · rw [if_neg z]; exact hR.2.2.1 s i hs' h1 hi
/-- one cell of a row -/
theorem RR_48 {σ : ST} (hR : RR σ) {k : Nat} {v : Int32} (hv : ∀ s i, s < 4 → i < 40 → 40 * s + i = k → fits (tyS (σ 46 s)) (.int v) = true) : RR (mup σ 48 k v) := by
  refine RR_sh hR (fun k _ h1 h2 h3 h4 => mup_k h4) hR.2.1 (fun s i hs h1 hi => ?_)
  have h1 : σ 45 s = 1 := h1
  have hi : i < (σ 47 s).toNatClampNeg := hi
  have h40 : (σ 47 s).toNatClampNeg ≤ 40 := by
    rcases hR.2.1 s hs with y | ⟨-, ⟨n, hn, en⟩, -⟩
    · rw [y] at h1; exact absurd h1 (by decide)
    · rw [en, nI_clamp (by omega)]; exact hn
  show fits (tyS (σ 46 s)) (.int (mup σ 48 k v 48 (40 * s + i))) = true
  rw [mup_kk]
  by_cases c : 40 * s + i = k
  · rw [if_pos c]; exact hv s i hs (by omega) c
  · rw [if_neg c]; exact hR.2.2.1 s i hs h1 hi
section J3
variable {f : Nat} {sa : Nat → Nat} {x : Nat} {ca : Nat → Nat} {σ : ST} {h : zH} {m : Nat} {ad : Nat → Nat} {K : Int32 → Int32 → zH → Prop}
theorem jn_eq {σ1 σ2 : ST} (h : ∀ k, (k = 110 ∨ k = 111 ∨ 200 < k) → σ1 k = σ2 k) : jn σ1 σ2 = σ2 := by
  funext k
  unfold jn
  by_cases c : k = 110 ∨ k = 111 ∨ 200 < k
  · rw [if_pos c]; exact h k c
  · rw [if_neg c]
theorem J_text (ok : mOk m ad) (hf : 400 ≤ f) (hJ : JJ sa x ca m ad σ h) (hR : RR σ) {mc ms : Nat} (hmc : 200 ≤ mc) (hms : 600 ≤ ms) (kk : ∀ r h2, FIN sa x ca m ad h2 → K r r h2) : zf0_text sa f h mc ms (some x) fun r h1 => zf8_text f h1 (some m) fun r2 h2 => K r r2 h2 := by
  obtain ⟨pa, rw, hC, go⟩ := J_go ok hJ
  have hW := hR.ws
  have key : ∀ {c k : Nat}, σ 3 0 = nI c → c < 6 → k ≤ 160 → ∀ σ' : ST, WS σ' → (∀ j, j ≠ 1 → j ≠ 2 → j ≠ 6 → j ≠ 3 → σ' j = σ j) → c ≤ (σ' 3 0).toNatClampNeg → RR σ' := by
    intro c k e3 hc hk σ' hW' he hc3
    have en : nP σ' = nP σ := by unfold nP; rw [he 13 (by decide) (by decide) (by decide) (by decide)]
    refine RR_mk hR hW' (Iv_of hR.2.2.2.1 (he 9 (by decide) (by decide) (by decide) (by decide)) (he 12 (by decide) (by decide) (by decide) (by decide)) (he 13 (by decide) (by decide) (by decide) (by decide)) (he 110 (by decide) (by decide) (by decide) (by decide)) (he 111 (by decide) (by decide) (by decide) (by decide))) ?_ (fun j hj => he j (fun z => by subst z; revert hj; decide) (fun z => by subst z; revert hj; decide) (fun z => by subst z; revert hj; decide) (fun z => by subst z; revert hj; decide)) (by omega) (by rw [e3, nI_clamp (by omega)]; exact hc3) (fun p hp => ?_)
    · have := hR.2.2.2.2.1
      unfold Bt at this ⊢
      rw [en, he 12 (by decide) (by decide) (by decide) (by decide)]
      exact this
    · rw [en] at hp
      rw [he 11 (by decide) (by decide) (by decide) (by decide)]
      exact hR.2.2.2.2.2.2.2.2 p hp
  refine D_text hf hW hC hmc hms (fun z => ?_) (fun c k e e3 e6 hc hk hg h1 hC1 => ?_) (fun c k g e3 e6 hc hk hg G' h1 g1 g2 hC1 => ?_)
  · obtain ⟨hM, -⟩ := go _ _ _ _ _ hC
    refine O_text ok hf hW hM (fun _ => kk _ _ (J_id ok hJ hR hC hM (fun _ _ => rfl) (fun _ _ => rfl))) (fun c k e a b d => ?_) (fun c k g a b d => ?_)
    · rw [z] at a; have := (nI_eq (a := 6) (by omega) (by omega)).mp a; omega
    · rw [z] at a; have := (nI_eq (a := 6) (by omega) (by omega)).mp a; omega
  · obtain ⟨hM, fin⟩ := go _ _ _ _ _ hC1
    refine O_text ok hf hW hM (fun z => ?_) (fun c' k' e' a b d d2 g' h2 hM2 => ?_) (fun c' k' g' a b d d2 g2 => ?_)
    · rw [e3] at z; have := (nI_eq (b := 6) (by omega) (by omega)).mp z; omega
    · have q1 : c = c' := (nI_eq (by omega) (by omega)).mp (e3.symm.trans a)
      have q2 : k = k' := (nI_eq (by omega) (by omega)).mp (e6.symm.trans b)
      subst q1 q2
      rw [hg] at g'
      cases g'
      refine kk _ _ (fin _ _ hM2 (fun j hj => ?_) (fun t j ht _ => ?_) ?_)
      · by_cases c6 : j = 6
        · rw [c6, tx_6]
        · rw [tx_k (fun z => by subst z; revert hj; decide) (fun z => by subst z; revert hj; decide) c6, mup_k c6]
      · rw [tx_k (j := 3) (by decide) (by decide) (by decide), e3, nI_clamp (by omega)] at ht
        exact Gm_tx hW e3 hc rfl rfl ht
      · rw [jn_eq fun j hj => by rw [tx_k (by omega) (by omega) (by omega), mup_k (by omega)]]
        exact key e3 hc hk _ (WS_tx hW e3 hc hk) (fun j j1 j2 j6 _ => tx_k j1 j2 j6) (by rw [tx_k (j := 3) (by decide) (by decide) (by decide), e3, nI_clamp (by omega)]; exact Nat.le_refl _)
    · have q1 : c = c' := (nI_eq (by omega) (by omega)).mp (e3.symm.trans a)
      have q2 : k = k' := (nI_eq (by omega) (by omega)).mp (e6.symm.trans b)
      subst q1 q2
      rw [hg] at g2
      cases g2
  · obtain ⟨hM, fin⟩ := go _ _ _ _ _ hC1
    refine O_text ok hf hW hM (fun z => ?_) (fun c' k' e' a b d d2 g' => ?_) (fun c' k' g' a b d d2 gg h2 hM2 => ?_)
    · rw [e3] at z; have := (nI_eq (b := 6) (by omega) (by omega)).mp z; omega
    · have q1 : c = c' := (nI_eq (by omega) (by omega)).mp (e3.symm.trans a)
      have q2 : k = k' := (nI_eq (by omega) (by omega)).mp (e6.symm.trans b)
      subst q1 q2
      rw [hg] at g'
      cases g'
    · have q1 : c = c' := (nI_eq (by omega) (by omega)).mp (e3.symm.trans a)
      have q2 : k = k' := (nI_eq (by omega) (by omega)).mp (e6.symm.trans b)
      subst q1 q2
      rw [hg] at gg
      cases gg
      refine kk _ _ (fin _ _ hM2 (fun j hj => ?_) (fun t j ht hj => ?_) ?_)
      · by_cases c3 : j = 3
        · subst c3
          unfold mup
          rw [if_pos rfl, if_pos rfl, if_neg (by decide), tx_k (j := 3) (by decide) (by decide) (by decide)]
        · rw [mup_k c3, mup_k c3]
          by_cases c6 : j = 6
          · rw [c6, tx_6]
          · rw [tx_k (fun z => by subst z; revert hj; decide) (fun z => by subst z; revert hj; decide) c6, mup_k c6]
      · rw [mup_s0, nI_clamp (by omega)] at ht
        by_cases z : t = c
        · subst z
          rw [g2 j hj]
          exact Gm_new hk hg rfl rfl j
        · rw [g1 t j (by omega) hj]
          exact Gm_tx hW e3 hc (σ' := mup (txS σ c k) 3 0 (nI (c + 1))) rfl rfl (by omega)
      · rw [jn_eq fun j hj => by rw [mup_k (k := 3) (by omega), mup_k (k := 3) (by omega), tx_k (by omega) (by omega) (by omega), mup_k (by omega)]]
        exact key e3 hc hk _ (WS_txn hW e3 hc hk hg) (fun j j1 j2 j6 j3 => (mup_k j3).trans (tx_k j1 j2 j6)) (by rw [mup_s0, nI_clamp (by omega)]; omega)
theorem J_sheet (ok : mOk m ad) (hf : 400 ≤ f) (hJ : JJ sa x ca m ad σ h) (hR : RR σ) {mc ms : Nat} (hmc : 8 ≤ mc) (hms : 2000 ≤ ms) {a1 a2 a3 : Int32} (kk : ∀ r h2, FIN sa x ca m ad h2 → K r r h2) : zf0_sheet f h mc ms (some x) a1 a2 a3 fun r h1 => zf8_sheet f h1 (some m) a1 a2 a3 fun r2 h2 => K r r2 h2 := by
  obtain ⟨pa, rw, hC, go⟩ := J_go ok hJ
  refine D_sheet hR.2.1 hC hmc hms (fun z => ?_) (fun z1 z2 z3 => ?_) (fun sn hs es hok hn r h1 hC1 => ?_)
  · obtain ⟨hM, -⟩ := go _ _ _ _ _ hC
    exact O_sheet ok hf hM (fun _ => kk _ _ (J_id ok hJ hR hC hM (fun _ _ => rfl) (fun _ _ => rfl))) (fun c => absurd c z) (fun s a b c => absurd c z)
  · obtain ⟨hM, -⟩ := go _ _ _ _ _ hC
    refine O_sheet ok hf hM (fun c => absurd z1 c) (fun _ _ _ => kk _ _ (J_id ok hJ hR hC hM (fun _ _ => rfl) (fun _ _ => rfl))) (fun s a b c d => ?_)
    rcases d with d | d
    · exact absurd d z2
    · exact absurd z3 d
  · obtain ⟨hM, fin⟩ := go _ _ _ _ _ hC1
    refine O_sheet ok hf hM (fun c => absurd hok c) (fun _ c1 c2 => ?_) (fun s a b c d h2 hM2 => ?_)
    · exfalso
      rcases hn with y | y
      · exact c1 y
      · exact y c2
    · have e : sn = s := (nI_eq (by omega) (by omega)).mp (es.symm.trans b)
      subst e
      refine kk _ _ (fin _ _ hM2 (fun _ _ => rfl) (fun t k _ _ => congrFun (congrFun (Gm_of (shS_k (by decide)) (shS_k (by decide))) t) k) ?_)
      rw [jn_same]
      rw [es] at hok
      exact RR_shS hR hs hok hn
theorem J_cell (ok : mOk m ad) (hf : 400 ≤ f) (hJ : JJ sa x ca m ad σ h) (hR : RR σ) {mc ms : Nat} (hmc : 8 ≤ mc) (hms : 2000 ≤ ms) {a1 a2 a3 : Int32} (kk : ∀ r h2, FIN sa x ca m ad h2 → K r r h2) : zf0_cell f h mc ms (some x) a1 a2 a3 fun r h1 => zf8_cell f h1 (some m) a1 a2 a3 fun r2 h2 => K r r2 h2 := by
  obtain ⟨pa, rw, hC, go⟩ := J_go ok hJ
  have hn := (nP_eq hR.ws).2
  have hH := hR.2.1
  have rng : ∀ s : Nat, s < 4 → a1 = nI s → (0 ≤ a1.toInt ∧ a1.toInt ≤ 3) := fun s h1 e => by rw [e, nI_toInt (by omega)]; omega
  have un : ∀ {a b : Nat}, a < 4 → b < 4 → a1 = nI a → a1 = nI b → a = b := fun h1 h2 e1 e2 => (nI_eq (by omega) (by omega)).mp (e1.symm.trans e2)
  have ji : ∀ {j n : Nat}, n ≤ 40 → j < n → a2 = nI j → (0 ≤ a2.toInt ∧ a2.toInt ≤ (n : Int) - 1) := fun {j n} h1 h2 e => by rw [e, nI_toInt (by omega)]; omega
  refine D_cell hn hH hC hmc hms (fun z => ?_) (fun sn hs es h0 => ?_) (fun sn n hs es h1 e47 h40 z => ?_) (fun sn n j hs es h1 e47 h40 hj ej h1' hC1 => ?_)
  · obtain ⟨hM, -⟩ := go _ _ _ _ _ hC
    exact O_cell ok hH hM (fun _ => kk _ _ (J_id ok hJ hR hC hM (fun _ _ => rfl) (fun _ _ => rfl))) (fun s a b c => absurd (rng s a b) z) (fun s n a b c d e g => absurd (rng s a b) z) (fun s n j a b c d e g i => absurd (rng s a b) z)
  · obtain ⟨hM, -⟩ := go _ _ _ _ _ hC
    refine O_cell ok hH hM (fun z => absurd (rng sn hs es) z) (fun s a b c => kk _ _ (J_id ok hJ hR hC hM (fun _ _ => rfl) (fun _ _ => rfl))) (fun s n a b c d e g => ?_) (fun s n j a b c d e g i => ?_)
    · rw [← un hs a es b, h0] at c; exact absurd c (by decide)
    · rw [← un hs a es b, h0] at c; exact absurd c (by decide)
  · obtain ⟨hM, -⟩ := go _ _ _ _ _ hC
    refine O_cell ok hH hM (fun z => absurd (rng sn hs es) z) (fun s a b c => ?_) (fun s n a b c d e g => kk _ _ (J_id ok hJ hR hC hM (fun _ _ => rfl) (fun _ _ => rfl))) (fun s n' j a b c d e g i => ?_)
    · rw [← un hs a es b, h1] at c; exact absurd c (by decide)
    · rw [← un hs a es b, e47] at d
      have q : n = n' := (nI_eq (by omega) (by omega)).mp d
      subst q
      exact absurd (ji h40 g i) z
  · obtain ⟨hM, fin⟩ := go _ _ _ _ _ hC1
    refine O_cell ok hH hM (fun z => absurd (rng sn hs es) z) (fun s a b c => ?_) (fun s n' a b c d e g => ?_) (fun s n' j' a b c d e g i h2 hM2 => ?_)
    · rw [← un hs a es b, h1] at c; exact absurd c (by decide)
    · rw [← un hs a es b, e47] at d
      have q : n = n' := (nI_eq (by omega) (by omega)).mp d
      subst q
      exact absurd (ji h40 hj ej) g
    · have q := un hs a es b
      subst q
      have q2 : j = j' := (nI_eq (by omega) (by omega)).mp (ej.symm.trans i)
      subst q2
      refine kk _ _ (fin _ _ hM2 (fun _ _ => rfl) (fun t k _ _ => congrFun (congrFun (Gm_of rfl rfl) t) k) ?_)
      rw [jn_same]
      refine RR_48 hR fun s' i' h1 h2 h3 => ?_
      have : s' = sn := by omega
      rw [this]
      exact fits_nar _ _
theorem J_copy (ok : mOk m ad) (hf : 400 ≤ f) (hJ : JJ sa x ca m ad σ h) (hR : RR σ) {mc ms : Nat} {a1 a2 a3 a4 a5 : Int32} (kk : ∀ r h2, FIN sa x ca m ad h2 → K r r h2) : zf0_copy f h mc ms (some x) a1 a2 a3 a4 a5 fun r h1 => zf8_copy f h1 (some m) a1 a2 a3 a4 a5 fun r2 h2 => K r r2 h2 := by
  obtain ⟨pa, rw, hC, go⟩ := J_go ok hJ
  have hn := (nP_eq hR.ws).2
  have hH := hR.2.1
  have un : ∀ {y : Int32} {a b : Nat}, a < 4 → b < 4 → y = nI a → y = nI b → a = b := fun h1 h2 e1 e2 => (nI_eq (by omega) (by omega)).mp (e1.symm.trans e2)
  have rng : ∀ s o : Nat, s < 4 → a1 = nI s → o < 4 → a3 = nI o → ((0 ≤ a1.toInt ∧ a1.toInt ≤ 3) ∧ (0 ≤ a3.toInt ∧ a3.toInt ≤ 3)) := fun s o h1 e1 h2 e2 => by rw [e1, e2, nI_toInt (by omega), nI_toInt (by omega)]; omega
  have kid := fun (r : Int32) hM => kk r h (J_id ok hJ hR hC hM (fun _ _ => rfl) (fun _ _ => rfl))
  refine D_copy hn hH hR.2.2.1 hC (fun z => ?_) (fun sn on_ hs es ho eo h0 => ?_) (fun sn on_ hs es ho eo h1 h2 h3 => ?_) (fun sn on_ a c hs es ho eo h1 h2 h3 ea ha ec hc z => ?_) (fun sn on_ a c ii jj nn hs es ho eo h1 h2 h3 ea ha ec hc en ei ej l1 l2 h1' hC1 => ?_)
  · obtain ⟨hM, -⟩ := go _ _ _ _ _ hC
    exact O_copy ok hf hH hM (fun _ => kid _ hM) (fun s o a b c d e => absurd (rng s o a b c d) z) (fun s o a b c d e => absurd (rng s o a b c d) z) (fun s o _ _ a b c d e => absurd (rng s o a b c d) z) (fun s o _ _ _ _ _ a b c d e => absurd (rng s o a b c d) z)
  · obtain ⟨hM, -⟩ := go _ _ _ _ _ hC
    have no : ∀ s o : Nat, s < 4 → a1 = nI s → o < 4 → a3 = nI o → σ 45 s = 1 → σ 45 o = 1 → False := fun s o a b c d e g => by
      rw [← un hs a es b] at e
      rw [← un ho c eo d] at g
      rcases h0 with y | y
      · rw [y] at e; exact absurd e (by decide)
      · rw [y] at g; exact absurd g (by decide)
    exact O_copy ok hf hH hM (fun z => absurd (rng sn on_ hs es ho eo) z) (fun s o a b c d e => kid _ hM) (fun s o a b c d e g => (no s o a b c d e g).elim) (fun s o _ _ a b c d e g => (no s o a b c d e g).elim) (fun s o _ _ _ _ _ a b c d e g => (no s o a b c d e g).elim)
  · obtain ⟨hM, -⟩ := go _ _ _ _ _ hC
    have no : ∀ s o : Nat, s < 4 → a1 = nI s → o < 4 → a3 = nI o → σ 46 s = σ 46 o → False := fun s o a b c d e => by
      rw [← un hs a es b, ← un ho c eo d] at e
      exact h3 e
    refine O_copy ok hf hH hM (fun z => absurd (rng sn on_ hs es ho eo) z) (fun s o a b c d e => ?_) (fun s o a b c d e g i => kid _ hM) (fun s o _ _ a b c d e g i => (no s o a b c d i).elim) (fun s o _ _ _ _ _ a b c d e g i => (no s o a b c d i).elim)
    rw [← un hs a es b, ← un ho c eo d, h1, h2] at e
    rcases e with e | e <;> exact absurd e (by decide)
  · obtain ⟨hM, -⟩ := go _ _ _ _ _ hC
    refine O_copy ok hf hH hM (fun z => absurd (rng sn on_ hs es ho eo) z) (fun s o a b c d e => ?_) (fun s o a b c d e g i => ?_) (fun s o _ _ a b c d e g i j k l n q => kid _ hM) (fun s o a' c' ii jj nn y1 y2 y3 y4 y5 y6 y7 y8 y9 y10 y11 y12 y13 y14 y15 y16 => ?_)
    · rw [← un hs a es b, ← un ho c eo d, h1, h2] at e
      rcases e with e | e <;> exact absurd e (by decide)
    · rw [← un hs a es b, ← un ho c eo d] at i
      exact absurd h3 i
    · rw [← un hs y1 es y2, ea] at y8
      rw [← un ho y3 eo y4, ec] at y10
      have q1 : a = a' := (nI_eq (by omega) (by omega)).mp y8
      have q2 : c = c' := (nI_eq (by omega) (by omega)).mp y10
      subst q1 q2
      exact absurd ⟨by rw [y12, nI_toInt (by omega)]; omega, by rw [y13, nI_toInt (by omega)]; omega, by rw [y14, nI_toInt (by omega)]; omega, by rw [y12, y13, nI_toInt (by omega), nI_toInt (by omega)]; omega, by rw [y12, y14, nI_toInt (by omega), nI_toInt (by omega)]; omega⟩ z
  · obtain ⟨hM, fin⟩ := go _ _ _ _ _ hC1
    refine O_copy ok hf hH hM (fun z => absurd (rng sn on_ hs es ho eo) z) (fun s o a b c d e => ?_) (fun s o a b c d e g i => ?_) (fun s o a' c' y1 y2 y3 y4 y5 y6 y7 y8 y9 y10 y11 z => ?_) (fun s o a' c' ii' jj' nn' y1 y2 y3 y4 y5 y6 y7 y8 y9 y10 y11 y12 y13 y14 y15 y16 h2' hM2 => ?_)
    · rw [← un hs a es b, ← un ho c eo d, h1, h2] at e
      rcases e with e | e <;> exact absurd e (by decide)
    · rw [← un hs a es b, ← un ho c eo d] at i
      exact absurd h3 i
    · rw [← un hs y1 es y2, ea] at y8
      rw [← un ho y3 eo y4, ec] at y10
      have q1 : a = a' := (nI_eq (by omega) (by omega)).mp y8
      have q2 : c = c' := (nI_eq (by omega) (by omega)).mp y10
      subst q1 q2
      exact absurd ⟨by rw [en, nI_toInt (by omega)]; omega, by rw [ei, nI_toInt (by omega)]; omega, by rw [ej, nI_toInt (by omega)]; omega, by rw [en, ei, nI_toInt (by omega), nI_toInt (by omega)]; omega, by rw [en, ej, nI_toInt (by omega), nI_toInt (by omega)]; omega⟩ z
    · have q1 := un hs y1 es y2
      have q2 := un ho y3 eo y4
      subst q1 q2
      have q3 : nn = nn' := (nI_eq (by omega) (by omega)).mp (en.symm.trans y12)
      have q4 : ii = ii' := (nI_eq (by omega) (by omega)).mp (ei.symm.trans y13)
      have q5 : jj = jj' := (nI_eq (by omega) (by omega)).mp (ej.symm.trans y14)
      subst q3 q4 q5
      rw [cp_law σ (by omega) (by omega)] at hM2
      have ek : ∀ k, k ≠ 48 → cpD σ sn ii on_ jj nn k = σ k := fun k hk => if_neg hk
      refine kk _ _ (fin _ _ hM2 (fun _ _ => rfl) (fun t k _ _ => congrFun (congrFun (Gm_of (ek 1 (by decide)) (ek 2 (by decide))) t) k) ?_)
      rw [jn_same]
      refine RR_sh hR (fun k _ _ _ _ h4 => ek k h4) hH (fun s i hs' g1 hi => ?_)
      have g1 : σ 45 s = 1 := g1
      have hi : i < (σ 47 s).toNatClampNeg := hi
      show fits (tyS (σ 46 s)) (.int (if 40 * on_ + jj ≤ 40 * s + i ∧ 40 * s + i < 40 * on_ + jj + nn then σ 48 (40 * sn + ii + (40 * s + i - (40 * on_ + jj))) else σ 48 (40 * s + i))) = true
      by_cases z : 40 * on_ + jj ≤ 40 * s + i ∧ 40 * s + i < 40 * on_ + jj + nn
      · rw [if_pos z]
        have h40 : i < 40 := by
          rcases hH s hs' with y | ⟨-, ⟨n, hn, en⟩, -⟩
          · rw [y] at g1; exact absurd g1 (by decide)
          · rw [en, nI_clamp (by omega)] at hi; omega
        have es' : s = on_ := by omega
        rw [es', ← h3]
        have := hR.2.2.1 sn (ii + (40 * s + i - (40 * on_ + jj))) hs h1 (by rw [ea, nI_clamp (by omega)]; omega)
        rw [← Nat.add_assoc, es'] at this
        exact this
      · rw [if_neg z]
        exact hR.2.2.1 s i hs' g1 hi
theorem fi_RR (hR : RR σ) {sn pn : Nat} (hs : sn < 4) {o : Int32} : RR (fiS (Gm σ) σ sn pn o) := by
  unfold fiS
  have h0 := RR_shS hR hs (sort := 1) (n := 8) ⟨⟨by rw [nI_toInt (by omega)]; omega, by rw [nI_toInt (by omega)]; omega⟩, by decide, Or.inr (by decide)⟩ (Or.inr (by decide))
  have e46 : shS σ sn 1 8 46 sn = 1 := by rw [shS_46, if_pos rfl]
  have go : ∀ (j k : Nat) (a : ST), k + j = 8 → RR a → a 46 sn = 1 → RR (fo (fun h σ' => mup σ' 48 (40 * sn + h) (lt (Gm σ) σ pn o (nI h))) j k a) := by
    intro j
    induction j with
    | zero => intro k a _ h _; exact h
    | succ j ih =>
      intro k a h1 h2 h3
      refine ih (k + 1) _ (by omega) (RR_48 h2 fun s i i1 i2 i3 => ?_) h3
      have : s = sn := by omega
      rw [this, h3, ← lt_16]
      exact fits_nar 1 _
  exact go 8 0 _ rfl h0 e46
theorem J_film (ok : mOk m ad) (hf : 400 ≤ f) (hJ : JJ sa x ca m ad σ h) (hR : RR σ) {mc ms : Nat} (hmc : 80 ≤ mc) (hms : 20000 ≤ ms) {a1 a2 a3 : Int32} (kk : ∀ r h2, FIN sa x ca m ad h2 → K r r h2) : zf0_film f h mc ms (some x) a1 a2 a3 fun r h1 => zf8_film f h1 (some m) a1 a2 a3 fun r2 h2 => K r r2 h2 := by
  obtain ⟨pa, rw, hC, go⟩ := J_go ok hJ
  have hW := hR.ws
  have hn := (nP_eq hW).2
  have all : ∀ sn pn on_ : Nat, sn < 4 → a1 = nI sn → pn < nP σ → a2 = nI pn → on_ < 4 → a3 = nI on_ → ((0 ≤ a1.toInt ∧ a1.toInt ≤ 3) ∧ pnl σ a2 ∧ opn a3) := fun sn pn on_ h1 e1 h2 e2 h3 e3 => by
    rw [e1, e2, e3]
    exact ⟨⟨by rw [nI_toInt (by omega)]; omega, by rw [nI_toInt (by omega)]; omega⟩, ⟨by rw [nI_toInt (by omega)]; omega, by rw [nI_toInt (by omega)]; omega⟩, ⟨by rw [nI_toInt (by omega)]; omega, by rw [nI_toInt (by omega)]; omega⟩⟩
  refine D_film hf hW hR.2.1 hC hmc hms (fun z => ?_) (fun sn pn on_ hs es hp ep ho eo r h1 hC1 => ?_)
  · obtain ⟨hM, -⟩ := go _ _ _ _ _ hC
    exact O_film ok hf hW hM (fun _ => kk _ _ (J_id ok hJ hR hC hM (fun _ _ => rfl) (fun _ _ => rfl))) (fun s p o a b c d e g => absurd (all s p o a b c d e g) z)
  · obtain ⟨hM, fin⟩ := go _ _ _ _ _ hC1
    refine O_film ok hf hW hM (fun z => absurd (all sn pn on_ hs es hp ep ho eo) z) (fun s p o a b c d e g h2 hM2 => ?_)
    have q1 : sn = s := (nI_eq (by omega) (by omega)).mp (es.symm.trans b)
    have q2 : pn = p := (nI_eq (by omega) (by omega)).mp (ep.symm.trans d)
    subst q1 q2
    have ek : ∀ k, k ≠ 48 → fiS (Gm σ) σ sn pn a3 k = shS σ sn 1 8 k := fun k hk => fo_key (fun i a => mup_k hk) _ _ _
    refine kk _ _ (fin _ _ hM2 (fun _ _ => rfl) (fun t k _ _ => congrFun (congrFun (Gm_of ((ek 1 (by decide)).trans (shS_k (by decide))) ((ek 2 (by decide)).trans (shS_k (by decide)))) t) k) ?_)
    show RR (jn (fiS (Gm σ) σ sn pn a3) (fiS (Gm σ) σ sn pn a3))
    rw [jn_same]
    exact fi_RR hR hs
theorem pn_law {at_ : Int32} {s size : Nat} : ∀ (j k : Nat) (c : Int32) (σc σm : ST), (∀ k, k ∈ shk → σm k = σc k) → RR (jn σc σm) → (pnC at_ s size j k c σc).1 = (pnL at_ s size j k c σm).1 ∧ (∀ q, q ∈ shk → (pnL at_ s size j k c σm).2 q = (pnC at_ s size j k c σc).2 q) ∧ RR (jn (pnC at_ s size j k c σc).2 (pnL at_ s size j k c σm).2) ∧ Gm (pnL at_ s size j k c σm).2 = Gm σm := by
  intro j
  induction j with
  | zero => intro k c σc σm h1 h2; exact ⟨rfl, h1, h2, rfl⟩
  | succ j ih =>
    intro k c σc σm h1 h2
    unfold pnC pnL
    by_cases z : at_.toInt < 0 ∨ (size : Int) - 3 * k - 3 < at_.toInt
    · rw [if_pos z, if_pos z]; exact ⟨rfl, h1, h2, rfl⟩
    · rw [if_neg z, if_neg z, h1 48 (by decide)]
      generalize σc 48 (40 * s + at_.toNatClampNeg + 3 * k) = z1
      generalize σc 48 (40 * s + at_.toNatClampNeg + 3 * k + 1) = z2
      generalize σc 48 (40 * s + at_.toNatClampNeg + 3 * k + 2) = z3
      have en : nP σm = nP σc := by unfold nP; rw [h1 13 (by decide)]
      have step : (paOC σc z1 z2 z3).1 = (paO σm z1 z2 z3).1 ∧ (∀ k, k ∈ shk → (paO σm z1 z2 z3).2 k = (paOC σc z1 z2 z3).2 k) ∧ RR (jn (paOC σc z1 z2 z3).2 (paO σm z1 z2 z3).2) ∧ Gm (paO σm z1 z2 z3).2 = Gm σm := by
        unfold paOC paO
        by_cases y : ((0 ≤ z1.toInt ∧ z1.toInt ≤ 5) ∧ (0 ≤ z2.toInt ∧ z2.toInt ≤ 9) ∧ (0 ≤ z3.toInt ∧ z3.toInt ≤ 364))
        · rw [if_pos y, if_pos y, en]
          by_cases y6 : nP σc = 6
          · rw [if_pos y6, if_pos y6]; exact ⟨rfl, h1, h2, rfl⟩
          · rw [if_neg y6, if_neg y6]
            refine ⟨rfl, fun k hk => ?_, ?_, (Gm_of (paS_k (j := 1) (by decide)) (paS_k (j := 2) (by decide)) : Gm (paS σm (nP σc) z1 z2 z3) = Gm σm)⟩
            · show paS σm (nP σc) z1 z2 z3 k = paC σc (nP σc) z1 z2 z3 k
              have w : ∀ j, j ∈ shk → j = 10 ∨ j = 11 ∨ j = 13 ∨ (j ∉ ([10, 11, 12, 13] : List Nat) ∧ j ∉ ([10, 11, 110, 111, 13] : List Nat)) := by decide
              rcases w k hk with rfl | rfl | rfl | ⟨y1, y2⟩
              · show upd (σm 10) _ _ = upd (σc 10) _ _
                rw [h1 10 (by decide)]
              · show upd (upd (upd (σm 11) _ _) _ _) _ _ = upd (upd (upd (σc 11) _ _) _ _) _ _
                rw [h1 11 (by decide)]
              · show upd (σm 13) _ _ = upd (σc 13) _ _
                rw [h1 13 (by decide)]
              · rw [paS_k y1, paC_k y2]; exact h1 k hk
            · have hn : nP (jn σc σm) = nP σc := by unfold nP; rw [jn_2 (by decide), h1 13 (by decide)]
              have h6 : nP σc ≤ 6 := by rw [← hn]; exact (nP_eq h2.ws).2
              have hP := RR_paT (nb := z2) (on_ := z3) h2 (by rw [hn]; omega) y.1
              rw [hn] at hP
              refine RR_of hP fun k hk => ?_
              show jn (paC σc (nP σc) z1 z2 z3) (paS σm (nP σc) z1 z2 z3) k = paT (jn σc σm) (nP σc) z1 z2 z3 k
              by_cases c : k = 110 ∨ k = 111 ∨ 200 < k
              · rw [jn_1 c]
                rcases c with rfl | rfl | c
                · show upd (σc 110) _ _ = upd (jn σc σm 110) _ _
                  rw [jn_1 (Or.inl rfl)]
                · show upd (σc 111) _ _ = upd (jn σc σm 111) _ _
                  rw [jn_1 (Or.inr (Or.inl rfl))]
                · rw [paC_k (by simp only [List.mem_cons, List.not_mem_nil, or_false]; omega), paT_k (by simp only [List.mem_cons, List.not_mem_nil, or_false]; omega), jn_1 (Or.inr (Or.inr c))]
              · rw [jn_2 c]
                by_cases c4 : k ∈ ([10, 11, 12, 13] : List Nat)
                · simp only [List.mem_cons, List.not_mem_nil, or_false] at c4
                  rcases c4 with rfl | rfl | rfl | rfl
                  · show upd (σm 10) _ _ = upd (jn σc σm 10) _ _
                    rw [jn_2 c]
                  · show upd (upd (upd (σm 11) _ _) _ _) _ _ = upd (upd (upd (jn σc σm 11) _ _) _ _) _ _
                    rw [jn_2 c]
                  · show upd (σm 12) 0 (σm 12 0 &&& _) = upd (jn σc σm 12) 0 (jn σc σm 12 0 &&& _)
                    rw [jn_2 c]
                  · show upd (σm 13) _ _ = upd (jn σc σm 13) _ _
                    rw [jn_2 c]
                · have c4' := c4
                  simp only [List.mem_cons, List.not_mem_nil, or_false] at c4'
                  rw [paS_k c4, paT_k (by simp only [List.mem_cons, List.not_mem_nil, or_false]; omega), jn_2 c]
        · rw [if_neg y, if_neg y]; exact ⟨rfl, h1, h2, rfl⟩
      obtain ⟨s1, s2, s3, s4⟩ := step
      rw [s1]
      obtain ⟨t1, t2, t3, t4⟩ := ih (k + 1) (c + (if (paO σm z1 z2 z3).1 < 0 then 0 else 1)) _ _ s2 s3
      exact ⟨t1, t2, t3, t4.trans s4⟩
theorem O_panes0 {K : Int32 → zH → Prop} {s sort at_ n : Int32} (z : ¬ ((0 ≤ s.toInt ∧ s.toInt ≤ 3) ∧ (0 ≤ sort.toInt ∧ sort.toInt ≤ 2) ∧ (0 ≤ n.toInt ∧ n.toInt ≤ 6))) (kk : K (-2) h) : zf8_panes f h (some m) s sort at_ n K := by
  unfold zf8_panes
  rw [q_sh8]
  simp only [ite10, ifn]
  by_cases c1 : 0 ≤ s.toInt ∧ s.toInt ≤ 3
  · rw [if_pos c1, q_inL 0 2 (by decide) (by decide)]
    simp only [ite10, ifn]
    by_cases c2 : 0 ≤ sort.toInt ∧ sort.toInt ≤ 2
    · rw [if_pos c2, q_inL 0 6 (by decide) (by decide)]
      simp only [ite10, ifn]
      rw [if_neg (fun c3 => z ⟨c1, c2, c3⟩)]
      exact kk
    · rw [if_neg c2]; exact kk
  · rw [if_neg c1]; exact kk
theorem D_panes0 {K : Int32 → zH → Prop} {mc ms : Nat} {s sort at_ n : Int32} (z : ¬ ((0 ≤ s.toInt ∧ s.toInt ≤ 3) ∧ (0 ≤ sort.toInt ∧ sort.toInt ≤ 2) ∧ (0 ≤ n.toInt ∧ n.toInt ≤ 6))) (kk : K (-2) h) : zf0_panes f h mc ms (some x) s sort at_ n K := by
  unfold zf0_panes
  rw [q_sh0]
  simp only [ite10, ifn]
  by_cases c1 : 0 ≤ s.toInt ∧ s.toInt ≤ 3
  · rw [if_pos c1, q_inC 0 2 (by decide) (by decide)]
    simp only [ite10, ifn]
    by_cases c2 : 0 ≤ sort.toInt ∧ sort.toInt ≤ 2
    · rw [if_pos c2, q_inC 0 6 (by decide) (by decide)]
      simp only [ite10, ifn]
      rw [if_neg (fun c3 => z ⟨c1, c2, c3⟩)]
      exact kk
    · rw [if_neg c2]; exact kk
  · rw [if_neg c1]; exact kk
theorem J_panes (ok : mOk m ad) (hf : 400 ≤ f) (hJ : JJ sa x ca m ad σ h) (hR : RR σ) {mc ms : Nat} (hmc : 160 ≤ mc) (hms : 40000 ≤ ms) {a1 a2 a3 a4 : Int32} (kk : ∀ r h2, FIN sa x ca m ad h2 → K r r h2) : zf0_panes f h mc ms (some x) a1 a2 a3 a4 fun r h1 => zf8_panes f h1 (some m) a1 a2 a3 a4 fun r2 h2 => K r r2 h2 := by
  obtain ⟨pa, rw, hC, go⟩ := J_go ok hJ
  have hW := hR.ws
  have hH := hR.2.1
  have un : ∀ {a b : Nat}, a < 4 → b < 4 → a1 = nI a → a1 = nI b → a = b := fun h1 h2 e1 e2 => (nI_eq (by omega) (by omega)).mp (e1.symm.trans e2)
  have kid := fun (r : Int32) hM => kk r h (J_id ok hJ hR hC hM (fun _ _ => rfl) (fun _ _ => rfl))
  by_cases z : ((0 ≤ a1.toInt ∧ a1.toInt ≤ 3) ∧ (0 ≤ a2.toInt ∧ a2.toInt ≤ 2) ∧ (0 ≤ a4.toInt ∧ a4.toInt ≤ 6))
  · refine D_panes hf hW hH hC hmc hms (fun c => absurd z c) (fun sn hs es h1 h2 => ?_) (fun sn hs es h0 => ?_) (fun sn size nn hs es h1 e46 e47 h40 hnn en hso pa' h1' hC1 => ?_)
    · obtain ⟨hM, -⟩ := go _ _ _ _ _ hC
      refine O_panes ok hf hW hH hM (fun c => absurd z c) (fun s a b c d => kid _ hM) (fun s a b c => ?_) (fun s size nn a b c d => ?_)
      · rw [← un hs a es b, h1] at c; exact absurd c (by decide)
      · rw [← un hs a es b] at d; exact absurd d h2
    · obtain ⟨hM, -⟩ := go _ _ _ _ _ hC
      refine O_panes ok hf hW hH hM (fun c => absurd z c) (fun s a b c d => ?_) (fun s a b c => kid _ hM) (fun s size nn a b c d => ?_)
      · rw [← un hs a es b, h0] at c; exact absurd c (by decide)
      · rw [← un hs a es b, h0] at c; exact absurd c (by decide)
    · obtain ⟨hM, fin⟩ := go _ _ _ _ _ hC1
      refine O_panes ok hf hW hH hM (fun c => absurd z c) (fun s a b c d => ?_) (fun s a b c => ?_) (fun s size' nn' a b c d e g i i2 i3 h2 hM2 => ?_)
      · rw [← un hs a es b] at d; exact absurd e46 d
      · rw [← un hs a es b, h1] at c; exact absurd c (by decide)
      · have q1 := un hs a es b
        subst q1
        rw [e47] at e
        have q2 : size = size' := (nI_eq (by omega) (by omega)).mp e
        have q3 : nn = nn' := (nI_eq (by omega) (by omega)).mp (en.symm.trans i2)
        subst q2 q3
        obtain ⟨t1, t2, t3, t4⟩ := pn_law (at_ := a3) (s := sn) (size := size) nn 0 0 σ σ (fun _ _ => rfl) (by rw [jn_same]; exact hR)
        rw [t1]
        exact kk _ _ (fin _ _ hM2 t2 (fun t k _ _ => by rw [t4]) t3)
  · obtain ⟨hM, -⟩ := go _ _ _ _ _ hC
    exact D_panes0 z (O_panes0 z (kid _ hM))
end J3
