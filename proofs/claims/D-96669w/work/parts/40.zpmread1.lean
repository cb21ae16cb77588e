/-! THE REFERENCE, what it reads only: asks, light, costs, sums, quarrels -/
set_option maxRecDepth 100000
theorem e3m (p : Nat) : (3 : Int32) * nI p = nI (3 * p) := pk_mul 3 p
theorem e3m1 (p : Nat) : (3 : Int32) * nI p + 1 = nI (3 * p + 1) := by rw [e3m]; exact nI_1 _
theorem e3m2 (p : Nat) : (3 : Int32) * nI p + 2 = nI (3 * p + 2) := by rw [e3m]; exact nI_add _ 2
theorem nIn1 {p : Nat} (h : p < 1000) : ¬ nI p = -1 := by
  intro z
  have := congrArg Int32.toInt z
  rw [nI_toInt (by omega)] at this
  have e : (-1 : Int32).toInt = -1 := by decide
  rw [e] at this
  omega
theorem ab01 (σ : ST) (x : Int32) : ab σ x = 0 ∨ ab σ x = 1 := by
  unfold ab
  obtain ⟨j, hj, e⟩ := pk_andE (σ 12 0 >>> (x &&& 31)) (m := 1) 1 (by decide)
  rw [e]
  have : j = 0 ∨ j = 1 := by omega
  rcases this with rfl | rfl
  · exact Or.inl rfl
  · exact Or.inr rfl
section M1
variable {f m : Nat} {ad : Nat → Nat} {b : zH} {σ : ST} {h : zH} {K : Int32 → zH → Prop}
theorem L_isPane (ok : mOk m ad) (hW : WS σ) (hh : Mh m ad b σ h) {a : Int32} : zf8_isPane f h (some m) a K = K (if 0 ≤ a.toInt ∧ a.toInt ≤ (nP σ : Int) - 1 then 1 else 0) h := by
  obtain ⟨h1, h2⟩ := nP_eq hW
  unfold zf8_isPane
  simp only [zmQ ok hh]
  rw [h1, q_inL 0 ((nP σ : Int) - 1) (by decide) (nI_pr (by omega)), zbl_ite]
  exact true_and _
theorem L_asks (ok : mOk m ad) (hf : 400 ≤ f) (hW : WS σ) (hh : Mh m ad b σ h) {p k : Nat} {wh o hr bt : Int32} (hp : p < 6) (hk : k ≤ 2) (hwh : wh = nI k) (kk : ∀ h', Mh m ad b σ h' → K (asq (Gm σ) σ k p o hr bt) h') : zf8_asks f h (some m) wh (nI p) o hr bt K := by
  subst hwh
  obtain ⟨τ, w, rfl, hv⟩ := hh
  obtain ⟨hWp, ⟨c, r, hc, h3, hr0, h4⟩, -, hby, -, htx, -⟩ := hW
  have h11 := hv 11 (Or.inl (by decide))
  unfold zf8_asks
  simp only [zmR ok, e3m, nI_1, show ∀ x, nI x + 2 = nI (x + 2) from fun x => nI_add x 2]
  refine ⟨vp_in_nI (by omega) (by omega), vp_in_nI (by omega) (by omega), vp_in_nI (by omega) (by omega), ?_⟩
  rw [nI_clamp (by omega), nI_clamp (by omega), nI_clamp (by omega)]
  simp only [mup_ne0 (show (11 : Nat) ≠ 14 by decide), mup_ne0 (show (11 : Nat) ≠ 15 by decide), mup_ne0 (show (11 : Nat) ≠ 16 by decide), mup_ne0 (show (4 : Nat) ≠ 14 by decide), mup_ne0 (show (4 : Nat) ≠ 15 by decide), mup_ne0 (show (4 : Nat) ≠ 16 by decide), mup_ne0 (show (4 : Nat) ≠ 17 by decide), mup_ne0 (show (4 : Nat) ≠ 18 by decide), mup_ne0 (show (4 : Nat) ≠ 19 by decide)]
  rw [hv 4 (Or.inl (by decide)), h4, h11]
  have hrc : r < (σ 3 0).toNatClampNeg := by rw [h3, nI_clamp (by omega)]; exact hr0
  obtain ⟨n, hn, hs, g, hg⟩ := htx r hrc
  have key : ∀ τ2 : ST, (∀ k, (k < 14 ∨ 19 < k) → τ2 k = τ k) → tk_en τ2 = ev6 hr (σ 11 (3 * p + 1)) (σ 11 (3 * p + 2)) (σ 11 (3 * p)) o bt → zf8_read f (hM m ad τ2 w b) (some m) (nI r) (nI k) (fun x14 h15 => if nI k = 2 then (K x14 h15) else (zf8_within f h15 x14 0 99 fun x16 h17 => K x16 h17)) := by
    intro τ2 g1 g2
    have e1 : τ2 1 = σ 1 := by rw [g1 1 (Or.inl (by decide)), hv 1 (Or.inl (by decide))]
    have e2 : τ2 2 = σ 2 := by rw [g1 2 (Or.inl (by decide)), hv 2 (Or.inl (by decide))]
    refine M_read ok (by omega) (n := n) (by omega) hk hn (by rw [e2]; exact hs) (fun i hi => by rw [e1]; exact (hby _ (by omega)).1) fun τ' w' a1 => ?_
    rw [e1, hg]
    intro _
    rw [g2]
    have hM' : Mh m ad b σ (hM m ad τ' w' b) := ⟨τ', w', rfl, fun k hk => by rw [a1 k (by omega), g1 k (by omega), hv k hk]⟩
    have kq := kk _ hM'
    have hG : Gm σ r k = sel3 k g.1 g.2.1 g.2.2 := by
      unfold Gm
      rw [hs, nI_clamp (by omega), hg]
    unfold asq at kq
    rw [h4, nI_clamp (by omega), hG] at kq
    by_cases c2 : k = 2
    · rw [if_pos c2] at kq
      rw [if_pos (by rw [c2]; rfl)]
      exact kq
    · rw [if_neg c2] at kq
      rw [if_neg (show ¬ nI k = 2 from fun z => c2 ((nI_eq (b := 2) (by omega) (by omega)).mp z)), q_within]
      exact kq
  refine key _ (fun k hk => ?_) ?_
  · rw [mup_ne0 (by omega), mup_ne0 (by omega), mup_ne0 (by omega), mup_ne0 (by omega), mup_ne0 (by omega), mup_ne0 (by omega)]
  · unfold tk_en
    simp only [mup_s0, mup_ne0 (show (14 : Nat) ≠ 15 by decide), mup_ne0 (show (14 : Nat) ≠ 16 by decide), mup_ne0 (show (14 : Nat) ≠ 17 by decide), mup_ne0 (show (14 : Nat) ≠ 18 by decide), mup_ne0 (show (14 : Nat) ≠ 19 by decide), mup_ne0 (show (15 : Nat) ≠ 16 by decide), mup_ne0 (show (15 : Nat) ≠ 17 by decide), mup_ne0 (show (15 : Nat) ≠ 18 by decide), mup_ne0 (show (15 : Nat) ≠ 19 by decide), mup_ne0 (show (16 : Nat) ≠ 17 by decide), mup_ne0 (show (16 : Nat) ≠ 18 by decide), mup_ne0 (show (16 : Nat) ≠ 19 by decide), mup_ne0 (show (17 : Nat) ≠ 18 by decide), mup_ne0 (show (17 : Nat) ≠ 19 by decide), mup_ne0 (show (18 : Nat) ≠ 19 by decide)]
theorem L_52 (ok : mOk m ad) (hh : Mh m ad b σ h) {p : Nat} {hr v : Int32} (hp : p < 6) (kk : K (cl0 999 (nlt (σ 10 p) (σ 11 (3 * p)) (σ 11 (3 * p + 1)) hr v)) h) : zj8_lightOf_52 f K h (some m) (nI p) hr (σ 10 p) (σ 11 (3 * p)) v (noo hr v) := by
  unfold zj8_lightOf_52 zj8_lightOf_152 zj8_lightOf_154
  unfold nlt cl0 at kk
  simp only [q_within, zmQ ok hh, e3m1, nI_clamp (show 3 * p + 1 < 2 ^ 31 by omega)]
  by_cases c1 : σ 10 p = 1
  · rw [if_pos c1] at kk ⊢; exact kk
  rw [if_neg c1] at kk ⊢
  by_cases c3 : σ 10 p = 3
  · rw [if_pos c3] at kk ⊢; exact kk
  rw [if_neg c3] at kk ⊢
  by_cases c2 : σ 10 p = 2
  · rw [if_pos c2] at kk ⊢; exact kk
  rw [if_neg c2] at kk ⊢
  by_cases c4 : σ 10 p = 4
  · rw [if_pos c4] at kk ⊢
    refine ⟨vp_in_nI (by omega) (by omega), ?_⟩
    by_cases c7 : σ 11 (3 * p + 1) - σ 11 (3 * p + 1) / 7 * 7 = σ 11 (3 * p) - σ 11 (3 * p) / 7 * 7
    · rw [if_pos c7] at kk ⊢; exact kk
    · rw [if_neg c7] at kk ⊢; exact kk
  rw [if_neg c4] at kk ⊢
  by_cases c5 : σ 10 p = 5
  · rw [if_pos c5] at kk ⊢
    by_cases c6 : hr < 6
    · rw [if_pos c6] at kk ⊢; exact kk
    · rw [if_neg c6] at kk ⊢; exact kk
  rw [if_neg c5] at kk ⊢
  exact kk
theorem L_lightOf (ok : mOk m ad) (hf : 400 ≤ f) (hW : WS σ) (hh : Mh m ad b σ h) {p : Nat} {o hr : Int32} (hp : p < 6) (kk : ∀ h', Mh m ad b σ h' → K (lt (Gm σ) σ p o hr) h') : zf8_lightOf f h (some m) (nI p) o hr K := by
  unfold zf8_lightOf
  simp only [zmQ ok hh, e3m, nI_clamp (show p < 2 ^ 31 by omega), nI_clamp (show 3 * p < 2 ^ 31 by omega)]
  refine ⟨vp_in_nI (by omega) (by omega), vp_in_nI (by omega) (by omega), ?_⟩
  refine L_asks ok hf hW hh hp (k := 0) (by omega) rfl fun h' hh' => ?_
  have go := L_52 (f := f) ok hh' (hr := hr) (v := asq (Gm σ) σ 0 p o hr 0) hp (kk h' hh')
  rw [q_inL 3 5 (by decide) (by decide)]
  simp only [ite10, ifn]
  unfold noo at go
  by_cases c : 3 ≤ hr.toInt ∧ hr.toInt ≤ 5
  · rw [if_pos c] at go ⊢; exact go
  · rw [if_neg c] at go ⊢; exact go
theorem L_costsOf (ok : mOk m ad) (hf : 400 ≤ f) (hW : WS σ) (hh : Mh m ad b σ h) {p : Nat} (hp : p < 6) (kk : ∀ h', Mh m ad b σ h' → K (ct (Gm σ) σ p) h') : zf8_costsOf f h (some m) (nI p) K := by
  unfold zf8_costsOf
  simp only [zmQ ok hh, e3m, nI_clamp (show p < 2 ^ 31 by omega), nI_clamp (show 3 * p < 2 ^ 31 by omega)]
  refine ⟨vp_in_nI (by omega) (by omega), vp_in_nI (by omega) (by omega), ?_⟩
  refine L_asks ok hf hW hh hp (k := 1) (by omega) rfl fun h' hh' => ?_
  have kq := kk h' hh'
  unfold ct nct cl0 at kq
  unfold zj8_costsOf_81
  simp only [q_within]
  by_cases c1 : σ 10 p = 1
  · rw [if_pos c1] at kq ⊢; exact kq
  rw [if_neg c1] at kq ⊢
  by_cases c3 : σ 10 p = 3
  · rw [if_pos c3] at kq ⊢; exact kq
  rw [if_neg c3] at kq ⊢
  by_cases c2 : σ 10 p = 2
  · rw [if_pos c2] at kq ⊢; exact kq
  rw [if_neg c2] at kq ⊢
  by_cases c4 : σ 10 p = 4
  · rw [if_pos c4] at kq ⊢; exact kq
  rw [if_neg c4] at kq ⊢
  exact kq
theorem L_spillsOf (ok : mOk m ad) (hh : Mh m ad b σ h) {p : Nat} (hp : p < 6) (kk : K (sp σ p) h) : zf8_spillsOf f h (some m) (nI p) K := by
  unfold zf8_spillsOf
  simp only [zmQ ok hh, e3m2, nI_clamp (show p < 2 ^ 31 by omega), nI_clamp (show 3 * p + 2 < 2 ^ 31 by omega), nm_eq]
  refine ⟨vp_in_nI (by omega) (by omega), vp_in_nI (by omega) (by omega), ?_⟩
  unfold sp nsp at kk
  by_cases c1 : σ 10 p = 1
  · rw [if_pos c1] at kk ⊢; exact kk
  rw [if_neg c1] at kk ⊢
  by_cases c3 : σ 10 p = 3
  · rw [if_pos c3] at kk ⊢; exact kk
  rw [if_neg c3] at kk ⊢
  by_cases c2 : σ 10 p = 5
  · rw [if_pos c2] at kk ⊢; exact kk
  rw [if_neg c2] at kk ⊢
  exact kk
theorem L_sumOf (ok : mOk m ad) (hf : 400 ≤ f) (hW : WS σ) (hh : Mh m ad b σ h) {p : Nat} {o : Int32} (hp : p < 6) (kk : ∀ h', Mh m ad b σ h' → K (sm (Gm σ) σ p o) h') : zf8_sumOf f h (some m) (nI p) o K := by
  have go : ∀ (j i g : Nat) (a : Int32) (h : zH), i + j = 8 → j < g → Mh m ad b σ h → (∀ h', Mh m ad b σ h' → K (fo (fun h a => a + lt (Gm σ) σ p o (nI h)) j i a) h') → zl8_sumOf_5 f K g h (some m) (nI p) o a (nI i) := by
    intro j
    induction j with
    | zero =>
      intro i g a h h1 h2 hh kk
      obtain ⟨g, rfl⟩ : ∃ g', g = g' + 1 := ⟨g - 1, by omega⟩
      show zb8_sumOf_5 f K (zl8_sumOf_5 f K g) h (some m) (nI p) o a (nI i)
      unfold zb8_sumOf_5
      have e : i = 8 := by omega
      subst e
      rw [if_neg (by decide)]
      exact kk h hh
    | succ j ih =>
      intro i g a h h1 h2 hh kk
      obtain ⟨g, rfl⟩ : ∃ g', g = g' + 1 := ⟨g - 1, by omega⟩
      show zb8_sumOf_5 f K (zl8_sumOf_5 f K g) h (some m) (nI p) o a (nI i)
      unfold zb8_sumOf_5
      rw [if_pos (show nI i < 8 from (nI_ltI (b := 8) (by omega) (by omega)).mpr (by omega))]
      simp only [zmQ ok hh, nm_eq, nI_1]
      exact L_lightOf ok hf hW hh hp fun h' hh' => ih (i + 1) g _ h' (by omega) (by omega) hh' kk
  exact go 8 0 f 0 h rfl (by omega) hh kk
theorem L_isBroken (ok : mOk m ad) (hh : Mh m ad b σ h) {x : Int32} : zf8_isBroken f h (some m) x K = K (if x = -1 then 0 else ab σ x) h := by
  unfold zf8_isBroken
  simp only [zmQ ok hh]
  by_cases c : x = -1
  · rw [if_pos c, if_pos c]
  · rw [if_neg c, if_neg c]
    have e : ((σ 12 0 >>> (x &&& 31)) &&& 1) = ab σ x := rfl
    rw [e]
    rcases ab01 σ x with z | z
    · rw [z, if_neg (by decide)]
    · rw [z, if_pos rfl]
/-- who is in an opening -/
theorem th_of (hW : WS σ) {o : Nat} (ho : o < 4) : σ 9 o = -1 ∨ ∃ p : Nat, p < nP σ ∧ p < 6 ∧ σ 9 o = nI p ∧ ¬ nI p = -1 := by
  have hn := (nP_eq hW).2
  rcases hW.2.2.2.2.2.2.1 o ho with z | ⟨p, h1, h2⟩
  · exact Or.inl z
  · exact Or.inr ⟨p, h1, by omega, h2, nIn1 (by omega)⟩
theorem L_sumIn (ok : mOk m ad) (hf : 400 ≤ f) (hW : WS σ) (hh : Mh m ad b σ h) {o : Nat} (ho : o < 4) (kk : ∀ h', Mh m ad b σ h' → K (si (Gm σ) σ o) h') : zf8_sumIn f h (some m) (nI o) K := by
  unfold zf8_sumIn zj8_sumIn_20
  simp only [zmQ ok hh, L_isBroken ok hh, nI_clamp (show o < 2 ^ 31 by omega)]
  refine ⟨vp_in_nI (by omega) (by omega), ?_⟩
  have kk : ∀ h', Mh m ad b σ h' → K (siX (Gm σ) σ (σ 9 o) (ab σ (σ 9 o)) (nI o)) h' := kk
  unfold siX at kk
  rcases th_of hW ho with z | ⟨p, h1, h6, h2, h3⟩
  · rw [z] at kk ⊢
    rw [if_pos rfl] at kk ⊢
    exact kk h hh
  · rw [h2] at kk ⊢
    rw [if_neg h3, nI_clamp (by omega)] at kk
    rw [if_neg h3, if_neg h3]
    rcases ab01 σ (nI p) with z | z
    · rw [z, if_neg (by decide)] at kk
      rw [z, if_pos rfl]
      exact L_sumOf ok hf hW hh h6 kk
    · rw [z, if_pos rfl] at kk
      rw [z, if_neg (by decide)]
      exact kk h hh
theorem L_quarrels (ok : mOk m ad) (hf : 400 ≤ f) (hW : WS σ) (hh : Mh m ad b σ h) {x y o : Int32} (hx : x = -1 ∨ ∃ p : Nat, p < 6 ∧ x = nI p) (hy : y = -1 ∨ ∃ p : Nat, p < 6 ∧ y = nI p) (kk : ∀ h', Mh m ad b σ h' → K (qr (Gm σ) σ x y o) h') : zf8_quarrels f h (some m) x y o K := by
  unfold qr qrX at kk
  unfold zf8_quarrels
  simp only [zmQ ok hh, L_isBroken ok hh]
  by_cases cx : x = -1
  · rw [if_pos cx] at kk ⊢; exact kk h hh
  rw [if_neg cx] at kk ⊢
  by_cases cy : y = -1
  · rw [if_pos cy] at kk ⊢; exact kk h hh
  rw [if_neg cy] at kk ⊢
  rw [if_neg cx, if_neg cy]
  obtain ⟨p, hp, rfl⟩ := hx.resolve_left cx
  obtain ⟨q, hq, rfl⟩ := hy.resolve_left cy
  rcases ab01 σ (nI p) with z | z
  · rw [z, if_neg (by decide)] at kk
    rw [z, if_pos rfl]
    rcases ab01 σ (nI q) with z2 | z2
    · rw [z2, if_neg (by decide), nI_clamp (by omega), nI_clamp (by omega)] at kk
      rw [z2, if_pos rfl, e3m1, e3m1, nI_clamp (by omega), nI_clamp (by omega)]
      refine ⟨vp_in_nI (by omega) (by omega), vp_in_nI (by omega) (by omega), ?_⟩
      simp only [nm_eq]
      have go : zj8_quarrels_69 f K h (aabs (σ 11 (3 * p + 1) - σ 11 (3 * q + 1))) 4 o (nI p) 2 (some m) := by
        unfold zj8_quarrels_69
        simp only [zmQ ok hh]
        refine L_asks ok hf hW hh hp (k := 2) (by omega) rfl fun h' hh' => ?_
        have kq := kk h' hh'
        unfold qv at kq
        by_cases c : asq (Gm σ) σ 2 p o 4 (aabs (σ 11 (3 * p + 1) - σ 11 (3 * q + 1))) = 0
        · rw [if_pos c] at kq ⊢; exact kq
        · rw [if_neg c] at kq ⊢; exact kq
      unfold aabs at go
      by_cases c : σ 11 (3 * p + 1) - σ 11 (3 * q + 1) < 0
      · rw [if_pos c] at go ⊢; exact go
      · rw [if_neg c] at go ⊢; exact go
    · rw [z2, if_pos rfl] at kk
      rw [z2, if_neg (by decide)]
      exact kk h hh
  · rw [z, if_pos rfl] at kk
    rw [z, if_neg (by decide)]
    exact kk h hh
theorem L_brightNow (ok : mOk m ad) (hf : 400 ≤ f) (hW : WS σ) (hh : Mh m ad b σ h) (kk : ∀ h', Mh m ad b σ h' → K (bri (Gm σ) σ) h') : zf8_brightNow f h (some m) K := by
  have go : ∀ (j i g : Nat) (a : Int32) (h : zH), i + j = 4 → j < g → Mh m ad b σ h → (∀ h', Mh m ad b σ h' → K (fo (fun o a => a + si (Gm σ) σ o) j i a) h') → zl8_brightNow_4 f K g h (some m) a (nI i) := by
    intro j
    induction j with
    | zero =>
      intro i g a h h1 h2 hh kk
      obtain ⟨g, rfl⟩ : ∃ g', g = g' + 1 := ⟨g - 1, by omega⟩
      show zb8_brightNow_4 f K (zl8_brightNow_4 f K g) h (some m) a (nI i)
      unfold zb8_brightNow_4
      have e : i = 4 := by omega
      subst e
      rw [if_neg (by decide)]
      exact kk h hh
    | succ j ih =>
      intro i g a h h1 h2 hh kk
      obtain ⟨g, rfl⟩ : ∃ g', g = g' + 1 := ⟨g - 1, by omega⟩
      show zb8_brightNow_4 f K (zl8_brightNow_4 f K g) h (some m) a (nI i)
      unfold zb8_brightNow_4
      rw [if_pos (show nI i < 4 from (nI_ltI (b := 4) (by omega) (by omega)).mpr (by omega))]
      simp only [zmQ ok hh, nm_eq, nI_1]
      exact L_sumIn ok hf hW hh (by omega) fun h' hh' => ih (i + 1) g _ h' (by omega) (by omega) hh' kk
  exact go 4 0 f 0 h rfl (by omega) hh kk
theorem th_of6 (hW : WS σ) {o : Nat} (ho : o < 4) : σ 9 o = -1 ∨ ∃ p : Nat, p < 6 ∧ σ 9 o = nI p := by
  rcases th_of hW ho with z | ⟨p, h1, h6, h2, h3⟩
  · exact Or.inl z
  · exact Or.inr ⟨p, h6, h2⟩
theorem qr01 (G : TG) (σ : ST) (x y o : Int32) : qr G σ x y o = 0 ∨ qr G σ x y o = 1 := by
  unfold qr qrX
  by_cases c1 : x = -1
  · rw [if_pos c1]; exact Or.inl rfl
  rw [if_neg c1]
  by_cases c2 : y = -1
  · rw [if_pos c2]; exact Or.inl rfl
  rw [if_neg c2]
  by_cases c3 : ab σ x = 1
  · rw [if_pos c3]; exact Or.inl rfl
  rw [if_neg c3]
  by_cases c4 : ab σ y = 1
  · rw [if_pos c4]; exact Or.inl rfl
  rw [if_neg c4]
  by_cases c5 : qv G σ x.toNatClampNeg y.toNatClampNeg o = 0
  · rw [if_pos c5]; exact Or.inl rfl
  · rw [if_neg c5]; exact Or.inr rfl
theorem L_quarrelSet (ok : mOk m ad) (hf : 400 ≤ f) (hW : WS σ) (hh : Mh m ad b σ h) (kk : ∀ h', Mh m ad b σ h' → K (qst (Gm σ) σ) h') : zf8_quarrelSet f h (some m) K := by
  have go : ∀ (j i g : Nat) (a : Int32) (h : zH), i + j = 3 → j < g → Mh m ad b σ h → (∀ h', Mh m ad b σ h' → K (fo (fun o a => a ||| (qr (Gm σ) σ (σ 9 o) (σ 9 (o + 1)) (nI o) <<< (nI o &&& 31))) j i a) h') → zl8_quarrelSet_4 f K g h (some m) a (nI i) := by
    intro j
    induction j with
    | zero =>
      intro i g a h h1 h2 hh kk
      obtain ⟨g, rfl⟩ : ∃ g', g = g' + 1 := ⟨g - 1, by omega⟩
      show zb8_quarrelSet_4 f K (zl8_quarrelSet_4 f K g) h (some m) a (nI i)
      unfold zb8_quarrelSet_4
      have e : i = 3 := by omega
      subst e
      rw [if_neg (by decide)]
      exact kk h hh
    | succ j ih =>
      intro i g a h h1 h2 hh kk
      obtain ⟨g, rfl⟩ : ∃ g', g = g' + 1 := ⟨g - 1, by omega⟩
      show zb8_quarrelSet_4 f K (zl8_quarrelSet_4 f K g) h (some m) a (nI i)
      unfold zb8_quarrelSet_4 zj8_quarrelSet_39
      rw [nI_1, if_pos (show nI (i + 1) < 4 from (nI_ltI (b := 4) (by omega) (by omega)).mpr (by omega))]
      simp only [zmQ ok hh, nm_eq, nI_1, nI_clamp (show i < 2 ^ 31 by omega), nI_clamp (show i + 1 < 2 ^ 31 by omega)]
      refine ⟨vp_in_nI (by omega) (by omega), vp_in_nI (by omega) (by omega), ?_⟩
      refine L_quarrels ok hf hW hh (th_of6 hW (by omega)) (th_of6 hW (by omega)) fun h' hh' => ?_
      have go : zl8_quarrelSet_4 f K g h' (some m) (a ||| (qr (Gm σ) σ (σ 9 i) (σ 9 (i + 1)) (nI i) <<< (nI i &&& 31))) (nI (i + 1)) := ih (i + 1) g _ h' (by omega) (by omega) hh' kk
      rcases qr01 (Gm σ) σ (σ 9 i) (σ 9 (i + 1)) (nI i) with z | z
      · rw [z] at go ⊢; rw [if_pos rfl]; exact go
      · rw [z] at go ⊢; rw [if_neg (by decide)]; exact go
  exact go 3 0 f 0 h rfl (by omega) hh kk
end M1
