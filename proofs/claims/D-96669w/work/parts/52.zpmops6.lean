/-! THE REFERENCE's CALLS: film, panes, tells -/
set_option maxRecDepth 100000
theorem lt_of {G : TG} {σ σ' : ST} (h4 : σ' 4 = σ 4) (h10 : σ' 10 = σ 10) (h11 : σ' 11 = σ 11) (p : Nat) (o hr : Int32) : lt G σ' p o hr = lt G σ p o hr := by
  unfold lt asq
  rw [h4, h10, h11]
/-- the first hour in which a row says otherwise -/
def foS (G : TG) (σ : ST) (s p : Nat) (o : Int32) : Int32 := fi (fun h => decide (¬ lt G σ p o (nI h) = σ 48 (40 * s + h))) 8 0
def fiS (G : TG) (σ : ST) (s p : Nat) (o : Int32) : ST := fo (fun h σ' => mup σ' 48 (40 * s + h) (lt G σ p o (nI h))) 8 0 (shS σ s 1 8)
def paV (k nb on_ : Int32) : Prop := (0 ≤ k.toInt ∧ k.toInt ≤ 5) ∧ (0 ≤ nb.toInt ∧ nb.toInt ≤ 9) ∧ (0 ≤ on_.toInt ∧ on_.toInt ≤ 364)
theorem shS_k {σ : ST} {s : Nat} {sort n : Int32} {k : Nat} (hk : k ∉ ([45, 46, 47, 48] : List Nat)) : shS σ s sort n k = σ k := by
  simp only [List.mem_cons, List.not_mem_nil, or_false, not_or] at hk
  unfold shS
  rw [fo_key (fun i a => if_neg hk.2.2.2)]
  unfold shC
  rw [mup_ne9 hk.2.2.1, mup_ne9 hk.2.1, mup_ne9 hk.1]
section M6
variable {f : Nat} {m : Nat} {ad : Nat → Nat} {b : zH} {σ : ST} {h : zH} {K : Int32 → zH → Prop}
theorem L_firstOther (ok : mOk m ad) (hf : 400 ≤ f) (hW : WS σ) (hh : Mh m ad b σ h) {s p : Nat} {o : Int32} (hs : s < 4) (hp : p < 6) (kk : ∀ h', Mh m ad b σ h' → K (foS (Gm σ) σ s p o) h') : zf8_firstOther f h (some m) (nI s) (nI p) o K := by
  unfold foS at kk
  have go : ∀ (j i g : Nat) (h : zH), i + j = 8 → j < g → Mh m ad b σ h → (∀ h', Mh m ad b σ h' → K (fi (fun h => decide (¬ lt (Gm σ) σ p o (nI h) = σ 48 (40 * s + h))) j i) h') → zl8_firstOther_3 f K g h (some m) (nI s) (nI p) o (nI i) := by
    intro j
    induction j with
    | zero =>
      intro i g h h1 h2 hh kk
      obtain ⟨g, rfl⟩ : ∃ g', g = g' + 1 := ⟨g - 1, by omega⟩
      show zb8_firstOther_3 f K (zl8_firstOther_3 f K g) h (some m) (nI s) (nI p) o (nI i)
      unfold zb8_firstOther_3
      have e : i = 8 := by omega
      subst e
      rw [if_neg (by decide)]
      exact kk h hh
    | succ j ih =>
      intro i g h h1 h2 hh kk
      obtain ⟨g, rfl⟩ : ∃ g', g = g' + 1 := ⟨g - 1, by omega⟩
      show zb8_firstOther_3 f K (zl8_firstOther_3 f K g) h (some m) (nI s) (nI p) o (nI i)
      unfold zb8_firstOther_3
      rw [if_pos (show nI i < 8 from (nI_ltI (b := 8) (by omega) (by omega)).mpr (by omega))]
      have kk : ∀ h', Mh m ad b σ h' → K (if decide (¬ lt (Gm σ) σ p o (nI i) = σ 48 (40 * s + i)) = true then nI i else fi (fun h => decide (¬ lt (Gm σ) σ p o (nI h) = σ 48 (40 * s + h))) j (i + 1)) h' := kk
      simp only [decide_eq_true_eq, ifn] at kk
      simp only [zmQ ok hh]
      refine L_lightOf ok hf hW hh hp fun h' hh' => ?_
      simp only [zmQ ok hh', e40s, nm_eq, nI_1, nI_clamp (show 40 * s + i < 2 ^ 31 by omega)]
      refine ⟨vp_in_nI (by omega) (by omega), ?_⟩
      by_cases c : lt (Gm σ) σ p o (nI i) = σ 48 (40 * s + i)
      · rw [if_neg (fun z => z c)] at kk
        rw [if_pos c]
        exact ih (i + 1) g h' (by omega) (by omega) hh' kk
      · rw [if_pos c] at kk
        rw [if_neg c]
        exact kk h' hh'
  exact go 8 0 f h rfl (by omega) hh kk
theorem O_film (ok : mOk m ad) (hf : 400 ≤ f) (hW : WS σ) (hh : Mh m ad b σ h) {s p o : Int32} (k0 : ¬ ((0 ≤ s.toInt ∧ s.toInt ≤ 3) ∧ pnl σ p ∧ opn o) → K (-2) h) (kk : ∀ sn pn on_ : Nat, sn < 4 → s = nI sn → pn < nP σ → p = nI pn → on_ < 4 → o = nI on_ → ∀ h', Mh m ad b (fiS (Gm σ) σ sn pn o) h' → K 8 h') : zf8_film f h (some m) s p o K := by
  have hn := (nP_eq hW).2
  unfold zf8_film
  rw [q_sh8]
  simp only [ite10, ifn]
  by_cases c1 : 0 ≤ s.toInt ∧ s.toInt ≤ 3
  · rw [if_pos c1]
    simp only [zmQ ok hh, L_isPane ok hW hh, ite10, ifn]
    by_cases c2 : pnl σ p
    · rw [if_pos c2, q_op8]
      simp only [ite10, ifn]
      by_cases c3 : opn o
      · rw [if_pos c3]
        simp only [zmQ ok hh]
        obtain ⟨sn, hsn, rfl⟩ := opn_nat c1
        obtain ⟨pn, hpn, rfl⟩ := pnl_nat c2
        obtain ⟨on_, hon, rfl⟩ := opn_nat c3
        have kk := kk sn pn on_ hsn rfl hpn rfl hon rfl
        refine O_sheet ok hf hh (fun z => absurd ⟨c1, by decide, Or.inr (by decide)⟩ z) (fun _ _ z => absurd z (by decide)) fun sn' h1 h2 h3 h4 h' hh' => ?_
        have e : sn' = sn := ((nI_eq (by omega) (by omega)).mp h2).symm
        subst e
        unfold fiS at kk
        have go : ∀ (j i g : Nat) (σ1 : ST) (h : zH), i + j = 8 → j < g → Mh m ad b σ1 h → (∀ k, k ≠ 45 → k ≠ 46 → k ≠ 47 → k ≠ 48 → σ1 k = σ k) → (∀ h', Mh m ad b (fo (fun h σ' => mup σ' 48 (40 * sn' + h) (lt (Gm σ) σ pn (nI on_) (nI h))) j i σ1) h' → K 8 h') → zl8_film_37 f K g h (some m) (nI sn') (nI pn) (nI on_) (nI i) := by
          intro j
          induction j with
          | zero =>
            intro i g σ1 h h1 h2 hh hk kk
            obtain ⟨g, rfl⟩ : ∃ g', g = g' + 1 := ⟨g - 1, by omega⟩
            show zb8_film_37 f K (zl8_film_37 f K g) h (some m) (nI sn') (nI pn) (nI on_) (nI i)
            unfold zb8_film_37
            have e : i = 8 := by omega
            subst e
            rw [if_neg (by decide)]
            exact kk h hh
          | succ j ih =>
            intro i g σ1 h h1 h2 hh hk kk
            obtain ⟨g, rfl⟩ : ∃ g', g = g' + 1 := ⟨g - 1, by omega⟩
            show zb8_film_37 f K (zl8_film_37 f K g) h (some m) (nI sn') (nI pn) (nI on_) (nI i)
            unfold zb8_film_37
            rw [if_pos (show nI i < 8 from (nI_ltI (b := 8) (by omega) (by omega)).mpr (by omega))]
            simp only [zmQ ok hh]
            have hW1 : WS σ1 := WS_of hW fun k hk2 => hk k (by intro z; rw [z] at hk2; revert hk2; decide) (by intro z; rw [z] at hk2; revert hk2; decide) (by intro z; rw [z] at hk2; revert hk2; decide) (by intro z; rw [z] at hk2; revert hk2; decide)
            refine L_lightOf ok hf hW1 hh (by omega) fun h' hh' => ?_
            rw [e40s, Gm_of (hk 1 (by decide) (by decide) (by decide) (by decide)) (hk 2 (by decide) (by decide) (by decide) (by decide)), lt_of (hk 4 (by decide) (by decide) (by decide) (by decide)) (hk 10 (by decide) (by decide) (by decide) (by decide)) (hk 11 (by decide) (by decide) (by decide) (by decide))]
            refine Mst (n := 160) ok hh' (by decide) (vp_in_nI (by omega) (by omega)) fun h2 hh2 => ?_
            rw [nI_clamp (by omega)] at hh2
            simp only [nm_eq, nI_1]
            exact ih (i + 1) g _ h2 (by omega) (by omega) hh2 (fun k a1 a2 a3 a4 => by rw [mup_ne9 a4]; exact hk k a1 a2 a3 a4) kk
        exact go 8 0 f _ h' rfl (by omega) hh' (fun k a1 a2 a3 a4 => shS_k (by simp only [List.mem_cons, List.not_mem_nil, or_false, not_or]; exact ⟨a1, a2, a3, a4⟩)) kk
      · rw [if_neg c3]
        exact k0 (fun z => c3 z.2.2)
    · rw [if_neg c2]
      exact k0 (fun z => c2 z.2.1)
  · rw [if_neg c1]
    exact k0 (fun z => c1 z.1)
theorem lays_lays (σ : ST) {j p : Nat} (hj : 2 ≤ j) (a c : Int32) : laysS (laysS σ j p a) j p c = laysS σ j p c := by
  have mm : ∀ (k i : Nat), mup (mup σ k i a) k i c = mup σ k i c := by
    intro k i
    funext k' o
    unfold mup
    by_cases ck : k' = k
    · rw [if_pos ck, if_pos ck]
      unfold upd
      by_cases co : o = i
      · rw [if_pos co, if_pos co]
      · rw [if_neg co, if_neg co]
        show mup σ k i a k o = σ k o
        unfold mup
        rw [if_pos rfl]
        exact pk_un co
    · simp only [if_neg ck]
  unfold laysS
  by_cases c0 : j = 0
  · omega
  rw [if_neg c0, if_neg c0, if_neg c0]
  by_cases c1 : j = 1
  · omega
  rw [if_neg c1, if_neg c1, if_neg c1]
  by_cases c5 : j < 5
  · rw [if_pos c5, if_pos c5, if_pos c5]; exact mm _ _
  rw [if_neg c5, if_neg c5, if_neg c5]
  by_cases c6 : j = 5
  · rw [if_pos c6, if_pos c6, if_pos c6]; exact mm _ _
  rw [if_neg c6, if_neg c6, if_neg c6]; exact mm _ _
/-- what lays laid, as it stands -/
def laysV (σ : ST) (j p : Nat) : Int32 := if j < 5 then σ 11 (3 * p + (j - 2)) else if j = 5 then σ 10 p else σ 4 0
theorem lays_self (σ : ST) {j p : Nat} (hj : 2 ≤ j) : laysS σ j p (laysV σ j p) = σ := by
  have mm : ∀ (k i : Nat), mup σ k i (σ k i) = σ := by
    intro k i
    funext k' o
    unfold mup
    by_cases ck : k' = k
    · rw [if_pos ck, ck]
      unfold upd
      by_cases co : o = i
      · rw [if_pos co, co]
      · rw [if_neg co]
    · rw [if_neg ck]
  unfold laysS laysV
  by_cases c0 : j = 0
  · omega
  rw [if_neg c0]
  by_cases c1 : j = 1
  · omega
  rw [if_neg c1]
  by_cases c5 : j < 5
  · rw [if_pos c5, if_pos c5]; exact mm _ _
  rw [if_neg c5, if_neg c5]
  by_cases c6 : j = 5
  · rw [if_pos c6, if_pos c6]; exact mm _ _
  rw [if_neg c6, if_neg c6]; exact mm _ _
/-- a state with another value laid stands -/
theorem WS_lays (hW : WS σ) {j p : Nat} {v : Int32} (hj : 2 ≤ j) (hj6 : j ≤ 6) (h5 : j = 5 → 0 ≤ v.toInt ∧ v.toInt ≤ 5) (h6 : j = 6 → ∃ r : Nat, r < (σ 3 0).toNatClampNeg ∧ v = nI r) : WS (laysS σ j p v) := by
  unfold laysS
  rw [if_neg (by omega), if_neg (by omega)]
  by_cases c5 : j < 5
  · rw [if_pos c5]
    exact WS_of hW fun k hk => mup_ne9 (by intro z; rw [z] at hk; revert hk; decide)
  rw [if_neg c5]
  by_cases c6 : j = 5
  · rw [if_pos c6]
    unfold WS nP at hW ⊢
    rw [mup_ne9 (show (1 : Nat) ≠ 10 by decide), mup_ne9 (show (2 : Nat) ≠ 10 by decide), mup_ne9 (show (3 : Nat) ≠ 10 by decide), mup_ne9 (show (4 : Nat) ≠ 10 by decide), mup_ne9 (show (5 : Nat) ≠ 10 by decide), mup_ne9 (show (6 : Nat) ≠ 10 by decide), mup_ne9 (show (9 : Nat) ≠ 10 by decide), mup_ne9 (show (13 : Nat) ≠ 10 by decide)]
    refine ⟨hW.1, hW.2.1, hW.2.2.1, hW.2.2.2.1, hW.2.2.2.2.1, hW.2.2.2.2.2.1, hW.2.2.2.2.2.2.1, fun q hq => ?_⟩
    unfold mup
    rw [if_pos rfl]
    unfold upd
    by_cases cq : q = p
    · rw [if_pos cq]; exact h5 c6
    · rw [if_neg cq]; exact hW.2.2.2.2.2.2.2 q hq
  rw [if_neg c6]
  obtain ⟨r, hr, rfl⟩ := h6 (by omega)
  unfold WS nP at hW ⊢
  rw [mup_ne9 (show (1 : Nat) ≠ 4 by decide), mup_ne9 (show (2 : Nat) ≠ 4 by decide), mup_ne9 (show (3 : Nat) ≠ 4 by decide), mup_ne9 (show (10 : Nat) ≠ 4 by decide), mup_ne9 (show (5 : Nat) ≠ 4 by decide), mup_ne9 (show (6 : Nat) ≠ 4 by decide), mup_ne9 (show (9 : Nat) ≠ 4 by decide), mup_ne9 (show (13 : Nat) ≠ 4 by decide)]
  obtain ⟨g1, ⟨c, r', g2, g3, -⟩, g4⟩ := hW
  exact ⟨g1, ⟨c, r, g2, g3, by rw [g3, nI_clamp (by omega)] at hr; exact hr, mup_s0⟩, g4⟩
theorem Gm_lays {j p : Nat} {v : Int32} : Gm (laysS σ j p v) = Gm σ := by
  unfold laysS
  by_cases c0 : j = 0
  · rw [if_pos c0]; exact Gm_of (mup_ne9 (by decide)) (mup_ne9 (by decide))
  rw [if_neg c0]
  by_cases c1 : j = 1
  · rw [if_pos c1]; exact Gm_of (mup_ne9 (by decide)) (mup_ne9 (by decide))
  rw [if_neg c1]
  by_cases c5 : j < 5
  · rw [if_pos c5]; exact Gm_of (mup_ne9 (by decide)) (mup_ne9 (by decide))
  rw [if_neg c5]
  by_cases c6 : j = 5
  · rw [if_pos c6]; exact Gm_of (mup_ne9 (by decide)) (mup_ne9 (by decide))
  rw [if_neg c6]; exact Gm_of (mup_ne9 (by decide)) (mup_ne9 (by decide))
def teF (G : TG) (σ : ST) (s p : Nat) (o : Int32) (j last : Nat) : Nat → Int32 × Int32 × Int32 → Int32 × Int32 × Int32 := fun k a => if foS G (laysS σ j p (nI (last - k))) s p o = -1 then (a.1 ||| (if j = 3 then (0 : Int32) else (1 : Int32) <<< (nI (last - k) &&& 31)), a.2.1 + 1, nI (last - k)) else a
def teP (G : TG) (σ : ST) (s : Nat) (o : Int32) : Int32 := fo (fun p a => a ||| ((if foS G σ s p o = -1 then 1 else 0) <<< (nI p &&& 31))) (nP σ) 0 0
def teR (j : Nat) (what : Int32) (a : Int32 × Int32 × Int32) : Int32 := if j = 3 then (if what < 60 then a.2.1 else a.2.2) else a.1
theorem L_tellsL (ok : mOk m ad) (hf : 400 ≤ f) (hW : WS σ) (hh : Mh m ad b σ h) {s p j last : Nat} {o what was : Int32} (hs : s < 4) (hp : p < 6) (hj : 2 ≤ j) (hj6 : j ≤ 6) (hl : last < 366) (hwas : was = laysV σ j p) (h5 : j = 5 → last ≤ 5) (h6 : j = 6 → last < (σ 3 0).toNatClampNeg) (kk : ∀ h', Mh m ad b σ h' → K (teR j what (fo (teF (Gm σ) σ s p o j last) (last + 1) 0 (0, 0, -1))) h') : zl8_tells_269 f K f h (some m) (nI s) o what 0 (nI p) (nI j) was 0 (-1) (nI last) := by
  have go : ∀ (d k g : Nat) (v : Int32) (a : Int32 × Int32 × Int32) (σ1 : ST) (h : zH), k + d = last + 1 → d < g → v = nI (last - k) ∨ (d = 0 ∧ v = -1) → (d ≠ 0 → v = nI (last - k)) → (d = 0 → v = -1) → (σ1 = σ ∨ ∃ c, σ1 = laysS σ j p c) → Mh m ad b σ1 h → (∀ h', Mh m ad b σ h' → K (teR j what (fo (teF (Gm σ) σ s p o j last) d k a)) h') → zl8_tells_269 f K g h (some m) (nI s) o what a.1 (nI p) (nI j) was a.2.1 a.2.2 v := by
    intro d
    induction d with
    | zero =>
      intro k g v a σ1 h h1 h2 _ _ hv hσ hh kk
      obtain ⟨g, rfl⟩ : ∃ g', g = g' + 1 := ⟨g - 1, by omega⟩
      show zb8_tells_269 f K (zl8_tells_269 f K g) h (some m) (nI s) o what a.1 (nI p) (nI j) was a.2.1 a.2.2 v
      unfold zb8_tells_269
      rw [hv rfl, if_pos (by decide)]
      simp only [zmQ ok hh]
      refine L_lays (of := p) ok hh hj6 (fun _ _ => ⟨rfl, fun z => by omega, hp⟩) fun h' hh' => ?_
      have e : laysS σ1 j p was = σ := by
        rw [hwas]
        rcases hσ with z | ⟨c, z⟩
        · rw [z]; exact lays_self σ hj
        · rw [z, lays_lays σ hj]; exact lays_self σ hj
      rw [e] at hh'
      have kk : K (teR j what a) h' := kk h' hh'
      unfold teR at kk
      by_cases c3 : j = 3
      · rw [if_pos (show nI j = 3 by rw [c3]; rfl)]
        rw [if_pos c3] at kk
        by_cases c60 : what < 60
        · rw [if_pos c60] at kk ⊢; exact kk
        · rw [if_neg c60] at kk ⊢; exact kk
      · rw [if_neg (show ¬ nI j = 3 from fun z => c3 ((nI_eq (b := 3) (by omega) (by omega)).mp z))]
        rw [if_neg c3] at kk
        exact kk
    | succ d ih =>
      intro k g v a σ1 h h1 h2 _ hv _ hσ hh kk
      obtain ⟨g, rfl⟩ : ∃ g', g = g' + 1 := ⟨g - 1, by omega⟩
      show zb8_tells_269 f K (zl8_tells_269 f K g) h (some m) (nI s) o what a.1 (nI p) (nI j) was a.2.1 a.2.2 v
      unfold zb8_tells_269 zj8_tells_312 zj8_tells_322
      rw [hv (by omega), if_neg (nI_pos (by omega))]
      simp only [zmQ ok hh]
      refine L_lays (of := p) ok hh hj6 (fun _ _ => ⟨rfl, fun z => by omega, hp⟩) fun h3 hh3 => ?_
      have e : laysS σ1 j p (nI (last - k)) = laysS σ j p (nI (last - k)) := by
        rcases hσ with z | ⟨c, z⟩
        · rw [z]
        · rw [z, lays_lays σ hj]
      rw [e] at hh3
      simp only [zmQ ok hh3]
      have hW3 : WS (laysS σ j p (nI (last - k))) := WS_lays hW hj hj6 (fun z => by have := h5 z; rw [nI_toInt (by omega)]; omega) (fun z => ⟨last - k, by have := h6 z; omega, rfl⟩)
      refine L_firstOther ok hf hW3 hh3 hs hp fun h4 hh4 => ?_
      rw [Gm_lays]
      simp only [nm_eq, nI_1]
      have nv : (d + 1 ≠ 0 → nI (last - k) + (-1) = nI (last - (k + 1)) ∨ d = 0) := by
        intro _
        by_cases c : d = 0
        · exact Or.inr c
        · left
          have : last - k = (last - (k + 1)) + 1 := by omega
          rw [this, pk_m1]
      have nv1 : d ≠ 0 → nI (last - k) + (-1) = nI (last - (k + 1)) := fun z => (nv (by omega)).resolve_right z
      have nv2 : d = 0 → nI (last - k) + (-1) = -1 := by
        intro z
        have : last - k = 0 := by omega
        rw [this]; decide
      have ih := ih (k + 1) g (nI (last - k) + (-1)) (teF (Gm σ) σ s p o j last k a) _ h4 (by omega) (by omega) (by by_cases c : d = 0; exact Or.inr ⟨c, nv2 c⟩; exact Or.inl (nv1 c)) nv1 nv2 (Or.inr ⟨_, rfl⟩) hh4 kk
      unfold teF at ih
      by_cases c1 : foS (Gm σ) (laysS σ j p (nI (last - k))) s p o = -1
      · rw [if_pos c1] at ih ⊢
        by_cases c3 : j = 3
        · rw [if_pos (show nI j = 3 by rw [c3]; rfl)]
          rw [if_pos c3] at ih
          exact ih
        · rw [if_neg (show ¬ nI j = 3 from fun z => c3 ((nI_eq (b := 3) (by omega) (by omega)).mp z))]
          rw [if_neg c3] at ih
          exact ih
      · rw [if_neg c1] at ih ⊢
        exact ih
  exact go (last + 1) 0 f (nI last) (0, 0, -1) σ h (by omega) (by omega) (Or.inl rfl) (fun _ => rfl) (fun z => by omega) (Or.inl rfl) hh kk
end M6
