/-! THE REFERENCE's CALLS: the search over all houses -/
set_option maxRecDepth 100000
abbrev B3 : Type := Int32 × Int32 × Int32
/-- a leaf: found, digits, value -/
def lk (goal purse bright price digits met : Int32) (B : B3) : B3 := if goal = 1 ∧ met = 0 then B else if goal = 2 ∧ purse < price then B else if B.1 = 0 ∨ B.2.2 < (if goal = 1 then -price else bright) then (1, digits, if goal = 1 then -price else bright) else B
/-- the search: n panes; S sums, C prices, H hates, W needs, Z broken -/
def sk (n : Nat) (S : Nat → Nat → Int32) (C : Nat → Int32) (H : Nat → Nat → Nat → Int32) (W Z : Nat → Int32) (goal purse : Int32) : Nat → Nat → Int32 → Int32 → Int32 → Int32 → Int32 → Int32 → B3 → B3
  | 0, _, _, _, bright, price, digits, met, B => lk goal purse bright price digits met B
  | d + 1, i, last, used, bright, price, digits, met, B => fo (fun p B => if ((used >>> (nI p &&& 31)) &&& 1 = 0 ∧ Z p = 0) ∧ (i = 0 ∨ last = -1 ∨ H last.toNatClampNeg p (i - 1) = 0) then sk n S C H W Z goal purse d (i + 1) (nI p) (used ||| (1 <<< (nI p &&& 31))) (bright + S p i) (price + C p) (10 * digits + nI p + 1) (if met = 0 then 0 else if S p i < W i then 0 else 1) B else B) n 0
      (sk n S C H W Z goal purse d (i + 1) (-1) used bright price (10 * digits) (if met = 0 then 0 else if W i = 0 then 1 else 0) B)
/-- whom a pane hates, as the tables have it -/
def htS (G : TG) (σ : ST) (p q i : Nat) : Int32 := if p = q then 0 else qr G σ (nI p) (nI q) (nI i)
/-- the tables hold -/
def TBp (G : TG) (σ σ1 : ST) (p : Nat) : Prop := σ1 30 p = ct G σ p ∧ (∀ i, i < 4 → σ1 29 (4 * p + i) = sm G σ p (nI i)) ∧ ∀ q i, q < nP σ → i < 3 → σ1 31 (18 * p + 3 * q + i) = htS G σ p q i
def offT (σ1 σ : ST) : Prop := ∀ k, k ∉ ([29, 30, 31] : List Nat) → σ1 k = σ k
def bestS (G : TG) (σ : ST) (goal : Int32) : B3 := sk (nP σ) (fun p i => sm G σ p (nI i)) (ct G σ) (htS G σ) (σ 8) (fun p => ab σ (nI p)) goal (σ 7 0) 4 0 (-1) 0 0 0 0 1 (0, -1, 1)
theorem asq_of {G : TG} {σ σ' : ST} (h4 : σ' 4 = σ 4) (h11 : σ' 11 = σ 11) (k p : Nat) (o hr bt : Int32) : asq G σ' k p o hr bt = asq G σ k p o hr bt := by
  unfold asq
  rw [h4, h11]
theorem ct_of {G : TG} {σ σ' : ST} (h4 : σ' 4 = σ 4) (h10 : σ' 10 = σ 10) (h11 : σ' 11 = σ 11) (p : Nat) : ct G σ' p = ct G σ p := by
  unfold ct
  rw [asq_of h4 h11, h10, h11]
theorem sm_of {G : TG} {σ σ' : ST} (h4 : σ' 4 = σ 4) (h10 : σ' 10 = σ 10) (h11 : σ' 11 = σ 11) (p : Nat) (o : Int32) : sm G σ' p o = sm G σ p o := by
  unfold sm
  exact fo_congr _ _ _ fun k a _ _ => by rw [lt_of h4 h10 h11]
theorem qr_of {G : TG} {σ σ' : ST} (h4 : σ' 4 = σ 4) (h11 : σ' 11 = σ 11) (h12 : σ' 12 = σ 12) (x y o : Int32) : qr G σ' x y o = qr G σ x y o := by
  unfold qr qrX ab qv
  rw [asq_of h4 h11, h11, h12]
section MS
variable {f : Nat} {m : Nat} {ad : Nat → Nat} {b : zH} {σ : ST} {h : zH}
theorem vpn01 {x : Int32} (h : x = 0 ∨ x = 1) : vp_nar .boolean x = x := by
  rcases h with z | z
  · rw [z]; exact vpn0
  · rw [z]; exact vpn1
theorem L_tables (ok : mOk m ad) (hf : 400 ≤ f) (hW : WS σ) (hh : Mh m ad b σ h) {K : zH → Prop} (kk : ∀ σ1 h', Mh m ad b σ1 h' → offT σ1 σ → (∀ p, p < nP σ → TBp (Gm σ) σ σ1 p) → K h') : zf8_tables f h (some m) K := by
  obtain ⟨h13, hn⟩ := nP_eq hW
  have facts : ∀ σ1, offT σ1 σ → WS σ1 ∧ Gm σ1 = Gm σ ∧ σ1 4 = σ 4 ∧ σ1 10 = σ 10 ∧ σ1 11 = σ 11 ∧ σ1 12 = σ 12 ∧ σ1 13 = σ 13 := fun σ1 ho => ⟨WS_of hW fun k hk => ho k (by intro z; revert hk z; simp only [List.mem_cons, List.not_mem_nil, or_false]; omega), Gm_of (ho 1 (by decide)) (ho 2 (by decide)), ho 4 (by decide), ho 10 (by decide), ho 11 (by decide), ho 12 (by decide), ho 13 (by decide)⟩
  have up : ∀ {σ1 k i v}, offT σ1 σ → k ∈ ([29, 30, 31] : List Nat) → offT (mup σ1 k i v) σ := fun ho hk j hj => by
    rw [mup_ne9 (fun z => hj (by rw [z]; exact hk))]
    exact ho j hj
  -- the innermost loop: hates of p and q
  have l62 : ∀ (R2 : zH → Option Nat → Int32 → Prop) (R52 : zH → Option Nat → Int32 → Int32 → Prop) (p q : Nat), p < nP σ → q < nP σ → ∀ (j i g : Nat) (σ1 : ST) (h : zH), i + j = 3 → j < g → Mh m ad b σ1 h → offT σ1 σ → (∀ p', p' < p → TBp (Gm σ) σ σ1 p') → σ1 30 p = ct (Gm σ) σ p → (∀ i, i < 4 → σ1 29 (4 * p + i) = sm (Gm σ) σ p (nI i)) → (∀ q' i', q' < q → i' < 3 → σ1 31 (18 * p + 3 * q' + i') = htS (Gm σ) σ p q' i') → (∀ i', i' < i → σ1 31 (18 * p + 3 * q + i') = htS (Gm σ) σ p q i') → (∀ σ2 h', Mh m ad b σ2 h' → offT σ2 σ → (∀ p', p' < p → TBp (Gm σ) σ σ2 p') → σ2 30 p = ct (Gm σ) σ p → (∀ i, i < 4 → σ2 29 (4 * p + i) = sm (Gm σ) σ p (nI i)) → (∀ q' i', q' < q + 1 → i' < 3 → σ2 31 (18 * p + 3 * q' + i') = htS (Gm σ) σ p q' i') → R52 h' (some m) (nI p) (nI (q + 1))) → zl8_tables_62 f R2 R52 K g h (some m) (nI p) (nI q) (nI i) := by
    intro R2 R52 p q hp hq j
    induction j with
    | zero =>
      intro i g σ1 h h1 h2 hh ho t1 t2 t3 t4 t5 kk
      obtain ⟨g, rfl⟩ : ∃ g', g = g' + 1 := ⟨g - 1, by omega⟩
      show zb8_tables_62 f R2 R52 K (zl8_tables_62 f R2 R52 K g) h (some m) (nI p) (nI q) (nI i)
      unfold zb8_tables_62
      have e : i = 3 := by omega
      subst e
      rw [if_neg (by decide)]
      simp only [nm_eq, nI_1]
      refine kk σ1 h hh ho t1 t2 t3 fun q' i' a1 a2 => ?_
      by_cases c : q' = q
      · rw [c]; exact t5 i' a2
      · exact t4 q' i' (by omega) a2
    | succ j ih =>
      intro i g σ1 h h1 h2 hh ho t1 t2 t3 t4 t5 kk
      obtain ⟨g, rfl⟩ : ∃ g', g = g' + 1 := ⟨g - 1, by omega⟩
      show zb8_tables_62 f R2 R52 K (zl8_tables_62 f R2 R52 K g) h (some m) (nI p) (nI q) (nI i)
      unfold zb8_tables_62
      rw [nI_1, if_pos (show nI (i + 1) < 4 from (nI_ltI (b := 4) (by omega) (by omega)).mpr (by omega))]
      obtain ⟨w1, w2, w3, w4, w5, w6, w7⟩ := facts σ1 ho
      simp only [zmQ ok hh]
      have e18 : (18 : Int32) * nI p + 3 * nI q + nI i = nI (18 * p + 3 * q + i) := by
        have : (18 : Int32) * nI p = nI (18 * p) := pk_mul 18 p
        rw [this, e3m, nI_add, nI_add]
      rw [e18]
      have st : ∀ (v : Int32) h', v = 0 ∨ v = 1 → v = htS (Gm σ) σ p q i → Mh m ad b σ1 h' → zj8_tables_103 f R2 R52 (zl8_tables_62 f R2 R52 K g) K h' (some m) (nI p) (nI q) (nI i) v (nI (18 * p + 3 * q + i)) (some (ad 31)) := by
        intro v h' hv hv2 hh'
        unfold zj8_tables_103
        rw [vpn01 hv]
        refine Mst (n := 108) ok hh' (by decide) (vp_in_nI (by omega) (by omega)) fun h3 hh3 => ?_
        rw [nI_clamp (by omega)] at hh3
        simp only [nm_eq, nI_1]
        have u31 : ∀ x, mup σ1 31 (18 * p + 3 * q + i) v 31 x = if x = 18 * p + 3 * q + i then v else σ1 31 x := fun x => by
          unfold mup
          rw [if_pos rfl]
          rfl
        have uk : ∀ k, k ≠ 31 → mup σ1 31 (18 * p + 3 * q + i) v k = σ1 k := fun k hk => mup_ne9 hk
        refine ih (i + 1) g _ h3 (by omega) (by omega) hh3 (up ho (by decide)) (fun p' hp' => ?_) (by rw [uk 30 (by decide)]; exact t2) (fun i' hi' => by rw [uk 29 (by decide)]; exact t3 i' hi') (fun q' i' a1 a2 => ?_) (fun i' hi' => ?_) kk
        · obtain ⟨s1, s2, s3⟩ := t1 p' hp'
          refine ⟨by rw [uk 30 (by decide)]; exact s1, fun i' hi' => by rw [uk 29 (by decide)]; exact s2 i' hi', fun q' i' a1 a2 => ?_⟩
          rw [u31, if_neg (by omega)]
          exact s3 q' i' a1 a2
        · rw [u31, if_neg (by omega)]
          exact t4 q' i' a1 a2
        · rw [u31]
          by_cases c : i' = i
          · rw [if_pos (by omega), c]; exact hv2
          · rw [if_neg (by omega)]; exact t5 i' (by omega)
      by_cases c : p = q
      · rw [if_pos (by rw [c])]
        exact st 0 h (Or.inl rfl) (by unfold htS; rw [if_pos c]) hh
      · rw [if_neg (fun z => c ((nI_eq (by omega) (by omega)).mp z))]
        refine L_quarrels ok hf w1 hh (Or.inr ⟨p, by omega, rfl⟩) (Or.inr ⟨q, by omega, rfl⟩) fun h' hh' => ?_
        rw [w2, qr_of w3 w5 w6]
        rcases qr01 (Gm σ) σ (nI p) (nI q) (nI i) with z | z
        · rw [if_pos z]
          exact st 0 h' (Or.inl rfl) (by unfold htS; rw [if_neg c, z]) hh'
        · rw [if_neg (by rw [z]; decide)]
          exact st 1 h' (Or.inr rfl) (by unfold htS; rw [if_neg c, z]) hh'
  have l52 : ∀ (R2 : zH → Option Nat → Int32 → Prop) (p : Nat), p < nP σ → ∀ (j q g : Nat) (σ1 : ST) (h : zH), q + j = nP σ → j < g → Mh m ad b σ1 h → offT σ1 σ → (∀ p', p' < p → TBp (Gm σ) σ σ1 p') → σ1 30 p = ct (Gm σ) σ p → (∀ i, i < 4 → σ1 29 (4 * p + i) = sm (Gm σ) σ p (nI i)) → (∀ q' i', q' < q → i' < 3 → σ1 31 (18 * p + 3 * q' + i') = htS (Gm σ) σ p q' i') → (∀ σ2 h', Mh m ad b σ2 h' → offT σ2 σ → (∀ p', p' < p + 1 → TBp (Gm σ) σ σ2 p') → R2 h' (some m) (nI (p + 1))) → zl8_tables_52 f R2 K g h (some m) (nI p) (nI q) := by
    intro R2 p hp j
    induction j with
    | zero =>
      intro q g σ1 h h1 h2 hh ho t1 t2 t3 t4 kk
      obtain ⟨g, rfl⟩ : ∃ g', g = g' + 1 := ⟨g - 1, by omega⟩
      show zb8_tables_52 f R2 K (zl8_tables_52 f R2 K g) h (some m) (nI p) (nI q)
      unfold zb8_tables_52
      simp only [zmQ ok hh]
      rw [(facts σ1 ho).2.2.2.2.2.2, h13, if_neg (fun z => by have := (nI_ltI (by omega) (by omega)).mp z; omega)]
      simp only [nm_eq, nI_1]
      refine kk σ1 h hh ho fun p' hp' => ?_
      by_cases c : p' = p
      · rw [c]; exact ⟨t2, t3, fun q' i' a1 a2 => t4 q' i' (by omega) a2⟩
      · exact t1 p' (by omega)
    | succ j ih =>
      intro q g σ1 h h1 h2 hh ho t1 t2 t3 t4 kk
      obtain ⟨g, rfl⟩ : ∃ g', g = g' + 1 := ⟨g - 1, by omega⟩
      show zb8_tables_52 f R2 K (zl8_tables_52 f R2 K g) h (some m) (nI p) (nI q)
      unfold zb8_tables_52
      simp only [zmQ ok hh]
      rw [(facts σ1 ho).2.2.2.2.2.2, h13, if_pos ((nI_ltI (by omega) (by omega)).mpr (by omega))]
      exact l62 R2 _ p q hp (by omega) 3 0 f σ1 h rfl (by omega) hh ho t1 t2 t3 t4 (fun i' hi' => by omega) fun σ2 h' a1 a2 a3 a4 a5 a6 => ih (q + 1) g σ2 h' (by omega) (by omega) a1 a2 a3 a4 a5 a6 kk
  have l23 : ∀ (R2 : zH → Option Nat → Int32 → Prop) (p : Nat), p < nP σ → ∀ (j i g : Nat) (σ1 : ST) (h : zH), i + j = 4 → j < g → Mh m ad b σ1 h → offT σ1 σ → (∀ p', p' < p → TBp (Gm σ) σ σ1 p') → σ1 30 p = ct (Gm σ) σ p → (∀ i', i' < i → σ1 29 (4 * p + i') = sm (Gm σ) σ p (nI i')) → (∀ σ2 h', Mh m ad b σ2 h' → offT σ2 σ → (∀ p', p' < p + 1 → TBp (Gm σ) σ σ2 p') → R2 h' (some m) (nI (p + 1))) → zl8_tables_23 f R2 K g h (some m) (nI p) (nI i) := by
    intro R2 p hp j
    induction j with
    | zero =>
      intro i g σ1 h h1 h2 hh ho t1 t2 t3 kk
      obtain ⟨g, rfl⟩ : ∃ g', g = g' + 1 := ⟨g - 1, by omega⟩
      show zb8_tables_23 f R2 K (zl8_tables_23 f R2 K g) h (some m) (nI p) (nI i)
      unfold zb8_tables_23
      have e : i = 4 := by omega
      subst e
      rw [if_neg (by decide)]
      exact l52 R2 p hp (nP σ) 0 f σ1 h (by omega) (by omega) hh ho t1 t2 t3 (fun q' i' a1 a2 => by omega) kk
    | succ j ih =>
      intro i g σ1 h h1 h2 hh ho t1 t2 t3 kk
      obtain ⟨g, rfl⟩ : ∃ g', g = g' + 1 := ⟨g - 1, by omega⟩
      show zb8_tables_23 f R2 K (zl8_tables_23 f R2 K g) h (some m) (nI p) (nI i)
      unfold zb8_tables_23
      rw [if_pos (show nI i < 4 from (nI_ltI (b := 4) (by omega) (by omega)).mpr (by omega))]
      obtain ⟨w1, w2, w3, w4, w5, w6, w7⟩ := facts σ1 ho
      simp only [zmQ ok hh]
      refine L_sumOf ok hf w1 hh (by omega) fun h' hh' => ?_
      have e4 : (4 : Int32) * nI p + nI i = nI (4 * p + i) := by
        have : (4 : Int32) * nI p = nI (4 * p) := pk_mul 4 p
        rw [this, nI_add]
      rw [e4, w2, sm_of w3 w4 w5]
      refine Mst (n := 24) ok hh' (by decide) (vp_in_nI (by omega) (by omega)) fun h3 hh3 => ?_
      rw [nI_clamp (by omega)] at hh3
      simp only [nm_eq, nI_1]
      have u29 : ∀ x, mup σ1 29 (4 * p + i) (sm (Gm σ) σ p (nI i)) 29 x = if x = 4 * p + i then sm (Gm σ) σ p (nI i) else σ1 29 x := fun x => by
        unfold mup
        rw [if_pos rfl]
        rfl
      have uk : ∀ k, k ≠ 29 → mup σ1 29 (4 * p + i) (sm (Gm σ) σ p (nI i)) k = σ1 k := fun k hk => mup_ne9 hk
      refine ih (i + 1) g _ h3 (by omega) (by omega) hh3 (up ho (by decide)) (fun p' hp' => ?_) (by rw [uk 30 (by decide)]; exact t2) (fun i' hi' => ?_) kk
      · obtain ⟨s1, s2, s3⟩ := t1 p' hp'
        refine ⟨by rw [uk 30 (by decide)]; exact s1, fun i' hi' => ?_, fun q' i' a1 a2 => by rw [uk 31 (by decide)]; exact s3 q' i' a1 a2⟩
        rw [u29, if_neg (by omega)]
        exact s2 i' hi'
      · rw [u29]
        by_cases c : i' = i
        · rw [if_pos (by omega), c]
        · rw [if_neg (by omega)]; exact t3 i' (by omega)
  have l2 : ∀ (j p g : Nat) (σ1 : ST) (h : zH), p + j = nP σ → j < g → Mh m ad b σ1 h → offT σ1 σ → (∀ p', p' < p → TBp (Gm σ) σ σ1 p') → zl8_tables_2 f K g h (some m) (nI p) := by
    intro j
    induction j with
    | zero =>
      intro p g σ1 h h1 h2 hh ho t1
      obtain ⟨g, rfl⟩ : ∃ g', g = g' + 1 := ⟨g - 1, by omega⟩
      show zb8_tables_2 f K (zl8_tables_2 f K g) h (some m) (nI p)
      unfold zb8_tables_2
      simp only [zmQ ok hh]
      rw [(facts σ1 ho).2.2.2.2.2.2, h13, if_neg (fun z => by have := (nI_ltI (by omega) (by omega)).mp z; omega)]
      exact kk σ1 h hh ho fun p' hp' => t1 p' (by omega)
    | succ j ih =>
      intro p g σ1 h h1 h2 hh ho t1
      obtain ⟨g, rfl⟩ : ∃ g', g = g' + 1 := ⟨g - 1, by omega⟩
      show zb8_tables_2 f K (zl8_tables_2 f K g) h (some m) (nI p)
      unfold zb8_tables_2
      obtain ⟨w1, w2, w3, w4, w5, w6, w7⟩ := facts σ1 ho
      simp only [zmQ ok hh]
      rw [w7, h13, if_pos ((nI_ltI (by omega) (by omega)).mpr (by omega))]
      refine L_costsOf ok hf w1 hh (by omega) fun h' hh' => ?_
      rw [w2, ct_of w3 w4 w5]
      refine Mst (n := 6) ok hh' (by decide) (vp_in_nI (by omega) (by omega)) fun h3 hh3 => ?_
      rw [nI_clamp (by omega)] at hh3
      have u30 : ∀ x, mup σ1 30 p (ct (Gm σ) σ p) 30 x = if x = p then ct (Gm σ) σ p else σ1 30 x := fun x => by
        unfold mup
        rw [if_pos rfl]
        rfl
      have uk : ∀ k, k ≠ 30 → mup σ1 30 p (ct (Gm σ) σ p) k = σ1 k := fun k hk => mup_ne9 hk
      refine l23 _ p (by omega) 4 0 f _ h3 rfl (by omega) hh3 (up ho (by decide)) (fun p' hp' => ?_) (by rw [u30, if_pos rfl]) (fun i' hi' => by omega) fun σ2 h4 a1 a2 a3 => ih (p + 1) g σ2 h4 (by omega) (by omega) a1 a2 a3
      obtain ⟨s1, s2, s3⟩ := t1 p' hp'
      refine ⟨by rw [u30, if_neg (by omega)]; exact s1, fun i' hi' => by rw [uk 29 (by decide)]; exact s2 i' hi', fun q' i' a1 a2 => by rw [uk 31 (by decide)]; exact s3 q' i' a1 a2⟩
  exact l2 (nP σ) 0 f σ h (by omega) (by omega) hh (fun _ _ => rfl) (fun p' hp' => by omega)
end MS
