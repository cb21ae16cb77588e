/-! THE REFERENCE's CALLS: seeks, brightest, cheapest, settle -/
set_option maxRecDepth 100000
/-- but for what the search writes -/
def offS (σ1 σ : ST) : Prop := ∀ k, k ∉ ([32, 34, 35, 36] : List Nat) → σ1 k = σ k
def isB (σ : ST) (B : B3) : Prop := σ 34 0 = B.1 ∧ σ 35 0 = B.2.1 ∧ σ 36 0 = B.2.2
section MB2
variable {f : Nat} {m : Nat} {ad : Nat → Nat} {b : zH} {σ : ST} {h : zH}
theorem L_looks (ok : mOk m ad) (hh : Mh m ad b σ h) {B : B3} (hB : isB σ B) {bright price digits met : Int32} {K : zH → Prop} (kk : ∀ σ1 h', Mh m ad b σ1 h' → offS σ1 σ → σ1 32 = σ 32 → isB σ1 (lk (σ 33 0) (σ 7 0) bright price digits met B) → K h') : zf8_looks f h (some m) bright price digits met K := by
  unfold lk at kk
  unfold zf8_looks zj8_looks_13 zj8_looks_30
  simp only [zmQ ok hh]
  have off0 : offS σ σ := fun _ _ => rfl
  by_cases c1 : σ 33 0 = 1 ∧ met = 0
  · rw [if_pos c1.1, if_pos c1.2]
    rw [if_pos c1] at kk
    exact kk σ h hh off0 rfl hB
  · rw [if_neg c1] at kk
    have main : (if σ 33 0 = 2 then (if σ 7 0 < price then K h else (if σ 33 0 = 1 then zj8_looks_44 f K h (some m) digits (-price) else zj8_looks_44 f K h (some m) digits bright)) else (if σ 33 0 = 1 then zj8_looks_44 f K h (some m) digits (-price) else zj8_looks_44 f K h (some m) digits bright)) := by
      by_cases c2 : σ 33 0 = 2 ∧ σ 7 0 < price
      · rw [if_pos c2] at kk
        rw [if_pos c2.1, if_pos c2.2]
        exact kk σ h hh off0 rfl hB
      · rw [if_neg c2] at kk
        have fin : (if σ 33 0 = 1 then zj8_looks_44 f K h (some m) digits (-price) else zj8_looks_44 f K h (some m) digits bright) := by
          have e : (if σ 33 0 = 1 then zj8_looks_44 f K h (some m) digits (-price) else zj8_looks_44 f K h (some m) digits bright) = zj8_looks_44 f K h (some m) digits (if σ 33 0 = 1 then -price else bright) := by
            by_cases c : σ 33 0 = 1
            · rw [if_pos c, if_pos c]
            · rw [if_neg c, if_neg c]
          rw [e]
          generalize (if σ 33 0 = 1 then -price else bright) = v at kk ⊢
          unfold zj8_looks_44
          simp only [zmQ ok hh]
          rw [hB.1, hB.2.2]
          have put : (B.1 = 0 ∨ B.2.2 < v) → zj8_looks_62 f K h (some m) digits v := by
            intro c
            rw [if_pos c] at kk
            unfold zj8_looks_62
            refine Mpf hh (by decide) fun h1 hh1 => ?_
            refine Mpf hh1 (by decide) fun h2 hh2 => ?_
            refine Mpf hh2 (by decide) fun h3 hh3 => ?_
            refine kk _ h3 hh3 (fun k hk => ?_) ?_ ⟨?_, ?_, ?_⟩
            · simp only [List.mem_cons, List.not_mem_nil, or_false, not_or] at hk
              rw [mup_ne9 hk.2.2.2, mup_ne9 hk.2.2.1, mup_ne9 hk.2.1]
            · rw [mup_ne9 (by decide), mup_ne9 (by decide), mup_ne9 (by decide)]
            · rw [mup_ne9 (by decide), mup_ne9 (by decide), mup_s0]
            · rw [mup_ne9 (by decide), mup_s0]
            · rw [mup_s0]
          by_cases c0 : B.1 = 0
          · rw [if_pos c0]; exact put (Or.inl c0)
          · rw [if_neg c0]
            by_cases cv : B.2.2 < v
            · rw [if_pos cv]; exact put (Or.inr cv)
            · rw [if_neg cv]
              rw [if_neg (fun z => z.elim c0 cv)] at kk
              exact kk σ h hh off0 rfl hB
        by_cases c3 : σ 33 0 = 2
        · rw [if_pos c3, if_neg (fun z => c2 ⟨c3, z⟩)]
          exact fin
        · rw [if_neg c3]
          exact fin
    by_cases c3 : σ 33 0 = 1
    · rw [if_pos c3, if_neg (fun z => c1 ⟨c3, z⟩)]
      exact main
    · rw [if_neg c3]
      exact main
theorem L_seeks (ok : mOk m ad) (hf : 400 ≤ f) {G : TG} {σ0 : ST} (h13 : σ 13 0 = nI (nP σ0)) (hn : nP σ0 ≤ 6) (e7 : σ 7 = σ0 7) (e8 : σ 8 = σ0 8) (e12 : σ 12 = σ0 12) (hT : ∀ p, p < nP σ0 → TBp G σ0 σ p) : ∀ (d D i : Nat) (last used bright price digits met : Int32) (B : B3) (σ1 : ST) (h : zH) (K : zH → Prop), i + d = 4 → d < D → (last = -1 ∨ ∃ q : Nat, q < nP σ0 ∧ last = nI q) → Mh m ad b σ1 h → offS σ1 σ → isB σ1 B → (0 < i → σ1 32 (i - 1) = last) → (∀ σ2 h', Mh m ad b σ2 h' → offS σ2 σ → (∀ j, j < i → σ2 32 j = σ1 32 j) → isB σ2 (sk (nP σ0) (fun p i => sm G σ0 p (nI i)) (ct G σ0) (htS G σ0) (σ0 8) (fun p => ab σ0 (nI p)) (σ 33 0) (σ0 7 0) d i last used bright price digits met B) → K h') → zgr8s f D 0 h (some m) (nI i) used bright price digits met K := by
  intro d
  induction d with
  | zero =>
    intro D i last used bright price digits met B σ1 h K h1 hD hl hh ho hB hla kk
    obtain ⟨D, rfl⟩ : ∃ D', D = D' + 1 := ⟨D - 1, by omega⟩
    show zf8_seeks f (zgr8s f D) h (some m) (nI i) used bright price digits met K
    unfold zf8_seeks
    have e : i = 4 := by omega
    subst e
    rw [if_pos (show nI 4 = 4 from rfl)]
    simp only [zmQ ok hh]
    refine L_looks ok hh hB fun σ2 h' hh' a1 a2 a3 => ?_
    refine kk σ2 h' hh' (fun k hk => by rw [a1 k hk]; exact ho k hk) (fun j _ => by rw [a2]) ?_
    rw [ho 33 (by decide), ho 7 (by decide), e7] at a3
    exact a3
  | succ d ih =>
    intro D i last used bright price digits met B σ1 h K h1 hD hl hh ho hB hla kk
    obtain ⟨D, rfl⟩ : ∃ D', D = D' + 1 := ⟨D - 1, by omega⟩
    show zf8_seeks f (zgr8s f D) h (some m) (nI i) used bright price digits met K
    have hi : i < 4 := by omega
    unfold zf8_seeks
    rw [if_neg (show ¬ nI i = 4 from fun z => by have := (nI_eq (b := 4) (by omega) (by omega)).mp z; omega)]
    simp only [zmQ ok hh]
    refine Mst (n := 4) ok hh (by decide) (vp_in_nI hi (by omega)) fun h2 hh2 => ?_
    rw [nI_clamp (by omega)] at hh2
    have ho2 : offS (mup σ1 32 i (-1)) σ := fun k hk => by
      rw [mup_ne9 (by intro z; rw [z] at hk; exact hk (by decide))]
      exact ho k hk
    have e1 : nI i + 1 = nI (i + 1) := nI_1 i
    -- the panes, one after the other
    have loop : ∀ (j p g : Nat) (B1 : B3) (σ3 : ST) (h3 : zH), p + j = nP σ0 → j < g → Mh m ad b σ3 h3 → offS σ3 σ → isB σ3 B1 → (∀ j, j < i → σ3 32 j = σ1 32 j) → (∀ σ2 h', Mh m ad b σ2 h' → offS σ2 σ → (∀ j, j < i → σ2 32 j = σ1 32 j) → isB σ2 (fo (fun p B => if ((used >>> (nI p &&& 31)) &&& 1 = 0 ∧ ab σ0 (nI p) = 0) ∧ (i = 0 ∨ last = -1 ∨ htS G σ0 last.toNatClampNeg p (i - 1) = 0) then sk (nP σ0) (fun p i => sm G σ0 p (nI i)) (ct G σ0) (htS G σ0) (σ0 8) (fun p => ab σ0 (nI p)) (σ 33 0) (σ0 7 0) d (i + 1) (nI p) (used ||| (1 <<< (nI p &&& 31))) (bright + sm G σ0 p (nI i)) (price + ct G σ0 p) (10 * digits + nI p + 1) (if met = 0 then 0 else if sm G σ0 p (nI i) < σ0 8 i then 0 else 1) B else B) j p B1) → K h') → zl8_seeks_62 f (zgr8s f D) K g h3 (some m) (nI i) used bright price digits met (nI p) := by
      intro j
      induction j with
      | zero =>
        intro p g B1 σ3 h3 a1 a2 hh3 ho3 hB3 h32 kk
        obtain ⟨g, rfl⟩ : ∃ g', g = g' + 1 := ⟨g - 1, by omega⟩
        show zb8_seeks_62 f (zgr8s f D) K (zl8_seeks_62 f (zgr8s f D) K g) h3 (some m) (nI i) used bright price digits met (nI p)
        unfold zb8_seeks_62
        simp only [zmQ ok hh3]
        rw [ho3 13 (by decide), h13, if_neg (fun z => by have := (nI_ltI (by omega) (by omega)).mp z; omega)]
        exact kk σ3 h3 hh3 ho3 h32 hB3
      | succ j ihj =>
        intro p g B1 σ3 h3 a1 a2 hh3 ho3 hB3 h32 kk
        obtain ⟨g, rfl⟩ : ∃ g', g = g' + 1 := ⟨g - 1, by omega⟩
        show zb8_seeks_62 f (zgr8s f D) K (zl8_seeks_62 f (zgr8s f D) K g) h3 (some m) (nI i) used bright price digits met (nI p)
        unfold zb8_seeks_62
        simp only [zmQ ok hh3, L_isBroken ok hh3]
        rw [ho3 13 (by decide), h13, if_pos ((nI_ltI (by omega) (by omega)).mpr (by omega))]
        have hpn : p < nP σ0 := by omega
        obtain ⟨tb1, tb2, tb3⟩ := hT p hpn
        have eab : ab σ3 (nI p) = ab σ0 (nI p) := by unfold ab; rw [ho3 12 (by decide), e12]
        rw [if_neg (nIn1 (by omega)), eab]
        have next : ∀ (B2 : B3) (σ4 : ST) (h4 : zH), Mh m ad b σ4 h4 → offS σ4 σ → isB σ4 B2 → (∀ j, j < i → σ4 32 j = σ1 32 j) → B2 = (if ((used >>> (nI p &&& 31)) &&& 1 = 0 ∧ ab σ0 (nI p) = 0) ∧ (i = 0 ∨ last = -1 ∨ htS G σ0 last.toNatClampNeg p (i - 1) = 0) then sk (nP σ0) (fun p i => sm G σ0 p (nI i)) (ct G σ0) (htS G σ0) (σ0 8) (fun p => ab σ0 (nI p)) (σ 33 0) (σ0 7 0) d (i + 1) (nI p) (used ||| (1 <<< (nI p &&& 31))) (bright + sm G σ0 p (nI i)) (price + ct G σ0 p) (10 * digits + nI p + 1) (if met = 0 then 0 else if sm G σ0 p (nI i) < σ0 8 i then 0 else 1) B1 else B1) → zj8_seeks_224 f (zgr8s f D) (zl8_seeks_62 f (zgr8s f D) K g) K h4 (some m) (nI i) used bright price digits met (nI p) := by
          intro B2 σ4 h4 b1 b2 b3 b4 b5
          unfold zj8_seeks_224
          simp only [nm_eq, nI_1]
          refine ihj (p + 1) g B2 σ4 h4 (by omega) (by omega) b1 b2 b3 b4 ?_
          rw [b5]
          exact kk
        have s94F : ¬ ((used >>> (nI p &&& 31)) &&& 1 = 0 ∧ ab σ0 (nI p) = 0) → zj8_seeks_93 f (zgr8s f D) (zl8_seeks_62 f (zgr8s f D) K g) K h3 (some m) (nI i) used bright price digits met (nI p) := by
          intro c
          unfold zj8_seeks_93 zj8_seeks_94
          rw [if_pos rfl]
          exact next B1 σ3 h3 hh3 ho3 hB3 h32 (by rw [if_neg (fun z => c z.1)])
        by_cases cu : (used >>> (nI p &&& 31)) &&& 1 = 0
        · rw [if_pos cu]
          rcases ab01 σ0 (nI p) with z | z
          · rw [if_pos z]
            unfold zj8_seeks_94
            rw [if_neg (by decide)]
            have take : (i = 0 ∨ last = -1 ∨ htS G σ0 last.toNatClampNeg p (i - 1) = 0) → zj8_seeks_145 f (zgr8s f D) (zl8_seeks_62 f (zgr8s f D) K g) K h3 (some m) (nI i) used bright price digits met (nI p) := by
              intro cl
              unfold zj8_seeks_145
              simp only [zmQ ok hh3]
              refine Mst (n := 4) ok hh3 (by decide) (vp_in_nI hi (by omega)) fun h4 hh4 => ?_
              rw [nI_clamp (by omega)] at hh4
              have ho4 : offS (mup σ3 32 i (nI p)) σ := fun k hk => by
                rw [mup_ne9 (by intro z; rw [z] at hk; exact hk (by decide))]
                exact ho3 k hk
              simp only [zmQ ok hh4]
              have e4 : (4 : Int32) * nI p + nI i = nI (4 * p + i) := by
                have : (4 : Int32) * nI p = nI (4 * p) := pk_mul 4 p
                rw [this, nI_add]
              rw [e4, nI_clamp (by omega), nI_clamp (by omega), nI_clamp (by omega), ho4 29 (by decide), ho4 30 (by decide), ho4 8 (by decide), tb1, tb2 i hi, e8, e1]
              refine ⟨vp_in_nI (by omega) (by omega), vp_in_nI (by omega) (by omega), ?_⟩
              have hB4 : isB (mup σ3 32 i (nI p)) B1 := by
                unfold isB
                rw [mup_ne9 (by decide), mup_ne9 (by decide), mup_ne9 (by decide)]
                exact hB3
              have go : ∀ mt : Int32, mt = (if met = 0 then 0 else if sm G σ0 p (nI i) < σ0 8 i then 0 else 1) → zj8_seeks_221 f (zgr8s f D) (zl8_seeks_62 f (zgr8s f D) K g) K h4 (some m) (nI i) used bright price digits met (nI p) mt (10 * digits + nI p + 1) (price + ct G σ0 p) (bright + sm G σ0 p (nI i)) (used ||| (1 <<< (nI p &&& 31))) (nI (i + 1)) (some m) := by
                intro mt hmt
                unfold zj8_seeks_221
                simp only [zmQ ok hh4]
                refine ih D (i + 1) (nI p) _ _ _ _ mt B1 _ h4 _ (by omega) (by omega) (Or.inr ⟨p, hpn, rfl⟩) hh4 ho4 hB4 (fun _ => ?_) fun σ5 h5 c1 c2 c3 c4 => ?_
                · show mup σ3 32 i (nI p) 32 i = nI p
                  unfold mup
                  rw [if_pos rfl]
                  exact pk_us
                · refine next _ σ5 h5 c1 c2 c4 (fun j hj => ?_) (by rw [if_pos ⟨⟨cu, z⟩, cl⟩, hmt])
                  rw [c3 j (by omega)]
                  show mup σ3 32 i (nI p) 32 j = σ1 32 j
                  unfold mup
                  rw [if_pos rfl]
                  unfold upd
                  rw [if_neg (by omega)]
                  exact h32 j hj
              unfold zj8_seeks_220
              by_cases cm : met = 0
              · rw [if_pos cm]
                exact go 0 (by rw [if_pos cm])
              · rw [if_neg cm]
                refine ⟨vp_in_nI (by omega) (by omega), ?_⟩
                by_cases cs : sm G σ0 p (nI i) < σ0 8 i
                · rw [if_pos cs]
                  exact go 0 (by rw [if_neg cm, if_pos cs])
                · rw [if_neg cs]
                  exact go 1 (by rw [if_neg cm, if_neg cs])
            by_cases ci : i = 0
            · rw [if_pos (show nI i = 0 by rw [ci]; rfl)]
              exact take (Or.inl ci)
            · rw [if_neg (show ¬ nI i = 0 from fun z => ci ((nI_eq (b := 0) (by omega) (by omega)).mp z))]
              have em : nI i - 1 = nI (i - 1) := by
                have : i = (i - 1) + 1 := by omega
                rw [this, nI_pred]
                rfl
              simp only [zmQ ok hh3]
              rw [em, nI_clamp (by omega), h32 (i - 1) (by omega), hla (by omega)]
              refine ⟨vp_in_nI (by omega) (by omega), ?_⟩
              by_cases cl : last = -1
              · rw [if_pos cl]
                exact take (Or.inr (Or.inl cl))
              · rw [if_neg cl]
                refine ⟨vp_in_nI (by omega) (by omega), ?_⟩
                obtain ⟨q, hq, rfl⟩ := hl.resolve_left cl
                have e18 : (18 : Int32) * nI q + 3 * nI p + nI i - 1 = nI (18 * q + 3 * p + (i - 1)) := by
                  have : (18 : Int32) * nI q = nI (18 * q) := pk_mul 18 q
                  rw [this, e3m, nI_add, nI_add]
                  have : 18 * q + 3 * p + i = (18 * q + 3 * p + (i - 1)) + 1 := by omega
                  rw [this, nI_pred]
                rw [e18, nI_clamp (by omega), ho3 31 (by decide), (hT q hq).2.2 p (i - 1) hpn (by omega)]
                refine ⟨vp_in_nI (by omega) (by omega), ?_⟩
                rw [nI_clamp (by omega)] at take next
                by_cases ch : htS G σ0 q p (i - 1) = 0
                · rw [if_pos ch]
                  exact take (Or.inr (Or.inr ch))
                · rw [if_neg ch]
                  exact next B1 σ3 h3 hh3 ho3 hB3 h32 (by rw [if_neg (fun z => z.2.elim ci fun z => z.elim cl ch)])
          · rw [if_neg (by rw [z]; decide)]
            exact s94F (fun y => by rw [z] at y; exact absurd y.2 (by decide))
        · rw [if_neg cu]
          exact s94F (fun y => cu y.1)
    have hB2 : isB (mup σ1 32 i (-1)) B := by
      unfold isB
      rw [mup_ne9 (by decide), mup_ne9 (by decide), mup_ne9 (by decide)]
      exact hB
    have go : ∀ mt : Int32, mt = (if met = 0 then 0 else if σ0 8 i = 0 then 1 else 0) → zj8_seeks_56 f (zgr8s f D) K h2 (some m) (nI i) used bright price digits met mt (10 * digits) price bright used (nI (i + 1)) (some m) := by
      intro mt hmt
      unfold zj8_seeks_56
      simp only [zmQ ok hh2]
      refine ih D (i + 1) (-1) _ _ _ _ mt B _ h2 _ (by omega) (by omega) (Or.inl rfl) hh2 ho2 hB2 (fun _ => ?_) fun σ5 h5 c1 c2 c3 c4 => ?_
      · show mup σ1 32 i (-1) 32 i = -1
        unfold mup
        rw [if_pos rfl]
        exact pk_us
      · refine loop (nP σ0) 0 f _ σ5 h5 (by omega) (by omega) c1 c2 c4 (fun j hj => ?_) ?_
        · rw [c3 j (by omega)]
          show mup σ1 32 i (-1) 32 j = σ1 32 j
          unfold mup
          rw [if_pos rfl]
          unfold upd
          rw [if_neg (by omega)]
        · rw [hmt]
          exact kk
    rw [e1]
    unfold zj8_seeks_55
    by_cases cm : met = 0
    · rw [if_pos cm]
      exact go 0 (by rw [if_pos cm])
    · rw [if_neg cm]
      simp only [zmQ ok hh2]
      rw [nI_clamp (by omega), ho2 8 (by decide), e8]
      refine ⟨vp_in_nI hi (by omega), ?_⟩
      by_cases c0 : σ0 8 i = 0
      · rw [if_pos c0]
        exact go 1 (by rw [if_neg cm, if_pos c0])
      · rw [if_neg c0]
        exact go 0 (by rw [if_neg cm, if_neg c0])
/-- all but the tables and what the search writes -/
def offF (σ1 σ : ST) : Prop := ∀ k, k ∉ ([29, 30, 31, 32, 33, 34, 35, 36] : List Nat) → σ1 k = σ k
theorem L_finds (ok : mOk m ad) (hf : 400 ≤ f) (hW : WS σ) (hh : Mh m ad b σ h) {goal : Int32} {K : zH → Prop} (kk : ∀ σ1 h', Mh m ad b σ1 h' → offF σ1 σ → isB σ1 (bestS (Gm σ) σ goal) → K h') : zf8_finds f h (some m) goal K := by
  obtain ⟨h13, hn⟩ := nP_eq hW
  unfold zf8_finds
  simp only [zmQ ok hh]
  refine L_tables ok hf hW hh fun σ1 h1 hh1 ho1 hT => ?_
  refine Mpf hh1 (by decide) fun h2 hh2 => ?_
  refine Mpf hh2 (by decide) fun h3 hh3 => ?_
  refine Mpf hh3 (by decide) fun h4 hh4 => ?_
  refine Mpf hh4 (by decide) fun h5 hh5 => ?_
  simp only [zmQ ok hh5]
  have ek : ∀ k, k ≠ 33 → k ≠ 34 → k ≠ 35 → k ≠ 36 → mup (mup (mup (mup σ1 33 0 goal) 34 0 0) 35 0 (-1)) 36 0 1 k = σ1 k := fun k a1 a2 a3 a4 => by rw [mup_ne9 a4, mup_ne9 a3, mup_ne9 a2, mup_ne9 a1]
  have e33 : mup (mup (mup (mup σ1 33 0 goal) 34 0 0) 35 0 (-1)) 36 0 1 33 0 = goal := by rw [mup_ne9 (by decide), mup_ne9 (by decide), mup_ne9 (by decide), mup_s0]
  have eB : isB (mup (mup (mup (mup σ1 33 0 goal) 34 0 0) 35 0 (-1)) 36 0 1) (0, -1, 1) := ⟨by rw [mup_ne9 (by decide), mup_ne9 (by decide), mup_s0], by rw [mup_ne9 (by decide), mup_s0], mup_s0⟩
  generalize mup (mup (mup (mup σ1 33 0 goal) 34 0 0) 35 0 (-1)) 36 0 1 = σ2 at hh5 ek e33 eB ⊢
  refine L_seeks (σ := σ2) (σ0 := σ) (G := Gm σ) ok hf (by rw [ek 13 (by decide) (by decide) (by decide) (by decide), ho1 13 (by decide)]; exact h13) hn (by rw [ek 7 (by decide) (by decide) (by decide) (by decide), ho1 7 (by decide)]) (by rw [ek 8 (by decide) (by decide) (by decide) (by decide), ho1 8 (by decide)]) (by rw [ek 12 (by decide) (by decide) (by decide) (by decide), ho1 12 (by decide)]) (fun p hp => ?_) 4 6 0 (-1) 0 0 0 0 1 (0, -1, 1) σ2 h5 _ rfl (by omega) (Or.inl rfl) hh5 (fun _ _ => rfl) eB (fun z => by omega) fun σ3 h6 c1 c2 _ c4 => ?_
  · obtain ⟨s1, s2, s3⟩ := hT p hp
    exact ⟨by rw [ek 30 (by decide) (by decide) (by decide) (by decide)]; exact s1, fun i hi => by rw [ek 29 (by decide) (by decide) (by decide) (by decide)]; exact s2 i hi, fun q i a1 a2 => by rw [ek 31 (by decide) (by decide) (by decide) (by decide)]; exact s3 q i a1 a2⟩
  · rw [e33] at c4
    refine kk σ3 h6 c1 (fun k hk => ?_) c4
    simp only [List.mem_cons, List.not_mem_nil, or_false, not_or] at hk
    rw [c2 k (by simp only [List.mem_cons, List.not_mem_nil, or_false, not_or]; omega), ek k (by omega) (by omega) (by omega) (by omega)]
    exact ho1 k (by simp only [List.mem_cons, List.not_mem_nil, or_false, not_or]; omega)
end MB2
