/-! THE REFERENCE's CALLS: tells, panes, copy, text -/
set_option maxRecDepth 100000
theorem sub_toInt {x y : Int32} (h1 : -2147483648 ≤ x.toInt - y.toInt) (h2 : x.toInt - y.toInt < 2147483648) : (x - y).toInt = x.toInt - y.toInt := by
  rw [Int32.toInt_sub]
  exact Int.bmod_eq_of_le (by omega) (by omega)
def teV (G : TG) (σ : ST) (s : Nat) (o : Int32) (w : Nat) : Int32 :=
  if w = 0 then teP G σ s o else if w < 20 then foS G σ s (w % 10) o else if w < 30 then teR 5 (nI w) (fo (teF G σ s (w % 10) o 5 5) 6 0 (0, 0, -1)) else if w < 40 then teR 2 (nI w) (fo (teF G σ s (w % 10) o 2 9) 10 0 (0, 0, -1)) else if w < 50 then teR 4 (nI w) (fo (teF G σ s (w % 10) o 4 9) 10 0 (0, 0, -1)) else if w < 70 then teR 3 (nI w) (fo (teF G σ s (w % 10) o 3 364) 365 0 (0, 0, -1)) else teR 6 (nI w) (fo (teF G σ s (w % 10) o 6 ((σ 3 0).toNatClampNeg - 1)) ((σ 3 0).toNatClampNeg - 1 + 1) 0 (0, 0, -1))
/-- what tells takes -/
def teOk (σ : ST) (s o what : Int32) : Prop := (0 ≤ s.toInt ∧ s.toInt ≤ 3) ∧ opn o ∧ (what = 0 ∨ ∃ w : Nat, 10 ≤ w ∧ w ≤ 79 ∧ what = nI w ∧ w % 10 < nP σ)
/-- panes out of a row -/
def paO (σ : ST) (k nb on_ : Int32) : Int32 × ST := if ((0 ≤ k.toInt ∧ k.toInt ≤ 5) ∧ (0 ≤ nb.toInt ∧ nb.toInt ≤ 9) ∧ (0 ≤ on_.toInt ∧ on_.toInt ≤ 364)) then (if nP σ = 6 then (-4, σ) else (nI (nP σ), paS σ (nP σ) k nb on_)) else (-2, σ)
def pnL (at_ : Int32) (s size : Nat) : Nat → Nat → Int32 → ST → Int32 × ST
  | 0, _, c, σ => (c, σ)
  | d + 1, k, c, σ => if at_.toInt < 0 ∨ (size : Int) - 3 * k - 3 < at_.toInt then (-12, σ) else pnL at_ s size d (k + 1) (c + (if (paO σ (σ 48 (40 * s + at_.toNatClampNeg + 3 * k)) (σ 48 (40 * s + at_.toNatClampNeg + 3 * k + 1)) (σ 48 (40 * s + at_.toNatClampNeg + 3 * k + 2))).1 < 0 then 0 else 1)) (paO σ (σ 48 (40 * s + at_.toNatClampNeg + 3 * k)) (σ 48 (40 * s + at_.toNatClampNeg + 3 * k + 1)) (σ 48 (40 * s + at_.toNatClampNeg + 3 * k + 2))).2
theorem WS_pa {σ : ST} (hW : WS σ) (hn : nP σ < 6) {k nb on_ : Int32} (hk : 0 ≤ k.toInt ∧ k.toInt ≤ 5) : WS (paS σ (nP σ) k nb on_) := by
  obtain ⟨h13, -⟩ := nP_eq hW
  have e13 : paS σ (nP σ) k nb on_ 13 0 = nI (nP σ + 1) := mup_s0
  have en : nP (paS σ (nP σ) k nb on_) = nP σ + 1 := by
    show (paS σ (nP σ) k nb on_ 13 0).toNatClampNeg = nP σ + 1
    rw [e13, nI_clamp (by omega)]
  have ek : ∀ j, j ≠ 10 → j ≠ 11 → j ≠ 12 → j ≠ 13 → paS σ (nP σ) k nb on_ j = σ j := fun j a1 a2 a3 a4 => by
    unfold paS
    rw [mup_ne9 a4, mup_ne9 a3, mup_ne9 a2, mup_ne9 a2, mup_ne9 a2, mup_ne9 a1]
  have e10 : ∀ p, paS σ (nP σ) k nb on_ 10 p = if p = nP σ then k else σ 10 p := fun p => by
    unfold paS
    rw [mup_ne9 (by decide), mup_ne9 (by decide), mup_ne9 (by decide), mup_ne9 (by decide), mup_ne9 (by decide)]
    unfold mup
    rw [if_pos rfl]
    rfl
  unfold WS at hW ⊢
  rw [ek 1 (by decide) (by decide) (by decide) (by decide), ek 2 (by decide) (by decide) (by decide) (by decide), ek 3 (by decide) (by decide) (by decide) (by decide), ek 4 (by decide) (by decide) (by decide) (by decide), ek 5 (by decide) (by decide) (by decide) (by decide), ek 6 (by decide) (by decide) (by decide) (by decide), ek 9 (by decide) (by decide) (by decide) (by decide)]
  refine ⟨⟨nP σ + 1, by omega, e13⟩, hW.2.1, hW.2.2.1, hW.2.2.2.1, hW.2.2.2.2.1, hW.2.2.2.2.2.1, fun o ho => ?_, fun p hp => ?_⟩
  · rcases hW.2.2.2.2.2.2.1 o ho with z | ⟨p, h1, h2⟩
    · exact Or.inl z
    · exact Or.inr ⟨p, by rw [en]; omega, h2⟩
  · rw [e10]
    by_cases c : p = nP σ
    · rw [if_pos c]; exact hk
    · rw [if_neg c]; exact hW.2.2.2.2.2.2.2 p hp
section M7
variable {f : Nat} {m : Nat} {ad : Nat → Nat} {b : zH} {σ : ST} {h : zH} {K : Int32 → zH → Prop}
theorem O_panes (ok : mOk m ad) (hf : 400 ≤ f) (hW : WS σ) (hH : WH σ) (hh : Mh m ad b σ h) {s sort at_ n : Int32} (k0 : ¬ ((0 ≤ s.toInt ∧ s.toInt ≤ 3) ∧ (0 ≤ sort.toInt ∧ sort.toInt ≤ 2) ∧ (0 ≤ n.toInt ∧ n.toInt ≤ 6)) → K (-2) h) (k13 : ∀ sn : Nat, sn < 4 → s = nI sn → σ 45 sn = 1 → ¬ σ 46 sn = sort → K (-13) h) (k11 : ∀ sn : Nat, sn < 4 → s = nI sn → σ 45 sn = 0 → K (-11) h) (kk : ∀ sn size nn : Nat, sn < 4 → s = nI sn → σ 45 sn = 1 → σ 46 sn = sort → σ 47 sn = nI size → size ≤ 40 → nn ≤ 6 → n = nI nn → (0 ≤ sort.toInt ∧ sort.toInt ≤ 2) → ∀ h', Mh m ad b (pnL at_ sn size nn 0 0 σ).2 h' → K (pnL at_ sn size nn 0 0 σ).1 h') : zf8_panes f h (some m) s sort at_ n K := by
  unfold zf8_panes
  rw [q_sh8]
  simp only [ite10, ifn]
  by_cases c1 : 0 ≤ s.toInt ∧ s.toInt ≤ 3
  · rw [if_pos c1, q_inL 0 2 (by decide) (by decide)]
    simp only [ite10, ifn]
    by_cases c2 : 0 ≤ sort.toInt ∧ sort.toInt ≤ 2
    · rw [if_pos c2, q_inL 0 6 (by decide) (by decide)]
      simp only [ite10, ifn]
      by_cases c3 : 0 ≤ n.toInt ∧ n.toInt ≤ 6
      · rw [if_pos c3]
        obtain ⟨sn, hsn, rfl⟩ := opn_nat c1
        obtain ⟨nn, hnn, -, rfl, -⟩ := nI_bt c3
        unfold zj8_panes_57
        simp only [zmQ ok hh, nI_clamp (show sn < 2 ^ 31 by omega)]
        refine ⟨vp_in_nI hsn (by omega), ?_⟩
        rcases hH sn hsn with z | ⟨z, ⟨size, hsz, h47⟩, t, ht, h46⟩
        · rw [if_pos z]
          refine ⟨vp_in_nI hsn (by omega), ?_⟩
          rw [if_pos z]
          exact k11 sn hsn rfl z
        · rw [if_neg (by rw [z]; decide)]
          refine ⟨vp_in_nI hsn (by omega), ?_⟩
          by_cases cs : σ 46 sn = sort
          · rw [if_pos cs]
            refine ⟨vp_in_nI hsn (by omega), ?_⟩
            rw [if_neg (by rw [z]; decide)]
            have go : ∀ (d k g : Nat) (c : Int32) (σ1 : ST) (h : zH), k + d = nn → d < g → Mh m ad b σ1 h → WS σ1 → (∀ j, j ∈ ([45, 46, 47, 48] : List Nat) → σ1 j = σ j) → (∀ h', Mh m ad b (pnL at_ sn size d k c σ1).2 h' → K (pnL at_ sn size d k c σ1).1 h') → zl8_panes_75 f K g h (some m) (nI sn) at_ (nI nn) c (nI k) := by
              intro d
              induction d with
              | zero =>
                intro k g c σ1 h h1 h2 hh hW1 hk kk
                obtain ⟨g, rfl⟩ : ∃ g', g = g' + 1 := ⟨g - 1, by omega⟩
                show zb8_panes_75 f K (zl8_panes_75 f K g) h (some m) (nI sn) at_ (nI nn) c (nI k)
                unfold zb8_panes_75
                rw [if_neg (fun z => by have := (nI_ltI (by omega) (by omega)).mp z; omega)]
                exact kk h hh
              | succ d ih =>
                intro k g c σ1 h h1 h2 hh hW1 hk kk
                obtain ⟨g, rfl⟩ : ∃ g', g = g' + 1 := ⟨g - 1, by omega⟩
                show zb8_panes_75 f K (zl8_panes_75 f K g) h (some m) (nI sn) at_ (nI nn) c (nI k)
                unfold zb8_panes_75 zj8_panes_158
                unfold pnL at kk
                rw [if_pos ((nI_ltI (by omega) (by omega)).mpr (by omega))]
                have z0 : (0 : Int32).toInt = 0 := by decide
                have z3 : (3 : Int32).toInt = 3 := by decide
                by_cases ca : at_ < 0
                · rw [if_pos ca]
                  rw [if_pos (Or.inl (by rw [Int32.lt_iff_toInt_lt, z0] at ca; exact ca))] at kk
                  exact kk h hh
                · rw [if_neg ca]
                  rw [Int32.lt_iff_toInt_lt, z0] at ca
                  simp only [zmQ ok hh, nI_clamp (show sn < 2 ^ 31 by omega), nm_eq, nI_1]
                  refine ⟨vp_in_nI hsn (by omega), ?_⟩
                  rw [hk 47 (by decide), h47, e3m]
                  have e1 : (nI size - nI (3 * k)).toInt = (size : Int) - 3 * k := by
                    rw [sub_toInt (by rw [nI_toInt (by omega), nI_toInt (by omega)]; omega) (by rw [nI_toInt (by omega), nI_toInt (by omega)]; omega), nI_toInt (by omega), nI_toInt (by omega)]
                    omega
                  have e2 : (nI size - nI (3 * k) - 3).toInt = (size : Int) - 3 * k - 3 := by
                    rw [sub_toInt (by rw [e1, z3]; omega) (by rw [e1, z3]; omega), e1, z3]
                  by_cases cb : (size : Int) - 3 * k - 3 < at_.toInt
                  · rw [if_pos (by rw [Int32.lt_iff_toInt_lt, e2]; exact cb)]
                    rw [if_pos (Or.inr cb)] at kk
                    exact kk h hh
                  · rw [if_neg (by rw [Int32.lt_iff_toInt_lt, e2]; exact cb)]
                    rw [if_neg (fun z => z.elim ca cb)] at kk
                    obtain ⟨a, ha, -, rfl, ha2⟩ := nI_bt (x := at_) (u := (size : Int) - 3 * k - 3) ⟨by omega, by omega⟩
                    rw [nI_clamp (by omega)] at kk
                    have q0 : (40 : Int32) * nI sn + nI a + nI (3 * k) = nI (40 * sn + a + 3 * k) := by rw [e40s, nI_add]
                    have q2 : nI (40 * sn + a + 3 * k) + 2 = nI (40 * sn + a + 3 * k + 2) := nI_add _ 2
                    rw [q0, q2, nI_1, nI_clamp (by omega), nI_clamp (by omega), nI_clamp (by omega)]
                    refine ⟨vp_in_nI (by omega) (by omega), vp_in_nI (by omega) (by omega), vp_in_nI (by omega) (by omega), ?_⟩
                    generalize σ1 48 (40 * sn + a + 3 * k) = pk at kk ⊢
                    generalize σ1 48 (40 * sn + a + 3 * k + 1) = pn at kk ⊢
                    generalize σ1 48 (40 * sn + a + 3 * k + 2) = po at kk ⊢
                    refine O_pane ok hW1 hh (fun z => ?_) (fun z z6 => ?_) fun z z6 h' hh' => ?_
                    · have kk : ∀ h', Mh m ad b (pnL (nI a) sn size d (k + 1) (c + (if (paO σ1 pk pn po).1 < 0 then 0 else 1)) (paO σ1 pk pn po).2).2 h' → K (pnL (nI a) sn size d (k + 1) (c + (if (paO σ1 pk pn po).1 < 0 then 0 else 1)) (paO σ1 pk pn po).2).1 h' := kk
                      unfold paO at kk
                      rw [if_neg z] at kk
                      rw [if_pos (by decide)]
                      exact ih (k + 1) g _ σ1 h (by omega) (by omega) hh hW1 hk kk
                    · unfold paO at kk
                      rw [if_pos z, if_pos z6] at kk
                      rw [if_pos (by decide)]
                      exact ih (k + 1) g _ σ1 h (by omega) (by omega) hh hW1 hk kk
                    · unfold paO at kk
                      rw [if_pos z, if_neg (show ¬ nP σ1 = 6 by omega)] at kk
                      have e : (if (nI (nP σ1), paS σ1 (nP σ1) pk pn po).1 < 0 then (0 : Int32) else 1) = 1 := if_neg (nI_pos (by omega))
                      rw [e] at kk
                      rw [if_neg (nI_pos (by omega))]
                      refine ih (k + 1) g _ _ h' (by omega) (by omega) hh' (WS_pa hW1 z6 z.1) (fun j hj => ?_) kk
                      rw [← hk j hj]
                      unfold paS
                      have hj : j ≠ 10 ∧ j ≠ 11 ∧ j ≠ 12 ∧ j ≠ 13 := by
                        simp only [List.mem_cons, List.not_mem_nil, or_false] at hj
                        omega
                      rw [mup_ne9 hj.2.2.2, mup_ne9 hj.2.2.1, mup_ne9 hj.2.1, mup_ne9 hj.2.1, mup_ne9 hj.2.1, mup_ne9 hj.1]
            exact go nn 0 f 0 σ h (by omega) (by omega) hh hW (fun _ _ => rfl) (kk sn size nn hsn rfl z cs h47 hsz (by omega) rfl c2)
          · rw [if_neg cs]
            exact k13 sn hsn rfl z cs
      · rw [if_neg c3]
        exact k0 (fun z => c3 z.2.2)
    · rw [if_neg c2]
      exact k0 (fun z => c2 z.2.1)
  · rw [if_neg c1]
    exact k0 (fun z => c1 z.1)
theorem O_tells (ok : mOk m ad) (hf : 400 ≤ f) (hW : WS σ) (hH : WH σ) (hh : Mh m ad b σ h) {s o what : Int32} (k0 : ¬ teOk σ s o what → K (-2) h) (k11 : ∀ sn : Nat, sn < 4 → s = nI sn → teOk σ s o what → σ 45 sn = 0 → K (-11) h) (k8 : ∀ sn : Nat, sn < 4 → s = nI sn → teOk σ s o what → σ 45 sn = 1 → ¬ σ 47 sn = 8 → K (-2) h) (kk : ∀ sn w : Nat, sn < 4 → s = nI sn → what = nI w → (w = 0 ∨ 10 ≤ w ∧ w ≤ 79 ∧ w % 10 < nP σ) → teOk σ s o what → σ 45 sn = 1 → σ 47 sn = 8 → ∀ h', Mh m ad b σ h' → K (teV (Gm σ) σ sn o w) h') : zf8_tells f h (some m) s o what K := by
  obtain ⟨h13, hn⟩ := nP_eq hW
  have main : ∀ s0 : Int32, s0 = 0 ∨ s0 = 1 → (s0 = 1 → ∃ w : Nat, 10 ≤ w ∧ w ≤ 79 ∧ what = nI w ∧ w % 10 < nP σ) → (s0 = 0 → ¬ ∃ w : Nat, 10 ≤ w ∧ w ≤ 79 ∧ what = nI w ∧ w % 10 < nP σ) → zj8_tells_30 f K h (some m) s o what s0 := by
    intro s0 hs01 hs1 hs0
    unfold zj8_tells_30
    rw [q_sh8]
    simp only [ite10, ifn]
    by_cases c1 : 0 ≤ s.toInt ∧ s.toInt ≤ 3
    · rw [if_pos c1, q_op8]
      simp only [ite10, ifn]
      by_cases c2 : opn o
      · rw [if_pos c2]
        obtain ⟨sn, hsn, rfl⟩ := opn_nat c1
        have body : teOk σ (nI sn) o what → ∀ w : Nat, what = nI w → (w = 0 ∨ 10 ≤ w ∧ w ≤ 79 ∧ w % 10 < nP σ) → zj8_tells_58 f K h (some m) (nI sn) o what := by
          intro hok w hw hw2
          subst hw
          unfold zj8_tells_58
          simp only [zmQ ok hh, nI_clamp (show sn < 2 ^ 31 by omega)]
          refine ⟨vp_in_nI hsn (by omega), ?_⟩
          rcases hH sn hsn with z | ⟨z, ⟨size, hsz, h47⟩, t, ht, h46⟩
          · rw [if_pos z]
            exact k11 sn hsn rfl hok z
          · rw [if_neg (by rw [z]; decide)]
            refine ⟨vp_in_nI hsn (by omega), ?_⟩
            by_cases c8 : σ 47 sn = 8
            · rw [if_pos c8]
              have kk := kk sn w hsn rfl rfl hw2 hok z c8
              unfold teV at kk
              by_cases cw : w = 0
              · subst cw
                rw [if_pos rfl] at kk
                rw [if_pos (show nI 0 = 0 from rfl)]
                unfold teP at kk
                have go : ∀ (j i g : Nat) (a : Int32) (h : zH), i + j = nP σ → j < g → Mh m ad b σ h → (∀ h', Mh m ad b σ h' → K (fo (fun p a => a ||| ((if foS (Gm σ) σ sn p o = -1 then 1 else 0) <<< (nI p &&& 31))) j i a) h') → zl8_tells_94 f K g h (some m) (nI sn) o a (nI i) := by
                  intro j
                  induction j with
                  | zero =>
                    intro i g a h h1 h2 hh kk
                    obtain ⟨g, rfl⟩ : ∃ g', g = g' + 1 := ⟨g - 1, by omega⟩
                    show zb8_tells_94 f K (zl8_tells_94 f K g) h (some m) (nI sn) o a (nI i)
                    unfold zb8_tells_94
                    simp only [zmQ ok hh]
                    rw [h13, if_neg (fun z => by have := (nI_ltI (by omega) (by omega)).mp z; omega)]
                    exact kk h hh
                  | succ j ih =>
                    intro i g a h h1 h2 hh kk
                    obtain ⟨g, rfl⟩ : ∃ g', g = g' + 1 := ⟨g - 1, by omega⟩
                    show zb8_tells_94 f K (zl8_tells_94 f K g) h (some m) (nI sn) o a (nI i)
                    unfold zb8_tells_94 zj8_tells_122
                    simp only [zmQ ok hh]
                    rw [h13, if_pos ((nI_ltI (by omega) (by omega)).mpr (by omega))]
                    refine L_firstOther ok hf hW hh hsn (by omega) fun h' hh' => ?_
                    simp only [nm_eq, nI_1]
                    have ih := ih (i + 1) g (a ||| ((if foS (Gm σ) σ sn i o = -1 then 1 else 0) <<< (nI i &&& 31))) h' (by omega) (by omega) hh' kk
                    by_cases c : foS (Gm σ) σ sn i o = -1
                    · rw [if_pos c] at ih ⊢; exact ih
                    · rw [if_neg c] at ih ⊢; exact ih
                exact go (nP σ) 0 f 0 h (by omega) (by omega) hh kk
              · have hw3 := hw2.resolve_left cw
                rw [if_neg cw] at kk
                rw [if_neg (show ¬ nI w = 0 from fun z => cw ((nI_eq (b := 0) (by omega) (by omega)).mp z))]
                simp only [nm_eq]
                have e10 : nI w - nI w / 10 * 10 = nI (w % 10) := pk_rem (d := 10) (by omega) (by omega) (by omega)
                rw [e10]
                have hp6 : w % 10 < 6 := by omega
                have kT : K = K := rfl
                have last : ∀ (j l : Nat), 2 ≤ j → j ≤ 6 → l < 366 → (j = 5 → l ≤ 5) → (j = 6 → l < (σ 3 0).toNatClampNeg) → (j ≠ 6 → j ≠ 5 → nI l = (if nI j = 0 then 9999 else if nI j = 1 then 999 else if nI j = 3 then 364 else 9)) → (j = 5 → l = 5) → (j = 6 → σ 3 0 - 1 = nI l) → (∀ h', Mh m ad b σ h' → K (teR j (nI w) (fo (teF (Gm σ) σ sn (w % 10) o j l) (l + 1) 0 (0, 0, -1))) h') → zj8_tells_200 f K h (some m) (nI sn) o (nI w) 0 (nI (w % 10)) (nI j) := by
                  intro j l hj hj6 hl h5 h6 hm h5l h6l kk
                  unfold zj8_tells_200
                  have nx : ∀ h', Mh m ad b σ h' → zj8_tells_224 f K h' (some m) (nI sn) o (nI w) 0 (nI (w % 10)) (nI j) (laysV σ j (w % 10)) := by
                    intro h' hh'
                    have go := L_tellsL (f := f) (K := K) ok hf hW hh' (what := nI w) (o := o) hsn hp6 hj hj6 hl rfl h5 h6 kk
                    unfold zj8_tells_224 zj8_tells_257
                    simp only [zmQ ok hh', q_most]
                    by_cases c6 : j = 6
                    · rw [if_pos (show nI j = 6 by rw [c6]; rfl), h6l c6]
                      exact go
                    · rw [if_neg (show ¬ nI j = 6 from fun z => c6 ((nI_eq (b := 6) (by omega) (by omega)).mp z))]
                      by_cases c5 : j = 5
                      · rw [if_pos (show nI j = 5 by rw [c5]; rfl)]
                        rw [h5l c5] at go
                        rw [h5l c5] at kk
                        exact go
                      · rw [if_neg (show ¬ nI j = 5 from fun z => c5 ((nI_eq (b := 5) (by omega) (by omega)).mp z)), ← hm c6 c5]
                        exact go
                  by_cases c6 : j = 6
                  · rw [if_pos (show nI j = 6 by rw [c6]; rfl)]
                    simp only [zmQ ok hh]
                    have := nx h hh
                    unfold laysV at this
                    rw [if_neg (by omega), if_neg (by omega)] at this
                    exact this
                  · rw [if_neg (show ¬ nI j = 6 from fun z => c6 ((nI_eq (b := 6) (by omega) (by omega)).mp z))]
                    simp only [zmQ ok hh]
                    refine L_told ok hf hW hh fun h' hh' => ?_
                    have := nx h' hh'
                    have e : toS (Gm σ) σ (nI (w % 10)) (nI j) = laysV σ j (w % 10) := by
                      have hpn : pnl σ (nI (w % 10)) := ⟨by rw [nI_toInt (by omega)]; omega, by rw [nI_toInt (by omega)]; omega⟩
                      unfold toS tp laysV
                      rw [if_pos hpn, nI_clamp (by omega)]
                      have : j = 2 ∨ j = 3 ∨ j = 4 ∨ j = 5 := by omega
                      rcases this with rfl | rfl | rfl | rfl <;> simp (config := { decide := true }) only [ite_true, ite_false, reduceIte, Nat.add_zero] <;> rfl
                    rw [e]
                    exact this
                have hc := hW.2.1
                have ltw : ∀ c : Nat, c < 1000 → ((nI w < nI c) ↔ w < c) := fun c hc => nI_ltI (by omega) (by omega)
                by_cases d1 : w < 20
                · rw [if_pos d1] at kk
                  rw [if_pos (show nI w < 20 from (ltw 20 (by omega)).mpr d1)]
                  exact L_firstOther ok hf hW hh hsn hp6 kk
                rw [if_neg d1] at kk
                rw [if_neg (show ¬ nI w < 20 from fun z => d1 ((ltw 20 (by omega)).mp z))]
                by_cases d2 : w < 30
                · rw [if_pos d2] at kk
                  rw [if_pos (show nI w < 30 from (ltw 30 (by omega)).mpr d2)]
                  exact last 5 5 (by omega) (by omega) (by omega) (fun _ => Nat.le_refl _) (fun z => by omega) (fun _ z => absurd rfl z) (fun _ => rfl) (fun z => by omega) kk
                rw [if_neg d2] at kk
                rw [if_neg (show ¬ nI w < 30 from fun z => d2 ((ltw 30 (by omega)).mp z))]
                by_cases d3 : w < 40
                · rw [if_pos d3] at kk
                  rw [if_pos (show nI w < 40 from (ltw 40 (by omega)).mpr d3)]
                  exact last 2 9 (by omega) (by omega) (by omega) (fun z => by omega) (fun z => by omega) (fun _ _ => by decide) (fun z => by omega) (fun z => by omega) kk
                rw [if_neg d3] at kk
                rw [if_neg (show ¬ nI w < 40 from fun z => d3 ((ltw 40 (by omega)).mp z))]
                by_cases d4 : w < 50
                · rw [if_pos d4] at kk
                  rw [if_pos (show nI w < 50 from (ltw 50 (by omega)).mpr d4)]
                  exact last 4 9 (by omega) (by omega) (by omega) (fun z => by omega) (fun z => by omega) (fun _ _ => by decide) (fun z => by omega) (fun z => by omega) kk
                rw [if_neg d4] at kk
                rw [if_neg (show ¬ nI w < 50 from fun z => d4 ((ltw 50 (by omega)).mp z))]
                by_cases d5 : w < 70
                · rw [if_pos d5] at kk
                  rw [if_pos (show nI w < 70 from (ltw 70 (by omega)).mpr d5)]
                  exact last 3 364 (by omega) (by omega) (by omega) (fun z => by omega) (fun z => by omega) (fun _ _ => by decide) (fun z => by omega) (fun z => by omega) kk
                rw [if_neg d5] at kk
                rw [if_neg (show ¬ nI w < 70 from fun z => d5 ((ltw 70 (by omega)).mp z))]
                obtain ⟨c, r, hc1, hc3, hr, -⟩ := hc
                have ec : (σ 3 0).toNatClampNeg = c := by rw [hc3, nI_clamp (by omega)]
                refine last 6 ((σ 3 0).toNatClampNeg - 1) (by omega) (by omega) (by omega) (fun z => by omega) (fun z => by omega) (fun z => absurd rfl z) (fun z => by omega) (fun _ => ?_) kk
                rw [ec, hc3]
                have e1 : (1 : Int32) = nI 1 := rfl
                rw [e1, pk_sub (by omega)]
            · rw [if_neg c8]
              exact k8 sn hsn rfl hok z c8
        by_cases cw : what = 0
        · rw [if_pos cw]
          exact body ⟨c1, c2, Or.inl cw⟩ 0 (by rw [cw]; rfl) (Or.inl rfl)
        · rw [if_neg cw]
          rcases hs01 with z | z
          · rw [if_pos z]
            refine k0 fun y => ?_
            rcases y.2.2 with y | y
            · exact cw y
            · exact hs0 z y
          · rw [if_neg (by rw [z]; decide)]
            obtain ⟨w, w1, w2, w3, w4⟩ := hs1 z
            exact body ⟨c1, c2, Or.inr ⟨w, w1, w2, w3, w4⟩⟩ w w3 (Or.inr ⟨w1, w2, w4⟩)
      · rw [if_neg c2]
        exact k0 (fun z => c2 z.2.1)
    · rw [if_neg c1]
      exact k0 (fun z => c1 z.1)
  unfold zf8_tells zj8_tells_29
  rw [q_inL 10 79 (by decide) (by decide)]
  simp only [ite10, ifn]
  by_cases c : 10 ≤ what.toInt ∧ what.toInt ≤ 79
  · rw [if_pos c]
    obtain ⟨w, w1, -, rfl, w2⟩ := nI_bt (x := what) (u := 79) ⟨by omega, c.2⟩
    have e10 : nI w - nI w / 10 * 10 = nI (w % 10) := pk_rem (d := 10) (by omega) (by omega) (by omega)
    simp only [zmQ ok hh, L_isPane ok hW hh, ite10, ifn]
    rw [e10, nI_toInt (by omega)]
    by_cases cp : (0 : Int) ≤ ((w % 10 : Nat) : Int) ∧ ((w % 10 : Nat) : Int) ≤ (nP σ : Int) - 1
    · rw [if_pos cp]
      exact main 1 (Or.inr rfl) (fun _ => ⟨w, by omega, by omega, rfl, by omega⟩) (fun z => absurd z (by decide))
    · rw [if_neg cp]
      refine main 0 (Or.inl rfl) (fun z => absurd z (by decide)) fun _ => ?_
      rintro ⟨w', h1, h2, h3, h4⟩
      have : w = w' := (nI_eq (by omega) (by omega)).mp h3
      subst this
      omega
  · rw [if_neg c]
    refine main 0 (Or.inl rfl) (fun z => absurd z (by decide)) fun _ => ?_
    rintro ⟨w', h1, h2, h3, h4⟩
    rw [h3, nI_toInt (by omega)] at c
    omega
end M7
