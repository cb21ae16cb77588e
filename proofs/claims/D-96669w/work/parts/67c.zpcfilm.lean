/-! THE CLASS's CALLS: taken, film -/
set_option maxRecDepth 100000
theorem nar16 : ∀ j, j < 1000 → (nI j).toInt16.toInt32 = nI j := by decide +kernel
theorem zsub_tk : ∀ k, k < 6 → ∀ y, y < 6 → (y + 1 ∈ zsub (nI k) ↔ tkn k y = true) := by decide +kernel
def fiD (G : TG) (σ : ST) (s p : Nat) (o : Int32) : ST := fo (fun h σ' => mup σ' 48 (40 * s + h) (lt G σ p o (nI h))) 8 0 (shS σ s 1 8)
section CF2
variable {f : Nat} {sa : Nat → Nat} {x : Nat} {ca : Nat → Nat} {Md : Nat → Prop} {b0 : zH} {G : TG} {pa : Nat → Nat} {rw : Nat → Option Nat} {σ σ' : ST} {h : zH} {K : Int32 → zH → Prop}
theorem C_gfX (hh : Ch sa x ca Md b0 G pa rw σ h) {p : Nat} (hp : p < nP σ) (hc : kcl (σ 10 p) ∈ ([1, 2, 3, 4, 5, 6] : List Nat)) {mc ms : Nat} {P : Int32 → Prop} {X : Prop} (kk : P (σ 11 (3 * p))) : gfIX h mc ms (some (pa p)) [1, 2, 3, 4, 5, 6] 0 P X := by
  refine Or.inr ?_
  rw [C_pI hh hp hc (k := 0) rfl]
  exact kk
theorem D_taken (hW : WS σ) (hh : Ch sa x ca Md b0 G pa rw σ h) {mc ms : Nat} (hmc : 8 ≤ mc) (hms : 2000 ≤ ms) {p k : Int32} (k0 : ¬ (0 ≤ k.toInt ∧ k.toInt ≤ 5) → K (-2) h) (k1 : (0 ≤ k.toInt ∧ k.toInt ≤ 5) → ¬ pnl σ p → K (-11) h) (kk : ∀ kn pn : Nat, kn < 6 → k = nI kn → pn < nP σ → p = nI pn → K (if tkn kn (σ 10 pn).toNatClampNeg then σ 11 (3 * pn) else -13) h) : zf0_taken f h mc ms (some x) p k K := by
  have hn := (nP_eq hW).2
  unfold zf0_taken
  rw [q_inC 0 5 (by decide) (by decide)]
  simp only [ite10, ifn]
  by_cases c : 0 ≤ k.toInt ∧ k.toInt ≤ 5
  · rw [if_pos c]
    simp only [zcQ hh, C_isPane hW hh, ite10, ifn]
    by_cases cp : pnl σ p
    · rw [if_pos (show 0 ≤ p.toInt ∧ p.toInt ≤ (nP σ : Int) - 1 from cp)]
      obtain ⟨kn, hk, -, rfl, -⟩ := nI_bt c
      obtain ⟨pn, hp, rfl⟩ := pnl_nat cp
      have kk := kk kn pn (by omega) rfl hp rfl
      obtain ⟨y, hy, -, ey, -⟩ := nI_bt (hW.2.2.2.2.2.2.2 pn (by omega))
      have ey2 : (σ 10 pn).toNatClampNeg = y := by rw [ey, nI_clamp (by omega)]
      have hkc := kc6 hW (p := pn) (by omega)
      have ek : kcl (σ 10 pn) = y + 1 := by unfold kcl; rw [ey2]
      simp only [C_pa hh hn hp]
      unfold zj0_taken_33
      refine ⟨8, 2000, hmc, hms, ?_⟩
      unfold zf0_as
      refine Or.inr ⟨pa pn, _, _, rfl, C_pc hh hp, hkc, fun z => ?_, fun z => ⟨by decide, by decide, fun _ => ?_⟩⟩
      · rw [ek, zsub_tk kn (by omega) y (by omega)] at z
        rw [ey2, if_pos z] at kk
        exact C_gfX hh hp hkc kk
      · rw [ek, zsub_tk kn (by omega) y (by omega)] at z
        rw [ey2, if_neg z] at kk
        exact kk
    · rw [if_neg (show ¬ (0 ≤ p.toInt ∧ p.toInt ≤ (nP σ : Int) - 1) from cp)]
      unfold zj0_taken_33
      refine ⟨0, 0, Nat.zero_le _, Nat.zero_le _, Or.inl ⟨rfl, Or.inl ⟨rfl, by omega, by omega, fun _ => k1 c cp⟩⟩⟩
  · rw [if_neg c]
    exact k0 c
theorem lt_16 (G : TG) (σ : ST) (p : Nat) (o hr : Int32) : narS 1 (lt G σ p o hr) = lt G σ p o hr := by
  have h : 0 ≤ (lt G σ p o hr).toInt ∧ (lt G σ p o hr).toInt ≤ 999 := by
    unfold lt
    exact cl0_in (by decide)
  obtain ⟨j, hj, -, ej, -⟩ := nI_bt (u := 999) h
  rw [ej]
  exact nar16 j (by omega)
theorem D_film (hf : 400 ≤ f) (hW : WS σ) (hH : WH σ) (hh : Ch sa x ca Md b0 G pa rw σ h) {mc ms : Nat} (hmc : 80 ≤ mc) (hms : 20000 ≤ ms) {s p o : Int32} (k0 : ¬ ((0 ≤ s.toInt ∧ s.toInt ≤ 3) ∧ pnl σ p ∧ opn o) → K (-2) h) (kk : ∀ sn pn on_ : Nat, sn < 4 → s = nI sn → pn < nP σ → p = nI pn → on_ < 4 → o = nI on_ → ∀ r h', Ch sa x ca Md b0 G pa (rwN rw sn r) (fiD G σ sn pn o) h' → K 8 h') : zf0_film f h mc ms (some x) s p o K := by
  have hn := (nP_eq hW).2
  unfold zf0_film
  rw [q_sh0]
  simp only [ite10, ifn]
  by_cases c1 : 0 ≤ s.toInt ∧ s.toInt ≤ 3
  · rw [if_pos c1]
    simp only [zcQ hh, C_isPane hW hh, ite10, ifn]
    by_cases c2 : 0 ≤ p.toInt ∧ p.toInt ≤ (nP σ : Int) - 1
    · rw [if_pos c2, q_op0]
      simp only [ite10, ifn]
      by_cases c3 : 0 ≤ o.toInt ∧ o.toInt ≤ 3
      · rw [if_pos c3]
        obtain ⟨sn, hsn, -, rfl, -⟩ := nI_bt (x := s) (u := 3) c1
        obtain ⟨pn, hpn, rfl⟩ := pnl_nat c2
        obtain ⟨on_, hon, -, rfl, -⟩ := nI_bt (x := o) (u := 3) c3
        have hsn : sn < 4 := by omega
        refine ⟨8, 2000, by omega, by omega, ?_⟩
        simp only [zcQ hh]
        refine D_sheet hH hh (by decide) (by decide) (fun z => absurd ⟨c1, by decide, Or.inr (by decide)⟩ z) (fun _ _ z => absurd z (by decide)) fun sn' a1 a2 _ _ r h' hh' => ?_
        have es : sn' = sn := ((nI_eq (by omega) (by omega)).mp a2).symm
        subst es
        have kk := fun h' hh' => kk sn' pn on_ hsn rfl hpn rfl (by omega) rfl r h' hh'
        have go : ∀ (j k g mc ms : Nat) (σ1 : ST) (h : zH), k + j = 8 → j < g → 8 * j ≤ mc → 2000 * j ≤ ms → (∀ k, k ≠ 48 → σ1 k = shS σ sn' 1 8 k) → Ch sa x ca Md b0 G pa (rwN rw sn' r) σ1 h → (∀ h', Ch sa x ca Md b0 G pa (rwN rw sn' r) (fo (fun h σ' => mup σ' 48 (40 * sn' + h) (lt G σ pn (nI on_) (nI h))) j k σ1) h' → K 8 h') → zl0_film_37 f K g h mc ms (some x) (nI sn') (nI pn) (nI on_) (nI k) := by
          intro j
          induction j with
          | zero =>
            intro k g mc ms σ1 h h1 h2 h3 h4 hk hh kk
            obtain ⟨g, rfl⟩ : ∃ g', g = g' + 1 := ⟨g - 1, by omega⟩
            show zb0_film_37 f K (zl0_film_37 f K g) h mc ms (some x) (nI sn') (nI pn) (nI on_) (nI k)
            unfold zb0_film_37
            have e : k = 8 := by omega
            subst e
            rw [if_neg (by decide)]
            exact kk h hh
          | succ j ih =>
            intro k g mc ms σ1 h h1 h2 h3 h4 hk hh kk
            obtain ⟨g, rfl⟩ : ∃ g', g = g' + 1 := ⟨g - 1, by omega⟩
            show zb0_film_37 f K (zl0_film_37 f K g) h mc ms (some x) (nI sn') (nI pn) (nI on_) (nI k)
            unfold zb0_film_37
            rw [if_pos (show nI k < 8 from (nI_ltI (b := 8) (by omega) (by omega)).mpr (by omega))]
            have ek : ∀ k, k < 45 → σ1 k = σ k := fun k hk' => (hk k (by omega)).trans (shS_kO (by omega))
            have hW1 : WS σ1 := WS_ge hW fun k h1 h2 => ek k (by omega)
            have en1 : nP σ1 = nP σ := by unfold nP; rw [ek 13 (by decide)]
            have e45 : σ1 45 sn' = 1 := by
              rw [hk 45 (by decide), shS_45, if_pos rfl]
              rfl
            have e46 : σ1 46 sn' = 1 := by rw [hk 46 (by decide), shS_46, if_pos rfl]
            have e47 : σ1 47 sn' = 8 := by rw [hk 47 (by decide), shS_47, if_pos rfl]
            have hH1 : WH σ1 := by
              intro s' hs'
              rw [hk 45 (by decide), hk 46 (by decide), hk 47 (by decide), shS_45, shS_46, shS_47]
              by_cases c : s' = sn'
              · rw [if_pos c, if_pos c, if_pos c]
                exact Or.inr ⟨rfl, ⟨8, by decide, rfl⟩, 1, by decide, rfl⟩
              · rw [if_neg c, if_neg c, if_neg c]
                exact hH s' hs'
            simp only [zcQ hh]
            refine C_lightOf hW1 hh (by omega) fun h2' hh2 => ?_
            refine ⟨8, 2000, by omega, by omega, ?_⟩
            simp only [zcQ hh2]
            refine D_cell (by omega) hH1 hh2 (by decide) (by decide) (fun z => absurd c1 z) (fun sm b1 b2 b3 => ?_) (fun sm n b1 b2 b3 b4 b5 b6 => ?_) fun sm n j' b1 b2 b3 b4 b5 b6 b7 h3' hh3 => ?_
            · have : sn' = sm := (nI_eq (by omega) (by omega)).mp b2
              rw [← this, e45] at b3
              exact absurd b3 (by decide)
            · have es : sn' = sm := (nI_eq (by omega) (by omega)).mp b2
              rw [← es, e47] at b4
              have : n = 8 := ((nI_eq (a := 8) (by omega) (by omega)).mp b4).symm
              rw [nI_toInt (by omega)] at b6
              omega
            · have es : sn' = sm := (nI_eq (by omega) (by omega)).mp b2
              have ej : k = j' := (nI_eq (by omega) (by omega)).mp b7
              rw [← es, ← ej, e46, lt_16, lt_of (ek 4 (by decide)) (ek 10 (by decide)) (ek 11 (by decide))] at hh3
              simp only [nm_eq, nI_1]
              exact ih (k + 1) g _ _ _ h3' (by omega) (by omega) (by omega) (by omega) (fun k' hk' => (mup_k hk').trans (hk k' hk')) hh3 kk
        exact go 8 0 f _ _ _ h' (by omega) (by omega) (by omega) (by omega) (fun _ _ => rfl) hh' kk
      · rw [if_neg c3]
        exact k0 (fun z => c3 z.2.2)
    · rw [if_neg c2]
      exact k0 (fun z => c2 z.2.1)
  · rw [if_neg c1]
    exact k0 (fun z => c1 z.1)
end CF2
