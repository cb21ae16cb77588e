/-! THE CLASS's CALLS: cell, copy, taken -/
set_option maxRecDepth 100000
section CC
variable {f : Nat} {sa : Nat → Nat} {x : Nat} {ca : Nat → Nat} {Md : Nat → Prop} {b0 : zH} {G : TG} {pa : Nat → Nat} {rw : Nat → Option Nat} {σ σ' : ST} {h : zH} {K : Int32 → zH → Prop}
theorem C_rown (hh : Ch sa x ca Md b0 G pa rw σ h) {s : Nat} (hs : s < 4) (h0 : σ 45 s = 0) : rw s = none := by
  obtain ⟨κ, lab, a1, a2, a3, a4, a5, a6, a7, -⟩ := hh
  exact (a7 s hs).1 h0
theorem C_row (hh : Ch sa x ca Md b0 G pa rw σ h) {s : Nat} (hs : s < 4) (h1 : σ 45 s ≠ 0) : ∃ (a : Nat) (g : Nat → Int32), rw s = some a ∧ h a = some (.inl (rty (σ 46 s), (σ 47 s).toNatClampNeg, .inl g)) ∧ ∀ i, i < (σ 47 s).toNatClampNeg → g i = σ 48 (40 * s + i) := by
  obtain ⟨κ, lab, a1, a2, a3, a4, a5, a6, a7, -⟩ := hh
  obtain ⟨a, g, c1, c2, c3, c4⟩ := (a7 s hs).2 h1
  exact ⟨a, g, c1, c2, c4⟩
theorem C_rowset (hn : nP σ ≤ 6) (hH : WH σ) (hh : Ch sa x ca Md b0 G pa rw σ h) {s a : Nat} (hs : s < 4) (h1 : σ 45 s ≠ 0) (hr : rw s = some a) {g' : Nat → Int32} (hk : ∀ k, k ≠ 48 → σ' k = σ k) (hg : ∀ i, i < (σ 47 s).toNatClampNeg → σ' 48 (40 * s + i) = g' i) (ho : ∀ s' i, s' < 4 → s' ≠ s → i < 40 → σ' 48 (40 * s' + i) = σ 48 (40 * s' + i)) : Ch sa x ca Md b0 G pa rw σ' (hup h a (.inl (rty (σ 46 s), (σ 47 s).toNatClampNeg, .inl g'))) := by
  obtain ⟨κ, lab, a1, a2, a3, a4, a5, a6, a7, a8, a9, a10⟩ := hh
  obtain ⟨a', g, c1, c2, lx, c4⟩ := (a7 s hs).2 h1
  rw [hr] at c1
  cases c1
  have b5 := a5.up (a := a) (e := .inl (rty (σ 46 s), (σ 47 s).toNatClampNeg, .inl g')) (by rw [lx]; omega) (fun p hp => by rw [lx]; omega)
  have b8 := a8.up (a := a) (e := .inl (rty (σ 46 s), (σ 47 s).toNatClampNeg, .inl g')) (by rw [lx]; omega) (by rw [lx]; omega) a10.2.2 (by rw [lx]; omega)
  refine ⟨κ, lab, agr_keys a1 fun k hk' => hk k (by omega), a2.up (by rw [lx]; omega), a3.up (fun e he => by rw [lx]; have := cia_le e he; omega), a4.up (fun e he => by rw [lx]; have := cra_le e he; omega), ?_, a6.up (fun s' hs' => by rw [lx]; omega), fun s' hs' => ?_, ?_, a9.up (by rw [lx]; omega), a10.up (by rw [lx]; omega) isN_noA⟩
  · have en : nP σ' = nP σ := by unfold nP; rw [hk 13 (by decide)]
    have ep : ∀ p, pcl σ' p = pcl σ p := fun p => by
      unfold pcl
      rw [hk 10 (by decide), hk 11 (by decide), hk 110 (by decide), hk 111 (by decide)]
    unfold Cp
    rw [en]
    exact ⟨b5.1, fun p hp => by rw [ep]; exact b5.2 p hp⟩
  · rw [hk 45 (by decide), hk 46 (by decide), hk 47 (by decide)]
    refine ⟨(a7 s' hs').1, fun z => ?_⟩
    by_cases c : s' = s
    · rw [c]
      exact ⟨a, g', hr, hup_self _ _ _, lx, fun i hi => (hg i hi).symm⟩
    · obtain ⟨q, g2, d1, d2, d3, d4⟩ := (a7 s' hs').2 z
      refine ⟨q, g2, d1, by rw [hup_lab (lab := lab) (by rw [d3, lx]; omega)]; exact d2, d3, fun i hi => ?_⟩
      have l40 : (σ 47 s').toNatClampNeg ≤ 40 := by
        rcases hH s' hs' with y | ⟨-, ⟨m, hm, em⟩, -⟩
        · exact absurd y z
        · rw [em, nI_clamp (by omega)]; exact hm
      rw [ho s' i hs' c (by omega)]
      exact d4 i hi
  · unfold Ct at b8 ⊢
    rw [hk 3 (by decide)]
    exact b8
theorem nar_b (z : Int32) : vp_nar .byte z.toInt8.toInt32 = z.toInt8.toInt32 := by
  unfold vp_nar
  rw [pk_nb]
theorem nar_s (z : Int32) : vp_nar .short z.toInt16.toInt32 = z.toInt16.toInt32 := by
  unfold vp_nar
  rw [pk_ns]
theorem znar_S {t : Nat} (ht : t ≤ 2) (v : Int32) : znar (rty (nI t)) v = narS (nI t) v := by
  have : t = 0 ∨ t = 1 ∨ t = 2 := by omega
  unfold znar narS
  rcases this with rfl | rfl | rfl
  · rw [show rty (nI 0) = 1 by decide, if_pos rfl, if_pos (show nI 0 = 0 by decide)]
    exact nar_b v
  · rw [show rty (nI 1) = 2 by decide, if_neg (by decide), if_pos rfl, if_neg (show ¬ nI 1 = 0 by decide), if_pos (show nI 1 = 1 by decide)]
    exact nar_s v
  · rw [show rty (nI 2) = 0 by decide, if_neg (by decide), if_neg (by decide), if_neg (show ¬ nI 2 = 0 by decide), if_neg (show ¬ nI 2 = 1 by decide)]
theorem rty3 (s : Int32) : rty s < 3 := by
  unfold rty
  by_cases c : s = 0
  · rw [if_pos c]; decide
  · rw [if_neg c]
    by_cases c1 : s = 1
    · rw [if_pos c1]; decide
    · rw [if_neg c1]; decide
theorem D_cell (hn : nP σ ≤ 6) (hH : WH σ) (hh : Ch sa x ca Md b0 G pa rw σ h) {mc ms : Nat} (hmc : 8 ≤ mc) (hms : 2000 ≤ ms) {s i v : Int32} (k0 : ¬ (0 ≤ s.toInt ∧ s.toInt ≤ 3) → K (-2) h) (k11 : ∀ sn : Nat, sn < 4 → s = nI sn → σ 45 sn = 0 → K (-11) h) (k12 : ∀ sn n : Nat, sn < 4 → s = nI sn → σ 45 sn = 1 → σ 47 sn = nI n → n ≤ 40 → ¬ (0 ≤ i.toInt ∧ i.toInt ≤ (n : Int) - 1) → K (-12) h) (kk : ∀ sn n j : Nat, sn < 4 → s = nI sn → σ 45 sn = 1 → σ 47 sn = nI n → n ≤ 40 → j < n → i = nI j → ∀ h', Ch sa x ca Md b0 G pa rw (mup σ 48 (40 * sn + j) (narS (σ 46 sn) v)) h' → K 1 h') : zf0_cell f h mc ms (some x) s i v K := by
  unfold zf0_cell
  rw [q_sh0]
  simp only [ite10, ifn]
  by_cases c1 : 0 ≤ s.toInt ∧ s.toInt ≤ 3
  · rw [if_pos c1]
    obtain ⟨sn, hsn, -, rfl, -⟩ := nI_bt (x := s) (u := 3) c1
    have hsn : sn < 4 := by omega
    simp only [zcQ hh, C_t34 hh hsn, C_sh hh hsn]
    refine ⟨8, 2000, hmc, hms, ?_⟩
    unfold zf0_put zrw zj0_cell_25 zj0_cell_30
    rcases hH sn hsn with h0 | ⟨h1, ⟨n, hn40, en⟩, t, ht, et⟩
    · exact Or.inl ⟨C_rown hh hsn h0, by decide, by decide, fun _ => k11 sn hsn rfl h0⟩
    · have h1' : σ 45 sn ≠ 0 := by rw [h1]; decide
      obtain ⟨a, g, r1, r2, r3⟩ := C_row hh hsn h1'
      refine Or.inr ⟨a, _, _, g, r1, r2, rty3 _, by rw [en, nI_clamp (by omega)]; omega, fun hi => ?_, fun hi => ?_⟩
      · obtain ⟨j, hj, rfl⟩ := vp_in_of hi (by rw [en, nI_clamp (by omega)]; omega)
        rw [nI_clamp (by rw [en, nI_clamp (by omega)] at hj; omega), et, znar_S ht, ← et]
        have hj' : j < n := by rw [en, nI_clamp (by omega)] at hj; exact hj
        refine kk sn n j hsn rfl h1 en hn40 hj' rfl _ (C_rowset hn hH hh hsn h1' r1 (fun k hk => mup_k hk) (fun i hi => ?_) (fun s' i' a1 a2 a3 => ?_))
        · rw [mup_kk]
          unfold upd
          by_cases c : i = j
          · rw [if_pos (by omega), if_pos c]
          · rw [if_neg (by omega), if_neg c]; exact (r3 i hi).symm
        · rw [mup_kk, if_neg (by omega)]
      · refine ⟨by decide, by decide, fun _ => k12 sn n hsn rfl h1 en hn40 fun z => hi ?_⟩
        obtain ⟨j, hj, -, rfl, -⟩ := nI_bt (x := i) (u := (n : Int) - 1) z
        rw [en, nI_clamp (by omega)]
        exact vp_in_nI (by omega) (by omega)
  · rw [if_neg c1]
    exact k0 c1
end CC
