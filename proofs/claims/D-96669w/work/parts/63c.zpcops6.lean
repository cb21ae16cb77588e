/-! THE CLASS's CALLS: back -/
set_option maxRecDepth 100000
section CL
variable {sa : Nat → Nat} {x : Nat} {ca : Nat → Nat} {Md : Nat → Prop} {b0 : zH} {G : TG} {pa : Nat → Nat} {rw : Nat → Option Nat} {σ σ' : ST} {h : zH}
/-- a scalar of the object -/
theorem C_pfL (hh : Ch sa x ca Md b0 G pa rw σ h) {k q : Nat} (hkq : (k, q) ∈ csc) {v : Int32} {P : zH → Prop} (ha : ∀ κ, Agr κ σ → (∀ e ∈ cia, h (ca e.1) = some (.inl (e.2.1, e.2.2, .inl (κ e.1)))) → Agr (mup κ q 0 v) σ') (sp : nP σ' ≤ nP σ ∧ (∀ p, p < nP σ' → pcl σ' p = pcl σ p) ∧ (∀ s, s < 4 → σ' 45 s = σ 45 s ∧ (σ 45 s ≠ 0 → σ' 46 s = σ 46 s ∧ σ' 47 s = σ 47 s ∧ ∀ i, i < (σ 47 s).toNatClampNeg → σ' 48 (40 * s + i) = σ 48 (40 * s + i))) ∧ σ' 3 0 = σ 3 0) (kk : ∀ h', Ch sa x ca Md b0 G pa rw σ' h' → P h') : pf h (some x) [0] k (.int v) P := by
  obtain ⟨κ, lab, a1, a2, a3, a4, a5, a6, a7, a8, a9, a10⟩ := hh
  obtain ⟨e1, e2⟩ := cfs_set (ca := ca) (κ := κ) hkq v
  refine ⟨x, 0, _, rfl, a2.1, by simp, e2, kk _ ?_⟩
  rw [e1]
  have lx := a2.2
  have g : Ch sa x ca Md b0 G pa rw σ' (hup h x (.inr (0, cfs ca (mup κ q 0 v)))) := by
    have h5 := a5.up (a := x) (e := .inr (0, cfs ca (mup κ q 0 v))) (by rw [lx]; decide) (fun p _ => by rw [lx]; omega)
    have h7 := a7.up (a := x) (e := .inr (0, cfs ca (mup κ q 0 v))) (fun s _ => by rw [lx]; omega)
    have h8 := a8.up (a := x) (e := .inr (0, cfs ca (mup κ q 0 v))) (by rw [lx]; decide) (by rw [lx]; decide) a10.2.2 (by rw [lx]; decide)
    refine ⟨mup κ q 0 v, lab, ha κ a1 (fun e he => (a3 e he).1), ⟨hup_self _ _ _, lx⟩, ?_, a4.up (fun e _ => by rw [lx]; omega), ?_, a6.up (fun s _ => by rw [lx]; omega), ?_, ?_, a9.up (by rw [lx]; decide), a10.up (by rw [lx]; decide) (isN_no (by omega))⟩
    · have := a3.up (a := x) (e := .inr (0, cfs ca (mup κ q 0 v))) (fun e _ => by rw [lx]; omega)
      intro e he
      rw [mup_k (csc_cia _ hkq e he)]
      exact this e he
    · unfold Cp at h5 ⊢
      obtain ⟨⟨⟨q, e1, e2⟩, e3⟩, e4⟩ := h5
      exact ⟨⟨⟨q, e1, fun p hp => e2 p (Nat.lt_of_lt_of_le hp sp.1)⟩, e3⟩, fun p hp => by rw [sp.2.1 p hp]; exact e4 p (Nat.lt_of_lt_of_le hp sp.1)⟩
    · intro s hs
      obtain ⟨b1, b2⟩ := sp.2.2.1 s hs
      rw [b1]
      refine ⟨(h7 s hs).1, fun z => ?_⟩
      obtain ⟨q, g, c1, c2, c3, c4⟩ := (h7 s hs).2 z
      obtain ⟨d1, d2, d3⟩ := b2 z
      exact ⟨q, g, c1, by rw [d1, d2]; exact c2, c3, fun i hi => by rw [d2] at hi; rw [d3 i hi]; exact c4 i hi⟩
    · unfold Ct at h8 ⊢
      rw [sp.2.2.2]
      exact h8
  exact g
theorem C_cp231 (hh : Ch sa x ca Md b0 G pa rw σ h) {P : zH → Prop} (kk : ∀ h', Ch sa x ca Md b0 G pa rw (fo (fun i σ => mup σ 8 i (σ 231 i)) 4 0 σ) h' → P h') : cpI h (some (ca 231)) 0 (some (ca 8)) 0 4 P := by
  obtain ⟨κ, lab, a1, a2, a3, -⟩ := id hh
  refine cp4 (a3 (231, 0, 4) (by decide)).1 (a3 (8, 0, 4) (by decide)).1 ?_
  rw [a1.2.2.1 231 (by decide)]
  have st : ∀ {σ : ST} {h : zH} (_ : Ch sa x ca Md b0 G pa rw σ h) (i : Nat) (_ : i < 4) {v : Int32} {P : zH → Prop} (_ : ∀ h', Ch sa x ca Md b0 G pa rw (mup σ 8 i v) h' → P h'), astI h (some (ca 8)) 0 (nI i) v P := by
    intro σ h hh i hi v P kk
    refine C_st (k := 8) (n := 4) (σ' := mup σ 8 i v) hh (by decide) (vp_in_nI hi (by omega)) (fun κ a => ?_) (sameP_mup (by decide)) kk
    rw [nI_clamp (by omega)]
    exact agr_mup a (by omega) (by omega) (by omega)
  refine st hh 0 (by decide) fun h1 hh1 => ?_
  refine st hh1 1 (by decide) fun h2 hh2 => ?_
  refine st hh2 2 (by decide) fun h3 hh3 => ?_
  refine st hh3 3 (by decide) fun h4 hh4 => ?_
  exact kk h4 hh4
end CL
def n9 (σ : ST) : ST := fun k => if k = 9 then (fun _ => -1) else σ k
def bk0 (σ : ST) : ST := fo (fun i σ => mup σ 8 i (σ 231 i)) 4 0 (n9 σ)
def bkH (σ : ST) : ST := mup (mup (mup σ 13 0 (σ 233 0)) 7 0 (σ 233 1)) 4 0 (σ 233 2)
def bkD : Nat → ST → ST := fun p σ => mup (mup (mup (mup (mup σ 11 (3 * p + 0) (σ 240 p)) 11 (3 * p + 1) (σ 241 p)) 11 (3 * p + 2) (σ 242 p)) 110 p (σ 243 p)) 111 p (if σ 244 p = 1 then 1 else 0)
def bkC (σ : ST) : ST := fo bkD (nP (bkH (bk0 σ))) 0 (bkH (bk0 σ))
theorem n9_k {σ : ST} {k : Nat} (hk : k ≠ 9) : n9 σ k = σ k := if_neg hk
theorem bk0_k {σ : ST} {k : Nat} (h8 : k ≠ 8) (h9 : k ≠ 9) : bk0 σ k = σ k := by
  unfold bk0
  rw [fo_key (fun i a => if_neg h8), n9_k h9]
theorem bk0_9 {σ : ST} : bk0 σ 9 = fun _ => -1 := by
  unfold bk0
  rw [fo_key (fun i a => if_neg (by decide))]
  rfl
theorem bkH_k {σ : ST} {k : Nat} (h1 : k ≠ 13) (h2 : k ≠ 7) (h3 : k ≠ 4) : bkH σ k = σ k := by
  unfold bkH
  rw [mup_k h3, mup_k h2, mup_k h1]
theorem bkD_k {σ : ST} {p k : Nat} (h1 : k ≠ 11) (h2 : k ≠ 110) (h3 : k ≠ 111) : bkD p σ k = σ k := by
  unfold bkD
  rw [mup_k h3, mup_k h2, mup_k h1, mup_k h1, mup_k h1]
/-- what back needs: the image's own panes and text are still there -/
def WI (σ : ST) : Prop := σ 230 0 ≠ 0 → (∃ n : Nat, n ≤ nP σ ∧ σ 233 0 = nI n) ∧ ∃ r : Nat, r < (σ 3 0).toNatClampNeg ∧ σ 233 2 = nI r
theorem WS_bkH {σ : ST} (hW : WS σ) (hI : WI σ) (h0 : σ 230 0 ≠ 0) : WS (bkH (bk0 σ)) := by
  obtain ⟨⟨n, hn, en⟩, r, hr, er⟩ := hI h0
  have hn6 := (nP_eq hW).2
  obtain ⟨w1, ⟨c, r0, hc, e3, w2⟩, w3, w4, w5, w6, w7, w8⟩ := hW
  have e13 : bkH (bk0 σ) 13 0 = nI n := by
    show bk0 σ 233 0 = nI n
    rw [bk0_k (by decide) (by decide)]; exact en
  have e4 : bkH (bk0 σ) 4 0 = nI r := by
    show bk0 σ 233 2 = nI r
    rw [bk0_k (by decide) (by decide)]; exact er
  have ek : ∀ k, k ≠ 13 → k ≠ 7 → k ≠ 4 → k ≠ 8 → k ≠ 9 → bkH (bk0 σ) k = σ k := fun k h1 h2 h3 h4 h5 => (bkH_k h1 h2 h3).trans (bk0_k h4 h5)
  have e9 : bkH (bk0 σ) 9 = fun _ => -1 := (bkH_k (by decide) (by decide) (by decide)).trans bk0_9
  unfold WS
  rw [ek 3 (by decide) (by decide) (by decide) (by decide) (by decide), ek 6 (by decide) (by decide) (by decide) (by decide) (by decide), ek 1 (by decide) (by decide) (by decide) (by decide) (by decide), ek 5 (by decide) (by decide) (by decide) (by decide) (by decide), ek 2 (by decide) (by decide) (by decide) (by decide) (by decide), ek 10 (by decide) (by decide) (by decide) (by decide) (by decide), e9]
  rw [e3, nI_clamp (by omega)] at hr
  exact ⟨⟨n, by omega, e13⟩, ⟨c, r, hc, e3, hr, e4⟩, w3, w4, w5, w6, fun o ho => Or.inl rfl, w8⟩
section D6
variable {f : Nat} {sa : Nat → Nat} {x : Nat} {ca : Nat → Nat} {Md : Nat → Prop} {b0 : zH} {G : TG} {pa : Nat → Nat} {rw : Nat → Option Nat} {σ : ST} {h : zH} {K : Int32 → zH → Prop}
theorem WS_bkD (hW : WS σ) (p : Nat) : WS (bkD p σ) := WS_ge hW fun k h1 h2 => bkD_k h2 (by omega) (by omega)
theorem nP_bkD (p : Nat) : nP (bkD p σ) = nP σ := by
  unfold nP
  rw [bkD_k (by decide) (by decide) (by decide)]
theorem WS_m11 (hW : WS σ) {p : Nat} {v : Int32} : WS (mup σ 11 p v) := WS_ge hW fun k h1 h2 => mup_k h2
theorem C_bkD (hf : 400 ≤ f) {R : zH → Option Nat → Int32 → Prop} (hW : WS σ) (hh : Ch sa x ca Md b0 G pa rw σ h) {p : Nat} (hp : p < nP σ) (kk : ∀ h', Ch sa x ca Md b0 G pa rw (bkD p σ) h' → R h' (some x) (nI (p + 1))) : zb0_back_56 f K R h (some x) (nI p) := by
  have hn := (nP_eq hW).2
  have e13 := (nP_eq hW).1
  have hp6 : vp_in (nI p) 6 := vp_in_nI (by omega) (by omega)
  unfold zb0_back_56
  simp only [zcQ hh]
  rw [e13, if_pos ((nI_ltI (by omega) (by omega)).mpr hp)]
  simp only [zcQ hh, C_im hh, C_pa hh hn hp]
  refine ⟨hp6, ?_⟩
  rw [nI_clamp (by omega)]
  refine C_p11 (j := 0) hW hh hp (by decide) fun h1 hh1 => ?_
  have hW1 := WS_m11 hW (p := 3 * p + 0) (v := σ 240 p)
  simp only [zcQ hh1, C_im hh1, C_pa hh1 hn hp]
  refine ⟨hp6, ?_⟩
  rw [nI_clamp (by omega)]
  refine C_p11 (j := 1) hW1 hh1 hp (by decide) fun h2 hh2 => ?_
  have hW2 := WS_m11 hW1 (p := 3 * p + 1) (v := σ 241 p)
  simp only [zcQ hh2, C_im hh2, C_pa hh2 hn hp]
  refine ⟨hp6, ?_⟩
  rw [nI_clamp (by omega)]
  refine C_p11 (j := 2) hW2 hh2 hp (by decide) fun h3 hh3 => ?_
  have hW3 := WS_m11 hW2 (p := 3 * p + 2) (v := σ 242 p)
  simp only [zcQ hh3, C_im hh3, C_pa hh3 hn hp]
  refine ⟨hp6, ?_⟩
  rw [nI_clamp (by omega)]
  refine C_p110 hW3 hh3 hp fun h4 hh4 => ?_
  have hW4 : WS _ := WS_110 hW3 (p := p) (v := σ 243 p)
  simp only [zcQ hh4, C_im hh4, C_pa hh4 hn hp]
  refine ⟨hp6, ?_⟩
  rw [nI_clamp (by omega)]
  have fin : ∀ v : Int32, (v = 0 ∨ v = 1) → v = (if σ 244 p = 1 then 1 else 0) → zj0_back_155 f R K h4 (some x) (nI p) v (some (pa p)) := by
    intro v hv hv2
    unfold zj0_back_155
    refine ⟨hv, C_p111 hW4 hh4 hp fun h5 hh5 => ?_⟩
    simp only [nm_eq, nI_1]
    rw [hv2] at hh5
    exact kk h5 hh5
  by_cases c : σ 244 p = 1
  · exact (if_pos c).mpr (fin 1 (Or.inr rfl) (by rw [if_pos c]))
  · exact (if_neg c).mpr (fin 0 (Or.inl rfl) (by rw [if_neg c]))
theorem D_back (hf : 400 ≤ f) (hW : WS σ) (hI : WI σ) (hh : Ch sa x ca Md b0 G pa rw σ h) (k0 : σ 230 0 = 0 → K (-3) h) (kk : σ 230 0 ≠ 0 → ∀ h', Ch sa x ca Md b0 G pa rw (bkC σ) h' → K (σ 233 0) h') : zf0_back f h (some x) K := by
  unfold zf0_back
  simp only [zcQ hh]
  by_cases c : σ 230 0 = 0
  · rw [if_pos c]
    exact k0 c
  · rw [if_neg c]
    have kk := kk c
    have hWb := WS_bkH hW hI c
    obtain ⟨⟨n, hn, en⟩, -⟩ := hI c
    have hn6 := (nP_eq hW).2
    have hh9 : Ch sa x ca Md b0 G pa rw (n9 σ) h := hh.agree (fun κ a => ⟨fun k hk => (a.1 k hk).trans (congrFun (n9_k (by intro e; subst e; revert hk; decide)).symm 0), a.2.1, fun k hk => (a.2.2.1 k hk).trans (n9_k (by omega)).symm, a.2.2.2⟩) rfl (fun _ _ => rfl) (fun _ _ => ⟨rfl, fun _ => ⟨rfl, rfl, fun _ _ => rfl⟩⟩) rfl
    refine C_cp231 hh9 fun h1 hh1 => ?_
    have hh1 : Ch sa x ca Md b0 G pa rw (bk0 σ) h1 := hh1
    have e13b : nP (bk0 σ) = nP σ := by unfold nP; rw [bk0_k (by decide) (by decide)]
    have e233 : bk0 σ 233 = σ 233 := bk0_k (by decide) (by decide)
    simp only [zcQ hh1]
    refine ⟨show vp_in (nI 0) 3 from vp_in_nI (by decide) (by decide), ?_⟩
    have enb : nP (mup (bk0 σ) 13 0 (bk0 σ 233 0)) = n := by
      show (bk0 σ 233 0).toNatClampNeg = n
      rw [e233, en, nI_clamp (by omega)]
    refine C_pfL (q := 13) (σ' := mup (bk0 σ) 13 0 (bk0 σ 233 0)) hh1 (by decide) (fun κ a _ => agr_mup a (by decide) (by decide) (by decide)) ⟨by rw [enb, e13b]; exact hn, fun p _ => rfl, fun s _ => ⟨rfl, fun _ => ⟨rfl, rfl, fun _ _ => rfl⟩⟩, rfl⟩ fun h2 hh2 => ?_
    simp only [zcQ hh2]
    refine ⟨show vp_in (nI 1) 3 from vp_in_nI (by decide) (by decide), ?_⟩
    refine C_pf (q := 7) hh2 (by decide) (fun κ a => agr_mup a (by decide) (by decide) (by decide)) (sameP_mup (by decide)) fun h3 hh3 => ?_
    simp only [zcQ hh3]
    refine ⟨show vp_in (nI 2) 3 from vp_in_nI (by decide) (by decide), ?_⟩
    refine C_pf (q := 4) hh3 (by decide) (fun κ a => agr_mup a (by decide) (by decide) (by decide)) (sameP_mup (by decide)) fun h4 hh4 => ?_
    have hh4 : Ch sa x ca Md b0 G pa rw (bkH (bk0 σ)) h4 := hh4
    have eH : nP (bkH (bk0 σ)) = n := enb
    have eH13 : bkH (bk0 σ) 13 0 = σ 233 0 := by
      show bk0 σ 233 0 = σ 233 0
      rw [e233]
    have go : ∀ (j p g : Nat) (σ1 : ST) (h : zH), p + j = n → j < g → nP σ1 = n → WS σ1 → Ch sa x ca Md b0 G pa rw σ1 h → (fo bkD j p σ1 13 0 = σ 233 0) → (∀ h', Ch sa x ca Md b0 G pa rw (fo bkD j p σ1) h' → K (σ 233 0) h') → zl0_back_56 f K g h (some x) (nI p) := by
      intro j
      induction j with
      | zero =>
        intro p g σ1 h h1 h2 h3 hW1 hh e kk
        obtain ⟨g, rfl⟩ : ∃ g', g = g' + 1 := ⟨g - 1, by omega⟩
        have e : σ1 13 0 = σ 233 0 := e
        show zb0_back_56 f K (zl0_back_56 f K g) h (some x) (nI p)
        unfold zb0_back_56
        simp only [zcQ hh]
        rw [if_neg (fun z => by rw [(nP_eq hW1).1] at z; have := (nI_ltI (by omega) (by omega)).mp z; omega), e]
        exact kk h hh
      | succ j ih =>
        intro p g σ1 h h1 h2 h3 hW1 hh e kk
        obtain ⟨g, rfl⟩ : ∃ g', g = g' + 1 := ⟨g - 1, by omega⟩
        show zb0_back_56 f K (zl0_back_56 f K g) h (some x) (nI p)
        exact C_bkD hf hW1 hh (by omega) fun h' hh' => ih (p + 1) g (bkD p σ1) h' (by omega) (by omega) ((nP_bkD p).trans h3) (WS_bkD hW1 p) hh' e kk
    refine go n 0 f (bkH (bk0 σ)) h4 (by omega) (by omega) eH hWb hh4 ?_ ?_
    · rw [fo_key (fun i a => bkD_k (by decide) (by decide) (by decide)), eH13]
    · unfold bkC at kk
      rw [eH] at kk
      exact kk
end D6
