/-! THE CLASS's CALLS: panes -/
set_option maxRecDepth 100000
def paOC (σ : ST) (k nb on_ : Int32) : Int32 × ST := if ((0 ≤ k.toInt ∧ k.toInt ≤ 5) ∧ (0 ≤ nb.toInt ∧ nb.toInt ≤ 9) ∧ (0 ≤ on_.toInt ∧ on_.toInt ≤ 364)) then (if nP σ = 6 then (-4, σ) else (nI (nP σ), paC σ (nP σ) k nb on_)) else (-2, σ)
def pnC (at_ : Int32) (s size : Nat) : Nat → Nat → Int32 → ST → Int32 × ST
  | 0, _, c, σ => (c, σ)
  | d + 1, k, c, σ => if at_.toInt < 0 ∨ (size : Int) - 3 * k - 3 < at_.toInt then (-12, σ) else pnC at_ s size d (k + 1) (c + (if (paOC σ (σ 48 (40 * s + at_.toNatClampNeg + 3 * k)) (σ 48 (40 * s + at_.toNatClampNeg + 3 * k + 1)) (σ 48 (40 * s + at_.toNatClampNeg + 3 * k + 2))).1 < 0 then 0 else 1)) (paOC σ (σ 48 (40 * s + at_.toNatClampNeg + 3 * k)) (σ 48 (40 * s + at_.toNatClampNeg + 3 * k + 1)) (σ 48 (40 * s + at_.toNatClampNeg + 3 * k + 2))).2
theorem paC_k {σ : ST} {n : Nat} {k nb on_ : Int32} {j : Nat} (h : j ∉ ([10, 11, 110, 111, 13] : List Nat)) : paC σ n k nb on_ j = σ j := by
  simp only [List.mem_cons, List.not_mem_nil, or_false, not_or] at h
  unfold paC
  rw [mup_k h.2.2.2.2, mup_k h.2.2.2.1, mup_k h.2.2.1, mup_k h.2.1, mup_k h.2.1, mup_k h.2.1, mup_k h.1]
theorem WS_paC {σ : ST} (hW : WS σ) (hn : nP σ < 6) {k nb on_ : Int32} (hk : 0 ≤ k.toInt ∧ k.toInt ≤ 5) : WS (paC σ (nP σ) k nb on_) := by
  have h := WS_pa (nb := nb) (on_ := on_) hW hn hk
  refine WS_of h fun j hj => ?_
  simp only [List.mem_cons, List.not_mem_nil, or_false] at hj
  rcases hj with rfl | rfl | rfl | rfl | rfl | rfl | rfl | rfl | rfl <;> rfl
section TP
variable {f : Nat} {sa : Nat → Nat} {x : Nat} {ca : Nat → Nat} {Md : Nat → Prop} {b0 : zH} {G : TG} {pa : Nat → Nat} {rw : Nat → Option Nat} {σ : ST} {h : zH} {K : Int32 → zH → Prop}
theorem C_item (hh : Ch sa x ca Md b0 G pa rw σ h) {s size : Nat} (hs : s < 4) (h1 : σ 45 s = 1) (e47 : σ 47 s = nI size) (h40 : size ≤ 40) {mc ms : Nat} (hmc : 8 ≤ mc) (hms : 2000 ≤ ms) {i : Int32} {X1 X2 X3 : zH → Prop} (kk : ∀ j, j < size → i = nI j → K (σ 48 (40 * s + j)) h) (k2 : ¬ (0 ≤ i.toInt ∧ i.toInt < size) → X2 h) : zf0_item f h mc ms (rw s) (σ 46 s) i K X1 X2 X3 := by
  have h1' : σ 45 s ≠ 0 := by rw [h1]; decide
  obtain ⟨a, g1, r1, r2, r3⟩ := C_row hh hs h1'
  have ez : (σ 47 s).toNatClampNeg = size := by rw [e47, nI_clamp (by omega)]
  unfold zf0_item zrw
  refine Or.inr ⟨a, _, _, g1, r1, r2, rty3 _, by rw [ez]; omega, ?_⟩
  show (if rty (σ 46 s) = zty3 (σ 46 s) then _ else _)
  rw [if_pos (show rty (σ 46 s) = zty3 (σ 46 s) from rfl), ez]
  refine ⟨fun z => ?_, fun z => ⟨hmc, hms, k2 fun y => z (vp_in_iff.mpr y)⟩⟩
  obtain ⟨j, hj, rfl⟩ := vp_in_of z (by omega)
  rw [nI_clamp (by omega), r3 j (by omega)]
  exact kk j hj rfl
theorem came_loop (hf : 400 ≤ f) {s size nn : Nat} {at_ : Int32} (hs : s < 4) (h40 : size ≤ 40) (hnn : nn ≤ 6) {sort : Int32} {X1 X2 X3 : zH → Prop} (k12 : ∀ pa' σ' h', Ch sa x ca Md b0 G pa' rw σ' h' → (pnC at_ s size nn 0 0 σ) = (-12, σ') → X2 h') (kk : ∀ pa' h' σ', Ch sa x ca Md b0 G pa' rw σ' h' → ∀ c : Nat, (pnC at_ s size nn 0 0 σ) = (nI c, σ') → K (nI c) h') : ∀ (j k g mc ms : Nat) (c : Nat) (pa' : Nat → Nat) (σ1 : ST) (h : zH), k + j = nn → j < g → 25 * j ≤ mc → 6005 * j ≤ ms → (k = 0 ∨ (0 ≤ at_.toInt ∧ at_.toInt ≤ (size : Int) - 3 * k)) → WS σ1 → σ1 45 s = 1 → σ1 46 s = sort → σ1 47 s = nI size → pnC at_ s size nn 0 0 σ = pnC at_ s size j k (nI c) σ1 → Ch sa x ca Md b0 G pa' rw σ1 h → zl0_came_13 f K X1 X2 X3 g h mc ms (some x) (rw s) sort at_ (nI nn) (nI c) (nI k) := by
  intro j
  induction j with
  | zero =>
    intro k g mc ms c pa' σ1 h e1 e2 e3 e4 hat hW h1 e46 e47 ee hh
    obtain ⟨g, rfl⟩ : ∃ g', g = g' + 1 := ⟨g - 1, by omega⟩
    show zb0_came_13 f K X1 X2 X3 (zl0_came_13 f K X1 X2 X3 g) h mc ms (some x) (rw s) sort at_ (nI nn) (nI c) (nI k)
    unfold zb0_came_13
    rw [if_neg (fun z => by have := (nI_ltI (by omega) (by omega)).mp z; omega)]
    exact kk pa' h σ1 hh c ee
  | succ j ih =>
    intro k g mc ms c pa' σ1 h e1 e2 e3 e4 hat hW h1 e46 e47 ee hh
    obtain ⟨g, rfl⟩ : ∃ g', g = g' + 1 := ⟨g - 1, by omega⟩
    show zb0_came_13 f K X1 X2 X3 (zl0_came_13 f K X1 X2 X3 g) h mc ms (some x) (rw s) sort at_ (nI nn) (nI c) (nI k)
    unfold zb0_came_13
    rw [if_pos ((nI_ltI (by omega) (by omega)).mpr (by omega))]
    have hn := (nP_eq hW).2
    have ee : pnC at_ s size nn 0 0 σ = (if at_.toInt < 0 ∨ (size : Int) - 3 * k - 3 < at_.toInt then (-12, σ1) else pnC at_ s size j (k + 1) (nI c + (if (paOC σ1 (σ1 48 (40 * s + at_.toNatClampNeg + 3 * k)) (σ1 48 (40 * s + at_.toNatClampNeg + 3 * k + 1)) (σ1 48 (40 * s + at_.toNatClampNeg + 3 * k + 2))).1 < 0 then 0 else 1)) (paOC σ1 (σ1 48 (40 * s + at_.toNatClampNeg + 3 * k)) (σ1 48 (40 * s + at_.toNatClampNeg + 3 * k + 1)) (σ1 48 (40 * s + at_.toNatClampNeg + 3 * k + 2))).2) := ee
    have out : (at_.toInt < 0 ∨ (size : Int) - 3 * k - 3 < at_.toInt) → X2 h := fun z => by
      rw [if_pos z] at ee
      exact k12 pa' σ1 h hh ee
    rw [e3m k]
    subst e46
    by_cases sm : 0 ≤ at_.toInt ∧ at_.toInt ≤ 40
    · obtain ⟨a, ha, -, rfl, ha2⟩ := nI_bt sm
      rw [nI_add, nI_1, show nI (a + 3 * k) + 2 = nI (a + 3 * k + 2) from nI_add _ 2]
      have hk6 : k < 6 := by omega
      refine ⟨8, 2000, by omega, by omega, C_item hh hs h1 e47 h40 (by decide) (by decide) (fun j1 hj1 q1 => ?_) (fun z => out (Or.inr (by rw [nI_toInt (by omega)] at z ⊢; omega)))⟩
      have q1 : a + 3 * k = j1 := (nI_eq (by omega) (by omega)).mp q1
      subst q1
      refine ⟨8, 2000, by omega, by omega, C_item hh hs h1 e47 h40 (by decide) (by decide) (fun j2 hj2 q2 => ?_) (fun z => out (Or.inr (by rw [nI_toInt (by omega)] at z ⊢; omega)))⟩
      have q2 : a + 3 * k + 1 = j2 := (nI_eq (by omega) (by omega)).mp q2
      subst q2
      refine ⟨8, 2000, by omega, by omega, C_item hh hs h1 e47 h40 (by decide) (by decide) (fun j3 hj3 q3 => ?_) (fun z => out (Or.inr (by rw [nI_toInt (by omega)] at z ⊢; omega)))⟩
      have q3 : a + 3 * k + 2 = j3 := (nI_eq (by omega) (by omega)).mp q3
      subst q3
      have good : ¬ ((nI a).toInt < 0 ∨ (size : Int) - 3 * k - 3 < (nI a).toInt) := by rw [nI_toInt (by omega)]; omega
      rw [if_neg good, nI_clamp (by omega)] at ee
      rw [show 40 * s + (a + 3 * k) = 40 * s + a + 3 * k from by omega, show 40 * s + (a + 3 * k + 1) = 40 * s + a + 3 * k + 1 from by omega, show 40 * s + (a + 3 * k + 2) = 40 * s + a + 3 * k + 2 from by omega]
      generalize σ1 48 (40 * s + a + 3 * k) = z1 at ee ⊢
      generalize σ1 48 (40 * s + a + 3 * k + 1) = z2 at ee ⊢
      generalize σ1 48 (40 * s + a + 3 * k + 2) = z3 at ee ⊢
      refine ⟨1, 5, by omega, by omega, ?_⟩
      simp only [zcQ hh]
      have nx : ∀ (c' : Nat) (b : Int32) (pa2 : Nat → Nat) (σ2 : ST) (h2 : zH), nI c + b = nI c' → Ch sa x ca Md b0 G pa2 rw σ2 h2 → WS σ2 → σ2 45 s = 1 → σ2 46 s = σ1 46 s → σ2 47 s = nI size → pnC (nI a) s size nn 0 0 σ = pnC (nI a) s size j (k + 1) (nI c') σ2 → zj0_came_79 f (zl0_came_13 f K X1 X2 X3 g) K X1 X2 X3 h2 ((((mc - 8) - 8) - 8) - 1) ((((ms - 2000) - 2000) - 2000) - 5) (some x) (rw s) (σ1 46 s) (nI a) (nI nn) (nI k) b (nI c) := by
        intro c' b pa2 σ2 h2 eb hh2 hW2 i1 i2 i3 i4
        unfold zj0_came_79
        simp only [nm_eq, nI_1]
        rw [eb]
        exact ih (k + 1) g _ _ c' pa2 σ2 h2 (by omega) (by omega) (by omega) (by omega) (Or.inr ⟨by rw [nI_toInt (by omega)]; omega, by rw [nI_toInt (by omega)]; omega⟩) hW2 i1 i2 i3 i4 hh2
      refine D_pane hW hh (by decide) (by decide) (fun z => ?_) (fun z z6 => ?_) (fun z z6 q h2 hq hh2 => ?_)
      · have z : ¬ ((0 ≤ z1.toInt ∧ z1.toInt ≤ 5) ∧ (0 ≤ z2.toInt ∧ z2.toInt ≤ 9) ∧ (0 ≤ z3.toInt ∧ z3.toInt ≤ 364)) := z
        have ep : paOC σ1 z1 z2 z3 = (-2, σ1) := if_neg z
        rw [ep, if_pos (show (-2 : Int32) < 0 by decide), Int32.add_zero] at ee
        rw [if_pos (by decide)]
        exact nx c 0 pa' σ1 h (Int32.add_zero _) hh hW h1 rfl e47 ee
      · have z : ((0 ≤ z1.toInt ∧ z1.toInt ≤ 5) ∧ (0 ≤ z2.toInt ∧ z2.toInt ≤ 9) ∧ (0 ≤ z3.toInt ∧ z3.toInt ≤ 364)) := z
        have ep : paOC σ1 z1 z2 z3 = (-4, σ1) := by unfold paOC; rw [if_pos z, if_pos z6]
        rw [ep, if_pos (show (-4 : Int32) < 0 by decide), Int32.add_zero] at ee
        rw [if_pos (by decide)]
        exact nx c 0 pa' σ1 h (Int32.add_zero _) hh hW h1 rfl e47 ee
      · have z : ((0 ≤ z1.toInt ∧ z1.toInt ≤ 5) ∧ (0 ≤ z2.toInt ∧ z2.toInt ≤ 9) ∧ (0 ≤ z3.toInt ∧ z3.toInt ≤ 364)) := z
        have ep : paOC σ1 z1 z2 z3 = (nI (nP σ1), paC σ1 (nP σ1) z1 z2 z3) := by unfold paOC; rw [if_pos z, if_neg (by omega)]
        have np : ¬ nI (nP σ1) < 0 := nI_pos (by omega)
        rw [ep] at ee
        have ee : pnC (nI a) s size nn 0 0 σ = pnC (nI a) s size j (k + 1) (nI c + (if nI (nP σ1) < 0 then 0 else 1)) (paC σ1 (nP σ1) z1 z2 z3) := ee
        rw [if_neg np, nI_1] at ee
        rw [if_neg np]
        exact nx (c + 1) 1 _ _ h2 (nI_1 c) hh2 (WS_paC hW z6 z.1) (by rw [paC_k (by decide)]; exact h1) (by rw [paC_k (by decide)]) (by rw [paC_k (by decide)]; exact e47) ee
    · have k0 : k = 0 := by
        rcases hat with z | z
        · exact z
        · exfalso
          exact sm ⟨z.1, by omega⟩
      subst k0
      have e0 : at_ + nI (3 * 0) = at_ := Int32.add_zero _
      rw [e0]
      refine ⟨8, 2000, by omega, by omega, C_item hh hs h1 e47 h40 (by decide) (by decide) (fun j1 hj1 q1 => ?_) (fun z => out (by omega))⟩
      exfalso
      rw [q1, nI_toInt (by omega)] at sm
      exact sm ⟨by omega, by omega⟩
theorem D_panes (hf : 400 ≤ f) (hW : WS σ) (hH : WH σ) (hh : Ch sa x ca Md b0 G pa rw σ h) {mc ms : Nat} (hmc : 160 ≤ mc) (hms : 40000 ≤ ms) {s sort at_ n : Int32} (k0 : ¬ ((0 ≤ s.toInt ∧ s.toInt ≤ 3) ∧ (0 ≤ sort.toInt ∧ sort.toInt ≤ 2) ∧ (0 ≤ n.toInt ∧ n.toInt ≤ 6)) → K (-2) h) (k13 : ∀ sn : Nat, sn < 4 → s = nI sn → σ 45 sn = 1 → ¬ σ 46 sn = sort → K (-13) h) (k11 : ∀ sn : Nat, sn < 4 → s = nI sn → σ 45 sn = 0 → K (-11) h) (kk : ∀ sn size nn : Nat, sn < 4 → s = nI sn → σ 45 sn = 1 → σ 46 sn = sort → σ 47 sn = nI size → size ≤ 40 → nn ≤ 6 → n = nI nn → (0 ≤ sort.toInt ∧ sort.toInt ≤ 2) → ∀ pa' h', Ch sa x ca Md b0 G pa' rw (pnC at_ sn size nn 0 0 σ).2 h' → K (pnC at_ sn size nn 0 0 σ).1 h') : zf0_panes f h mc ms (some x) s sort at_ n K := by
  unfold zf0_panes
  rw [q_sh0]
  simp only [ite10, ifn]
  by_cases c1 : 0 ≤ s.toInt ∧ s.toInt ≤ 3
  · rw [if_pos c1, q_inC 0 2 (by decide) (by decide)]
    simp only [ite10, ifn]
    by_cases c2 : 0 ≤ sort.toInt ∧ sort.toInt ≤ 2
    · rw [if_pos c2, q_inC 0 6 (by decide) (by decide)]
      simp only [ite10, ifn]
      by_cases c3 : 0 ≤ n.toInt ∧ n.toInt ≤ 6
      · rw [if_pos c3]
        obtain ⟨sn, hsn, -, rfl, -⟩ := nI_bt (x := s) (u := 3) c1
        obtain ⟨so, hso, -, rfl, -⟩ := nI_bt (x := sort) (u := 2) c2
        obtain ⟨nn, hnn, -, rfl, -⟩ := nI_bt (x := n) (u := 6) c3
        have hsn : sn < 4 := by omega
        simp only [zcQ hh]
        rw [C_t34 hh hsn, C_sh hh hsn]
        refine ⟨160, 40000, hmc, hms, ?_⟩
        unfold zf0_came
        refine ⟨8, 2000, by decide, by decide, ?_⟩
        rcases hH sn hsn with h0 | ⟨h1, ⟨size, h40, e47⟩, t, ht, et⟩
        · rw [C_rown hh hsn h0]
          unfold zf0_lengthOf zrw
          exact Or.inl ⟨rfl, by decide, by decide, fun _ => k11 sn hsn rfl h0⟩
        · have h1' : σ 45 sn ≠ 0 := by rw [h1]; decide
          by_cases cs : σ 46 sn = nI so
          · have kk := kk sn size nn hsn rfl h1 cs e47 h40 (by omega) rfl c2
            rw [← cs]
            refine C_len hh hsn h1' ?_
            refine came_loop hf hsn h40 (nn := nn) (by omega) (fun pa' σ' h' hh' ee q => ?_) (fun pa' h' σ' hh' c ee => ?_) nn 0 f _ _ 0 pa σ h (by omega) (by omega) (by omega) (by omega) (Or.inl rfl) hW h1 rfl e47 rfl hh
            · have kk := kk pa' h'
              rw [ee] at kk
              exact kk hh'
            · have kk := kk pa' h'
              rw [ee] at kk
              exact kk hh'
          · obtain ⟨a, g1, r1, r2, r3⟩ := C_row hh hsn h1'
            unfold zf0_lengthOf zrw
            refine Or.inr ⟨a, _, _, g1, r1, r2, rty3 _, ?_⟩
            have ne : ¬ rty (σ 46 sn) = zty3 (nI so) := by
              rw [et]
              have hs3 : so = 0 ∨ so = 1 ∨ so = 2 := by omega
              have ht3 : t = 0 ∨ t = 1 ∨ t = 2 := by omega
              rw [et] at cs
              rcases hs3 with rfl | rfl | rfl <;> rcases ht3 with rfl | rfl | rfl <;> first | exact absurd rfl cs | decide
            show (if rty (σ 46 sn) = zty3 (nI so) then _ else _)
            rw [if_neg ne]
            exact ⟨by decide, by decide, fun _ => k13 sn hsn rfl h1 cs⟩
      · rw [if_neg c3]
        exact k0 fun z => c3 z.2.2
    · rw [if_neg c2]
      exact k0 fun z => c2 z.2.1
  · rw [if_neg c1]
    exact k0 fun z => c1 z.1
end TP
