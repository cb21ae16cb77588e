/-! THE CLASS's CALLS: sheet -/
set_option maxRecDepth 100000
def rwN (rw : Nat → Option Nat) (s : Nat) (r : Option Nat) : Nat → Option Nat := fun s' => if s' = s then r else rw s'
theorem fo48 (b : Nat) (σ : ST) : ∀ m x, fo (fun i (σ : ST) => mup σ 48 (b + i) 0) m 0 σ 48 x = if b ≤ x ∧ x < b + m then 0 else σ 48 x := by
  intro m
  induction m with
  | zero => intro x; rw [if_neg (by omega)]; rfl
  | succ m ih =>
    intro x
    rw [fo_snoc]
    show mup _ 48 (b + (0 + m)) 0 48 x = _
    rw [mup_kk, Nat.zero_add]
    by_cases c : x = b + m
    · rw [if_pos c, if_pos (by omega)]
    · rw [if_neg c, ih x]
      by_cases c2 : b ≤ x ∧ x < b + m
      · rw [if_pos c2, if_pos (by omega)]
      · rw [if_neg c2, if_neg (by omega)]
theorem shS_o {σ : ST} {s : Nat} {sort n : Int32} {k : Nat} (hk : k ≠ 48) : shS σ s sort n k = shC σ s sort n k := by
  unfold shS
  exact fo_key (fun i a => if_neg hk) _ _ _
theorem shS_kO {σ : ST} {s : Nat} {sort n : Int32} {k : Nat} (hk : k < 45 ∨ 48 < k) : shS σ s sort n k = σ k := by
  rw [shS_o (by omega)]
  unfold shC
  rw [mup_k (by omega), mup_k (by omega), mup_k (by omega)]
theorem shS_45 {σ : ST} {s : Nat} {sort n : Int32} (j : Nat) : shS σ s sort n 45 j = if j = s then (if sort < 0 then 0 else 1) else σ 45 j := by
  rw [shS_o (by decide)]
  show mup σ 45 s (if sort < 0 then 0 else 1) 45 j = _
  rw [mup_kk]
theorem shS_46 {σ : ST} {s : Nat} {sort n : Int32} (j : Nat) : shS σ s sort n 46 j = if j = s then sort else σ 46 j := by
  rw [shS_o (by decide)]
  show mup (mup σ 45 s (if sort < 0 then 0 else 1)) 46 s sort 46 j = _
  rw [mup_kk]
  rfl
theorem shS_47 {σ : ST} {s : Nat} {sort n : Int32} (j : Nat) : shS σ s sort n 47 j = if j = s then n else σ 47 j := by
  rw [shS_o (by decide)]
  show mup (mup (mup σ 45 s (if sort < 0 then 0 else 1)) 46 s sort) 47 s n 47 j = _
  rw [mup_kk]
  rfl
theorem shS_48 {σ : ST} {s : Nat} {sort n : Int32} (x : Nat) : shS σ s sort n 48 x = if 40 * s ≤ x ∧ x < 40 * s + (if sort < 0 then 0 else n.toNatClampNeg) then 0 else σ 48 x := by
  unfold shS
  rw [fo48]
  rfl
theorem agr_keys {κ σ σ' : ST} (ha : Agr κ σ) (h : ∀ k, k < 45 ∨ 48 < k → σ' k = σ k) : Agr κ σ' := by
  obtain ⟨a1, a2, a3, a4⟩ := ha
  refine ⟨fun k hk => ?_, fun j hj => ?_, fun k hk => ?_, ?_⟩
  · have : k < 45 := by
      simp only [List.mem_cons, List.not_mem_nil, or_false] at hk
      omega
    rw [h k (by omega)]; exact a1 k hk
  · rw [h 8 (by omega)]; exact a2 j hj
  · rw [h k (by omega)]; exact a3 k hk
  · rw [h 6 (by omega), h 5 (by omega)]; exact a4
section CH2
variable {f : Nat} {sa : Nat → Nat} {x : Nat} {ca : Nat → Nat} {Md : Nat → Prop} {b0 : zH} {G : TG} {pa : Nat → Nat} {rw : Nat → Option Nat} {σ : ST} {h : zH} {K : Int32 → zH → Prop} {κ : ST} {lab : Nat → Nat}
theorem C_setrow (hH : WH σ) (a1 : Agr κ σ) (a2 : Cx x ca κ lab h) (a3 : Ci ca κ lab h) (a4 : Cr sa ca lab h) (a5 : Cp ca pa σ lab h) (a6 : Cs ca rw lab h) (a7 : Cw rw σ lab h) (a8 : Ct x ca G σ lab h) (a9 : Cf ca lab h) (a10 : Cm Md b0 lab h) {s : Nat} (hs : s < 4) {sort n : Int32} (hn : n.toInt ≤ 40 ∨ sort < 0) {r : Option Nat} (hr : (sort < 0 ∧ r = none) ∨ (¬ sort < 0 ∧ ∃ q, r = some q ∧ h q = some (.inl (rty sort, n.toNatClampNeg, .inl (fun _ => 0))) ∧ lab q = 1200 + s)) {P : zH → Prop} (kk : ∀ h', Ch sa x ca Md b0 G pa (rwN rw s r) (shS σ s sort n) h' → P h') : pf h (some (ca (340 + s))) [11] 0 (va_rf r) P := by
  obtain ⟨hc, lx⟩ := a6 s hs
  have n40 : (if sort < 0 then 0 else n.toNatClampNeg) ≤ 40 := by
    by_cases c : sort < 0
    · rw [if_pos c]; omega
    · rw [if_neg c]
      have := hn.resolve_right c
      show n.toInt.toNat ≤ 40
      omega
  refine ⟨ca (340 + s), 11, _, rfl, hc, by simp, by simp, kk _ ?_⟩
  show Ch sa x ca Md b0 G pa (rwN rw s r) (shS σ s sort n) (hup h (ca (340 + s)) (.inr (11, [va_rf r])))
  have b5 := a5.up (a := ca (340 + s)) (e := .inr (11, [va_rf r])) (by rw [lx]; omega) (fun p _ => by rw [lx]; omega)
  have b7 := a7.up (a := ca (340 + s)) (e := .inr (11, [va_rf r])) (fun s' _ => by rw [lx]; omega)
  have b8 := a8.up (a := ca (340 + s)) (e := .inr (11, [va_rf r])) (by rw [lx]; omega) (by rw [lx]; omega) a10.2.2 (by rw [lx]; omega)
  refine ⟨κ, lab, agr_keys a1 fun k hk => shS_kO hk, a2.up (by rw [lx]; omega), a3.up (fun e he => by rw [lx]; have := cia_le e he; omega), a4.up (fun e he => by rw [lx]; have := cra_le e he; omega), ?_, fun s' hs' => ?_, fun s' hs' => ?_, ?_, a9.up (by rw [lx]; omega), a10.up (by rw [lx]; omega) (isN_no (Or.inr (by decide)))⟩
  · have en : nP (shS σ s sort n) = nP σ := by unfold nP; rw [shS_kO (by omega)]
    have ep : ∀ p, pcl (shS σ s sort n) p = pcl σ p := fun p => by
      unfold pcl
      rw [shS_kO (by omega), shS_kO (by omega), shS_kO (by omega), shS_kO (by omega)]
    unfold Cp
    rw [en]
    exact ⟨b5.1, fun p hp => by rw [ep]; exact b5.2 p hp⟩
  · refine ⟨?_, (a6 s' hs').2⟩
    unfold rwN
    by_cases c : s' = s
    · rw [if_pos c, c]; exact hup_self _ _ _
    · rw [if_neg c, hup_lab (lab := lab) (by rw [(a6 s' hs').2, lx]; omega)]
      exact (a6 s' hs').1
  · unfold rwN
    rw [shS_45, shS_46, shS_47]
    by_cases c : s' = s
    · rw [if_pos c, if_pos c, if_pos c, if_pos c]
      rcases hr with ⟨c1, c2⟩ | ⟨c1, q, c2, c3, c4⟩
      · rw [if_pos c1]
        exact ⟨fun _ => c2, fun z => absurd rfl z⟩
      · rw [if_neg c1]
        refine ⟨fun z => absurd z (by decide), fun _ => ⟨q, fun _ => 0, c2, ?_, by rw [c]; exact c4, fun i hi => ?_⟩⟩
        · rw [hup_lab (lab := lab) (by rw [c4, lx]; omega)]; exact c3
        · rw [shS_48, if_neg c1, if_pos (by rw [c]; omega)]
    · rw [if_neg c, if_neg c, if_neg c, if_neg c]
      refine ⟨(b7 s' hs').1, fun z => ?_⟩
      obtain ⟨q, g, c1, c2, c3, c4⟩ := (b7 s' hs').2 z
      refine ⟨q, g, c1, c2, c3, fun i hi => ?_⟩
      have l40 : (σ 47 s').toNatClampNeg ≤ 40 := by
        rcases hH s' hs' with y | ⟨-, ⟨m, hm, em⟩, -⟩
        · exact absurd y z
        · rw [em, nI_clamp (by omega)]; exact hm
      rw [shS_48, if_neg (by omega)]
      exact c4 i hi
  · unfold Ct at b8 ⊢
    rw [shS_kO (by omega)]
    exact b8
theorem C_t34 (hh : Ch sa x ca Md b0 G pa rw σ h) {s : Nat} (hs : s < 4) (P : Option Nat → Prop) : aldR h (some (ca 34)) 11 (nI s) P = P (some (ca (340 + s))) := by
  rw [C_ldR hh (show (34, 11, 4) ∈ cra by decide) (by decide), nI_clamp (by omega)]
  have e : crf sa ca 34 s = some (ca (340 + s)) := rfl
  rw [e]
  exact propext ⟨fun z => z.2, fun z => ⟨vp_in_nI (by omega) (by omega), z⟩⟩
theorem D_sheet (hH : WH σ) (hh : Ch sa x ca Md b0 G pa rw σ h) {mc ms : Nat} (hmc : 8 ≤ mc) (hms : 2000 ≤ ms) {s sort n : Int32} (k0 : ¬ shOk s sort n → K (-2) h) (k14 : shOk s sort n → ¬ sort = -1 → n < 0 → K (-14) h) (kk : ∀ sn : Nat, sn < 4 → s = nI sn → shOk s sort n → (sort = -1 ∨ ¬ n < 0) → ∀ r h', Ch sa x ca Md b0 G pa (rwN rw sn r) (shS σ sn sort n) h' → K 1 h') : zf0_sheet f h mc ms (some x) s sort n K := by
  unfold shOk at k0 k14 kk
  unfold zf0_sheet
  rw [q_sh0]
  simp only [ite10, ifn]
  by_cases c1 : 0 ≤ s.toInt ∧ s.toInt ≤ 3
  · rw [if_pos c1, q_inC (-1) 2 (by decide) (by decide)]
    simp only [ite10, ifn]
    obtain ⟨sn, hsn, -, rfl, -⟩ := nI_bt (x := s) (u := 3) c1
    have hsn : sn < 4 := by omega
    by_cases c2 : -1 ≤ sort.toInt ∧ sort.toInt ≤ 2
    · rw [if_pos c2]
      by_cases cm : sort = -1
      · rw [if_pos cm]
        unfold zj0_sheet_35
        rw [if_pos cm]
        simp only [zcQ hh, C_t34 hh hsn]
        have kk := fun h' => kk sn hsn rfl ⟨c1, c2, Or.inl cm⟩ (Or.inl cm) none h'
        have neg : sort < 0 := by rw [cm]; decide
        obtain ⟨κ, lab, a1, a2, a3, a4, a5, a6, a7, a8, a9, a10⟩ := hh
        exact C_setrow hH a1 a2 a3 a4 a5 a6 a7 a8 a9 a10 hsn (Or.inr neg) (Or.inl ⟨neg, rfl⟩) kk
      · rw [if_neg cm]
        have s0 : ¬ sort < 0 := fun z => by
          rw [Int32.lt_iff_toInt_lt] at z
          have : sort.toInt = -1 := by
            have e0 : (0 : Int32).toInt = 0 := rfl
            omega
          exact cm (Int32.toInt_inj.mp (by rw [this]; rfl))
        by_cases c40 : 40 < n
        · rw [if_pos c40]
          refine k0 (fun z => ?_)
          have := z.2.2.resolve_left cm
          rw [Int32.lt_iff_toInt_lt] at c40
          have e40 : (40 : Int32).toInt = 40 := rfl
          omega
        · rw [if_neg c40]
          have n40 : n.toInt ≤ 40 := by
            rw [Int32.lt_iff_toInt_lt] at c40
            have e40 : (40 : Int32).toInt = 40 := rfl
            omega
          have ok : shOk (nI sn) sort n := ⟨c1, c2, Or.inr n40⟩
          unfold zj0_sheet_35
          rw [if_neg cm]
          simp only [zcQ hh, C_t34 hh hsn]
          refine ⟨8, 2000, hmc, hms, ?_⟩
          unfold zf0_rowOf
          by_cases cn : n < 0
          · rw [if_pos cn]
            exact ⟨by decide, by decide, fun _ => k14 ok cm cn⟩
          · rw [if_neg cn]
            have n40' : n.toNatClampNeg ≤ 40 := by
              show n.toInt.toNat ≤ 40
              omega
            refine ⟨cn, by omega, by decide, by omega, fun q hq => ?_⟩
            obtain ⟨κ, lab, a1, a2, a3, a4, a5, a6, a7, a8, a9, a10, lq, -, -⟩ := Ch_alloc hh hq (e := .inl (zty3 sort, n.toNatClampNeg, .inl (fun _ => 0))) isN_noA (L := 1200 + sn) (by omega)
            exact C_setrow hH a1 a2 a3 a4 a5 a6 a7 a8 a9 a10 hsn (Or.inl n40) (Or.inr ⟨s0, q, rfl, hup_self _ _ _, lq⟩) fun h' hh' => kk sn hsn rfl ok (Or.inr cn) (some q) h' hh'
    · rw [if_neg c2]
      exact k0 (fun z => c2 z.2.1)
  · rw [if_neg c1]
    exact k0 (fun z => c1 z.1)
end CH2
