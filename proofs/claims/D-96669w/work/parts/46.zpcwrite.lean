/-! THE CLASS's HEAP: its writes -/
set_option maxRecDepth 100000
/-- what does not show outside the object's own fields and arrays -/
def SameP (σ' σ : ST) : Prop := nP σ' = nP σ ∧ (∀ p, p < nP σ → pcl σ' p = pcl σ p) ∧ (∀ s, s < 4 → σ' 45 s = σ 45 s ∧ (σ 45 s ≠ 0 → σ' 46 s = σ 46 s ∧ σ' 47 s = σ 47 s ∧ ∀ i, i < (σ 47 s).toNatClampNeg → σ' 48 (40 * s + i) = σ 48 (40 * s + i))) ∧ σ' 3 0 = σ 3 0
theorem sameP_rfl {σ : ST} : SameP σ σ := ⟨rfl, fun _ _ => rfl, fun _ _ => ⟨rfl, fun _ => ⟨rfl, rfl, fun _ _ => rfl⟩⟩, rfl⟩
theorem mup_k {σ : ST} {k j i : Nat} {v : Int32} (h : j ≠ k) : mup σ k i v j = σ j := if_neg h
theorem mup_kk {σ : ST} {k i j : Nat} {v : Int32} : mup σ k i v k j = if j = i then v else σ k j := by
  unfold mup
  rw [if_pos rfl]
  rfl
theorem sameP_mup {σ : ST} {q i : Nat} {v : Int32} (hq : q ∉ ([3, 10, 11, 13, 45, 46, 47, 48, 110, 111] : List Nat)) : SameP (mup σ q i v) σ := by
  simp only [List.mem_cons, List.not_mem_nil, or_false, not_or] at hq
  obtain ⟨h3, h10, h11, h13, h45, h46, h47, h48, h110, h111⟩ := hq
  refine ⟨?_, fun p _ => ?_, fun s _ => ⟨?_, fun _ => ⟨?_, ?_, fun j _ => ?_⟩⟩, ?_⟩
  · unfold nP; rw [mup_k (Ne.symm h13)]
  · unfold pcl; rw [mup_k (Ne.symm h10), mup_k (Ne.symm h11), mup_k (Ne.symm h110), mup_k (Ne.symm h111)]
  · rw [mup_k (Ne.symm h45)]
  · rw [mup_k (Ne.symm h46)]
  · rw [mup_k (Ne.symm h47)]
  · rw [mup_k (Ne.symm h48)]
  · rw [mup_k (Ne.symm h3)]
theorem agr_mup {κ σ : ST} {q i : Nat} {v : Int32} (ha : Agr κ σ) (h213 : q ≠ 213) (h5 : q ≠ 5) (h6 : q ≠ 6) : Agr (mup κ q i v) (mup σ q i v) := by
  obtain ⟨a1, a2, a3, a4⟩ := ha
  refine ⟨fun k hk => ?_, fun j hj => ?_, fun k hk => ?_, ?_⟩
  · by_cases e : k = q
    · subst e; rw [mup_kk, mup_kk]
      by_cases z : 0 = i
      · rw [if_pos z, if_pos z]
      · rw [if_neg z, if_neg z]; exact a1 k hk
    · rw [mup_k e, mup_k e]; exact a1 k hk
  · by_cases e : 8 = q
    · subst e; rw [mup_kk, mup_kk]
      by_cases z : j = i
      · rw [if_pos z, if_pos z]
      · rw [if_neg z, if_neg z]; exact a2 j hj
    · rw [mup_k e, mup_k e]; exact a2 j hj
  · by_cases e : k = q
    · subst e; funext j; rw [mup_kk, mup_kk, a3 k hk]
    · rw [mup_k e, mup_k e]; exact a3 k hk
  · rw [mup_k (Ne.symm h213), mup_k (Ne.symm h5), mup_k (Ne.symm h6)]; exact a4
/-- a scratch field -/
theorem agr_scr {κ σ : ST} {q i : Nat} {v : Int32} (ha : Agr κ σ) (hq : 200 < q ∧ q ≤ 220 ∧ q ≠ 213) : Agr (mup κ q i v) σ := by
  obtain ⟨a1, a2, a3, a4⟩ := ha
  refine ⟨fun k hk => ?_, fun j hj => ?_, fun k hk => ?_, ?_⟩
  · have : k < 200 := by
      simp only [List.mem_cons, List.not_mem_nil, or_false] at hk
      omega
    rw [mup_k (by omega)]; exact a1 k hk
  · rw [mup_k (by omega)]; exact a2 j hj
  · rw [mup_k (by omega)]; exact a3 k hk
  · rw [mup_k (Ne.symm hq.2.2)]; exact a4
/-- a field of σ that the class's own fields don't show -/
theorem agr_oth {κ σ : ST} {q i : Nat} {v : Int32} (ha : Agr κ σ) (hq : q < 200) (h2 : q ∉ ([3, 4, 5, 6, 7, 8, 13] : List Nat)) : Agr κ (mup σ q i v) := by
  obtain ⟨a1, a2, a3, a4⟩ := ha
  simp only [List.mem_cons, List.not_mem_nil, or_false, not_or] at h2
  refine ⟨fun k hk => ?_, fun j hj => ?_, fun k hk => ?_, ?_⟩
  · have : k ≠ q := by
      simp only [List.mem_cons, List.not_mem_nil, or_false] at hk
      omega
    rw [mup_k this]; exact a1 k hk
  · rw [mup_k (by omega)]; exact a2 j hj
  · rw [mup_k (by omega)]; exact a3 k hk
  · rw [mup_k (by omega), mup_k (by omega)]; exact a4
theorem cfs_set {ca : Nat → Nat} {κ : ST} {k q : Nat} (h : (k, q) ∈ csc) (v : Int32) : (cfs ca κ).set k (.int v) = cfs ca (mup κ q 0 v) ∧ k < 35 := by
  have h : (k, q) ∈ ([(1, 13), (2, 7), (5, 205), (6, 206), (7, 207), (8, 208), (10, 3), (14, 6), (15, 215), (16, 216), (17, 217), (18, 218), (19, 219), (20, 220), (21, 4), (25, 225), (26, 226), (27, 227), (28, 228), (30, 230)] : List (Nat × Nat)) := h
  simp only [List.mem_cons, List.not_mem_nil, or_false, Prod.mk.injEq] at h
  rcases h with ⟨rfl, rfl⟩ | ⟨rfl, rfl⟩ | ⟨rfl, rfl⟩ | ⟨rfl, rfl⟩ | ⟨rfl, rfl⟩ | ⟨rfl, rfl⟩ | ⟨rfl, rfl⟩ | ⟨rfl, rfl⟩ | ⟨rfl, rfl⟩ | ⟨rfl, rfl⟩ | ⟨rfl, rfl⟩ | ⟨rfl, rfl⟩ | ⟨rfl, rfl⟩ | ⟨rfl, rfl⟩ | ⟨rfl, rfl⟩ | ⟨rfl, rfl⟩ | ⟨rfl, rfl⟩ | ⟨rfl, rfl⟩ | ⟨rfl, rfl⟩ | ⟨rfl, rfl⟩ <;> exact ⟨by simp [cfs, mup, upd], by decide⟩
theorem cfs_mup {ca : Nat → Nat} {κ : ST} {k i : Nat} {v : Int32} (h : k ∈ cia.map (·.1)) : cfs ca (mup κ k i v) = cfs ca κ := by
  have hk : ∀ q, q ∈ ([13, 7, 205, 206, 207, 208, 3, 6, 215, 216, 217, 218, 219, 220, 4, 225, 226, 227, 228, 230] : List Nat) → q ≠ k := by
    intro q hq e
    subst e
    revert h
    have key : ∀ q, q ∈ ([13, 7, 205, 206, 207, 208, 3, 6, 215, 216, 217, 218, 219, 220, 4, 225, 226, 227, 228, 230] : List Nat) → ¬ q ∈ cia.map (·.1) := by decide
    exact key q hq
  unfold cfs
  simp only [mup_k (hk 13 (by decide)), mup_k (hk 7 (by decide)), mup_k (hk 205 (by decide)), mup_k (hk 206 (by decide)), mup_k (hk 207 (by decide)), mup_k (hk 208 (by decide)), mup_k (hk 3 (by decide)), mup_k (hk 6 (by decide)), mup_k (hk 215 (by decide)), mup_k (hk 216 (by decide)), mup_k (hk 217 (by decide)), mup_k (hk 218 (by decide)), mup_k (hk 219 (by decide)), mup_k (hk 220 (by decide)), mup_k (hk 4 (by decide)), mup_k (hk 225 (by decide)), mup_k (hk 226 (by decide)), mup_k (hk 227 (by decide)), mup_k (hk 228 (by decide)), mup_k (hk 230 (by decide))]
theorem csc_cia : ∀ e ∈ csc, ∀ e' ∈ cia, e'.1 ≠ e.2 := by decide
section CW
variable {sa : Nat → Nat} {x : Nat} {ca : Nat → Nat} {Md : Nat → Prop} {b0 : zH} {G : TG} {pa : Nat → Nat} {rw : Nat → Option Nat} {σ σ' : ST} {h : zH}
/-- a scalar of the object -/
theorem C_pfX (hh : Ch sa x ca Md b0 G pa rw σ h) {k q : Nat} (hkq : (k, q) ∈ csc) {v : Int32} {P : zH → Prop} (ha : ∀ κ, Agr κ σ → (∀ e ∈ cia, h (ca e.1) = some (.inl (e.2.1, e.2.2, .inl (κ e.1)))) → Agr (mup κ q 0 v) σ') (sp : SameP σ' σ) (kk : ∀ h', Ch sa x ca Md b0 G pa rw σ' h' → P h') : pf h (some x) [0] k (.int v) P := by
  obtain ⟨κ, lab, a1, a2, a3, a4, a5, a6, a7, a8, a9, a10⟩ := hh
  obtain ⟨e1, e2⟩ := cfs_set (ca := ca) (κ := κ) hkq v
  refine ⟨x, 0, _, rfl, a2.1, by simp, e2, kk _ ?_⟩
  rw [e1]
  have lx := a2.2
  have g : Ch sa x ca Md b0 G pa rw σ' (hup h x (.inr (0, cfs ca (mup κ q 0 v)))) := by
    have h5 := a5.up (a := x) (e := .inr (0, cfs ca (mup κ q 0 v))) (by rw [lx]; decide) (fun p _ => by rw [lx]; omega)
    have h7 := a7.up (a := x) (e := .inr (0, cfs ca (mup κ q 0 v))) (fun s _ => by rw [lx]; omega)
    have h8 := a8.up (a := x) (e := .inr (0, cfs ca (mup κ q 0 v))) (by rw [lx]; decide) (by rw [lx]; decide) a10.2.2 (by rw [lx]; decide)
    refine ⟨mup κ q 0 v, lab, ha κ a1 (fun e he => (a3 e he).1), ⟨hup_self _ _ _, lx⟩, ?_, a4.up (fun e _ => by rw [lx]; omega), ?_, a6.up (fun s _ => by rw [lx]; omega), ?_, ?_, a9.up (by rw [lx]; decide), a10.up (by rw [lx]; decide) (isN_no (by omega))⟩
    · have := a3.up (a := x) (e := .inr (0, cfs ca (mup κ q 0 v))) (fun e _ => by rw [lx]; omega)
      intro e he
      rw [mup_k (csc_cia _ hkq e he)]
      exact this e he
    · unfold Cp at h5 ⊢
      rw [sp.1]
      exact ⟨h5.1, fun p hp => by rw [sp.2.1 p hp]; exact h5.2 p hp⟩
    · intro s hs
      obtain ⟨b1, b2⟩ := sp.2.2.1 s hs
      rw [b1]
      refine ⟨(h7 s hs).1, fun z => ?_⟩
      obtain ⟨q, g, c1, c2, c3, c4⟩ := (h7 s hs).2 z
      obtain ⟨d1, d2, d3⟩ := b2 z
      exact ⟨q, g, c1, by rw [d1, d2]; exact c2, c3, fun i hi => by rw [d2] at hi; rw [d3 i hi]; exact c4 i hi⟩
    · unfold Ct at h8 ⊢
      rw [sp.2.2.2]
      exact h8
  exact g
theorem C_pf (hh : Ch sa x ca Md b0 G pa rw σ h) {k q : Nat} (hkq : (k, q) ∈ csc) {v : Int32} {P : zH → Prop} (ha : ∀ κ, Agr κ σ → Agr (mup κ q 0 v) σ') (sp : SameP σ' σ) (kk : ∀ h', Ch sa x ca Md b0 G pa rw σ' h' → P h') : pf h (some x) [0] k (.int v) P := C_pfX hh hkq (fun κ a _ => ha κ a) sp kk
/-- an int-like array's place -/
theorem C_st (hh : Ch sa x ca Md b0 G pa rw σ h) {k t n : Nat} (hk : (k, t, n) ∈ cia) {i v : Int32} {P : zH → Prop} (hi : vp_in i n) (ha : ∀ κ, Agr κ σ → Agr (mup κ k i.toNatClampNeg v) σ') (sp : SameP σ' σ) (kk : ∀ h', Ch sa x ca Md b0 G pa rw σ' h' → P h') : astI h (some (ca k)) t i v P := by
  obtain ⟨κ, lab, a1, a2, a3, a4, a5, a6, a7, a8, a9, a10⟩ := hh
  have lx := (a3 _ hk).2
  have lx : lab (ca k) = 100 + k := lx
  have hb := cia_le _ hk
  have hb : k < 400 ∧ k ≠ 0 ∧ k ≠ 4 ∧ k ≠ 9 ∧ (k < 340 ∨ 343 < k) := hb
  refine ⟨ca k, n, _, rfl, (a3 _ hk).1, hi, kk _ ?_⟩
  have eu : upd (κ k) i.toNatClampNeg v = mup κ k i.toNatClampNeg v k := mup_self.symm
  show Ch sa x ca Md b0 G pa rw σ' (hup h (ca k) (.inl (t, n, .inl (upd (κ k) i.toNatClampNeg v))))
  rw [eu]
  have h5 := a5.up (a := ca k) (e := .inl (t, n, .inl (mup κ k i.toNatClampNeg v k))) (by rw [lx]; omega) (fun p _ => by rw [lx]; omega)
  have h7 := a7.up (a := ca k) (e := .inl (t, n, .inl (mup κ k i.toNatClampNeg v k))) (fun s _ => by rw [lx]; omega)
  have h8 := a8.up (a := ca k) (e := .inl (t, n, .inl (mup κ k i.toNatClampNeg v k))) (by rw [lx]; omega) (by rw [lx]; omega) a10.2.2 (by rw [lx]; omega)
  refine ⟨mup κ k i.toNatClampNeg v, lab, ha κ a1, ?_, ?_, a4.up (fun e he => by rw [lx]; have := cia_cra _ hk e he; have : k ≠ e.1 := this; omega), ?_, a6.up (fun s hs => by rw [lx]; omega), ?_, ?_, a9.up (by rw [lx]; omega), a10.up (by rw [lx]; omega) isN_noA⟩
  · have := a2.up (a := ca k) (e := .inl (t, n, .inl (mup κ k i.toNatClampNeg v k))) (by rw [lx]; omega)
    unfold Cx at this ⊢
    rw [cfs_mup (List.mem_map.mpr ⟨_, hk, rfl⟩)]
    exact this
  · intro e he
    by_cases z : e.1 = k
    · have e2 : e = (k, t, n) := cia_inj e he _ hk z
      rw [e2]
      exact ⟨hup_self _ _ _, lx⟩
    · refine ⟨?_, (a3 e he).2⟩
      rw [hup_lab (lab := lab) (by rw [(a3 e he).2, lx]; omega), mup_k z]
      exact (a3 e he).1
  · unfold Cp at h5 ⊢
    rw [sp.1]
    exact ⟨h5.1, fun p hp => by rw [sp.2.1 p hp]; exact h5.2 p hp⟩
  · intro s hs
    obtain ⟨b1, b2⟩ := sp.2.2.1 s hs
    rw [b1]
    refine ⟨(h7 s hs).1, fun z => ?_⟩
    obtain ⟨q, g, c1, c2, c3, c4⟩ := (h7 s hs).2 z
    obtain ⟨d1, d2, d3⟩ := b2 z
    exact ⟨q, g, c1, by rw [d1, d2]; exact c2, c3, fun i hi => by rw [d2] at hi; rw [d3 i hi]; exact c4 i hi⟩
  · unfold Ct at h8 ⊢
    rw [sp.2.2.2]
    exact h8
/-- a pane's field -/
theorem C_pp (hh : Ch sa x ca Md b0 G pa rw σ h) (h6 : nP σ ≤ 6) {p j : Nat} (hp : p < nP σ) {cs : List Nat} (hc : kcl (σ 10 p) ∈ cs) (hj : j < 5) (hk7 : kcl (σ 10 p) < 7) {v : Int32} {P : zH → Prop} (ha : ∀ κ, Agr κ σ → Agr κ σ') (hP : pcl σ' p = .inr (kcl (σ 10 p), ([.int (σ 11 (3 * p)), .int (σ 11 (3 * p + 1)), .int (σ 11 (3 * p + 2)), .int (σ 110 p), .int (σ 111 p)] : List Value).set j (.int v))) (ho : ∀ q, q < nP σ → q ≠ p → pcl σ' q = pcl σ q) (hn : nP σ' = nP σ) (hs : ∀ k, 45 ≤ k → k ≤ 48 → σ' k = σ k) (h3 : σ' 3 0 = σ 3 0) (kk : ∀ h', Ch sa x ca Md b0 G pa rw σ' h' → P h') : pf h (some (pa p)) cs j (.int v) P := by
  obtain ⟨κ, lab, a1, a2, a3, a4, a5, a6, a7, a8, a9, a10⟩ := hh
  obtain ⟨hc1, lx⟩ := a5.2 p hp
  refine ⟨pa p, _, _, rfl, hc1, hc, hj, kk _ ?_⟩
  rw [← hP]
  have nN : ¬ isN (pcl σ' p) := by rw [hP]; exact isN_no (Or.inl hk7)
  have h8 := a8.up (a := pa p) (e := pcl σ' p) (by rw [lx]; omega) (by rw [lx]; omega) a10.2.2 (by rw [lx]; omega)
  refine ⟨κ, lab, ha κ a1, a2.up (by rw [lx]; omega), a3.up (fun e he => by rw [lx]; have := cia_le e he; omega), a4.up (fun e he => by rw [lx]; have := cra_le e he; omega), ?_, a6.up (fun s hs => by rw [lx]; omega), ?_, ?_, a9.up (by rw [lx]; omega), a10.up (by rw [lx]; omega) nN⟩
  · unfold Cp
    rw [hn]
    refine ⟨⟨by rw [hup_lab (lab := lab) (by rw [a5.1.2, lx]; omega)]; exact a5.1.1, a5.1.2⟩, fun q hq => ⟨?_, (a5.2 q hq).2⟩⟩
    by_cases z : q = p
    · rw [z]; exact hup_self _ _ _
    · rw [hup_lab (lab := lab) (by rw [(a5.2 q hq).2, lx]; omega), ho q hq z]
      exact (a5.2 q hq).1
  · have h7 := a7.up (a := pa p) (e := pcl σ' p) (fun s hs => by rw [lx]; omega)
    unfold Cw at h7 ⊢
    rw [hs 45 (by omega) (by omega), hs 46 (by omega) (by omega), hs 47 (by omega) (by omega), hs 48 (by omega) (by omega)]
    exact h7
  · unfold Ct at h8 ⊢
    rw [h3]
    exact h8
end CW
