/-! THE CLASS's CALLS: tells -/
set_option maxRecDepth 100000
section TS
variable {f : Nat} {sa : Nat → Nat} {x : Nat} {ca : Nat → Nat} {Md : Nat → Prop} {b0 : zH} {G : TG} {pa : Nat → Nat} {rw : Nat → Option Nat} {σ : ST} {h : zH} {K : Int32 → zH → Prop}
theorem Ct.r2 {lab lab' : Nat → Nat} {L : Nat} (hL : (1000 ≤ L ∧ L < 1100) ∨ L = 1400) (r : ∀ a, lab a ≠ 0 → lab a ≠ L → lab' a = lab a) (hh : Ct x ca G σ lab h) : Ct x ca G σ lab' h := by
  obtain ⟨tx, h1, h2⟩ := hh
  exact ⟨tx, ⟨h1.1, by rw [r _ (by rw [h1.2]; decide) (by rw [h1.2]; omega)]; exact h1.2⟩, fun t ht => ⟨by rw [r _ (by rw [(h2 t ht).1]; decide) (by rw [(h2 t ht).1]; omega)]; exact (h2 t ht).1, (h2 t ht).2⟩⟩
/-- another pane stands in a pane's place, which is laid aside -/
theorem C_swapIn (h6 : nP σ ≤ 6) {κ : ST} {lab : Nat → Nat} (hh : Cl sa x ca Md b0 G pa rw σ κ lab h) {p q : Nat} (hp : p < nP σ) (hq : h q = none) {v : Int32} (hv7 : kcl v < 7) {g : Nat → Option Nat} (hg : h (ca 0) = some (.inl (4, 6, pav g))) {H2 : zH} (eH2 : H2 = hup (hup h q (pcl (mup σ 10 p v) p)) (ca 0) (.inl (4, 6, pav (va_up g p (some q))))) : Ch sa x ca (fun a => Md a ∨ a = pa p) H2 G (paN pa p q) rw (mup σ 10 p v) H2 ∧ H2 (pa p) = some (pcl σ p) ∧ ¬ Md (pa p) ∧ (∀ a, Md a → H2 a = b0 a ∧ b0 a ≠ none) ∧ h (pa p) = some (pcl σ p) ∧ pa p ≠ q := by
  obtain ⟨a1, a2, a3, a4, a5, a6, a7, a8, a9, a10⟩ := hh
  have l0 : lab q = 0 := a10.2.1 q hq
  obtain ⟨⟨⟨g', g1, g2⟩, g3⟩, g4⟩ := a5
  rw [hg] at g1
  cases g1
  have lp := (g4 p hp).2
  have npq : pa p ≠ q := fun z => by rw [z, l0] at lp; omega
  have np0 : pa p ≠ ca 0 := fun z => by rw [z, g3] at lp; omega
  have nq0 : q ≠ ca 0 := fun z => by rw [z, g3] at l0; omega
  have nMp : ¬ Md (pa p) := fun z => by have := (a10.1 _ z).2.2; omega
  have nMq : ¬ Md q := fun z => (a10.1 q z).2.1 (by rw [← (a10.1 q z).1, hq])
  have nM0 : ¬ Md (ca 0) := fun z => by have := (a10.1 _ z).2.2; omega
  have eP : pcl (mup σ 10 p v) p = .inr (kcl v, [.int (σ 11 (3 * p)), .int (σ 11 (3 * p + 1)), .int (σ 11 (3 * p + 2)), .int (σ 110 p), .int (σ 111 p)]) := by
    unfold pcl
    rw [mup_kk, if_pos rfl, mup_k (by decide), mup_k (by decide), mup_k (by decide)]
  have nN : ¬ isN (pcl (mup σ 10 p v) p) := by rw [eP]; exact isN_no (Or.inl hv7)
  have cell : ∀ a, a ≠ q → a ≠ ca 0 → H2 a = h a := fun a n1 n2 => by rw [eH2, hup_ne _ _ n2, hup_ne _ _ n1]
  have r : ∀ a, lab a ≠ 0 → lab a ≠ 1000 + p → (fun a => if a = q then 1000 + p else if a = pa p then 0 else lab a) a = lab a := fun a n1 n2 => by
    show (if a = q then 1000 + p else if a = pa p then 0 else lab a) = lab a
    rw [if_neg (fun z => n1 (by rw [z]; exact l0)), if_neg (fun z => n2 (by rw [z]; exact lp))]
  have hL : (1000 ≤ 1000 + p ∧ 1000 + p < 1100) ∨ 1000 + p = 1400 := Or.inl ⟨by omega, by omega⟩
  have b2 := (a2.up (a := q) (e := pcl (mup σ 10 p v) p) (by omega)).up (a := ca 0) (e := .inl (4, 6, pav (va_up g p (some q)))) (by rw [g3]; decide)
  have b3 := (a3.up (a := q) (e := pcl (mup σ 10 p v) p) (fun _ _ => by omega)).up (a := ca 0) (e := .inl (4, 6, pav (va_up g p (some q)))) (fun e he => by rw [g3]; have := cia_le e he; omega)
  have b4 := (a4.up (a := q) (e := pcl (mup σ 10 p v) p) (fun _ _ => by omega)).up (a := ca 0) (e := .inl (4, 6, pav (va_up g p (some q)))) (fun e he => by rw [g3]; have := cra_le e he; omega)
  have b6 := (a6.up (a := q) (e := pcl (mup σ 10 p v) p) (fun _ _ => by omega)).up (a := ca 0) (e := .inl (4, 6, pav (va_up g p (some q)))) (fun s _ => by rw [g3]; omega)
  have b7 := (a7.up (a := q) (e := pcl (mup σ 10 p v) p) (fun _ _ => by omega)).up (a := ca 0) (e := .inl (4, 6, pav (va_up g p (some q)))) (fun s _ => by rw [g3]; omega)
  have hNode : ∀ q' e, hup h q (pcl (mup σ 10 p v) p) q' = some e → isN e → lab q' = 0 := fun q' e hq' hi => by
    by_cases z : q' = q
    · rw [z]; exact l0
    · rw [hup_ne _ _ z] at hq'; exact a10.2.2 q' e hq' hi
  have b8 := (a8.al hq (e := pcl (mup σ 10 p v) p)).up (a := ca 0) (e := .inl (4, 6, pav (va_up g p (some q)))) (by rw [g3]; decide) (by rw [g3]; decide) hNode (by rw [g3]; decide)
  have b9 := (a9.up (a := q) (e := pcl (mup σ 10 p v) p) (by omega)).up (a := ca 0) (e := .inl (4, 6, pav (va_up g p (some q)))) (by rw [g3]; decide)
  rw [← eH2] at b2 b3 b4 b6 b7 b8 b9
  have hMd : ∀ a, Md a → H2 a = b0 a ∧ b0 a ≠ none := fun a ha => by
    rw [cell a (fun z => nMq (by rw [← z]; exact ha)) (fun z => nM0 (by rw [← z]; exact ha))]
    exact ⟨(a10.1 a ha).1, (a10.1 a ha).2.1⟩
  have hold : H2 (pa p) = some (pcl σ p) := by rw [cell _ npq np0]; exact (g4 p hp).1
  have hQ : H2 q = some (pcl (mup σ 10 p v) p) := by rw [eH2, hup_ne _ _ nq0]; exact hup_self _ _ _
  refine ⟨⟨κ, fun a => if a = q then 1000 + p else if a = pa p then 0 else lab a, agr_oth a1 (by decide) (by decide), b2.r2 hL r, b3.r2 hL r, b4.r2 hL r, ⟨⟨⟨va_up g p (some q), ?_, fun p' hp' => ?_⟩, ?_⟩, fun p' hp' => ?_⟩, b6.r2 hL r, b7.r2 hL r, b8.r2 hL r, b9.r2 hL r, fun a ha => ?_, fun a ha => ?_, fun a e ha hi => ?_⟩, hold, nMp, hMd, (g4 p hp).1, npq⟩
  · rw [eH2]; exact hup_self _ _ _
  · show va_up g p (some q) p' = some (paN pa p q p')
    unfold paN
    by_cases z : p' = p
    · rw [if_pos z, z]; exact if_pos rfl
    · rw [if_neg z]
      have : va_up g p (some q) p' = g p' := if_neg z
      rw [this]
      exact g2 p' hp'
  · show (if ca 0 = q then 1000 + p else if ca 0 = pa p then 0 else lab (ca 0)) = 100
    rw [if_neg (fun z => nq0 z.symm), if_neg (fun z => np0 z.symm)]
    exact g3
  · have hp' : p' < nP σ := hp'
    unfold paN
    by_cases z : p' = p
    · subst z
      rw [if_pos rfl]
      exact ⟨hQ, if_pos rfl⟩
    · rw [if_neg z]
      have lp' := (g4 p' hp').2
      have n1 : pa p' ≠ q := fun y => by rw [y, l0] at lp'; omega
      have n2 : pa p' ≠ ca 0 := fun y => by rw [y, g3] at lp'; omega
      have n3 : pa p' ≠ pa p := fun y => by rw [y, lp] at lp'; omega
      have e : pcl (mup σ 10 p v) p' = pcl σ p' := by
        unfold pcl
        rw [mup_kk, if_neg z, mup_k (by decide), mup_k (by decide), mup_k (by decide)]
      refine ⟨by rw [cell _ n1 n2, e]; exact (g4 p' hp').1, ?_⟩
      show (if pa p' = q then 1000 + p else if pa p' = pa p then 0 else lab (pa p')) = 1000 + p'
      rw [if_neg n1, if_neg n3]
      exact lp'
  · refine ⟨rfl, ?_, ?_⟩
    · rcases ha with ha | ha
      · rw [(hMd a ha).1]; exact (hMd a ha).2
      · rw [ha, hold]; exact fun z => by cases z
    · show (if a = q then 1000 + p else if a = pa p then 0 else lab a) = 0
      rcases ha with ha | ha
      · rw [if_neg (fun z => nMq (by rw [← z]; exact ha)), if_neg (fun z => nMp (by rw [← z]; exact ha))]
        exact (a10.1 a ha).2.2
      · rw [if_neg (fun z => npq (by rw [← ha]; exact z)), if_pos ha]
  · have n1 : a ≠ q := fun z => by rw [z, hQ] at ha; cases ha
    have n2 : a ≠ ca 0 := fun z => by rw [z, eH2, hup_self] at ha; cases ha
    rw [cell a n1 n2] at ha
    show (if a = q then 1000 + p else if a = pa p then 0 else lab a) = 0
    rw [if_neg n1, a10.2.1 a ha]
    by_cases z : a = pa p
    · rw [if_pos z]
    · rw [if_neg z]
  · have n1 : a ≠ q := fun z => by rw [z, hQ] at ha; cases ha; exact nN hi
    have n2 : a ≠ ca 0 := fun z => by rw [z, eH2, hup_self] at ha; cases ha; exact isN_noA hi
    rw [cell a n1 n2] at ha
    show (if a = q then 1000 + p else if a = pa p then 0 else lab a) = 0
    rw [if_neg n1, a10.2.2 a e ha hi]
    by_cases z : a = pa p
    · rw [if_pos z]
    · rw [if_neg z]
/-- the pane is laid back -/
theorem C_swapOut (h6 : nP σ ≤ 6) {p q : Nat} (hp : p < nP σ) {v : Int32} {H2 H3 : zH} (hh : Ch sa x ca (fun a => Md a ∨ a = pa p) H2 G (paN pa p q) rw (mup σ 10 p v) H3) (hold : H2 (pa p) = some (pcl σ p)) (hk : kcl (σ 10 p) ∈ ([1, 2, 3, 4, 5, 6] : List Nat)) (nMp : ¬ Md (pa p)) (hMd : ∀ a, Md a → H2 a = b0 a ∧ b0 a ≠ none) (hpa : ∀ p', p' < nP σ → p' ≠ p → pa p' ≠ pa p) {P : zH → Prop} (kk : ∀ h', Ch sa x ca Md b0 G pa rw σ h' → P h') : asR H3 (some (ca 0)) 4 (nI p) (some (pa p)) [1, 2, 3, 4, 5, 6] P := by
  obtain ⟨κ, lab, a1, a2, a3, a4, a5, a6, a7, a8, a9, a10⟩ := hh
  obtain ⟨⟨⟨g, g1, g2⟩, g3⟩, g4⟩ := a5
  have hp10 : p < nP (mup σ 10 p v) := hp
  have l0 : lab (pa p) = 0 := (a10.1 (pa p) (Or.inr rfl)).2.2
  have hold3 : H3 (pa p) = some (pcl σ p) := by rw [(a10.1 (pa p) (Or.inr rfl)).1]; exact hold
  have np0 : pa p ≠ ca 0 := fun z => by rw [z, g3] at l0; omega
  refine ⟨Or.inr ⟨pa p, _, _, rfl, hold3, hk⟩, ca 0, 6, g, rfl, g1, vp_in_nI (by omega) (by omega), kk _ ?_⟩
  rw [nI_clamp (by omega)]
  have hL : (1000 ≤ 1000 + p ∧ 1000 + p < 1100) ∨ 1000 + p = 1400 := Or.inl ⟨by omega, by omega⟩
  have r : ∀ a, lab a ≠ 0 → lab a ≠ 1000 + p → (fun a => if a = pa p then 1000 + p else if lab a = 1000 + p then 0 else lab a) a = lab a := fun a n1 n2 => by
    show (if a = pa p then 1000 + p else if lab a = 1000 + p then 0 else lab a) = lab a
    rw [if_neg (fun z => n1 (by rw [z]; exact l0)), if_neg n2]
  have b2 := a2.up (a := ca 0) (e := .inl (4, 6, pav (va_up g p (some (pa p))))) (by rw [g3]; decide)
  have b3 := a3.up (a := ca 0) (e := .inl (4, 6, pav (va_up g p (some (pa p))))) (fun e he => by rw [g3]; have := cia_le e he; omega)
  have b4 := a4.up (a := ca 0) (e := .inl (4, 6, pav (va_up g p (some (pa p))))) (fun e he => by rw [g3]; have := cra_le e he; omega)
  have b6 := a6.up (a := ca 0) (e := .inl (4, 6, pav (va_up g p (some (pa p))))) (fun s _ => by rw [g3]; omega)
  have b7 := a7.up (a := ca 0) (e := .inl (4, 6, pav (va_up g p (some (pa p))))) (fun s _ => by rw [g3]; omega)
  have b8 := a8.up (a := ca 0) (e := .inl (4, 6, pav (va_up g p (some (pa p))))) (by rw [g3]; decide) (by rw [g3]; decide) a10.2.2 (by rw [g3]; decide)
  have b9 := a9.up (a := ca 0) (e := .inl (4, 6, pav (va_up g p (some (pa p))))) (by rw [g3]; decide)
  have hs0 : hup H3 (ca 0) (.inl (4, 6, pav (va_up g p (some (pa p))))) (ca 0) = some (.inl (4, 6, pav (va_up g p (some (pa p))))) := hup_self _ _ _
  have cell : ∀ a, a ≠ ca 0 → hup H3 (ca 0) (.inl (4, 6, pav (va_up g p (some (pa p))))) a = H3 a := fun a n => hup_ne _ _ n
  show Ch sa x ca Md b0 G pa rw σ (hup H3 (ca 0) (.inl (4, 6, pav (va_up g p (some (pa p))))))
  generalize hup H3 (ca 0) (.inl (4, 6, pav (va_up g p (some (pa p))))) = H4 at b2 b3 b4 b6 b7 b8 b9 hs0 cell ⊢
  have eσ : mup (mup σ 10 p v) 10 p (σ 10 p) = σ := mup_back σ 10 p v
  have aσ : Agr κ σ := by
    have := agr_oth (q := 10) (i := p) (v := σ 10 p) a1 (by decide) (by decide)
    rw [eσ] at this
    exact this
  refine ⟨κ, fun a => if a = pa p then 1000 + p else if lab a = 1000 + p then 0 else lab a, aσ, b2.r2 hL r, b3.r2 hL r, b4.r2 hL r, ⟨⟨⟨_, hs0, fun p' hp' => ?_⟩, ?_⟩, fun p' hp' => ?_⟩, b6.r2 hL r, b7.r2 hL r, ?_, b9.r2 hL r, fun a ha => ?_, fun a ha => ?_, fun a e ha hi => ?_⟩
  · by_cases z : p' = p
    · rw [z]; exact if_pos rfl
    · have e1 : va_up g p (some (pa p)) p' = g p' := if_neg z
      rw [e1, g2 p' hp']
      unfold paN
      rw [if_neg z]
  · show (if ca 0 = pa p then 1000 + p else if lab (ca 0) = 1000 + p then 0 else lab (ca 0)) = 100
    rw [if_neg (fun z => np0 z.symm), g3, if_neg (by omega)]
  · by_cases z : p' = p
    · subst z
      exact ⟨by rw [cell _ np0]; exact hold3, if_pos rfl⟩
    · have g5 := g4 p' hp'
      have e2 : paN pa p q p' = pa p' := if_neg z
      rw [e2] at g5
      have e : pcl (mup σ 10 p v) p' = pcl σ p' := by
        unfold pcl
        rw [mup_kk, if_neg z, mup_k (by decide), mup_k (by decide), mup_k (by decide)]
      rw [e] at g5
      refine ⟨by rw [cell _ (fun y => by have := g5.2; rw [y, g3] at this; omega)]; exact g5.1, ?_⟩
      show (if pa p' = pa p then 1000 + p else if lab (pa p') = 1000 + p then 0 else lab (pa p')) = 1000 + p'
      rw [if_neg (hpa p' hp' z), g5.2, if_neg (by omega)]
  · have := b8.r2 hL r
    exact this
  · have h1 := a10.1 a (Or.inl ha)
    have h2 := hMd a ha
    have n0 : a ≠ ca 0 := fun z => by have := h1.2.2; rw [z, g3] at this; omega
    refine ⟨by rw [cell a n0, h1.1]; exact h2.1, h2.2, ?_⟩
    show (if a = pa p then 1000 + p else if lab a = 1000 + p then 0 else lab a) = 0
    rw [if_neg (fun z => nMp (by rw [← z]; exact ha)), h1.2.2]
    rw [if_neg (by omega)]
  · have n0 : a ≠ ca 0 := fun z => by rw [z, hs0] at ha; cases ha
    rw [cell a n0] at ha
    show (if a = pa p then 1000 + p else if lab a = 1000 + p then 0 else lab a) = 0
    rw [if_neg (fun z => by rw [z, hold3] at ha; cases ha), a10.2.1 a ha, if_neg (by omega)]
  · have n0 : a ≠ ca 0 := fun z => by rw [z, hs0] at ha; cases ha; exact isN_noA hi
    rw [cell a n0] at ha
    show (if a = pa p then 1000 + p else if lab a = 1000 + p then 0 else lab a) = 0
    rw [if_neg (fun z => by
      rw [z, hold3] at ha
      cases ha
      refine isN_no (ci := kcl (σ 10 p)) (Or.inl ?_) hi
      simp only [List.mem_cons, List.not_mem_nil, or_false] at hk
      omega), a10.2.2 a e ha hi, if_neg (by omega)]
/-- panes' addresses are apart -/
theorem C_paN (hh : Ch sa x ca Md b0 G pa rw σ h) {p p' : Nat} (hp : p < nP σ) (hp' : p' < nP σ) (n : p' ≠ p) : pa p' ≠ pa p := by
  obtain ⟨κ, lab, a1, a2, a3, a4, a5, -⟩ := hh
  intro z
  have h1 := (a5.2 p hp).2
  have h2 := (a5.2 p' hp').2
  rw [z] at h2
  omega
/-- the first hour in which a row says otherwise -/
theorem C_other (hf : 400 ≤ f) (hW : WS σ) (hH : WH σ) (hh : Ch sa x ca Md b0 G pa rw σ h) {s p : Nat} (hs : s < 4) (hp : p < nP σ) (h1 : σ 45 s = 1) (h8 : σ 47 s = 8) {o : Int32} {mc ms : Nat} (kk : ∀ h', Ch sa x ca Md b0 G pa rw σ h' → K (foS G σ s p o) h') : zf0_otherwise f h mc ms (some x) (rw s) (nI p) o K := by
  have hn := (nP_eq hW).2
  have h1' : σ 45 s ≠ 0 := by rw [h1]; decide
  unfold zf0_otherwise
  have go : ∀ (j k g mc ms : Nat) (h : zH), k + j = 8 → j < g → Ch sa x ca Md b0 G pa rw σ h → (∀ h', Ch sa x ca Md b0 G pa rw σ h' → K (fi (fun h => decide (¬ lt G σ p o (nI h) = σ 48 (40 * s + h))) j k) h') → zl0_otherwise_3 f K g h mc ms (some x) (rw s) (nI p) o (nI k) := by
    intro j
    induction j with
    | zero =>
      intro k g mc ms h h1 h2 hh kk
      obtain ⟨g, rfl⟩ : ∃ g', g = g' + 1 := ⟨g - 1, by omega⟩
      show zb0_otherwise_3 f K (zl0_otherwise_3 f K g) h mc ms (some x) (rw s) (nI p) o (nI k)
      unfold zb0_otherwise_3
      rw [if_neg (show ¬ nI _ < 8 from fun z => by have := (nI_ltI (b := 8) (by omega) (by omega)).mp z; omega)]
      exact kk h hh
    | succ j ih =>
      intro k g mc ms h h1 h2 hh kk
      obtain ⟨g, rfl⟩ : ∃ g', g = g' + 1 := ⟨g - 1, by omega⟩
      show zb0_otherwise_3 f K (zl0_otherwise_3 f K g) h mc ms (some x) (rw s) (nI p) o (nI k)
      unfold zb0_otherwise_3
      rw [if_pos (show nI _ < 8 from (nI_ltI (b := 8) (by omega) (by omega)).mpr (by omega))]
      refine C_sort hH hh hs h1' ⟨0, 0, Nat.zero_le _, Nat.zero_le _, ?_⟩
      obtain ⟨a, g1, r1, r2, r3⟩ := C_row hh hs h1'
      have e8 : (σ 47 s).toNatClampNeg = 8 := by rw [h8]; decide
      unfold zf0_item zrw
      refine Or.inr ⟨a, _, _, g1, r1, r2, rty3 _, by rw [e8]; omega, ?_⟩
      show (if rty (σ 46 s) = zty3 (σ 46 s) then _ else _)
      rw [if_pos (show rty (σ 46 s) = zty3 (σ 46 s) from rfl), e8]
      have hv : vp_in (nI k) 8 := vp_in_nI (by omega) (by omega)
      refine ⟨fun _ => ?_, fun z => absurd hv z⟩
      rw [nI_clamp (by omega), r3 k (by omega)]
      simp only [zcQ hh]
      refine C_lightOf hW hh hp fun h2' hh2 => ?_
      have kk := kk
      unfold fi at kk
      by_cases c : σ 48 (40 * s + k) = lt G σ p o (nI k)
      · rw [if_pos c]
        rw [if_neg (by rw [decide_eq_true_iff]; exact fun z => z c.symm)] at kk
        simp only [nm_eq, nI_1]
        exact ih (k + 1) g _ _ h2' (by omega) (by omega) hh2 kk
      · rw [if_neg c]
        rw [if_pos (by rw [decide_eq_true_iff]; exact fun z => c z.symm)] at kk
        exact kk h2' hh2
  exact go 8 0 f _ _ h (by omega) (by omega) hh kk
/-- a hit, as a number -/
def hit (G : TG) (σ : ST) (s p : Nat) (o : Int32) (j v : Nat) : Bool := decide (foS G (laysS σ j p (nI v)) s p o = -1)
theorem foS_b {G : TG} {σ : ST} {s p : Nat} {o : Int32} {j v : Nat} {A B : Prop} : (if foS G (laysS σ j p (nI v)) s p o = -1 then A else B) = (if hit G σ s p o j v = true then A else B) := by
  unfold hit
  by_cases c : foS G (laysS σ j p (nI v)) s p o = -1
  · rw [if_pos c, if_pos (decide_eq_true c)]
  · rw [if_neg c, if_neg (fun z => c (of_decide_eq_true z))]
theorem lays5 (p : Nat) (v : Int32) : laysS σ 5 p v = mup σ 10 p v := rfl
theorem lays6 (p : Nat) (v : Int32) : laysS σ 6 p v = mup σ 4 0 v := rfl
theorem WH_of {σ' : ST} (hH : WH σ) (h45 : σ' 45 = σ 45) (h46 : σ' 46 = σ 46) (h47 : σ' 47 = σ 47) : WH σ' := by
  unfold WH
  rw [h45, h46, h47]
  exact hH
theorem lays_k {j p : Nat} {v : Int32} {k : Nat} (hk : k ≠ 7) (h8 : k ≠ 8) (h11 : k ≠ 11) (h10 : k ≠ 10) (h4 : k ≠ 4) : laysS σ j p v k = σ k := by
  unfold laysS
  by_cases c0 : j = 0
  · rw [if_pos c0, mup_k hk]
  · rw [if_neg c0]
    by_cases c1 : j = 1
    · rw [if_pos c1, mup_k h8]
    · rw [if_neg c1]
      by_cases c2 : j < 5
      · rw [if_pos c2, mup_k h11]
      · rw [if_neg c2]
        by_cases c3 : j = 5
        · rw [if_pos c3, mup_k h10]
        · rw [if_neg c3, mup_k h4]
theorem C_soAs (hf : 400 ≤ f) (hW : WS σ) (hH : WH σ) (hB : WB σ) (hh : Ch sa x ca Md b0 G pa rw σ h) {s p v : Nat} (hs : s < 4) (hp : p < nP σ) (h1 : σ 45 s = 1) (h8 : σ 47 s = 8) (hv : v < 6) {o : Int32} {mc ms : Nat} (hmc : 1 ≤ mc) (hms : 5 ≤ ms) (kk : ∀ h', Ch sa x ca Md b0 G pa rw σ h' → K (if hit G σ s p o 5 v = true then 1 else 0) h') : zf0_isSoAs f h mc ms (some x) (rw s) (nI p) o (nI v) K := by
  have hn := (nP_eq hW).2
  have hkc := kc6 hW (p := p) (by omega)
  have ekv : kcl (nI v) = v + 1 := by unfold kcl; rw [nI_clamp (by omega)]
  unfold zf0_isSoAs
  simp only [zcQ hh, C_pa hh hn hp]
  rw [C_pI hh hp hkc (k := 0) rfl, C_pI hh hp hkc (k := 1) rfl]
  refine ⟨1, 5, hmc, hms, C_made (by decide) (by decide) ⟨by rw [nI_toInt (by omega)]; omega, by rw [nI_toInt (by omega)]; omega⟩ fun q hq => ?_⟩
  have hop := C_pc hh hp
  have npq : pa p ≠ q := fun z => by rw [z, hq] at hop; cases hop
  obtain ⟨κ, lab, hC⟩ := id hh
  have hC : Cl sa x ca Md b0 G pa rw σ κ lab h := hC
  obtain ⟨⟨⟨g, g1, g2⟩, g3⟩, -⟩ := hC.2.2.2.2.1
  have eP : pcl (mup σ 10 p (nI v)) p = .inr (kcl (nI v), [.int (σ 11 (3 * p)), .int (σ 11 (3 * p + 1)), .int (σ 11 (3 * p + 2)), .int (σ 110 p), .int (σ 111 p)]) := by
    unfold pcl
    rw [mup_kk, if_pos rfl, mup_k (by decide), mup_k (by decide), mup_k (by decide)]
  have nq0 : q ≠ ca 0 := fun z => by rw [z, g1] at hq; cases hq
  have hkv : kcl (nI v) ∈ ([1, 2, 3, 4, 5, 6] : List Nat) := by
    rw [ekv]
    have : v = 0 ∨ v = 1 ∨ v = 2 ∨ v = 3 ∨ v = 4 ∨ v = 5 := by omega
    rcases this with rfl | rfl | rfl | rfl | rfl | rfl <;> decide
  have like : ∀ (P : Option Nat → zH → Prop), P (some q) (hup h q (pcl (mup σ 10 p (nI v)) p)) → zf9_like f (hup h q (.inr (kcl (nI v), [.int (σ 11 (3 * p)), .int (σ 11 (3 * p + 1)), .int 0, .int (-1), .int 0]))) (some q) (some (pa p)) P := by
    intro P hP
    have rd : ∀ (e : zE) (k : Nat) (w : Int32) (P' : Int32 → Prop), ([.int (σ 11 (3 * p)), .int (σ 11 (3 * p + 1)), .int (σ 11 (3 * p + 2)), .int (σ 110 p), .int (σ 111 p)] : List Value)[k]? = some (.int w) → P' w → gfI (hup h q e) (some (pa p)) [1, 2, 3, 4, 5, 6] k P' := by
      intro e k w P' hk hP'
      exact gfI_of (by rw [hup_ne _ _ npq]; exact hop) hkc hk hP'
    unfold zf9_like
    refine rd _ 2 _ _ rfl ?_
    refine pf_1 (hup_self _ _ _) hkv (by decide : 2 < 5) ?_
    rw [hup_hup]
    refine rd _ 3 _ _ rfl ?_
    refine pf_1 (hup_self _ _ _) hkv (by decide : 3 < 5) ?_
    rw [hup_hup]
    refine rd _ 4 _ _ rfl ⟨hB p hp, ?_⟩
    refine pf_1 (hup_self _ _ _) hkv (by decide : 4 < 5) ?_
    rw [hup_hup]
    rw [eP] at hP
    exact hP
  unfold zd_like
  refine zdp_of (hup_self _ _ _) ?_
  have fin : asR (hup h q (pcl (mup σ 10 p (nI v)) p)) (some (ca 0)) 4 (nI p) (some q) [1, 2, 3, 4, 5, 6] fun h12 => ∃ c15 d16 : Nat, c15 ≤ (mc - 1) ∧ d16 ≤ (ms - 5) ∧ zrc h12 (some x) 0 (zf0_otherwise f h12 c15 d16 (some x) (rw s) (nI p) o fun x13 h14 => if x13 = (-1) then (zj0_isSoAs_50 f K h14 ((mc - 1) - c15) ((ms - 5) - d16) (some x) (nI p) (some (pa p)) 1) else (zj0_isSoAs_50 f K h14 ((mc - 1) - c15) ((ms - 5) - d16) (some x) (nI p) (some (pa p)) 0)) := by
    refine ⟨Or.inr ⟨q, _, _, rfl, by rw [hup_self, eP], hkv⟩, ca 0, 6, g, rfl, by rw [hup_ne _ _ (fun z => nq0 z.symm)]; exact g1, vp_in_nI (by omega) (by omega), ?_⟩
    rw [nI_clamp (by omega)]
    obtain ⟨hh2, k1, k2, k3, k4, k5⟩ := C_swapIn hn hC hp hq (v := nI v) (by rw [ekv]; omega) g1 rfl
    show ∃ c15 d16 : Nat, c15 ≤ (mc - 1) ∧ d16 ≤ (ms - 5) ∧ zrc (hup (hup h q (pcl (mup σ 10 p (nI v)) p)) (ca 0) (.inl (4, 6, pav (va_up g p (some q))))) (some x) 0 _
    generalize hup (hup h q (pcl (mup σ 10 p (nI v)) p)) (ca 0) (.inl (4, 6, pav (va_up g p (some q)))) = H2 at hh2 k1 k3 ⊢
    refine ⟨0, 0, Nat.zero_le _, Nat.zero_le _, ?_⟩
    have hW5 : WS (mup σ 10 p (nI v)) := by
      have := WS_lays (p := p) (v := nI v) hW (j := 5) (by decide) (by decide) (fun _ => ⟨by rw [nI_toInt (by omega)]; omega, by rw [nI_toInt (by omega)]; omega⟩) (fun z => absurd z (by decide))
      rw [lays5] at this
      exact this
    simp only [zcQ hh2]
    refine C_other hf hW5 (WH_of hH rfl rfl rfl) hh2 hs hp h1 h8 fun h3 hh3 => ?_
    have go : ∀ r : Int32, (r = 0 ∨ r = 1) → r = (if hit G σ s p o 5 v = true then 1 else 0) → ∀ m1 m2, zj0_isSoAs_50 f K h3 m1 m2 (some x) (nI p) (some (pa p)) r := by
      intro r hr hr2 m1 m2
      unfold zj0_isSoAs_50
      simp only [zcQ hh3]
      refine C_swapOut hn hp hh3 k1 hkc k2 k3 (fun p' hp' n => C_paN hh hp hp' n) fun h4 hh4 => ⟨hr, ?_⟩
      rw [hr2]
      exact kk h4 hh4
    have eh : ∀ {A B : Prop}, (if foS G (mup σ 10 p (nI v)) s p o = -1 then A else B) = (if hit G σ s p o 5 v = true then A else B) := fun {A B} => foS_b (j := 5)
    rw [eh]
    by_cases c : hit G σ s p o 5 v = true
    · rw [if_pos c]; exact go 1 (Or.inr rfl) (by rw [if_pos c]) _ _
    · rw [if_neg c]; exact go 0 (Or.inl rfl) (by rw [if_neg c]) _ _
  have fin2 := like (fun r10 h11 => asR h11 (some (ca 0)) 4 (nI p) r10 [1, 2, 3, 4, 5, 6] fun h12 => ∃ c15 d16 : Nat, c15 ≤ (mc - 1) ∧ d16 ≤ (ms - 5) ∧ zrc h12 (some x) 0 (zf0_otherwise f h12 c15 d16 (some x) (rw s) (nI p) o fun x13 h14 => if x13 = (-1) then (zj0_isSoAs_50 f K h14 ((mc - 1) - c15) ((ms - 5) - d16) (some x) (nI p) (some (pa p)) 1) else (zj0_isSoAs_50 f K h14 ((mc - 1) - c15) ((ms - 5) - d16) (some x) (nI p) (some (pa p)) 0))) fin
  rw [ekv] at fin2 ⊢
  have hv6 : v = 0 ∨ v = 1 ∨ v = 2 ∨ v = 3 ∨ v = 4 ∨ v = 5 := by omega
  rcases hv6 with rfl | rfl | rfl | rfl | rfl | rfl
  · rw [if_pos (by decide)]; exact fin2
  · rw [if_neg (by decide), if_pos (by decide)]; exact fin2
  · rw [if_neg (by decide), if_neg (by decide), if_pos (by decide)]; exact fin2
  · rw [if_neg (by decide), if_neg (by decide), if_neg (by decide), if_pos (by decide)]; exact fin2
  · rw [if_neg (by decide), if_neg (by decide), if_neg (by decide), if_neg (by decide), if_pos (by decide)]; exact fin2
  · rw [if_neg (by decide), if_neg (by decide), if_neg (by decide), if_neg (by decide), if_neg (by decide), if_pos (by decide)]; exact fin2
end TS
