/-! THE CLASS's HEAP: a new place -/
set_option maxRecDepth 100000
section CA
variable {sa : Nat → Nat} {x : Nat} {ca : Nat → Nat} {Md : Nat → Prop} {b0 : zH} {G : TG} {pa : Nat → Nat} {rw : Nat → Option Nat} {σ : ST} {h : zH} {κ : ST} {lab lab' : Nat → Nat}
theorem Cx.rl (r : ∀ a, lab a ≠ 0 → lab' a = lab a) (hh : Cx x ca κ lab h) : Cx x ca κ lab' h := ⟨hh.1, by rw [r _ (by rw [hh.2]; decide)]; exact hh.2⟩
theorem Ci.rl (r : ∀ a, lab a ≠ 0 → lab' a = lab a) (hh : Ci ca κ lab h) : Ci ca κ lab' h := fun e he => ⟨(hh e he).1, by rw [r _ (by rw [(hh e he).2]; omega)]; exact (hh e he).2⟩
theorem Cr.rl (r : ∀ a, lab a ≠ 0 → lab' a = lab a) (hh : Cr sa ca lab h) : Cr sa ca lab' h := fun e he => ⟨(hh e he).1, by rw [r _ (by rw [(hh e he).2]; omega)]; exact (hh e he).2⟩
theorem Cp.rl (r : ∀ a, lab a ≠ 0 → lab' a = lab a) (hh : Cp ca pa σ lab h) : Cp ca pa σ lab' h := ⟨⟨hh.1.1, by rw [r _ (by rw [hh.1.2]; decide)]; exact hh.1.2⟩, fun p hp => ⟨(hh.2 p hp).1, by rw [r _ (by rw [(hh.2 p hp).2]; omega)]; exact (hh.2 p hp).2⟩⟩
theorem Cs.rl (r : ∀ a, lab a ≠ 0 → lab' a = lab a) (hh : Cs ca rw lab h) : Cs ca rw lab' h := fun s hs => ⟨(hh s hs).1, by rw [r _ (by rw [(hh s hs).2]; omega)]; exact (hh s hs).2⟩
theorem Cw.rl (r : ∀ a, lab a ≠ 0 → lab' a = lab a) (hh : Cw rw σ lab h) : Cw rw σ lab' h := fun s hs => ⟨(hh s hs).1, fun z => by
  obtain ⟨q, g, h1, h2, h3, h4⟩ := (hh s hs).2 z
  exact ⟨q, g, h1, h2, by rw [r _ (by rw [h3]; omega)]; exact h3, h4⟩⟩
theorem Ct.rl (r : ∀ a, lab a ≠ 0 → lab' a = lab a) (hh : Ct x ca G σ lab h) : Ct x ca G σ lab' h := by
  obtain ⟨tx, h1, h2⟩ := hh
  exact ⟨tx, ⟨h1.1, by rw [r _ (by rw [h1.2]; decide)]; exact h1.2⟩, fun t ht => ⟨by rw [r _ (by rw [(h2 t ht).1]; decide)]; exact (h2 t ht).1, (h2 t ht).2⟩⟩
theorem Cf.rl (r : ∀ a, lab a ≠ 0 → lab' a = lab a) (hh : Cf ca lab h) : Cf ca lab' h := ⟨hh.1, by rw [r _ (by rw [hh.2]; decide)]; exact hh.2⟩
/-- texts are kept by a write to a free place -/
theorem Ct.al (hh : Ct x ca G σ lab h) {q : Nat} (hq : h q = none) {e : zE} : Ct x ca G σ lab (hup h q e) := by
  obtain ⟨tx, h1, h2⟩ := hh
  have kp : ∀ a e', h a = some e' → hup h q e a = some e' := fun a e' ha => by rw [hup_ne _ _ (fun z => by rw [z, hq] at ha; cases ha)]; exact ha
  refine ⟨tx, ⟨?_, h1.2⟩, fun t ht => ?_⟩
  · obtain ⟨f, e1, e2⟩ := h1.1
    exact ⟨f, kp _ _ e1, e2⟩
  · obtain ⟨h3, f, h4, h5⟩ := h2 t ht
    refine ⟨h3, f, kp _ _ h4, fun k hk => ?_⟩
    obtain ⟨a, h6, h7⟩ := h5 k hk
    exact ⟨a, h6, nd_keep (fun r e' hr _ => kp r e' hr) _ _ _ h7⟩
/-- a new place, with a label of its own -/
theorem Ch_alloc (hh : Ch sa x ca Md b0 G pa rw σ h) {q : Nat} (hq : h q = none) {e : zE} (he : ¬ isN e) {L : Nat} (hL : L ≠ 0) : ∃ (κ : ST) (lab : Nat → Nat), Agr κ σ ∧ Cx x ca κ lab (hup h q e) ∧ Ci ca κ lab (hup h q e) ∧ Cr sa ca lab (hup h q e) ∧ Cp ca pa σ lab (hup h q e) ∧ Cs ca rw lab (hup h q e) ∧ Cw rw σ lab (hup h q e) ∧ Ct x ca G σ lab (hup h q e) ∧ Cf ca lab (hup h q e) ∧ Cm Md b0 lab (hup h q e) ∧ lab q = L ∧ (∀ p, p < nP σ → pa p ≠ q) ∧ (∀ s a, s < 4 → σ 45 s ≠ 0 → rw s = some a → a ≠ q) := by
  obtain ⟨κ, lab, a1, a2, a3, a4, a5, a6, a7, a8, a9, a10⟩ := hh
  have l0 : lab q = 0 := a10.2.1 q hq
  have r : ∀ a, lab a ≠ 0 → (fun a => if a = q then L else lab a) a = lab a := fun a ha => by
    show (if a = q then L else lab a) = lab a
    rw [if_neg (fun z => ha (by rw [z]; exact l0))]
  refine ⟨κ, fun a => if a = q then L else lab a, a1, (a2.up (by omega)).rl r, (a3.up (fun _ _ => by omega)).rl r, (a4.up (fun _ _ => by omega)).rl r, (a5.up (by omega) (fun _ _ => by omega)).rl r, (a6.up (fun _ _ => by omega)).rl r, (a7.up (fun _ _ => by omega)).rl r, (a8.al hq).rl r, (a9.up (by omega)).rl r, ⟨fun q' hq' => ?_, fun q' hq' => ?_, fun q' e' hq' hi => ?_⟩, if_pos rfl, fun p hp z => ?_, fun s a hs h45 hr z => ?_⟩
  · have ne : q' ≠ q := fun z => (a10.1 q' hq').2.1 (by rw [← (a10.1 q' hq').1, z, hq])
    refine ⟨by rw [hup_ne _ _ ne]; exact (a10.1 q' hq').1, (a10.1 q' hq').2.1, ?_⟩
    show (if q' = q then L else lab q') = 0
    rw [if_neg ne]
    exact (a10.1 q' hq').2.2
  · have ne : q' ≠ q := fun z => by rw [z, hup_self] at hq'; cases hq'
    rw [hup_ne _ _ ne] at hq'
    show (if q' = q then L else lab q') = 0
    rw [if_neg ne]
    exact a10.2.1 q' hq'
  · have ne : q' ≠ q := fun z => by
      rw [z, hup_self] at hq'
      cases hq'
      exact he hi
    rw [hup_ne _ _ ne] at hq'
    show (if q' = q then L else lab q') = 0
    rw [if_neg ne]
    exact a10.2.2 q' e' hq' hi
  · have := (a5.2 p hp).2
    rw [z, l0] at this
    omega
  · obtain ⟨q2, g, c1, c2, c3, c4⟩ := (a7 s hs).2 h45
    rw [hr] at c1
    cases c1
    rw [z, l0] at c3
    omega
end CA
