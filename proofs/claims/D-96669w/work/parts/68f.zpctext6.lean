/-! THE CLASS's CALLS: text -/
set_option maxRecDepth 100000
section TXL
variable {sa : Nat → Nat} {x : Nat} {ca : Nat → Nat} {Md : Nat → Prop} {b0 : zH} {G : TG} {pa : Nat → Nat} {rw : Nat → Option Nat} {σ : ST} {h : zH} {κ : ST} {lab lab' : Nat → Nat}
theorem Cx.r2 {L : Nat} (hL : (1000 ≤ L ∧ L < 1100) ∨ L = 1400) (r : ∀ a, lab a ≠ 0 → lab a ≠ L → lab' a = lab a) (hh : Cx x ca κ lab h) : Cx x ca κ lab' h := ⟨hh.1, by rw [r _ (by rw [hh.2]; omega) (by rw [hh.2]; omega)]; exact hh.2⟩
theorem Ci.r2 {L : Nat} (hL : (1000 ≤ L ∧ L < 1100) ∨ L = 1400) (r : ∀ a, lab a ≠ 0 → lab a ≠ L → lab' a = lab a) (hh : Ci ca κ lab h) : Ci ca κ lab' h := fun e he => ⟨(hh e he).1, by rw [r _ (by rw [(hh e he).2]; omega) (by rw [(hh e he).2]; have := cia_le e he; omega)]; exact (hh e he).2⟩
theorem Cr.r2 {L : Nat} (hL : (1000 ≤ L ∧ L < 1100) ∨ L = 1400) (r : ∀ a, lab a ≠ 0 → lab a ≠ L → lab' a = lab a) (hh : Cr sa ca lab h) : Cr sa ca lab' h := fun e he => ⟨(hh e he).1, by rw [r _ (by rw [(hh e he).2]; omega) (by rw [(hh e he).2]; have := cra_le e he; omega)]; exact (hh e he).2⟩
theorem Cp.r2 (h6 : nP σ ≤ 6) (r : ∀ a, lab a ≠ 0 → lab a ≠ 1400 → lab' a = lab a) (hh : Cp ca pa σ lab h) : Cp ca pa σ lab' h := ⟨⟨hh.1.1, by rw [r _ (by rw [hh.1.2]; decide) (by rw [hh.1.2]; decide)]; exact hh.1.2⟩, fun p hp => ⟨(hh.2 p hp).1, by rw [r _ (by rw [(hh.2 p hp).2]; omega) (by rw [(hh.2 p hp).2]; omega)]; exact (hh.2 p hp).2⟩⟩
theorem Cs.r2 {L : Nat} (hL : (1000 ≤ L ∧ L < 1100) ∨ L = 1400) (r : ∀ a, lab a ≠ 0 → lab a ≠ L → lab' a = lab a) (hh : Cs ca rw lab h) : Cs ca rw lab' h := fun s hs => ⟨(hh s hs).1, by rw [r _ (by rw [(hh s hs).2]; omega) (by rw [(hh s hs).2]; omega)]; exact (hh s hs).2⟩
theorem Cw.r2 {L : Nat} (hL : (1000 ≤ L ∧ L < 1100) ∨ L = 1400) (r : ∀ a, lab a ≠ 0 → lab a ≠ L → lab' a = lab a) (hh : Cw rw σ lab h) : Cw rw σ lab' h := fun s hs => ⟨(hh s hs).1, fun z => by
  obtain ⟨q, g, h1, h2, h3, h4⟩ := (hh s hs).2 z
  exact ⟨q, g, h1, h2, by rw [r _ (by rw [h3]; omega) (by rw [h3]; omega)]; exact h3, h4⟩⟩
theorem Cf.r2 {L : Nat} (hL : (1000 ≤ L ∧ L < 1100) ∨ L = 1400) (r : ∀ a, lab a ≠ 0 → lab a ≠ L → lab' a = lab a) (hh : Cf ca lab h) : Cf ca lab' h := ⟨hh.1, by rw [r _ (by rw [hh.2]; omega) (by rw [hh.2]; omega)]; exact hh.2⟩
/-- the tape is laid aside -/
theorem Cl.t0 (hh : Cl sa x ca Md b0 G pa rw σ κ lab h) : Cl sa x ca Md b0 G pa rw (mup σ 6 0 0) (mup κ 6 0 0) lab (hX x ca h (mup κ 6 0 0)) := by
  obtain ⟨a1, a2, a3, a4, a5, a6, a7, a8, a9, a10⟩ := hh
  have lx := a2.2
  refine ⟨⟨fun k hk' => ?_, fun i hi => ?_, fun k hk' => ?_, fun i hi => ?_⟩, ⟨hX_x, lx⟩, ?_, a4.up (fun e _ => by rw [lx]; omega), a5.up (by rw [lx]; decide) (fun p _ => by rw [lx]; omega), a6.up (fun s _ => by rw [lx]; omega), a7.up (fun s _ => by rw [lx]; omega), a8.up (by rw [lx]; decide) (by rw [lx]; decide) a10.2.2 (by rw [lx]; decide), a9.up (by rw [lx]; decide), a10.up (by rw [lx]; decide) (isN_no (by omega))⟩
  · by_cases c : k = 6
    · rw [c, mup_s0, mup_s0]
    · rw [mup_ne0 c, mup_ne0 c]; exact a1.1 k hk'
  · rw [mup_ne0 (by decide), mup_ne0 (by decide)]; exact a1.2.1 i hi
  · rw [mup_ne0 (by omega), mup_ne0 (by omega)]; exact a1.2.2.1 k hk'
  · rw [mup_s0, show (0 : Int32).toNatClampNeg = 0 from by decide] at hi
    exact absurd hi (Nat.not_lt_zero i)
  · have := a3.up (a := x) (e := .inr (0, cfs ca (mup κ 6 0 0))) (fun e _ => by rw [lx]; omega)
    intro e he
    have he2 : e.1 ≠ 6 := by
      have : ∀ e ∈ cia, e.1 ≠ 6 := by decide
      exact this e he
    rw [mup_ne0 he2]
    exact this e he
/-- a new place that is no node -/
theorem Cl.al (hh : Cl sa x ca Md b0 G pa rw σ κ lab h) {q : Nat} (hq : h q = none) {e : zE} (he : ¬ isN e) {L : Nat} (hL : L ≠ 0) : Cl sa x ca Md b0 G pa rw σ κ (fun a => if a = q then L else lab a) (hup h q e) := by
  obtain ⟨a1, a2, a3, a4, a5, a6, a7, a8, a9, a10⟩ := hh
  have l0 : lab q = 0 := a10.2.1 q hq
  have r : ∀ a, lab a ≠ 0 → (fun a => if a = q then L else lab a) a = lab a := fun a ha => by
    show (if a = q then L else lab a) = lab a
    rw [if_neg (fun z => ha (by rw [z]; exact l0))]
  refine ⟨a1, (a2.up (by omega)).rl r, (a3.up (fun _ _ => by omega)).rl r, (a4.up (fun _ _ => by omega)).rl r, (a5.up (by omega) (fun _ _ => by omega)).rl r, (a6.up (fun _ _ => by omega)).rl r, (a7.up (fun _ _ => by omega)).rl r, (a8.al hq).rl r, (a9.up (by omega)).rl r, fun q' hq' => ?_, fun q' hq' => ?_, fun q' e' hq' hi => ?_⟩
  · have ne : q' ≠ q := fun z => (a10.1 q' hq').2.1 (by rw [← (a10.1 q' hq').1, z, hq])
    refine ⟨by rw [hup_ne _ _ ne]; exact (a10.1 q' hq').1, (a10.1 q' hq').2.1, ?_⟩
    show (if q' = q then L else lab q') = 0
    rw [if_neg ne]
    exact (a10.1 q' hq').2.2
  · have ne : q' ≠ q := fun z => by rw [z, hup_self] at hq'; cases hq'
    rw [hup_ne _ _ ne] at hq'
    show (if q' = q then L else lab q') = 0
    rw [if_neg ne]
    exact a10.2.1 q' hq'
  · have ne : q' ≠ q := fun z => by
      rw [z, hup_self] at hq'
      cases hq'
      exact he hi
    rw [hup_ne _ _ ne] at hq'
    show (if q' = q then L else lab q') = 0
    rw [if_neg ne]
    exact a10.2.2 q' e' hq' hi
/-- a write at the row under work -/
theorem Cl.row (h6 : nP σ ≤ 6) (hh : Cl sa x ca Md b0 G pa rw σ κ lab h) {q : Nat} (lq : lab q = 1400) {e : zE} (he : ¬ isN e) : Cl sa x ca Md b0 G pa rw σ κ lab (hup h q e) := by
  obtain ⟨a1, a2, a3, a4, a5, a6, a7, a8, a9, a10⟩ := hh
  exact ⟨a1, a2.up (by rw [lq]; decide), a3.up (fun e he => by rw [lq]; have := cia_le e he; omega), a4.up (fun e he => by rw [lq]; have := cra_le e he; omega), a5.up (by rw [lq]; decide) (fun p _ => by rw [lq]; omega), a6.up (fun s _ => by rw [lq]; omega), a7.up (fun s _ => by rw [lq]; omega), a8.up (by rw [lq]; decide) (by rw [lq]; decide) a10.2.2 (by rw [lq]; decide), a9.up (by rw [lq]; decide), a10.up (by rw [lq]; decide) he⟩
/-- a text more -/
theorem Cl.txt (h6 : nP σ ≤ 6) (hh : Cl sa x ca Md b0 G pa rw σ κ lab h) {c q : Nat} (hc : c < 6) (e3 : σ 3 0 = nI c) (lq : lab q = 1400) {g : Nat → Option Nat} (hq : h q = some (.inl (5, 3, pav g))) {G' : TG} (hG : ∀ t j, t < c → j < 3 → G' t j = G t j) (hn : ∀ j, j < 3 → ∃ a, g j = some a ∧ nd x h 190 a (G' c j)) {fo : Nat → Option Nat} (hfo : h (ca 9) = some (.inl (6, 6, pav fo))) : Ch sa x ca Md b0 G' pa rw (mup σ 3 0 (nI (c + 1))) (hX x ca (hup h (ca 9) (.inl (6, 6, pav (va_up fo c (some q))))) (mup κ 3 0 (nI (c + 1)))) := by
  obtain ⟨a1, a2, a3, a4, a5, a6, a7, a8, a9, a10⟩ := hh
  have lx := a2.2
  obtain ⟨tx, ⟨⟨fo2, f1, f2⟩, l9⟩, f3⟩ := a8
  rw [hfo] at f1
  cases f1
  have e3c : (σ 3 0).toNatClampNeg = c := by rw [e3, nI_clamp (by omega)]
  have nqx : q ≠ x := fun z => by rw [z, lx] at lq; exact absurd lq (by decide)
  have nq9 : q ≠ ca 9 := fun z => by rw [z, l9] at lq; exact absurd lq (by decide)
  have n9x : ca 9 ≠ x := fun z => by rw [z, lx] at l9; exact absurd l9 (by decide)
  have r : ∀ a, lab a ≠ 0 → lab a ≠ 1400 → (fun a => if a = q then 1300 else lab a) a = lab a := fun a _ ha => by
    show (if a = q then 1300 else lab a) = lab a
    rw [if_neg (fun z => ha (by rw [z]; exact lq))]
  have b3 := (a3.up (a := ca 9) (e := .inl (6, 6, pav (va_up fo c (some q)))) (fun e he => by rw [l9]; have := cia_le e he; omega)).up (a := x) (e := .inr (0, cfs ca (mup κ 3 0 (nI (c + 1))))) (fun e _ => by rw [lx]; omega)
  have b4 := (a4.up (a := ca 9) (e := .inl (6, 6, pav (va_up fo c (some q)))) (fun e he => by rw [l9]; have := cra_le e he; omega)).up (a := x) (e := .inr (0, cfs ca (mup κ 3 0 (nI (c + 1))))) (fun e _ => by rw [lx]; omega)
  have b5 := (a5.up (a := ca 9) (e := .inl (6, 6, pav (va_up fo c (some q)))) (by rw [l9]; decide) (fun p _ => by rw [l9]; omega)).up (a := x) (e := .inr (0, cfs ca (mup κ 3 0 (nI (c + 1))))) (by rw [lx]; decide) (fun p _ => by rw [lx]; omega)
  have b6 := (a6.up (a := ca 9) (e := .inl (6, 6, pav (va_up fo c (some q)))) (fun s _ => by rw [l9]; omega)).up (a := x) (e := .inr (0, cfs ca (mup κ 3 0 (nI (c + 1))))) (fun s _ => by rw [lx]; omega)
  have b7 := (a7.up (a := ca 9) (e := .inl (6, 6, pav (va_up fo c (some q)))) (fun s _ => by rw [l9]; omega)).up (a := x) (e := .inr (0, cfs ca (mup κ 3 0 (nI (c + 1))))) (fun s _ => by rw [lx]; omega)
  have b9 := (a9.up (a := ca 9) (e := .inl (6, 6, pav (va_up fo c (some q)))) (by rw [l9]; decide)).up (a := x) (e := .inr (0, cfs ca (mup κ 3 0 (nI (c + 1))))) (by rw [lx]; decide)
  have b10 := (a10.up (a := ca 9) (e := .inl (6, 6, pav (va_up fo c (some q)))) (by rw [l9]; decide) isN_noA).up (a := x) (e := .inr (0, cfs ca (mup κ 3 0 (nI (c + 1))))) (by rw [lx]; decide) (isN_no (by omega))
  have kp : ∀ y e, h y = some e → isN e → hX x ca (hup h (ca 9) (.inl (6, 6, pav (va_up fo c (some q))))) (mup κ 3 0 (nI (c + 1))) y = some e := fun y e hy hi => by
    have l0 := a10.2.2 y e hy hi
    rw [hX_ne (fun z => by rw [z, lx] at l0; exact absurd l0 (by decide)), hup_ne _ _ (fun z => by rw [z, l9] at l0; exact absurd l0 (by decide))]
    exact hy
  have cell : ∀ y, y ≠ x → y ≠ ca 9 → hX x ca (hup h (ca 9) (.inl (6, 6, pav (va_up fo c (some q))))) (mup κ 3 0 (nI (c + 1))) y = h y := fun y n1 n2 => by rw [hX_ne n1, hup_ne _ _ n2]
  refine ⟨mup κ 3 0 (nI (c + 1)), fun a => if a = q then 1300 else lab a, agr_mup a1 (by decide) (by decide) (by decide), ⟨hX_x, ?_⟩, ?_, b4.r2 (Or.inr rfl) r, ?_, b6.r2 (Or.inr rfl) r, ?_, ⟨fun t => if t = c then q else tx t, ⟨⟨va_up fo c (some q), ?_, fun t ht => ?_⟩, ?_⟩, fun t ht => ?_⟩, b9.r2 (Or.inr rfl) r, fun q' hq' => ?_, fun q' hq' => ?_, fun q' e' hq' hi => ?_⟩
  · show (if x = q then 1300 else lab x) = 2
    rw [if_neg (fun z => nqx z.symm)]
    exact lx
  · intro e he
    have := b3.r2 (Or.inr rfl) r e he
    rw [mup_k (fun z => by have := cia_le e he; revert z; have : ∀ e ∈ cia, e.1 ≠ 3 := by decide
                           exact this e he)]
    exact this
  · have := b5.r2 h6 r
    exact this
  · have := b7.r2 (Or.inr rfl) r
    exact this
  · rw [hX_ne n9x]; exact hup_self _ _ _
  · have ht : t < (nI (c + 1)).toNatClampNeg := ht
    rw [nI_clamp (by omega)] at ht
    show va_up fo c (some q) t = some (if t = c then q else tx t)
    by_cases z : t = c
    · rw [if_pos z, z]; exact if_pos rfl
    · rw [if_neg z]
      have : va_up fo c (some q) t = fo t := if_neg z
      rw [this]
      exact f2 t (by omega)
  · show (if ca 9 = q then 1300 else lab (ca 9)) = 109
    rw [if_neg (fun z => nq9 z.symm)]
    exact l9
  · have ht : t < (nI (c + 1)).toNatClampNeg := ht
    rw [nI_clamp (by omega)] at ht
    by_cases z : t = c
    · have et : (if t = c then q else tx t) = q := if_pos z
      simp only [et]
      refine ⟨by simp, g, ?_, fun k hk => ?_⟩
      · rw [cell q nqx nq9]; exact hq
      · obtain ⟨a, h1, h2⟩ := hn k hk
        rw [z]
        exact ⟨a, h1, nd_keep kp _ _ _ h2⟩
    · have et : (if t = c then q else tx t) = tx t := if_neg z
      simp only [et]
      obtain ⟨g1, gr, g2, g3⟩ := f3 t (by omega)
      have nt : tx t ≠ q := fun y => by rw [y, lq] at g1; exact absurd g1 (by decide)
      refine ⟨?_, gr, ?_, fun k hk => ?_⟩
      · rw [if_neg nt]; exact g1
      · rw [cell _ (fun y => by rw [y, lx] at g1; exact absurd g1 (by decide)) (fun y => by rw [y, l9] at g1; exact absurd g1 (by decide))]
        exact g2
      · obtain ⟨a, h1, h2⟩ := g3 k hk
        refine ⟨a, h1, ?_⟩
        rw [hG t k (by omega) hk]
        exact nd_keep kp _ _ _ h2
  · obtain ⟨m1, m2, m3⟩ := b10.1 q' hq'
    refine ⟨m1, m2, ?_⟩
    show (if q' = q then 1300 else lab q') = 0
    rw [if_neg (fun z => by rw [z, lq] at m3; exact absurd m3 (by decide))]
    exact m3
  · have m3 := b10.2.1 q' hq'
    show (if q' = q then 1300 else lab q') = 0
    rw [if_neg (fun z => by rw [z, lq] at m3; exact absurd m3 (by decide))]
    exact m3
  · have m3 := b10.2.2 q' e' hq' hi
    show (if q' = q then 1300 else lab q') = 0
    rw [if_neg (fun z => by rw [z, lq] at m3; exact absurd m3 (by decide))]
    exact m3
end TXL
section TXD
variable {f : Nat} {sa : Nat → Nat} {x : Nat} {ca : Nat → Nat} {Md : Nat → Prop} {b0 : zH} {G : TG} {pa : Nat → Nat} {rw : Nat → Option Nat} {σ : ST} {h : zH} {K : Int32 → zH → Prop}
/-- what a text's three parts say -/
def pt3 (s0 s1 s2 : SEM) (j : Nat) : SEM := if j = 0 then s0 else if j = 1 then s1 else s2
theorem T_86 {lab : Nat → Nat} {e : Nat} {mc ms : Nat} {q : Option Nat} (hp : PXc sa x ca Md b0 G pa rw σ lab e h) (kk : Ch sa x ca Md b0 G pa rw σ h → K (-100 - nI e) h) : zj0_newText_86 sa f K h mc ms (some x) q := by
  obtain ⟨κ, hC, h217⟩ := hp
  unfold zj0_newText_86
  rw [cgI hC.2.1.1 rfl, h217]
  exact kk (Cl_ch hC)
/-- one part of a text -/
theorem T_part {lab : Nat → Nat} {n : Nat} {b : Nat → Int32} {q : Nat} (hf : 200 ≤ f) (h6 : nP σ ≤ 6) (lq : lab q = 1400) {t : Tok} {p : Nat} (hp3 : p < 3) {H : zH} {g : Nat → Option Nat} (hh : POc sa x ca Md b0 G pa rw σ lab n b t 0 H) (hq : H q = some (.inl (5, 3, pav g))) {mc ms : Nat} (hmc : tk_mu n t ≤ mc) (hms : 3 * tk_mu n t ≤ ms) {R34 : zH → Nat → Nat → Option Nat → Option Nat → Int32 → Prop}
    (kx : ∀ e, tk_part b n p t = .inl e → ∀ H, PXc sa x ca Md b0 G pa rw σ lab e H → K (-100 - nI e) H)
    (kk : ∀ r, tk_part b n p t = .inr r → ∀ (H' : zH) (a mc' ms' : Nat), POc sa x ca Md b0 G pa rw σ lab n b r.2 0 H' → H' q = some (.inl (5, 3, pav (va_up g p (some a)))) → (∀ d a g, nd x H d a g → nd x H' d a g) → nd x H' 190 a r.1 → tk_mu n r.2 ≤ mc' → 3 * tk_mu n r.2 ≤ ms' → R34 H' mc' ms' (some x) (some q) (nI (p + 1))) :
    zb0_newText_34 sa f K R34 H mc ms (some x) (some q) (nI p) := by
  have hn160 := N_n hh
  have hle := N_le hh
  have kx' : ∀ e (m1 m2 : Nat), tk_part b n p t = .inl e → ∀ H, PXc sa x ca Md b0 G pa rw σ lab e H → ∀ q : Nat, zj0_newText_86 sa f K H m1 m2 (some x) (some q) := fun e m1 m2 he H hP q => T_86 hP fun _ => kx e he H hP
  have ep : ∃ r, tk_part b n p t = r := ⟨_, rfl⟩
  obtain ⟨r, hr⟩ := ep
  rw [hr] at kx kk kx'
  unfold tk_part at hr
  unfold zb0_newText_34
  rw [if_pos (show nI _ < 3 from (nI_ltI (b := 3) (by omega) (by omega)).mpr hp3), N_rc hh, N_isKey hh (by omega), N_rc hh]
  refine N_need hf hh (tk_key p t) rfl (fun c h' hP => ?_) (fun c c5 h' hP => ?_) (fun c c5 h' hP hF => ?_)
  · rw [if_neg c] at hr
    subst hr
    exact kx' _ _ _ rfl h' hP
  · rw [if_pos c, tk_nx_5 c5] at hr
    subst hr
    exact kx' _ _ _ rfl h' hP
  · rw [if_pos c, tk_nx_n c5] at hr
    have h0 : t.1 ≠ 0 := by rw [c.1]; decide
    have hmu := tk_mu_lt (b := b) h0 hle
    have eru : ∃ ru, tk_ps b n 60 0 0 (tk_lex b n t.2.2.2) = ru := ⟨_, rfl⟩
    obtain ⟨ru, hru⟩ := eru
    rw [hru] at hr
    have hcu : rcost n (tk_lex b n t.2.2.2) ru ≤ tk_mu n (tk_lex b n t.2.2.2) := by
      cases ru with
      | inl e => exact Nat.le_refl _
      | inr z => rw [rcost_r]; omega
    refine ⟨rcost n (tk_lex b n t.2.2.2) ru, 3 * rcost n (tk_lex b n t.2.2.2) ru, by omega, by omega, ?_⟩
    rw [N_rc hP]
    refine G_psc hf 60 0 0 _ h' _ _ _ _ (by omega) (by omega) (by decide) hP (by rw [hru]; exact Nat.le_refl _) (by rw [hru]; exact Nat.le_refl _) ?_
    rw [hru]
    cases ru with
    | inl e =>
      have hr : (.inl e : PR) = r := hr
      subst hr
      exact fun H2 hP2 => kx' _ _ _ rfl H2 hP2
    | inr z =>
      have hz := tk_ps_fw 60 0 0 _ z (N_le hP) hru
      have hz2 := hz.2
      have hr : (if tk_sg 59 z.2 then tk_nx b n z.2 (fun w => .inr (z.1, w)) else .inl z.2.2.2.1) = r := hr
      intro H2 a hP2 hF2 hnd2
      rw [rcost_r] at hcu ⊢
      have nqx : q ≠ x := fun y => by
        obtain ⟨κ, hR, -⟩ := hh
        have := hR.1.2.1.2
        rw [← y, lq] at this
        exact absurd this (by decide)
      have hq2 : H2 q = some (.inl (5, 3, pav g)) := by
        rw [(hF.trans hF2) q nqx (by rw [hq]; exact fun y => by cases y)]
        exact hq
      obtain ⟨e, he, hi⟩ := nd_cell hnd2
      have hi2 := hi
      obtain ⟨ci, fs, e1, e2, e3⟩ := hi2
      refine ⟨Or.inr ⟨a, ci, fs, rfl, by rw [he, e1], ?_⟩, q, 3, g, rfl, hq2, vp_in_nI (by omega) (by omega), ?_⟩
      · have : ci = 7 ∨ ci = 8 ∨ ci = 9 ∨ ci = 10 := by omega
        rcases this with rfl | rfl | rfl | rfl <;> simp
      rw [nI_clamp (by omega)]
      have hP3 : POc sa x ca Md b0 G pa rw σ lab n b z.2 0 (hup H2 q (.inl (5, 3, pav (va_up g p (some a))))) := by
        obtain ⟨κ, hR, hT⟩ := hP2
        exact ⟨κ, ⟨hR.1.row h6 lq isN_noA, hR.2⟩, hT⟩
      have kp3 : ∀ y e, H2 y = some e → isN e → hup H2 q (.inl (5, 3, pav (va_up g p (some a)))) y = some e := fun y e hy hi => by
        rw [hup_ne _ _ (fun w => by rw [w, hq2] at hy; cases hy; exact isN_noA hi)]
        exact hy
      have hd3 : nd x (hup H2 q (.inl (5, 3, pav (va_up g p (some a))))) (tk_mu n (tk_lex b n t.2.2.2) - tk_mu n z.2) a z.1 := nd_keep kp3 _ _ _ hnd2
      have ht1 := tk_mu_le (n := n) (t := tk_lex b n t.2.2.2)
      show zrc (hup H2 q (.inl (5, 3, pav (va_up g p (some a))))) (some x) 0 _
      rw [N_rc hP3, N_isSign hP3, N_rc hP3]
      refine N_need hf hP3 (tk_sg 59 z.2) rfl (fun c h4 hP4 => ?_) (fun c c5 h4 hP4 => ?_) (fun c c6 h4 hP4 hF4 => ?_)
      · rw [if_neg c] at hr
        subst hr
        exact kx' _ _ _ rfl h4 hP4
      · rw [if_pos c, tk_nx_5 c5] at hr
        subst hr
        exact kx' _ _ _ rfl h4 hP4
      · rw [if_pos c, tk_nx_n c6] at hr
        subst hr
        have h0z : z.2.1 ≠ 0 := by rw [c.1]; decide
        have hmz := tk_mu_lt (b := b) h0z hz.1
        rw [nm_eq, nI_1]
        refine kk _ rfl h4 a _ _ hP4 ?_ (fun d a' g' nn => N_keep hP3 hF4 (nd_keep kp3 _ _ _ (N_keep hh (hF.trans hF2) nn))) (N_keep hP3 hF4 (nd_mono _ 190 a z.1 (by omega) hd3)) (by show tk_mu n (tk_lex b n z.2.2.2.2) ≤ _; omega) (by show 3 * tk_mu n (tk_lex b n z.2.2.2.2) ≤ _; omega)
        rw [hF4 q nqx (by rw [hup_self]; exact fun y => by cases y)]
        exact hup_self _ _ _
theorem D_newText (hf : 400 ≤ f) (h6 : nP σ ≤ 6) {c k : Nat} (hc : c < 6) (e3 : σ 3 0 = nI c) (hk : k ≤ 160) (e6 : σ 6 0 = nI k) (hb5 : ∀ i, i < 160 → 0 ≤ (σ 5 i).toInt ∧ (σ 5 i).toInt ≤ 255) (hh : Ch sa x ca Md b0 G pa rw σ h) {mc ms : Nat} (hmc : 170 ≤ mc) (hms : 500 ≤ ms)
    (kF : ∀ e, tk_text (fun i => σ 5 i) k = .inl e → ∀ h', Ch sa x ca Md b0 G pa rw (mup σ 6 0 0) h' → K (-100 - nI e) h')
    (kk : ∀ g, tk_text (fun i => σ 5 i) k = .inr g → ∀ (G' : TG) h', (∀ t j, t < c → j < 3 → G' t j = G t j) → (∀ j, j < 3 → G' c j = pt3 g.1 g.2.1 g.2.2 j) → Ch sa x ca Md b0 G' pa rw (mup (mup σ 6 0 0) 3 0 (nI (c + 1))) h' → K (nI c) h') : zf0_newText sa f h mc ms (some x) K := by
  obtain ⟨κ, lab, hC⟩ := hh
  have hC : Cl sa x ca Md b0 G pa rw σ κ lab h := hC
  have eX := hC.hXe
  have h613 : nP (mup σ 6 0 0) ≤ 6 := h6
  have ek6 : κ 6 0 = nI k := by rw [hC.1.1 6 (by decide)]; exact e6
  have hT : rdT k (σ 5) (κ 213) := ⟨hk, fun i hi => ⟨hC.1.2.2.2 i (by rw [e6, nI_clamp (by omega)]; exact hi), hb5 i (by omega)⟩⟩
  unfold zf0_newText
  rw [cgI hC.2.1.1 rfl, ek6, ← eX, rd_pf (q := 215) (by decide), rd_pf (q := 6) (by decide), rd_pf (q := 216) (by decide), rd_pf (q := 220) (by decide)]
  have hC2 := hC.t0
  have eC : hX x ca (hX x ca h (mup κ 6 0 0)) (mup (mup (mup (mup κ 215 0 (nI k)) 6 0 0) 216 0 0) 220 0 0) = hX x ca h (mup (mup (mup (mup κ 215 0 (nI k)) 6 0 0) 216 0 0) 220 0 0) := hup_hup _ _ _ _
  have hC3 := hC2.sc (κ' := mup (mup (mup (mup κ 215 0 (nI k)) 6 0 0) 216 0 0) 220 0 0) (fun j hj => by
    rw [mup_ne0 (by omega), mup_ne0 (by omega)]
    by_cases z : j = 6
    · rw [z]
      funext i
      rw [mup_kk, mup_kk]
      rfl
    · rw [mup_ne0 z, mup_ne0 (by omega), mup_ne0 z])
  rw [eC] at hC3
  have e213 : mup (mup (mup (mup κ 215 0 (nI k)) 6 0 0) 216 0 0) 220 0 0 213 = κ 213 := rfl
  have e215 : mup (mup (mup (mup κ 215 0 (nI k)) 6 0 0) 216 0 0) 220 0 0 215 0 = nI k := rfl
  have e216 : mup (mup (mup (mup κ 215 0 (nI k)) 6 0 0) 216 0 0) 220 0 0 216 0 = nI 0 := rfl
  have e220 : mup (mup (mup (mup κ 215 0 (nI k)) 6 0 0) 216 0 0) 220 0 0 220 0 = nI 0 := rfl
  generalize mup (mup (mup (mup κ 215 0 (nI k)) 6 0 0) 216 0 0) 220 0 0 = κ1 at hC3 e213 e215 e216 e220 ⊢
  generalize hX x ca h κ1 = H0 at hC3 ⊢
  refine ⟨by decide, by decide, by omega, by show 3 ≤ ms; omega, fun q hq => ?_⟩
  have hms3 : (3 : Int32).toNatClampNeg = 3 := by decide
  rw [hms3]
  have hC4 := hC3.al hq (e := .inl (5, 3, pav (fun _ => none))) isN_noA (L := 1400) (by decide)
  have lq : (fun a => if a = q then 1400 else lab a) q = 1400 := if_pos rfl
  generalize (fun a => if a = q then 1400 else lab a) = lab2 at hC4 lq
  have hq1 : hup H0 q (.inl (5, 3, pav (fun _ => none))) q = some (.inl (5, 3, pav (fun _ => none))) := hup_self _ _ _
  show zrc (hup H0 q (.inl (5, 3, pav (fun _ => none)))) (some x) 0 _
  generalize hup H0 q (.inl (5, 3, pav (fun _ => none))) = H1 at hC4 hq1 ⊢
  rw [crc hC4.2.1.1]
  have hT1 : rdT k (σ 5) (κ1 213) := by rw [e213]; exact hT
  have eH1 := hC4.hXe
  have fin : ∀ e, tk_text (fun i => σ 5 i) k = .inl e → ∀ H, PXc sa x ca Md b0 G pa rw (mup σ 6 0 0) lab2 e H → K (-100 - nI e) H := fun e he H hP => by
    obtain ⟨κ', hC', -⟩ := hP
    exact kF e he H (Cl_ch hC')
  have et : ∃ r, tk_text (fun i => σ 5 i) k = r := ⟨_, rfl⟩
  obtain ⟨r, hr⟩ := et
  rw [hr] at fin kk
  unfold tk_text at hr
  have eb : (fun i => σ 5 i) = σ 5 := rfl
  rw [eb] at hr
  rw [← eH1]
  refine rd_next hC4.rdB hT1 (by omega) e215 e216 e220 (Nat.zero_le _) (fun c5 κ' hk' h217 => ?_) (fun c5 κ' hk' hT' => ?_)
  · rw [if_pos c5] at hr
    subst hr
    intro q13
    have hP : PXc sa x ca Md b0 G pa rw (mup σ 6 0 0) lab2 (tk_lex (σ 5) k 0).2.2.1 (hX x ca H1 κ') := ⟨κ', hC4.sc hk', h217⟩
    exact T_86 hP fun _ => fin _ rfl _ hP
  · rw [if_neg c5] at hr
    have hP0 : POc sa x ca Md b0 G pa rw (mup σ 6 0 0) lab2 k (σ 5) (tk_lex (σ 5) k 0) 0 (hX x ca H1 κ') := ⟨κ', ⟨hC4.sc hk', by rw [hk' 213 (by omega)]; exact hT1⟩, hT'⟩
    have nqx : q ≠ x := fun y => by
      have := hC4.2.1.2
      rw [← y, lq] at this
      exact absurd this (by decide)
    have hq2 : hX x ca H1 κ' q = some (.inl (5, 3, pav (fun _ => none))) := by rw [hX_ne nqx]; exact hq1
    generalize hX x ca H1 κ' = H2 at hP0 hq2 ⊢
    have hmu0 := tk_mu_le (n := k) (t := tk_lex (σ 5) k 0)
    generalize tk_lex (σ 5) k 0 = t0 at hr hP0 hmu0
    obtain ⟨f', rfl⟩ : ∃ f', f = f' + 4 := ⟨f - 4, by omega⟩
    refine T_part (by omega) h613 lq (p := 0) (by decide) hP0 hq2 (by omega) (by omega) (fun e he H hP => ?_) (fun r0 he0 H3 a0 m0 s0 hP1 hq3 kp1 hd0 hm0 hs0 => ?_)
    · rw [he] at hr
      subst hr
      exact fin _ rfl H hP
    rw [he0] at hr
    have hr : (match tk_part (σ 5) k 1 r0.2 with
      | .inl e => .inl e
      | .inr q => match tk_part (σ 5) k 2 q.2 with
        | .inl e => .inl e
        | .inr r => if r.2.1 = 0 then .inr (r0.1, q.1, r.1) else .inl r.2.2.2.1) = r := hr
    refine T_part (by omega) h613 lq (p := 1) (by decide) hP1 hq3 hm0 hs0 (fun e he H hP => ?_) (fun r1 he1 H4 a1 m1 s1 hP2 hq4 kp2 hd1 hm1 hs1 => ?_)
    · rw [he] at hr
      subst hr
      exact fin _ rfl H hP
    rw [he1] at hr
    have hr : (match tk_part (σ 5) k 2 r1.2 with
        | .inl e => .inl e
        | .inr r => if r.2.1 = 0 then .inr (r0.1, r1.1, r.1) else .inl r.2.2.2.1) = r := hr
    refine T_part (by omega) h613 lq (p := 2) (by decide) hP2 hq4 hm1 hs1 (fun e he H hP => ?_) (fun r2 he2 H5 a2 m2 s2 hP3 hq5 kp3 hd2 hm2 hs2 => ?_)
    · rw [he] at hr
      subst hr
      exact fin _ rfl H hP
    rw [he2] at hr
    have hr : (if r2.2.1 = 0 then .inr (r0.1, r1.1, r2.1) else .inl r2.2.2.2.1) = r := hr
    show zb0_newText_34 sa (f' + 4) K (zl0_newText_34 sa (f' + 4) K f') H5 m2 s2 (some x) (some q) 3
    unfold zb0_newText_34
    rw [if_neg (by decide), N_18 hP3]
    by_cases c0 : r2.2.1 = 0
    · rw [if_pos c0] at hr
      subst hr
      rw [if_pos (by rw [c0]; rfl)]
      obtain ⟨κ3, ⟨hC5, -⟩, -⟩ := hP3
      have hx5 := hC5.2.1.1
      have e3' : mup σ 6 0 0 3 0 = nI c := e3
      have ek3 : κ3 3 0 = nI c := by rw [hC5.1.1 3 (by decide)]; exact e3'
      rw [cgR hx5 rfl, cgI hx5 rfl, ek3]
      obtain ⟨tx, ⟨⟨fo2, f1, f2⟩, l9⟩, f3⟩ := hC5.2.2.2.2.2.2.2.1
      refine ⟨⟨q, _, rfl, hq5⟩, ca 9, 6, fo2, rfl, f1, vp_in_nI hc (by omega), ?_⟩
      rw [nI_clamp (by omega)]
      have n9x : ca 9 ≠ x := fun z => by
        have := hC5.2.1.2
        rw [← z, l9] at this
        exact absurd this (by decide)
      have ex6 : hup H5 (ca 9) (.inl (6, 6, pav (va_up fo2 c (some q)))) = hX x ca (hup H5 (ca 9) (.inl (6, 6, pav (va_up fo2 c (some q))))) κ3 := by
        funext y
        by_cases z : y = x
        · rw [z, hX_x, hup_ne _ _ (fun w => n9x w.symm)]; exact hx5
        · rw [hX_ne z]
      have G'e : ∃ G' : TG, G' = fun t j => if t = c then pt3 r0.1 r1.1 r2.1 j else G t j := ⟨_, rfl⟩
      obtain ⟨G', hG'⟩ := G'e
      have g1 : ∀ t j, t < c → j < 3 → G' t j = G t j := fun t j h1 _ => by rw [hG']; exact if_neg (by omega)
      have g2 : ∀ j, G' c j = pt3 r0.1 r1.1 r2.1 j := fun j => by rw [hG']; exact if_pos rfl
      have fin2 := hC5.txt h613 hc e3' lq hq5 g1 (fun j hj => by
        rw [g2]
        have : j = 0 ∨ j = 1 ∨ j = 2 := by omega
        rcases this with rfl | rfl | rfl
        · exact ⟨a0, rfl, kp3 _ _ _ (kp2 _ _ _ hd0)⟩
        · exact ⟨a1, rfl, kp3 _ _ _ hd1⟩
        · exact ⟨a2, rfl, hd2⟩) f1
      show gfI (hup H5 (ca 9) (.inl (6, 6, pav (va_up fo2 c (some q))))) (some x) [0] 10 _
      rw [ex6, cgI hX_x rfl, ek3, nI_1, rd_pf (q := 3) (by decide), cgI hX_x rfl]
      have e3n : mup κ3 3 0 (nI (c + 1)) 3 0 = nI (c + 1) := mup_s0
      rw [e3n, nI_pred]
      exact kk _ rfl G' _ g1 (fun j _ => g2 j) fin2
    · rw [if_neg c0] at hr
      subst hr
      have hlt := N_lt hP3
      rw [if_neg (show ¬ nI _ = 0 from fun z => c0 ((nI_eq (b := 0) (by omega) (by omega)).mp z))]
      exact N_throw (X0 := fun H => ∀ q22 : Nat, zj0_newText_86 sa (f' + 4) K H m2 s2 (some x) (some q22)) hP3 fun H hP q22 => T_86 hP fun _ => fin _ rfl H hP
theorem D_text (hf : 400 ≤ f) (hW : WS σ) (hh : Ch sa x ca Md b0 G pa rw σ h) {mc ms : Nat} (hmc : 200 ≤ mc) (hms : 600 ≤ ms) (k4 : σ 3 0 = 6 → K (-4) h)
    (kF : ∀ c k e : Nat, σ 3 0 = nI c → σ 6 0 = nI k → c < 6 → k ≤ 160 → tk_text (fun i => σ 5 i) k = .inl e → ∀ h', Ch sa x ca Md b0 G pa rw (mup σ 6 0 0) h' → K (-100 - nI e) h')
    (kk : ∀ (c k : Nat) (g : SEM × SEM × SEM), σ 3 0 = nI c → σ 6 0 = nI k → c < 6 → k ≤ 160 → tk_text (fun i => σ 5 i) k = .inr g → ∀ (G' : TG) h', (∀ t j, t < c → j < 3 → G' t j = G t j) → (∀ j, j < 3 → G' c j = pt3 g.1 g.2.1 g.2.2 j) → Ch sa x ca Md b0 G' pa rw (mup (mup σ 6 0 0) 3 0 (nI (c + 1))) h' → K (nI c) h') : zf0_text sa f h mc ms (some x) K := by
  have hn := (nP_eq hW).2
  obtain ⟨-, ⟨c, r, hc, e3, -⟩, ⟨k, hk, e6⟩, -, hb5, -⟩ := hW
  unfold zf0_text
  simp only [zcQ hh]
  by_cases c6 : σ 3 0 = 6
  · rw [if_pos c6]
    exact k4 c6
  · rw [if_neg c6]
    have hc6 : c < 6 := by
      rcases Nat.lt_or_ge c 6 with z | z
      · exact z
      · exact absurd (by rw [e3, show c = 6 from by omega]; rfl) c6
    refine ⟨170, 500, by omega, by omega, ?_⟩
    exact D_newText hf hn hc6 e3 hk e6 hb5 hh (Nat.le_refl _) (Nat.le_refl _) (fun e he h' hh' => kF c k e e3 e6 hc6 hk he h' hh') (fun g hg G' h' g1 g2 hh' => kk c k g e3 e6 hc6 hk hg G' h' g1 g2 hh')
end TXD
