/-! THE CLASS READS: the heap in labels, and a reader's state; nodes made -/
set_option maxRecDepth 100000
/-- Ch, its fields and labels shown -/
def Cl (sa : Nat → Nat) (x : Nat) (ca : Nat → Nat) (Md : Nat → Prop) (b0 : zH) (G : TG) (pa : Nat → Nat) (rw : Nat → Option Nat) (σ κ : ST) (lab : Nat → Nat) (h : zH) : Prop := Agr κ σ ∧ Cx x ca κ lab h ∧ Ci ca κ lab h ∧ Cr sa ca lab h ∧ Cp ca pa σ lab h ∧ Cs ca rw lab h ∧ Cw rw σ lab h ∧ Ct x ca G σ lab h ∧ Cf ca lab h ∧ Cm Md b0 lab h
theorem Cl_ch {sa : Nat → Nat} {x : Nat} {ca : Nat → Nat} {Md : Nat → Prop} {b0 : zH} {G : TG} {pa : Nat → Nat} {rw : Nat → Option Nat} {σ κ : ST} {lab : Nat → Nat} {h : zH} (hh : Cl sa x ca Md b0 G pa rw σ κ lab h) : Ch sa x ca Md b0 G pa rw σ h := ⟨κ, lab, hh⟩
/-- all stays but the object and fresh places -/
def FR (x : Nat) (h h' : zH) : Prop := ∀ a, a ≠ x → h a ≠ none → h' a = h a
theorem FR.rfl' {x : Nat} {h : zH} : FR x h h := fun _ _ _ => rfl
theorem FR.trans {x : Nat} {a b c : zH} (h1 : FR x a b) (h2 : FR x b c) : FR x a c := fun q n z => (h2 q n (by rw [h1 q n z]; exact z)).trans (h1 q n z)
theorem FR_al {x q : Nat} {h : zH} {e : zE} (hq : h q = none) : FR x h (hup h q e) := fun a _ z => hup_ne _ _ fun y => z (by rw [y]; exact hq)
theorem FR_hX {x : Nat} {ca : Nat → Nat} {h : zH} {κ : ST} : FR x h (hX x ca h κ) := fun a n _ => hX_ne n
/-- a node that isn't one yet -/
def raw (e : zE) : Prop := e = .inr (10, [.int 0, .null, .null]) ∨ e = .inr (9, [.null, .int 0])
theorem raw_N {e : zE} (h : raw e) : isN e := by
  rcases h with rfl | rfl
  · exact ⟨10, _, rfl, by decide, by decide⟩
  · exact ⟨9, _, rfl, by decide, by decide⟩
theorem nd_raw {x q : Nat} {h : zH} {e e' : zE} (hq : h q = some e) (hr : raw e) : ∀ (d a : Nat) (g : SEM), nd x h d a g → nd x (hup h q e') d a g := by
  intro d
  induction d with
  | zero => intro a g n; exact n.elim
  | succ d ih =>
    intro a g n
    have ne : ∀ {o}, h a = some o → ¬ raw o → hup h q e' a = some o := by
      intro o ho hn
      rw [hup_ne _ _ (fun z => hn (by rw [z, hq] at ho; cases ho; exact hr))]
      exact ho
    rcases n with ⟨v, h1, h2⟩ | ⟨j, hj, h1, h2⟩ | ⟨b, g1, h1, h2, h3⟩ | ⟨b, g1, h1, h2, h3⟩ | ⟨s, b, c, g1, g2, h1, h2, h3, h4⟩
    · exact Or.inl ⟨v, ne h1 (by rintro (z | z) <;> cases z), h2⟩
    · exact Or.inr (Or.inl ⟨j, hj, ne h1 (by rintro (z | z) <;> cases z), h2⟩)
    · exact Or.inr (Or.inr (Or.inl ⟨b, g1, ne h1 (by rintro (z | z) <;> cases z), ih b g1 h2, h3⟩))
    · exact Or.inr (Or.inr (Or.inr (Or.inl ⟨b, g1, ne h1 (by rintro (z | z) <;> cases z), ih b g1 h2, h3⟩)))
    · exact Or.inr (Or.inr (Or.inr (Or.inr ⟨s, b, c, g1, g2, ne h1 (by rintro (z | z) <;> cases z), ih b g1 h2, ih c g2 h3, h4⟩)))
theorem nd_mono {x : Nat} {h : zH} : ∀ (d d' a : Nat) (g : SEM), d ≤ d' → nd x h d a g → nd x h d' a g := by
  intro d
  induction d with
  | zero => intro d' a g _ n; exact n.elim
  | succ d ih =>
    intro d' a g hd n
    obtain ⟨d', rfl⟩ : ∃ e, d' = e + 1 := ⟨d' - 1, by omega⟩
    rcases n with h1 | h1 | ⟨b, g1, h1, h2, h3⟩ | ⟨b, g1, h1, h2, h3⟩ | ⟨s, b, c, g1, g2, h1, h2, h3, h4⟩
    · exact Or.inl h1
    · exact Or.inr (Or.inl h1)
    · exact Or.inr (Or.inr (Or.inl ⟨b, g1, h1, ih d' b g1 (by omega) h2, h3⟩))
    · exact Or.inr (Or.inr (Or.inr (Or.inl ⟨b, g1, h1, ih d' b g1 (by omega) h2, h3⟩)))
    · exact Or.inr (Or.inr (Or.inr (Or.inr ⟨s, b, c, g1, g2, h1, ih d' b g1 (by omega) h2, ih d' c g2 (by omega) h3, h4⟩)))
section CL3
variable {f : Nat} {sa : Nat → Nat} {x : Nat} {ca : Nat → Nat} {Md : Nat → Prop} {b0 : zH} {G : TG} {pa : Nat → Nat} {rw : Nat → Option Nat} {σ κ κ' : ST} {lab : Nat → Nat} {h h' : zH}
theorem Cl.hXe (hh : Cl sa x ca Md b0 G pa rw σ κ lab h) : hX x ca h κ = h := by
  funext q
  by_cases z : q = x
  · rw [z, hX_x, hh.2.1.1]
  · rw [hX_ne z]
/-- the reader's own fields may be written -/
theorem Cl.sc (hh : Cl sa x ca Md b0 G pa rw σ κ lab h) (hk : KF κ κ') : Cl sa x ca Md b0 G pa rw σ κ' lab (hX x ca h κ') := by
  obtain ⟨a1, a2, a3, a4, a5, a6, a7, a8, a9, a10⟩ := hh
  have lx := a2.2
  refine ⟨⟨fun k hk' => ?_, fun i hi => ?_, fun k hk' => ?_, fun i hi => ?_⟩, ⟨hX_x, lx⟩, ?_, a4.up (fun e _ => by rw [lx]; omega), a5.up (by rw [lx]; decide) (fun p _ => by rw [lx]; omega), a6.up (fun s _ => by rw [lx]; omega), a7.up (fun s _ => by rw [lx]; omega), a8.up (by rw [lx]; decide) (by rw [lx]; decide) a10.2.2 (by rw [lx]; decide), a9.up (by rw [lx]; decide), a10.up (by rw [lx]; decide) (isN_no (by omega))⟩
  · rw [hk k (by left; simp only [List.mem_cons, List.not_mem_nil, or_false] at hk'; omega)]; exact a1.1 k hk'
  · rw [hk 8 (by omega)]; exact a1.2.1 i hi
  · rw [hk k (by omega)]; exact a1.2.2.1 k hk'
  · rw [hk 213 (by omega)]; exact a1.2.2.2 i hi
  · have := a3.up (a := x) (e := .inr (0, cfs ca κ')) (fun e _ => by rw [lx]; omega)
    intro e he
    have he2 : e.1 < 215 ∨ 220 < e.1 := by
      have : ∀ e ∈ cia, e.1 < 215 ∨ 220 < e.1 := by decide
      exact this e he
    rw [hk e.1 he2]
    exact this e he
theorem Cl.rdB (hh : Cl sa x ca Md b0 G pa rw σ κ lab h) : rdB sa x ca (κ 213) h := by
  obtain ⟨a1, a2, a3, a4, a5, a6, a7, a8, a9, a10⟩ := hh
  have lx := a2.2
  refine ⟨⟨(a3 (213, 1, 160) (by decide)).1, fun z => ?_⟩, ⟨a9.1, fun z => ?_⟩, fun k hk => ⟨?_, fun z => ?_⟩⟩
  · have := (a3 (213, 1, 160) (by decide)).2
    have this : lab (ca 213) = 313 := this
    rw [z, lx] at this
    exact absurd this (by decide)
  · have := a9.2
    rw [z, lx] at this
    exact absurd this (by decide)
  · rcases hk with rfl | rfl
    · exact (a4 (11, 7, 6) (by decide)).1
    · exact (a4 (12, 7, 6) (by decide)).1
  · have l : lab (ca k) = 100 + k := by
      rcases hk with rfl | rfl
      · exact (a4 (11, 7, 6) (by decide)).2
      · exact (a4 (12, 7, 6) (by decide)).2
    rw [z, lx] at l
    omega
/-- a node's cell is laid at a free place, or over a raw one -/
theorem Cl.nod (hh : Cl sa x ca Md b0 G pa rw σ κ lab h) {q : Nat} {e : zE} (hq : h q = none ∨ ((∃ o, h q = some o ∧ raw o) ∧ ¬ Md q)) (he : isN e) : Cl sa x ca Md b0 G pa rw σ κ lab (hup h q e) := by
  obtain ⟨a1, a2, a3, a4, a5, a6, a7, a8, a9, a10⟩ := hh
  have lq : lab q = 0 := by
    rcases hq with z | ⟨⟨o, z, r⟩, -⟩
    · exact a10.2.1 q z
    · exact a10.2.2 q o z (raw_N r)
  have nM : ¬ Md q := by
    rcases hq with z | ⟨-, r⟩
    · intro y
      exact (a10.1 q y).2.1 (by rw [← (a10.1 q y).1, z])
    · exact r
  have kp : ∀ (d a : Nat) (g : SEM), nd x h d a g → nd x (hup h q e) d a g := by
    rcases hq with z | ⟨⟨o, z, r⟩, -⟩
    · intro d a g n
      refine nd_keep (fun r e' hr _ => ?_) d a g n
      rw [hup_ne _ _ (fun y => by rw [y, z] at hr; cases hr)]
      exact hr
    · exact nd_raw z r
  refine ⟨a1, a2.up (by rw [lq]; decide), a3.up (fun e _ => by rw [lq]; omega), a4.up (fun e _ => by rw [lq]; omega), a5.up (by rw [lq]; decide) (fun p _ => by rw [lq]; omega), a6.up (fun s _ => by rw [lq]; omega), a7.up (fun s _ => by rw [lq]; omega), ?_, a9.up (by rw [lq]; decide), fun q' hq' => ⟨?_, (a10.1 q' hq').2⟩, fun q' hq' => ?_, fun q' e' hq' hi => ?_⟩
  · obtain ⟨tx, h1, h2⟩ := a8
    refine ⟨tx, ⟨by rw [hup_lab (lab := lab) (by rw [h1.2, lq]; decide)]; exact h1.1, h1.2⟩, fun t ht => ?_⟩
    obtain ⟨h3, f, h4, h5⟩ := h2 t ht
    refine ⟨h3, f, by rw [hup_lab (lab := lab) (by rw [h3, lq]; decide)]; exact h4, fun k hk => ?_⟩
    obtain ⟨a, h6, h7⟩ := h5 k hk
    exact ⟨a, h6, kp _ _ _ h7⟩
  · rw [hup_ne _ _ (fun z => nM (by rw [← z]; exact hq'))]
    exact (a10.1 q' hq').1
  · by_cases z : q' = q
    · rw [z]; exact lq
    · rw [hup_ne _ _ z] at hq'; exact a10.2.1 q' hq'
  · by_cases z : q' = q
    · rw [z]; exact lq
    · rw [hup_ne _ _ z] at hq'; exact a10.2.2 q' e' hq' hi
end CL3
/-- where the reader stands: what it needs of the world -/
def RC (sa : Nat → Nat) (x : Nat) (ca : Nat → Nat) (Md : Nat → Prop) (b0 : zH) (G : TG) (pa : Nat → Nat) (rw : Nat → Option Nat) (σ : ST) (lab : Nat → Nat) (n : Nat) (b : Nat → Int32) (κ : ST) (h : zH) : Prop := Cl sa x ca Md b0 G pa rw σ κ lab h ∧ rdT n b (κ 213)
section PR3
variable {f : Nat} {sa : Nat → Nat} {x : Nat} {ca : Nat → Nat} {Md : Nat → Prop} {b0 : zH} {G : TG} {pa : Nat → Nat} {rw : Nat → Option Nat} {σ : ST} {lab : Nat → Nat} {n : Nat} {b : Nat → Int32} {h : zH} {t : Tok} {op e : Nat}
def POc (sa : Nat → Nat) (x : Nat) (ca : Nat → Nat) (Md : Nat → Prop) (b0 : zH) (G : TG) (pa : Nat → Nat) (rw : Nat → Option Nat) (σ : ST) (lab : Nat → Nat) (n : Nat) (b : Nat → Int32) (t : Tok) (op : Nat) (h : zH) : Prop := ∃ κ, RC sa x ca Md b0 G pa rw σ lab n b κ h ∧ TK n t op κ
def PXc (sa : Nat → Nat) (x : Nat) (ca : Nat → Nat) (Md : Nat → Prop) (b0 : zH) (G : TG) (pa : Nat → Nat) (rw : Nat → Option Nat) (σ : ST) (lab : Nat → Nat) (e : Nat) (h : zH) : Prop := ∃ κ, Cl sa x ca Md b0 G pa rw σ κ lab h ∧ κ 217 0 = nI e
theorem RC.up {κ κ' : ST} (hh : RC sa x ca Md b0 G pa rw σ lab n b κ h) (hk : KF κ κ') : RC sa x ca Md b0 G pa rw σ lab n b κ' (hX x ca h κ') := ⟨hh.1.sc hk, by rw [hk 213 (by omega)]; exact hh.2⟩
theorem N_next (hf : 200 ≤ f) (hh : POc sa x ca Md b0 G pa rw σ lab n b t op h) {K X0 : zH → Prop}
    (k5 : (tk_lex b n t.2.2.2).1 = 5 → ∀ h', PXc sa x ca Md b0 G pa rw σ lab (tk_lex b n t.2.2.2).2.2.1 h' → X0 h')
    (k : (tk_lex b n t.2.2.2).1 ≠ 5 → ∀ h', POc sa x ca Md b0 G pa rw σ lab n b (tk_lex b n t.2.2.2) op h' → FR x h h' → K h') : zf0_next sa f h (some x) K X0 := by
  obtain ⟨κ, hR, hT⟩ := hh
  have e := hR.1.hXe
  rw [← e]
  refine rd_next hR.1.rdB hR.2 hf hT.1 hT.2.1 hT.2.2.2.2.2.1 hT.2.2.2.2.2.2.2.1 (fun c κ' hk h217 => ?_) (fun c κ' hk hT' => ?_)
  · exact k5 c _ ⟨κ', hR.1.sc hk, h217⟩
  · exact k c _ ⟨κ', hR.up hk, hT'⟩ FR_hX
theorem N_rc (hh : POc sa x ca Md b0 G pa rw σ lab n b t op h) {F : Prop} : zrc h (some x) 0 F = F := by
  obtain ⟨κ, hR, hT⟩ := hh
  exact crc hR.1.2.1.1 F
theorem N_isKey (hh : POc sa x ca Md b0 G pa rw σ lab n b t op h) {k : Nat} (hk : k < 6) {K : Int32 → zH → Prop} : zf0_isKey f h (some x) (nI k) K = K (if tk_key k t then 1 else 0) h := by
  obtain ⟨κ, hR, hT⟩ := hh
  have hx := hR.1.2.1.1
  unfold zf0_isKey
  rw [cgI hx rfl, hT.2.2.2.1]
  have h5 := hT.2.2.2.2.2.2.1
  by_cases c : t.1 = 1
  · rw [if_pos (by rw [c]; rfl), cgI hx rfl, hT.2.2.2.2.1 (by rw [c]; decide)]
    by_cases c2 : t.2.1 = nI k
    · rw [if_pos c2, if_pos ⟨c, c2⟩]
    · rw [if_neg c2, if_neg (fun z => c2 z.2)]
  · rw [if_neg (show ¬ nI _ = 1 from fun z => c ((nI_eq (b := 1) (by omega) (by omega)).mp z)), if_neg (fun z => c z.1)]
theorem N_isSign (hh : POc sa x ca Md b0 G pa rw σ lab n b t op h) {c : Int32} {K : Int32 → zH → Prop} : zf0_isSign f h (some x) c K = K (if tk_sg c t then 1 else 0) h := by
  obtain ⟨κ, hR, hT⟩ := hh
  have hx := hR.1.2.1.1
  unfold zf0_isSign
  rw [cgI hx rfl, hT.2.2.2.1]
  have h5 := hT.2.2.2.2.2.2.1
  by_cases c4 : t.1 = 4
  · rw [if_pos (by rw [c4]; rfl), cgI hx rfl, hT.2.2.2.2.1 (by rw [c4]; decide)]
    by_cases c2 : t.2.1 = c
    · rw [if_pos c2, if_pos ⟨c4, c2⟩]
    · rw [if_neg c2, if_neg (fun z => c2 z.2)]
  · rw [if_neg (show ¬ nI _ = 4 from fun z => c4 ((nI_eq (b := 4) (by omega) (by omega)).mp z)), if_neg (fun z => c4 z.1)]
theorem N_18 (hh : POc sa x ca Md b0 G pa rw σ lab n b t op h) {P : Int32 → Prop} : gfI h (some x) [0] 18 P = P (nI t.1) := by
  obtain ⟨κ, hR, hT⟩ := hh
  rw [cgI hR.1.2.1.1 rfl, hT.2.2.2.1]
theorem N_19 (hh : POc sa x ca Md b0 G pa rw σ lab n b t op h) {P : Int32 → Prop} (kk : ∀ v, (t.1 ≠ 0 → v = t.2.1) → P v) : gfI h (some x) [0] 19 P := by
  obtain ⟨κ, hR, hT⟩ := hh
  rw [cgI hR.1.2.1.1 rfl]
  exact kk _ hT.2.2.2.2.1
theorem N_throw (hh : POc sa x ca Md b0 G pa rw σ lab n b t op h) {X0 : zH → Prop} (kk : ∀ h', PXc sa x ca Md b0 G pa rw σ lab t.2.2.1 h' → X0 h') : gfR h (some x) [0] 4 fun r => zrc h r 12 (X0 h) := by
  obtain ⟨κ, hR, hT⟩ := hh
  rw [cgR hR.1.2.1.1 rfl]
  obtain ⟨fs, hf⟩ := hR.1.2.2.2.2.2.2.2.2.1.1
  rw [crc hf]
  exact kk _ ⟨κ, hR.1, hT.2.2.1⟩
theorem N_opn {op' : Nat} (hh : POc sa x ca Md b0 G pa rw σ lab n b t op h) {v : Int32} (hv : v = nI op') {P : zH → Prop} (kk : ∀ h', POc sa x ca Md b0 G pa rw σ lab n b t op' h' → FR x h h' → P h') : pf h (some x) [0] 20 (.int v) P := by
  obtain ⟨κ, hR, hT⟩ := hh
  have e := hR.1.hXe
  rw [← e, rd_pf (q := 220) (by decide)]
  have hk : KF κ (mup κ 220 0 v) := KF.rfl'.up ⟨by omega, by omega⟩
  refine kk _ ⟨_, hR.up hk, ?_⟩ FR_hX
  obtain ⟨t1, t2, t3, t4, t5, t6, t7, t8, t9⟩ := hT
  exact ⟨by rw [mup_ne0 (by decide)]; exact t1, by rw [mup_ne0 (by decide)]; exact t2, by rw [mup_ne0 (by decide)]; exact t3, by rw [mup_ne0 (by decide)]; exact t4, fun z => by rw [mup_ne0 (by decide)]; exact t5 z, by rw [mup_s0]; exact hv, t7, t8, t9⟩
theorem N_20 (hh : POc sa x ca Md b0 G pa rw σ lab n b t op h) {P : Int32 → Prop} : gfI h (some x) [0] 20 P = P (nI op) := by
  obtain ⟨κ, hR, hT⟩ := hh
  rw [cgI hR.1.2.1.1 rfl, hT.2.2.2.2.2.1]
theorem N_need (hf : 200 ≤ f) (hh : POc sa x ca Md b0 G pa rw σ lab n b t op h) {K X0 : zH → Prop} {v : Int32} (c : Prop) [Decidable c] (hv : v = if c then 1 else 0)
    (k0 : ¬ c → ∀ h', PXc sa x ca Md b0 G pa rw σ lab t.2.2.1 h' → X0 h')
    (k5 : c → (tk_lex b n t.2.2.2).1 = 5 → ∀ h', PXc sa x ca Md b0 G pa rw σ lab (tk_lex b n t.2.2.2).2.2.1 h' → X0 h')
    (k : c → (tk_lex b n t.2.2.2).1 ≠ 5 → ∀ h', POc sa x ca Md b0 G pa rw σ lab n b (tk_lex b n t.2.2.2) op h' → FR x h h' → K h') : zf0_need sa f h (some x) v K X0 := by
  unfold zf0_need
  by_cases d : c
  · rw [hv, if_pos d, if_neg (by decide), N_rc hh]
    exact N_next hf hh (k5 d) (k d)
  · rw [hv, if_neg d, if_pos rfl]
    exact N_throw hh (k0 d)
theorem N_open (hf : 200 ≤ f) (hh : POc sa x ca Md b0 G pa rw σ lab n b t op h) (ho : op ≤ 5) {K X0 : zH → Prop}
    (k0 : ¬ op < 5 → ∀ h', PXc sa x ca Md b0 G pa rw σ lab t.2.2.1 h' → X0 h')
    (k5 : op < 5 → (tk_lex b n t.2.2.2).1 = 5 → ∀ h', PXc sa x ca Md b0 G pa rw σ lab (tk_lex b n t.2.2.2).2.2.1 h' → X0 h')
    (k : op < 5 → (tk_lex b n t.2.2.2).1 ≠ 5 → ∀ h', POc sa x ca Md b0 G pa rw σ lab n b (tk_lex b n t.2.2.2) (op + 1) h' → FR x h h' → K h') : zf0_openOne sa f h (some x) K X0 := by
  unfold zf0_openOne
  rw [N_20 hh]
  have go : ∀ v : Int32, v = (if op < 5 then 1 else 0) → zj0_openOne_14 sa f K X0 h (some x) v (some x) := by
    intro v hv
    unfold zj0_openOne_14
    rw [N_rc hh]
    refine N_need hf hh (op < 5) hv k0 k5 fun c c5 h' hp hF => ?_
    rw [N_20 hp]
    exact N_opn hp (nI_1 op) fun h2 hp2 hF2 => k c c5 h2 hp2 (hF.trans hF2)
  by_cases c : op < 5
  · rw [if_pos (show nI _ < 5 from (nI_ltI (b := 5) (by omega) (by omega)).mpr c)]
    exact go 1 (by rw [if_pos c])
  · rw [if_neg (show ¬ nI _ < 5 from fun z => c ((nI_ltI (b := 5) (by omega) (by omega)).mp z))]
    exact go 0 (by rw [if_neg c])
theorem N_al (hh : POc sa x ca Md b0 G pa rw σ lab n b t op h) {q : Nat} {e : zE} (hq : h q = none ∨ ((∃ o, h q = some o ∧ raw o) ∧ ¬ Md q)) (he : isN e) : POc sa x ca Md b0 G pa rw σ lab n b t op (hup h q e) := by
  obtain ⟨κ, hR, hT⟩ := hh
  exact ⟨κ, ⟨hR.1.nod hq he, hR.2⟩, hT⟩
theorem N_nM (hh : POc sa x ca Md b0 G pa rw σ lab n b t op h) {q : Nat} (hq : h q = none) : ¬ Md q := by
  obtain ⟨κ, hR, hT⟩ := hh
  intro y
  have a10 := hR.1.2.2.2.2.2.2.2.2.2
  exact (a10.1 q y).2.1 (by rw [← (a10.1 q y).1, hq])
theorem N_nx (hh : POc sa x ca Md b0 G pa rw σ lab n b t op h) {q : Nat} (hq : h q = none) : q ≠ x := by
  obtain ⟨κ, hR, hT⟩ := hh
  intro z
  have := hR.1.2.1.1
  rw [← z, hq] at this
  cases this
theorem N_le (hh : POc sa x ca Md b0 G pa rw σ lab n b t op h) : t.2.2.2 ≤ n := by
  obtain ⟨κ, hR, hT⟩ := hh
  exact hT.2.2.2.2.2.2.2.1
theorem N_nm (hh : POc sa x ca Md b0 G pa rw σ lab n b t op h) (h2 : t.1 = 2) : ∃ k, k < 6 ∧ t.2.1 = nI k := by
  obtain ⟨κ, hR, hT⟩ := hh
  exact hT.2.2.2.2.2.2.2.2 h2
theorem N_lt (hh : POc sa x ca Md b0 G pa rw σ lab n b t op h) : t.1 < 5 := by
  obtain ⟨κ, hR, hT⟩ := hh
  exact hT.2.2.2.2.2.2.1
theorem N_n (hh : POc sa x ca Md b0 G pa rw σ lab n b t op h) : n ≤ 160 := by
  obtain ⟨κ, hR, hT⟩ := hh
  exact hR.2.1
/-- nodes stay -/
theorem N_keep {h' : zH} (hh : POc sa x ca Md b0 G pa rw σ lab n b t op h) (hF : FR x h h') {d a : Nat} {g : SEM} (n : nd x h d a g) : nd x h' d a g := by
  obtain ⟨κ, hR, hT⟩ := hh
  refine nd_keep (fun r e hr hi => ?_) d a g n
  have : r ≠ x := fun z => by
    rw [z, hR.1.2.1.1] at hr
    cases hr
    obtain ⟨c, f, h1, h2, h3⟩ := hi
    cases h1
    exact absurd h2 (by decide)
  rw [hF r this (by rw [hr]; exact fun z => by cases z)]
  exact hr
/-! the nodes' constructors -/
theorem pf_1 {h : zH} {q ci k : Nat} {fs : List Value} (hq : h q = some (.inr (ci, fs))) {cs : List Nat} (hc : ci ∈ cs) (hk : k < fs.length) {w : Value} {P : zH → Prop} (kk : P (hup h q (.inr (ci, fs.set k w)))) : pf h (some q) cs k w P := ⟨q, ci, fs, rfl, hq, hc, hk, kk⟩
theorem i_7 {h : zH} {q : Nat} (hq : h q = some (.inr (10, [.int 0, .null, .null]))) {s : Int32} {a c : Option Nat} {K : zH → Prop} (kk : K (hup h q (.inr (10, [.int s, va_rf a, va_rf c])))) : zf7_init f h (some q) s a c K := by
  unfold zf7_init
  refine ⟨q, rfl, ?_⟩
  show zrn (some q) (pf h (some q) [10] 0 (.int s) fun h3 => pf h3 (some q) [10] 1 (va_rf a) fun h4 => pf h4 (some q) [10] 2 (va_rf c) fun h5 => K h5)
  refine ⟨q, rfl, ?_⟩
  refine pf_1 hq (by simp) (by decide) ?_
  refine pf_1 (hup_self _ _ _) (by simp) (Nat.le_of_ble_eq_true rfl) ?_
  refine pf_1 (hup_self _ _ _) (by simp) (Nat.le_of_ble_eq_true rfl) ?_
  rw [hup_hup, hup_hup]
  exact kk
theorem i_4 {h : zH} {q : Nat} (hq : h q = some (.inr (9, [.null, .int 0]))) {s : Int32} (hs : s = 0 ∨ s = 1) {a : Option Nat} {K : zH → Prop} (kk : K (hup h q (.inr (9, [va_rf a, .int s])))) : zf4_init f h (some q) a s K := by
  unfold zf4_init
  refine ⟨q, rfl, q, rfl, ?_⟩
  refine pf_1 hq (by simp) (by decide) ⟨hs, ?_⟩
  refine pf_1 (hup_self _ _ _) (by simp) (Nat.le_of_ble_eq_true rfl) ?_
  rw [hup_hup]
  exact kk
theorem i_5 {h : zH} {q : Nat} (hq : h q = some (.inr (7, [.int 0]))) {s : Int32} {K : zH → Prop} (kk : K (hup h q (.inr (7, [.int s])))) : zf5_init f h (some q) s K := by
  unfold zf5_init
  refine ⟨q, rfl, q, rfl, ?_⟩
  exact pf_1 hq (by simp) (by decide) kk
theorem i_6 {h : zH} {q : Nat} (hq : h q = some (.inr (8, [.int 0, .null]))) {s : Int32} {a : Option Nat} {K : zH → Prop} (kk : K (hup h q (.inr (8, [.int s, va_rf a])))) : zf6_init f h (some q) a s K := by
  unfold zf6_init
  refine pf_1 hq (by simp) (by decide) ⟨q, rfl, q, rfl, ?_⟩
  refine pf_1 (hup_self _ _ _) (by simp) (Nat.le_of_ble_eq_true rfl) ?_
  rw [hup_hup]
  exact kk
end PR3
