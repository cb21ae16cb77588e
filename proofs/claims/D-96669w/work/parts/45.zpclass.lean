/-! THE CLASS's HEAP, as a predicate Ch: the object x, its fixed arrays (addresses ca by key), its panes pa, its sheets' rows rw, its texts; σ: the shared state, and the class's own fields behind 200, openings 110, broken 111 -/
set_option maxRecDepth 100000
/-- int-like arrays: key, kind, length -/
def cia : List (Nat × Nat × Nat) := [(8, 0, 4), (213, 1, 160), (223, 0, 6), (229, 0, 6), (231, 0, 4), (233, 0, 3), (300, 0, 4), (301, 0, 4), (302, 0, 4), (303, 0, 4), (304, 0, 4), (305, 0, 4), (310, 3, 6), (311, 3, 6), (312, 3, 6), (313, 3, 6), (314, 3, 6), (315, 3, 6), (316, 3, 6), (317, 3, 6), (318, 3, 6), (319, 3, 6), (320, 3, 6), (321, 3, 6), (322, 3, 6), (323, 3, 6), (324, 3, 6), (325, 3, 6), (326, 3, 6), (327, 3, 6), (328, 3, 6), (329, 3, 6), (330, 3, 6), (331, 3, 6), (332, 3, 6), (333, 3, 6), (240, 0, 6), (241, 0, 6), (242, 0, 6), (243, 0, 6), (244, 0, 6)]
/-- arrays of references that never change: key, kind, length -/
def cra : List (Nat × Nat × Nat) := [(22, 8, 6), (24, 10, 4), (32, 8, 5), (34, 11, 4), (11, 7, 6), (12, 7, 6), (380, 9, 6), (381, 9, 6), (382, 9, 6), (383, 9, 6)]
def crf (sa ca : Nat → Nat) (k i : Nat) : Option Nat := if k = 22 then some (ca (300 + i)) else if k = 24 then some (ca (380 + i)) else if k = 32 then some (ca (240 + i)) else if k = 34 then some (ca (340 + i)) else if k = 11 then some (sa (1 + i)) else if k = 12 then some (sa (7 + i)) else some (ca (310 + (6 * (k - 380) + i)))
def cfs (ca : Nat → Nat) (κ : ST) : List Value := [va_rf (some (ca 0)), .int (κ 13 0), .int (κ 7 0), va_rf (some (ca 8)), va_rf (some (ca 4)), .int (κ 205 0), .int (κ 206 0), .int (κ 207 0), .int (κ 208 0), va_rf (some (ca 9)), .int (κ 3 0), va_rf (some (ca 11)), va_rf (some (ca 12)), va_rf (some (ca 213)), .int (κ 6 0), .int (κ 215 0), .int (κ 216 0), .int (κ 217 0), .int (κ 218 0), .int (κ 219 0), .int (κ 220 0), .int (κ 4 0), va_rf (some (ca 22)), va_rf (some (ca 223)), va_rf (some (ca 24)), .int (κ 225 0), .int (κ 226 0), .int (κ 227 0), .int (κ 228 0), va_rf (some (ca 229)), .int (κ 230 0), va_rf (some (ca 231)), va_rf (some (ca 32)), va_rf (some (ca 233)), va_rf (some (ca 34))]
/-- the scalars: field, key -/
def csc : List (Nat × Nat) := [(1, 13), (2, 7), (5, 205), (6, 206), (7, 207), (8, 208), (10, 3), (14, 6), (15, 215), (16, 216), (17, 217), (18, 218), (19, 219), (20, 220), (21, 4), (25, 225), (26, 226), (27, 227), (28, 228), (30, 230)]
/-- .. those in which it agrees with σ -/
def Agr (κ σ : ST) : Prop := (∀ k, k ∈ ([13, 7, 4, 3, 6] : List Nat) → κ k 0 = σ k 0) ∧ (∀ i, i < 4 → κ 8 i = σ 8 i) ∧ (∀ k, 220 < k → κ k = σ k) ∧ (∀ i, i < (σ 6 0).toNatClampNeg → κ 213 i &&& 255 = σ 5 i)
abbrev pav (f : Nat → Option Nat) : (Nat → Int32) ⊕ (Nat → Int64) ⊕ (Nat → UInt32) ⊕ (Nat → UInt64) ⊕ (Nat → Option Nat) := .inr (.inr (.inr (.inr f)))
def kcl (k : Int32) : Nat := k.toNatClampNeg + 1
def pcl (σ : ST) (p : Nat) : zE := .inr (kcl (σ 10 p), [.int (σ 11 (3 * p)), .int (σ 11 (3 * p + 1)), .int (σ 11 (3 * p + 2)), .int (σ 110 p), .int (σ 111 p)])
/-- a sum in an AST: its meaning -/
def nd (x : Nat) (h : zH) : Nat → Nat → SEM → Prop
  | 0, _, _ => False
  | d + 1, a, g => (∃ v : Int32, h a = some (.inr (7, [.int v])) ∧ g = fun _ => v) ∨
    (∃ j : Nat, j < 6 ∧ h a = some (.inr (8, [.int (nI j), .ref x])) ∧ g = fun e => e j) ∨
    (∃ (b : Nat) (g1 : SEM), h a = some (.inr (9, [.ref b, .int 0])) ∧ nd x h d b g1 ∧ g = tk_no g1) ∨
    (∃ (b : Nat) (g1 : SEM), h a = some (.inr (9, [.ref b, .int 1])) ∧ nd x h d b g1 ∧ g = tk_ne g1) ∨
    (∃ (s : Int32) (b c : Nat) (g1 g2 : SEM), h a = some (.inr (10, [.int s, .ref b, .ref c])) ∧ nd x h d b g1 ∧ nd x h d c g2 ∧
      ((s = 124 ∧ g = tk_or s g1 g2) ∨ (s = 38 ∧ g = tk_an s g1 g2) ∨ (s = 42 ∧ g = tk_ti s g1 g2) ∨ ((s = 43 ∨ s = 45) ∧ g = tk_pm s g1 g2) ∨ ((s = 60 ∨ s = 61) ∧ g = tk_cm s g1 g2)))
/-- a node's cell -/
def isN (e : zE) : Prop := ∃ (ci : Nat) (fs : List Value), e = .inr (ci, fs) ∧ 7 ≤ ci ∧ ci ≤ 10
theorem nd_cell {x : Nat} {h : zH} {d a : Nat} {g : SEM} (n : nd x h d a g) : ∃ e, h a = some e ∧ isN e := by
  cases d with
  | zero => exact n.elim
  | succ d =>
    rcases n with ⟨v, h1, -⟩ | ⟨j, -, h1, -⟩ | ⟨b, g1, h1, -⟩ | ⟨b, g1, h1, -⟩ | ⟨s, b, c, g1, g2, h1, -⟩
    · exact ⟨_, h1, 7, _, rfl, by omega, by omega⟩
    · exact ⟨_, h1, 8, _, rfl, by omega, by omega⟩
    · exact ⟨_, h1, 9, _, rfl, by omega, by omega⟩
    · exact ⟨_, h1, 9, _, rfl, by omega, by omega⟩
    · exact ⟨_, h1, 10, _, rfl, by omega, by omega⟩
/-- it stays where the nodes' cells stay -/
theorem nd_keep {x : Nat} {h h' : zH} (hk : ∀ a e, h a = some e → isN e → h' a = some e) : ∀ (d a : Nat) (g : SEM), nd x h d a g → nd x h' d a g := by
  intro d
  induction d with
  | zero => intro a g n; exact n.elim
  | succ d ih =>
    intro a g n
    have hc : ∀ {e}, h a = some e → h' a = some e := by
      intro e he
      obtain ⟨e2, h2, h3⟩ := nd_cell n
      rw [he] at h2
      cases h2
      exact hk a e he h3
    rcases n with ⟨v, h1, h2⟩ | ⟨j, hj, h1, h2⟩ | ⟨b, g1, h1, h2, h3⟩ | ⟨b, g1, h1, h2, h3⟩ | ⟨s, b, c, g1, g2, h1, h2, h3, h4⟩
    · exact Or.inl ⟨v, hc h1, h2⟩
    · exact Or.inr (Or.inl ⟨j, hj, hc h1, h2⟩)
    · exact Or.inr (Or.inr (Or.inl ⟨b, g1, hc h1, ih b g1 h2, h3⟩))
    · exact Or.inr (Or.inr (Or.inr (Or.inl ⟨b, g1, hc h1, ih b g1 h2, h3⟩)))
    · exact Or.inr (Or.inr (Or.inr (Or.inr ⟨s, b, c, g1, g2, hc h1, ih b g1 h2, ih c g2 h3, h4⟩)))
/-- a row's kind of array, by its sort -/
def rty (s : Int32) : Nat := if s = 0 then 1 else if s = 1 then 2 else 0
/-- the parts of Ch over a labelling: the object, its arrays, its panes, its sheets, rows, texts -/
def Cx (x : Nat) (ca : Nat → Nat) (κ : ST) (lab : Nat → Nat) (h : zH) : Prop := h x = some (.inr (0, cfs ca κ)) ∧ lab x = 2
def Ci (ca : Nat → Nat) (κ : ST) (lab : Nat → Nat) (h : zH) : Prop := ∀ e ∈ cia, h (ca e.1) = some (.inl (e.2.1, e.2.2, .inl (κ e.1))) ∧ lab (ca e.1) = 100 + e.1
def Cr (sa ca : Nat → Nat) (lab : Nat → Nat) (h : zH) : Prop := ∀ e ∈ cra, (∃ f, h (ca e.1) = some (.inl (e.2.1, e.2.2, pav f)) ∧ ∀ i, i < e.2.2 → f i = crf sa ca e.1 i) ∧ lab (ca e.1) = 100 + e.1
def Cp (ca : Nat → Nat) (pa : Nat → Nat) (σ : ST) (lab : Nat → Nat) (h : zH) : Prop := ((∃ f, h (ca 0) = some (.inl (4, 6, pav f)) ∧ ∀ p, p < nP σ → f p = some (pa p)) ∧ lab (ca 0) = 100) ∧ ∀ p, p < nP σ → h (pa p) = some (pcl σ p) ∧ lab (pa p) = 1000 + p
def Cs (ca : Nat → Nat) (rw : Nat → Option Nat) (lab : Nat → Nat) (h : zH) : Prop := ∀ s, s < 4 → h (ca (340 + s)) = some (.inr (11, [va_rf (rw s)])) ∧ lab (ca (340 + s)) = 440 + s
def Cw (rw : Nat → Option Nat) (σ : ST) (lab : Nat → Nat) (h : zH) : Prop := ∀ s, s < 4 → (σ 45 s = 0 → rw s = none) ∧ (σ 45 s ≠ 0 → ∃ (a : Nat) (g : Nat → Int32), rw s = some a ∧ h a = some (.inl (rty (σ 46 s), (σ 47 s).toNatClampNeg, .inl g)) ∧ lab a = 1200 + s ∧ ∀ i, i < (σ 47 s).toNatClampNeg → g i = σ 48 (40 * s + i))
def Ct (x : Nat) (ca : Nat → Nat) (G : TG) (σ : ST) (lab : Nat → Nat) (h : zH) : Prop := ∃ tx : Nat → Nat, ((∃ f, h (ca 9) = some (.inl (6, 6, pav f)) ∧ ∀ t, t < (σ 3 0).toNatClampNeg → f t = some (tx t)) ∧ lab (ca 9) = 109) ∧ ∀ t, t < (σ 3 0).toNatClampNeg → lab (tx t) = 1300 ∧ ∃ f, h (tx t) = some (.inl (5, 3, pav f)) ∧ ∀ k, k < 3 → ∃ a, f k = some a ∧ nd x h 190 a (G t k)
def Cf (ca : Nat → Nat) (lab : Nat → Nat) (h : zH) : Prop := (∃ fs, h (ca 4) = some (.inr (12, fs))) ∧ lab (ca 4) = 104
/-- the rest: what it keeps; fresh places and nodes bear no label -/
def Cm (Md : Nat → Prop) (b0 : zH) (lab : Nat → Nat) (h : zH) : Prop := (∀ q, Md q → h q = b0 q ∧ b0 q ≠ none ∧ lab q = 0) ∧ (∀ q, h q = none → lab q = 0) ∧ (∀ q e, h q = some e → isN e → lab q = 0)
def Ch (sa : Nat → Nat) (x : Nat) (ca : Nat → Nat) (Md : Nat → Prop) (b0 : zH) (G : TG) (pa : Nat → Nat) (rw : Nat → Option Nat) (σ : ST) (h : zH) : Prop := ∃ (κ : ST) (lab : Nat → Nat), Agr κ σ ∧ Cx x ca κ lab h ∧ Ci ca κ lab h ∧ Cr sa ca lab h ∧ Cp ca pa σ lab h ∧ Cs ca rw lab h ∧ Cw rw σ lab h ∧ Ct x ca G σ lab h ∧ Cf ca lab h ∧ Cm Md b0 lab h
theorem hup_lab {h : zH} {lab : Nat → Nat} {a q : Nat} {e : zE} (n : lab q ≠ lab a) : hup h a e q = h q := hup_ne h e fun z => n (by rw [z])
section CP
variable {sa : Nat → Nat} {x : Nat} {ca : Nat → Nat} {Md : Nat → Prop} {b0 : zH} {G : TG} {pa : Nat → Nat} {rw : Nat → Option Nat} {σ : ST} {h : zH} {κ : ST} {lab : Nat → Nat} {a : Nat} {e : zE}
theorem cia_le : ∀ e ∈ cia, e.1 < 400 ∧ e.1 ≠ 0 ∧ e.1 ≠ 4 ∧ e.1 ≠ 9 ∧ (e.1 < 340 ∨ 343 < e.1) := by decide
theorem cra_le : ∀ e ∈ cra, e.1 < 400 ∧ e.1 ≠ 0 ∧ e.1 ≠ 4 ∧ e.1 ≠ 9 ∧ (e.1 < 340 ∨ 343 < e.1) := by decide
theorem cia_inj : ∀ e ∈ cia, ∀ e' ∈ cia, e.1 = e'.1 → e = e' := by decide
theorem cia_cra : ∀ e ∈ cia, ∀ e' ∈ cra, e.1 ≠ e'.1 := by decide
/-! a write elsewhere -/
theorem Cx.up (hh : Cx x ca κ lab h) (n : lab a ≠ 2) : Cx x ca κ lab (hup h a e) := ⟨by rw [hup_lab (lab := lab) (by rw [hh.2]; exact Ne.symm n)]; exact hh.1, hh.2⟩
theorem Ci.up (hh : Ci ca κ lab h) (n : ∀ e ∈ cia, lab a ≠ 100 + e.1) : Ci ca κ lab (hup h a e) := fun q hq => ⟨by rw [hup_lab (lab := lab) (by rw [(hh q hq).2]; exact Ne.symm (n q hq))]; exact (hh q hq).1, (hh q hq).2⟩
theorem Cr.up (hh : Cr sa ca lab h) (n : ∀ e ∈ cra, lab a ≠ 100 + e.1) : Cr sa ca lab (hup h a e) := fun q hq => ⟨by rw [hup_lab (lab := lab) (by rw [(hh q hq).2]; exact Ne.symm (n q hq))]; exact (hh q hq).1, (hh q hq).2⟩
theorem Cp.up (hh : Cp ca pa σ lab h) (n : lab a ≠ 100) (n2 : ∀ p, p < nP σ → lab a ≠ 1000 + p) : Cp ca pa σ lab (hup h a e) := ⟨⟨by rw [hup_lab (lab := lab) (by rw [hh.1.2]; exact Ne.symm n)]; exact hh.1.1, hh.1.2⟩, fun p hp => ⟨by rw [hup_lab (lab := lab) (by rw [(hh.2 p hp).2]; exact Ne.symm (n2 p hp))]; exact (hh.2 p hp).1, (hh.2 p hp).2⟩⟩
theorem Cs.up (hh : Cs ca rw lab h) (n : ∀ s, s < 4 → lab a ≠ 440 + s) : Cs ca rw lab (hup h a e) := fun s hs => ⟨by rw [hup_lab (lab := lab) (by rw [(hh s hs).2]; exact Ne.symm (n s hs))]; exact (hh s hs).1, (hh s hs).2⟩
theorem Cw.up (hh : Cw rw σ lab h) (n : ∀ s, s < 4 → lab a ≠ 1200 + s) : Cw rw σ lab (hup h a e) := fun s hs => ⟨(hh s hs).1, fun z => by
  obtain ⟨q, g, h1, h2, h3, h4⟩ := (hh s hs).2 z
  exact ⟨q, g, h1, by rw [hup_lab (lab := lab) (by rw [h3]; exact Ne.symm (n s hs))]; exact h2, h3, h4⟩⟩
theorem Ct.up (hh : Ct x ca G σ lab h) (n : lab a ≠ 109) (n2 : lab a ≠ 1300) (hN : ∀ q e, h q = some e → isN e → lab q = 0) (n0 : lab a ≠ 0) : Ct x ca G σ lab (hup h a e) := by
  obtain ⟨tx, h1, h2⟩ := hh
  refine ⟨tx, ⟨by rw [hup_lab (lab := lab) (by rw [h1.2]; exact Ne.symm n)]; exact h1.1, h1.2⟩, fun t ht => ?_⟩
  obtain ⟨h3, f, h4, h5⟩ := h2 t ht
  refine ⟨h3, f, by rw [hup_lab (lab := lab) (by rw [h3]; exact Ne.symm n2)]; exact h4, fun k hk => ?_⟩
  obtain ⟨q, h6, h7⟩ := h5 k hk
  refine ⟨q, h6, nd_keep (fun r e' hr hn => ?_) _ _ _ h7⟩
  rw [hup_lab (lab := lab) (by rw [hN r e' hr hn]; exact Ne.symm n0)]
  exact hr
theorem Cf.up (hh : Cf ca lab h) (n : lab a ≠ 104) : Cf ca lab (hup h a e) := ⟨by rw [hup_lab (lab := lab) (by rw [hh.2]; exact Ne.symm n)]; exact hh.1, hh.2⟩
theorem Cm.up (hh : Cm Md b0 lab h) (n : lab a ≠ 0) (hn : ¬ isN e) : Cm Md b0 lab (hup h a e) := by
  refine ⟨fun q hq => ⟨by rw [hup_lab (lab := lab) (by rw [(hh.1 q hq).2.2]; exact Ne.symm n)]; exact (hh.1 q hq).1, (hh.1 q hq).2⟩, fun q hq => ?_, fun q e' hq hi => ?_⟩
  · by_cases z : q = a
    · rw [z, hup_self] at hq; cases hq
    · rw [hup_ne _ _ z] at hq; exact hh.2.1 q hq
  · by_cases z : q = a
    · rw [z, hup_self] at hq; cases hq; exact absurd hi hn
    · rw [hup_ne _ _ z] at hq; exact hh.2.2 q e' hq hi
theorem isN_no {ci : Nat} {fs : List Value} (hc : ci < 7 ∨ 10 < ci) : ¬ isN (.inr (ci, fs)) := by
  rintro ⟨c, f, h1, h2, h3⟩
  cases h1
  omega
theorem isN_noA {y : Nat × vp_A} : ¬ isN (.inl y) := by
  rintro ⟨c, f, h1, h2, h3⟩
  cases h1
/-- the same heap, another state that agrees -/
theorem Ch.agree {σ' : ST} (hh : Ch sa x ca Md b0 G pa rw σ h) (ha : ∀ κ, Agr κ σ → Agr κ σ') (hp : nP σ' = nP σ) (hp2 : ∀ p, p < nP σ → pcl σ' p = pcl σ p) (h45 : ∀ s, s < 4 → σ' 45 s = σ 45 s ∧ (σ 45 s ≠ 0 → σ' 46 s = σ 46 s ∧ σ' 47 s = σ 47 s ∧ ∀ i, i < (σ 47 s).toNatClampNeg → σ' 48 (40 * s + i) = σ 48 (40 * s + i))) (h3 : σ' 3 0 = σ 3 0) : Ch sa x ca Md b0 G pa rw σ' h := by
  obtain ⟨κ, lab, a1, a2, a3, a4, a5, a6, a7, a8, a9, a10⟩ := hh
  refine ⟨κ, lab, ha κ a1, a2, a3, a4, ?_, a6, ?_, ?_, a9, a10⟩
  · unfold Cp at a5 ⊢
    rw [hp]
    exact ⟨a5.1, fun p hp => by rw [hp2 p hp]; exact a5.2 p hp⟩
  · intro s hs
    obtain ⟨b1, b2⟩ := h45 s hs
    rw [b1]
    refine ⟨(a7 s hs).1, fun z => ?_⟩
    obtain ⟨q, g, c1, c2, c3, c4⟩ := (a7 s hs).2 z
    obtain ⟨d1, d2, d3⟩ := b2 z
    exact ⟨q, g, c1, by rw [d1, d2]; exact c2, c3, fun i hi => by rw [d2] at hi; rw [d3 i hi]; exact c4 i hi⟩
  · unfold Ct at a8 ⊢
    rw [h3]
    exact a8
end CP
section CQ
variable {sa : Nat → Nat} {x : Nat} {ca : Nat → Nat} {Md : Nat → Prop} {b0 : zH} {G : TG} {pa : Nat → Nat} {rw : Nat → Option Nat} {σ : ST} {h : zH}
theorem cgI {κ : ST} (hx : h x = some (.inr (0, cfs ca κ))) {k : Nat} {n : Int32} (hk : (cfs ca κ)[k]? = some (.int n)) (P : Int32 → Prop) : gfI h (some x) [0] k P = P n := by
  refine propext ⟨fun z => ?_, fun z => ⟨x, 0, _, n, rfl, hx, by simp, hk, z⟩⟩
  obtain ⟨a, ci, fs, n', h1, h2, h3, h4, h5⟩ := z
  cases h1
  rw [hx] at h2
  cases h2
  rw [hk] at h4
  cases h4
  exact h5
theorem cgR {κ : ST} (hx : h x = some (.inr (0, cfs ca κ))) {k q : Nat} (hk : (cfs ca κ)[k]? = some (va_rf (some q))) (P : Option Nat → Prop) : gfR h (some x) [0] k P = P (some q) := by
  refine propext ⟨fun z => ?_, fun z => ⟨x, 0, _, some q, rfl, hx, by simp, hk, z⟩⟩
  obtain ⟨a, ci, fs, n', h1, h2, h3, h4, h5⟩ := z
  cases h1
  rw [hx] at h2
  cases h2
  rw [hk] at h4
  cases n' with
  | none => cases h4
  | some z => cases h4; exact h5
theorem cld {a t n : Nat} {f : Nat → Int32} (ha : h a = some (.inl (t, n, .inl f))) (i : Int32) (P : Int32 → Prop) : aldI h (some a) t i P = (vp_in i n ∧ P (f i.toNatClampNeg)) := by
  refine propext ⟨fun z => ?_, fun z => ⟨a, n, _, rfl, ha, z.1, z.2⟩⟩
  obtain ⟨a', n', f', h1, h2, h3, h4⟩ := z
  cases h1
  rw [ha] at h2
  cases h2
  exact ⟨h3, h4⟩
theorem cldR {a t n : Nat} {f : Nat → Option Nat} (ha : h a = some (.inl (t, n, pav f))) (i : Int32) (P : Option Nat → Prop) : aldR h (some a) t i P = (vp_in i n ∧ P (f i.toNatClampNeg)) := by
  refine propext ⟨fun z => ?_, fun z => ⟨a, n, _, rfl, ha, z.1, z.2⟩⟩
  obtain ⟨a', n', f', h1, h2, h3, h4⟩ := z
  cases h1
  rw [ha] at h2
  cases h2
  exact ⟨h3, h4⟩
theorem crc {a ci : Nat} {fs : List Value} (ha : h a = some (.inr (ci, fs))) (F : Prop) : zrc h (some a) ci F = F := by
  refine propext ⟨fun z => ?_, fun z => ⟨a, _, rfl, ha, z⟩⟩
  obtain ⟨a', fs', -, -, z⟩ := z
  exact z
theorem vp_lt {i : Int32} {n : Nat} (hi : vp_in i n) (hn : n < 2 ^ 31) : i.toNatClampNeg < n := by
  obtain ⟨j, h1, rfl⟩ := vp_in_of hi hn
  rw [nI_clamp (by omega)]
  exact h1
/-- the class's readings -/
theorem zcQ (hh : Ch sa x ca Md b0 G pa rw σ h) : (∀ P : Int32 → Prop, gfI h (some x) [0] 1 P = P (σ 13 0)) ∧ (∀ P : Int32 → Prop, gfI h (some x) [0] 2 P = P (σ 7 0)) ∧ (∀ P : Int32 → Prop, gfI h (some x) [0] 10 P = P (σ 3 0)) ∧ (∀ P : Int32 → Prop, gfI h (some x) [0] 14 P = P (σ 6 0)) ∧ (∀ P : Int32 → Prop, gfI h (some x) [0] 21 P = P (σ 4 0)) ∧ (∀ P : Int32 → Prop, gfI h (some x) [0] 25 P = P (σ 225 0)) ∧ (∀ P : Int32 → Prop, gfI h (some x) [0] 26 P = P (σ 226 0)) ∧ (∀ P : Int32 → Prop, gfI h (some x) [0] 27 P = P (σ 227 0)) ∧ (∀ P : Int32 → Prop, gfI h (some x) [0] 28 P = P (σ 228 0)) ∧ (∀ P : Int32 → Prop, gfI h (some x) [0] 30 P = P (σ 230 0)) ∧ (∀ P : Option Nat → Prop, gfR h (some x) [0] 0 P = P (some (ca 0))) ∧ (∀ P : Option Nat → Prop, gfR h (some x) [0] 3 P = P (some (ca 8))) ∧ (∀ P : Option Nat → Prop, gfR h (some x) [0] 4 P = P (some (ca 4))) ∧ (∀ P : Option Nat → Prop, gfR h (some x) [0] 9 P = P (some (ca 9))) ∧ (∀ P : Option Nat → Prop, gfR h (some x) [0] 11 P = P (some (ca 11))) ∧ (∀ P : Option Nat → Prop, gfR h (some x) [0] 12 P = P (some (ca 12))) ∧ (∀ P : Option Nat → Prop, gfR h (some x) [0] 13 P = P (some (ca 213))) ∧ (∀ P : Option Nat → Prop, gfR h (some x) [0] 22 P = P (some (ca 22))) ∧ (∀ P : Option Nat → Prop, gfR h (some x) [0] 23 P = P (some (ca 223))) ∧ (∀ P : Option Nat → Prop, gfR h (some x) [0] 24 P = P (some (ca 24))) ∧ (∀ P : Option Nat → Prop, gfR h (some x) [0] 29 P = P (some (ca 229))) ∧ (∀ P : Option Nat → Prop, gfR h (some x) [0] 31 P = P (some (ca 231))) ∧ (∀ P : Option Nat → Prop, gfR h (some x) [0] 32 P = P (some (ca 32))) ∧ (∀ P : Option Nat → Prop, gfR h (some x) [0] 33 P = P (some (ca 233))) ∧ (∀ P : Option Nat → Prop, gfR h (some x) [0] 34 P = P (some (ca 34))) ∧ (∀ (i : Int32) (P : Int32 → Prop), aldI h (some (ca 8)) 0 i P = (vp_in i 4 ∧ P (σ 8 i.toNatClampNeg))) ∧ (∀ (i : Int32) (P : Int32 → Prop), aldI h (some (ca 223)) 0 i P = (vp_in i 6 ∧ P (σ 223 i.toNatClampNeg))) ∧ (∀ (i : Int32) (P : Int32 → Prop), aldI h (some (ca 229)) 0 i P = (vp_in i 6 ∧ P (σ 229 i.toNatClampNeg))) ∧ (∀ (i : Int32) (P : Int32 → Prop), aldI h (some (ca 231)) 0 i P = (vp_in i 4 ∧ P (σ 231 i.toNatClampNeg))) ∧ (∀ (i : Int32) (P : Int32 → Prop), aldI h (some (ca 233)) 0 i P = (vp_in i 3 ∧ P (σ 233 i.toNatClampNeg))) ∧ (∀ (i : Int32) (P : Int32 → Prop), aldI h (some (ca 240)) 0 i P = (vp_in i 6 ∧ P (σ 240 i.toNatClampNeg))) ∧ (∀ (i : Int32) (P : Int32 → Prop), aldI h (some (ca 241)) 0 i P = (vp_in i 6 ∧ P (σ 241 i.toNatClampNeg))) ∧ (∀ (i : Int32) (P : Int32 → Prop), aldI h (some (ca 242)) 0 i P = (vp_in i 6 ∧ P (σ 242 i.toNatClampNeg))) ∧ (∀ (i : Int32) (P : Int32 → Prop), aldI h (some (ca 243)) 0 i P = (vp_in i 6 ∧ P (σ 243 i.toNatClampNeg))) ∧ (∀ (i : Int32) (P : Int32 → Prop), aldI h (some (ca 244)) 0 i P = (vp_in i 6 ∧ P (σ 244 i.toNatClampNeg))) ∧ (∀ F : Prop, zrc h (some x) 0 F = F) ∧ (∀ F : Prop, zrc h (some (ca 4)) 12 F = F) := by
  obtain ⟨κ, lab, ha, hx, hi, hr, hp, hs, hw, ht, hf, hm⟩ := hh
  refine ⟨fun P => (cgI hx.1 rfl P).trans (congrArg P (ha.1 13 (by decide))), fun P => (cgI hx.1 rfl P).trans (congrArg P (ha.1 7 (by decide))), fun P => (cgI hx.1 rfl P).trans (congrArg P (ha.1 3 (by decide))), fun P => (cgI hx.1 rfl P).trans (congrArg P (ha.1 6 (by decide))), fun P => (cgI hx.1 rfl P).trans (congrArg P (ha.1 4 (by decide))), fun P => (cgI hx.1 rfl P).trans (congrArg (fun g : Nat → Int32 => P (g 0)) (ha.2.2.1 225 (by decide))), fun P => (cgI hx.1 rfl P).trans (congrArg (fun g : Nat → Int32 => P (g 0)) (ha.2.2.1 226 (by decide))), fun P => (cgI hx.1 rfl P).trans (congrArg (fun g : Nat → Int32 => P (g 0)) (ha.2.2.1 227 (by decide))), fun P => (cgI hx.1 rfl P).trans (congrArg (fun g : Nat → Int32 => P (g 0)) (ha.2.2.1 228 (by decide))), fun P => (cgI hx.1 rfl P).trans (congrArg (fun g : Nat → Int32 => P (g 0)) (ha.2.2.1 230 (by decide))), fun P => cgR hx.1 rfl P, fun P => cgR hx.1 rfl P, fun P => cgR hx.1 rfl P, fun P => cgR hx.1 rfl P, fun P => cgR hx.1 rfl P, fun P => cgR hx.1 rfl P, fun P => cgR hx.1 rfl P, fun P => cgR hx.1 rfl P, fun P => cgR hx.1 rfl P, fun P => cgR hx.1 rfl P, fun P => cgR hx.1 rfl P, fun P => cgR hx.1 rfl P, fun P => cgR hx.1 rfl P, fun P => cgR hx.1 rfl P, fun P => cgR hx.1 rfl P, fun i P => by
    rw [cld (hi _ (show (8, 0, 4) ∈ cia by decide)).1]
    exact propext ⟨fun z => ⟨z.1, by rw [← ha.2.1 _ (vp_lt z.1 (by decide))]; exact z.2⟩, fun z => ⟨z.1, by rw [ha.2.1 _ (vp_lt z.1 (by decide))]; exact z.2⟩⟩, fun i P => (cld (hi _ (show (223, 0, 6) ∈ cia by decide)).1 i P).trans (congrArg (fun g : Nat → Int32 => (vp_in i 6 ∧ P (g i.toNatClampNeg))) (ha.2.2.1 223 (by decide))), fun i P => (cld (hi _ (show (229, 0, 6) ∈ cia by decide)).1 i P).trans (congrArg (fun g : Nat → Int32 => (vp_in i 6 ∧ P (g i.toNatClampNeg))) (ha.2.2.1 229 (by decide))), fun i P => (cld (hi _ (show (231, 0, 4) ∈ cia by decide)).1 i P).trans (congrArg (fun g : Nat → Int32 => (vp_in i 4 ∧ P (g i.toNatClampNeg))) (ha.2.2.1 231 (by decide))), fun i P => (cld (hi _ (show (233, 0, 3) ∈ cia by decide)).1 i P).trans (congrArg (fun g : Nat → Int32 => (vp_in i 3 ∧ P (g i.toNatClampNeg))) (ha.2.2.1 233 (by decide))), fun i P => (cld (hi _ (show (240, 0, 6) ∈ cia by decide)).1 i P).trans (congrArg (fun g : Nat → Int32 => (vp_in i 6 ∧ P (g i.toNatClampNeg))) (ha.2.2.1 240 (by decide))), fun i P => (cld (hi _ (show (241, 0, 6) ∈ cia by decide)).1 i P).trans (congrArg (fun g : Nat → Int32 => (vp_in i 6 ∧ P (g i.toNatClampNeg))) (ha.2.2.1 241 (by decide))), fun i P => (cld (hi _ (show (242, 0, 6) ∈ cia by decide)).1 i P).trans (congrArg (fun g : Nat → Int32 => (vp_in i 6 ∧ P (g i.toNatClampNeg))) (ha.2.2.1 242 (by decide))), fun i P => (cld (hi _ (show (243, 0, 6) ∈ cia by decide)).1 i P).trans (congrArg (fun g : Nat → Int32 => (vp_in i 6 ∧ P (g i.toNatClampNeg))) (ha.2.2.1 243 (by decide))), fun i P => (cld (hi _ (show (244, 0, 6) ∈ cia by decide)).1 i P).trans (congrArg (fun g : Nat → Int32 => (vp_in i 6 ∧ P (g i.toNatClampNeg))) (ha.2.2.1 244 (by decide))), fun F => crc hx.1 F, fun F => by
    obtain ⟨⟨fs, hf⟩, -⟩ := hf
    exact crc hf F⟩
/-- arrays by their key -/
theorem C_ld (hh : Ch sa x ca Md b0 G pa rw σ h) {k t n : Nat} (hk : (k, t, n) ∈ cia) (h2 : 220 < k) (i : Int32) (P : Int32 → Prop) : aldI h (some (ca k)) t i P = (vp_in i n ∧ P (σ k i.toNatClampNeg)) := by
  obtain ⟨κ, lab, ha, hx, hi, -⟩ := hh
  rw [cld (hi _ hk).1, ha.2.2.1 k h2]
theorem C_ldR (hh : Ch sa x ca Md b0 G pa rw σ h) {k t n : Nat} (hk : (k, t, n) ∈ cra) (hn : n < 100) (i : Int32) (P : Option Nat → Prop) : aldR h (some (ca k)) t i P = (vp_in i n ∧ P (crf sa ca k i.toNatClampNeg)) := by
  obtain ⟨κ, lab, ha, hx, hi, hr, -⟩ := hh
  obtain ⟨⟨f, h1, h2⟩, -⟩ := hr _ hk
  rw [cldR h1]
  exact propext ⟨fun z => ⟨z.1, by rw [← h2 _ (vp_lt z.1 (by show n < 2 ^ 31; omega))]; exact z.2⟩, fun z => ⟨z.1, by rw [h2 _ (vp_lt z.1 (by show n < 2 ^ 31; omega))]; exact z.2⟩⟩
/-- a pane -/
theorem C_pa (hh : Ch sa x ca Md b0 G pa rw σ h) (hn : nP σ ≤ 6) {p : Nat} (hp : p < nP σ) (P : Option Nat → Prop) : aldR h (some (ca 0)) 4 (nI p) P = P (some (pa p)) := by
  obtain ⟨κ, lab, ha, hx, hi, hr, ⟨⟨⟨f, h1, h2⟩, -⟩, -⟩, -⟩ := hh
  rw [cldR h1, nI_clamp (by omega), h2 p hp]
  exact propext ⟨fun z => z.2, fun z => ⟨vp_in_nI (by omega) (by omega), z⟩⟩
theorem C_pc (hh : Ch sa x ca Md b0 G pa rw σ h) {p : Nat} (hp : p < nP σ) : h (pa p) = some (pcl σ p) := by
  obtain ⟨κ, lab, ha, hx, hi, hr, hpp, -⟩ := hh
  exact (hpp.2 p hp).1
/-- a pane's field, where its class is known to be one of some -/
theorem C_pI (hh : Ch sa x ca Md b0 G pa rw σ h) {p : Nat} (hp : p < nP σ) {cs : List Nat} (hc : kcl (σ 10 p) ∈ cs) {k : Nat} {n : Int32} (hk : ([.int (σ 11 (3 * p)), .int (σ 11 (3 * p + 1)), .int (σ 11 (3 * p + 2)), .int (σ 110 p), .int (σ 111 p)] : List Value)[k]? = some (.int n)) (P : Int32 → Prop) : gfI h (some (pa p)) cs k P = P n := by
  have ha := C_pc hh hp
  refine propext ⟨fun z => ?_, fun z => ⟨pa p, _, _, n, rfl, ha, hc, hk, z⟩⟩
  obtain ⟨a, ci, fs, n', h1, h2, h3, h4, h5⟩ := z
  cases h1
  rw [ha] at h2
  cases h2
  rw [hk] at h4
  cases h4
  exact h5
theorem C_pd (hh : Ch sa x ca Md b0 G pa rw σ h) {p : Nat} (hp : p < nP σ) (F : Nat → Prop) : zdp h (some (pa p)) F = F (kcl (σ 10 p)) := by
  have ha := C_pc hh hp
  refine propext ⟨fun z => ?_, fun z => ⟨pa p, _, _, rfl, ha, z⟩⟩
  obtain ⟨a, ci, fs, h1, h2, h3⟩ := z
  cases h1
  rw [ha] at h2
  cases h2
  exact h3
theorem C_pra (hh : Ch sa x ca Md b0 G pa rw σ h) {p : Nat} (hp : p < nP σ) (hk : kcl (σ 10 p) < 14) (F : Prop) : zra h (some (pa p)) F = F := by
  have ha := C_pc hh hp
  refine propext ⟨fun z => ?_, fun z => ⟨pa p, _, _, rfl, ha, hk, z⟩⟩
  obtain ⟨a, ci, fs, h1, h2, h3, h4⟩ := z
  exact h4
/-- a sheet's row -/
theorem C_sh (hh : Ch sa x ca Md b0 G pa rw σ h) {s : Nat} (hs : s < 4) (P : Option Nat → Prop) : gfR h (some (ca (340 + s))) [11] 0 P = P (rw s) := by
  obtain ⟨κ, lab, ha, hx, hi, hr, hpp, hss, -⟩ := hh
  have ha := (hss s hs).1
  refine propext ⟨fun z => ?_, fun z => ⟨_, _, _, rw s, rfl, ha, by simp, rfl, z⟩⟩
  obtain ⟨a, ci, fs, n', h1, h2, h3, h4, h5⟩ := z
  cases h1
  rw [ha] at h2
  cases h2
  have h4 : some (va_rf (rw s)) = some (va_rf n') := h4
  have e : rw s = n' := by
    cases hrs : rw s with
    | none => rw [hrs] at h4; cases n' with
      | none => rfl
      | some z => cases h4
    | some y => rw [hrs] at h4; cases n' with
      | none => cases h4
      | some z => cases h4; rfl
  rw [e]
  exact h5
end CQ
