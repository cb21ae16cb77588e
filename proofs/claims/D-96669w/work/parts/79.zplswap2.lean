/-! THE LAWS: the best swap -/
set_option maxRecDepth 100000
theorem fo_rel2 {α β : Type} {R : α → β → Prop} {F : Nat → α → α} {G : Nat → β → β} {lo n : Nat} (hs : ∀ i a b, lo ≤ i → i < n → R a b → R (F i a) (G i b)) : ∀ j i a b, lo ≤ i → i + j ≤ n → R a b → R (fo F j i a) (fo G j i b) := by
  intro j
  induction j with
  | zero => intro i a b _ _ h; exact h
  | succ j ih => intro i a b h0 h1 h; exact ih (i + 1) (F i a) (G i b) (by omega) (by omega) (hs i a b h0 (by omega) h)
def RS (bs : Int32) (m : Int32 × Int32 × Int32) (c : Int32 × Int32) : Prop := m.1 = c.1 ∧ ((m.2.2 = 0 ∧ m.2.1 = c.2 ∧ (∃ v, v ≤ 31968 ∧ c.2 = nI v) ∧ (m.1 = -1 → m.2.1 = bs)) ∨ (m.2.2 ≠ 0 ∧ c.2 = -1 ∧ m.1 = -1 ∧ m.2.1 = bs))
section LZ
variable {G : TG} {σ : ST}
theorem sw_step (hW : WS σ) (hI : Iv σ) {bs : Int32} {i j : Nat} (hi : i < 4) (hj : j < 4) (hij : i < j) {m : Int32 × Int32 × Int32} {c : Int32 × Int32} (h : RS bs m c) : RS bs (swF G σ i j m) (swD G σ i j c) := by
  unfold swF swD
  rw [sw_law hW hI hi hj hij]
  have e10 : (10 : Int32) * nI i + nI j = nI (10 * i + j) := by
    have : (10 : Int32) * nI i = nI (10 * i) := pk_mul 10 i
    rw [this, nI_add]
  rw [e10]
  have nlt : ∀ v, v ≤ 31968 → ¬ nI v < -1 := fun v hv z => by
    rw [Int32.lt_iff_toInt_lt, nI_toInt (by omega)] at z
    have : (-1 : Int32).toInt = -1 := by decide
    omega
  have pos : ∀ v, v ≤ 31968 → -1 < nI v := fun v hv => by
    rw [Int32.lt_iff_toInt_lt, nI_toInt (by omega)]
    have : (-1 : Int32).toInt = -1 := by decide
    omega
  obtain ⟨m1, m2, m3⟩ := m
  obtain ⟨c1, c2⟩ := c
  obtain ⟨h1, h2⟩ := h
  have h1 : m1 = c1 := h1
  rcases swV_or (G := G) (σ := swS σ i j) with z | ⟨v, hv, z⟩
  · rw [z, if_pos rfl]
    have n : ¬ c2 < -1 := by
      rcases h2 with ⟨-, -, ⟨v, hv, e⟩, -⟩ | ⟨-, e, -⟩
      · have e : c2 = nI v := e
        rw [e]; exact nlt v hv
      · have e : c2 = -1 := e
        rw [e]; decide
    show RS bs (m1, m2, m3) (if c2 < -1 then nI (10 * i + j) else c1, if c2 < -1 then -1 else c2)
    rw [if_neg n, if_neg n]
    exact ⟨h1, h2⟩
  · rw [z, if_neg (show ¬ nI v = -1 from fun y => by have := pos v hv; rw [y] at this; exact absurd this (by decide))]
    have new : RS bs (nI (10 * i + j), nI v, 0) (nI (10 * i + j), nI v) := ⟨rfl, Or.inl ⟨rfl, rfl, ⟨v, hv, rfl⟩, fun y => absurd y (nIn1 (by omega))⟩⟩
    show RS bs (if m2 < nI v then (nI (10 * i + j), nI v, 0) else if m3 = 0 then (m1, m2, m3) else (nI (10 * i + j), nI v, 0)) (if c2 < nI v then nI (10 * i + j) else c1, if c2 < nI v then nI v else c2)
    rcases h2 with ⟨f0, e, hb, hm⟩ | ⟨f0, e, hm, hb⟩
    · have e : m2 = c2 := e
      have f0 : m3 = 0 := f0
      by_cases y : c2 < nI v
      · rw [e, if_pos y, if_pos y, if_pos y]; exact new
      · rw [e, if_neg y, if_pos f0, if_neg y, if_neg y]
        exact ⟨h1, Or.inl ⟨f0, rfl, hb, fun w => by rw [← e]; exact hm w⟩⟩
    · have e : c2 = -1 := e
      have f0 : m3 ≠ 0 := f0
      have y : c2 < nI v := by rw [e]; exact pos v hv
      rw [if_pos y, if_pos y]
      by_cases w : m2 < nI v
      · rw [if_pos w]; exact new
      · rw [if_neg w, if_neg f0]; exact new
theorem sw_all (hW : WS σ) (hI : Iv σ) : RS (bri G σ) (swL G σ) (swM G σ) := by
  unfold swL swM
  refine fo_rel (R := RS (bri G σ)) (n := 4) (fun i a b hi hab => ?_) 4 0 _ _ (by omega) ?_
  · exact fo_rel2 (R := RS (bri G σ)) (lo := i + 1) (n := 4) (fun j a b h1 h2 hab => sw_step hW hI hi h2 (by omega) hab) (3 - i) (i + 1) a b (by omega) (by omega) hab
  · have e : swW G σ = swV G σ := by
      unfold swW swV
      rw [qst_law hW hI, bri_law hW hI]
    rw [e]
    unfold swV
    by_cases c : qst G σ = 0
    · rw [if_pos c, if_pos c]
      exact ⟨rfl, Or.inl ⟨rfl, rfl, bri_nI, fun _ => rfl⟩⟩
    · rw [if_neg c, if_neg c]
      exact ⟨rfl, Or.inr ⟨(by decide : (1 : Int32) ≠ 0), rfl, rfl, rfl⟩⟩
/-- swap answers alike -/
theorem swap_law (hW : WS σ) (hI : Iv σ) (what : Int32) : (if what = 0 then (swM G σ).1 else if (swM G σ).1 = -1 then briC G σ else (swM G σ).2) = (if what = 0 then (swL G σ).1 else (swL G σ).2.1) := by
  obtain ⟨h1, h2⟩ := sw_all (G := G) hW hI
  by_cases c : what = 0
  · rw [if_pos c, if_pos c, h1]
  · rw [if_neg c, if_neg c, bri_law hW hI]
    rcases h2 with ⟨-, e, -, hm⟩ | ⟨-, e, hm, hb⟩
    · by_cases y : (swM G σ).1 = -1
      · rw [if_pos y]; exact (hm (h1.trans y)).symm
      · rw [if_neg y, e]
    · rw [if_pos (h1.symm.trans hm), hb]
end LZ
