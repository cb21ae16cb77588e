/-! THE LAWS: settle: the best house's panes are apart -/
set_option maxRecDepth 100000
abbrev dg (m j : Nat) : Nat := m / 10 ^ j % 10
/-- a house's panes are apart -/
def dsm (m : Nat) : Prop := ∀ j j', j < 4 → j' < 4 → dg m j ≠ 0 → dg m j = dg m j' → j = j'
theorem dg_0 {m d : Nat} (h : d < 10) : dg (10 * m + d) 0 = d := by
  show (10 * m + d) / 10 ^ 0 % 10 = d
  rw [Nat.pow_zero, Nat.div_one]
  omega
theorem dg_s {m d j : Nat} (h : d < 10) : dg (10 * m + d) (j + 1) = dg m j := by
  show (10 * m + d) / 10 ^ (j + 1) % 10 = m / 10 ^ j % 10
  rw [Nat.pow_succ, Nat.mul_comm (10 ^ j), ← Nat.div_div_eq_div_mul, show (10 * m + d) / 10 = m by omega]
theorem dg_le {n : Nat} : ∀ k m, dgOk n k m → ∀ j, dg m j ≤ n := by
  intro k
  induction k with
  | zero =>
    intro m h j
    have h : m = 0 := h
    rw [h]
    show 0 / 10 ^ j % 10 ≤ n
    rw [Nat.zero_div]
    exact Nat.zero_le _
  | succ k ih =>
    intro m h j
    cases j with
    | zero =>
      show m / 10 ^ 0 % 10 ≤ n
      rw [Nat.pow_zero, Nat.div_one]
      exact h.1
    | succ j =>
      show m / 10 ^ (j + 1) % 10 ≤ n
      rw [Nat.pow_succ, Nat.mul_comm (10 ^ j), ← Nat.div_div_eq_div_mul]
      exact ih _ h.2 j
def goodD (n : Nat) (B : B3) : Prop := ∃ m : Nat, B.2.1 = nI m ∧ dgOk n 4 m ∧ dsm m
abbrev bq (used : Int32) (q : Nat) : Int32 := (used >>> (nI q &&& 31)) &&& 1
theorem skC_dist {n : Nat} (hn : n ≤ 6) {S : Nat → Nat → Int32} {C : Nat → Int32} {H : Nat → Nat → Nat → Int32} {W Z : Nat → Int32} {goal purse : Int32} : ∀ (d i : Nat) (last used bright price digits : Int32) (B : B3), i + d = 4 → (∃ m u, digits = nI m ∧ dgOk n i m ∧ dsm m ∧ u < 64 ∧ used = nI u ∧ ∀ j, j < 4 → dg m j ≠ 0 → bq used (dg m j - 1) = 1) → goodD n B → goodD n (skC n S C H W Z goal purse d i last used bright price digits B) := by
  intro d
  induction d with
  | zero =>
    intro i last used bright price digits B h1 ⟨m, u, e, hm, hd, _⟩ hB
    have e4 : i = 4 := by omega
    subst e4
    show goodD n (lkC goal bright price digits B)
    unfold lkC
    by_cases c : B.1 = 0 ∨ B.2.2 < (if goal = 1 then -price else bright)
    · rw [if_pos c]; exact ⟨m, e, hm, hd⟩
    · rw [if_neg c]; exact hB
  | succ d ih =>
    intro i last used bright price digits B h1 ⟨m, u, e, hm, hd, hu, eu, hb⟩ hB
    have hle := dg_le i m hm
    unfold skC
    refine fo_inv (P := goodD n) (n := n) (fun p B' hp hB' => ?_) n 0 _ (by omega) ?_
    · by_cases c : (((used >>> (nI p &&& 31)) &&& 1 = 0 ∧ Z p = 0) ∧ ¬ (goal = 1 ∧ S p i < W i)) ∧ ((last = -1 ∨ H last.toNatClampNeg p (i - 1) = 0) ∧ ¬ (goal = 2 ∧ purse < price + C p))
      · rw [if_pos c]
        have hfree : bq used p = 0 := c.1.1.1
        have nop : ∀ j, j < 4 → dg m j ≠ p + 1 := fun j hj z => by
          have := hb j hj (by omega)
          rw [z, Nat.add_sub_cancel, hfree] at this
          exact absurd this (by decide)
        have s2 := st_bits2 6 (by decide) u hu p (by omega)
        refine ih (i + 1) _ _ _ _ _ B' (by omega) ⟨10 * m + (p + 1), (nI u ||| ((1 : Int32) <<< (nI p &&& 31))).toNatClampNeg, ?_, ⟨?_, ?_⟩, ?_, s2.1, ?_, ?_⟩ hB'
        · rw [e]
          have : (10 : Int32) * nI m = nI (10 * m) := pk_mul 10 m
          rw [this, nI_add, nI_1, Nat.add_assoc]
        · omega
        · rw [show (10 * m + (p + 1)) / 10 = m by omega]; exact hm
        · intro j j' hj hj' h0 he
          cases j with
          | zero =>
            cases j' with
            | zero => rfl
            | succ j' =>
              rw [dg_0 (by omega), dg_s (by omega)] at he
              exact absurd he.symm (nop j' (by omega))
          | succ j =>
            cases j' with
            | zero =>
              rw [dg_0 (by omega), dg_s (by omega)] at he
              exact absurd he (nop j (by omega))
            | succ j' =>
              rw [dg_s (by omega)] at h0
              rw [dg_s (by omega), dg_s (by omega)] at he
              rw [hd j j' (by omega) (by omega) h0 he]
        · rw [eu]; exact s2.2.symm
        · intro j hj h0
          rw [eu]
          cases j with
          | zero =>
            rw [dg_0 (by omega), Nat.add_sub_cancel]
            show ((nI u ||| ((1 : Int32) <<< (nI p &&& 31))) >>> (nI p &&& 31)) &&& 1 = 1
            rw [st_bits u hu p (by omega) p (by omega), if_pos rfl]
          | succ j =>
            rw [dg_s (by omega)] at h0 ⊢
            have hl := hle j
            show ((nI u ||| ((1 : Int32) <<< (nI p &&& 31))) >>> (nI (dg m j - 1) &&& 31)) &&& 1 = 1
            rw [st_bits u hu p (by omega) (dg m j - 1) (by omega)]
            by_cases z : dg m j - 1 = p
            · rw [if_pos z]
            · rw [if_neg z, ← eu]
              exact hb j (by omega) h0
      · rw [if_neg c]; exact hB'
    · by_cases c : goal = 1 ∧ 0 < W i
      · rw [if_pos c]; exact hB
      · rw [if_neg c]
        refine ih (i + 1) _ _ _ _ _ B (by omega) ⟨10 * m, u, ?_, ⟨?_, ?_⟩, ?_, hu, eu, ?_⟩ hB
        · rw [e]; exact pk_mul 10 m
        · omega
        · rw [show 10 * m / 10 = m by omega]; exact hm
        · intro j j' hj hj' h0 he
          have z0 : ∀ j, dg (10 * m) (j + 1) = dg m j := fun j => dg_s (d := 0) (by decide)
          have z1 : dg (10 * m) 0 = 0 := dg_0 (d := 0) (by decide)
          cases j with
          | zero => exact absurd z1 h0
          | succ j =>
            cases j' with
            | zero => rw [z1] at he; exact absurd he h0
            | succ j' =>
              rw [z0] at h0
              rw [z0, z0] at he
              rw [hd j j' (by omega) (by omega) h0 he]
        · intro j hj h0
          have z0 : ∀ j, dg (10 * m) (j + 1) = dg m j := fun j => dg_s (d := 0) (by decide)
          have z1 : dg (10 * m) 0 = 0 := dg_0 (d := 0) (by decide)
          cases j with
          | zero => exact absurd z1 h0
          | succ j =>
            rw [z0] at h0 ⊢
            exact hb j (by omega) h0
theorem bestC_dist {G : TG} {σ : ST} (hn : nP σ ≤ 6) {goal : Int32} : goodD (nP σ) (bestC G σ goal) := by
  have z : ∀ j, dg 0 j = 0 := fun j => by
    show 0 / 10 ^ j % 10 = 0
    rw [Nat.zero_div]
  have o0 : ∀ k, dgOk (nP σ) k 0 := fun k => by
    induction k with
    | zero => rfl
    | succ k ih => exact ⟨Nat.zero_le _, ih⟩
  exact skC_dist hn 4 0 (-1) 0 0 0 0 (0, 0, 0) rfl ⟨0, 0, rfl, rfl, fun j j' _ _ h => absurd (z j) h, by decide, rfl, fun j _ h => absurd (z j) h⟩ ⟨0, rfl, o0 4, fun j j' _ _ h => absurd (z j) h⟩
section LSE
variable {σ : ST}
theorem dg_step {m k : Nat} (hm : m < 10000) : nI (m / 10 ^ k) / 10 = nI (m / 10 ^ (k + 1)) ∧ nI (m / 10 ^ k) - nI (m / 10 ^ k) / 10 * 10 = nI (dg m k) := by
  have hl : m / 10 ^ k ≤ m := Nat.div_le_self _ _
  refine ⟨?_, pk_rem (d := 10) (by omega) (by decide) (by decide)⟩
  have := pk_div (a := m / 10 ^ k) (d := 10) (by omega) (by decide) (by decide)
  rw [Nat.div_div_eq_div_mul, ← Nat.pow_succ] at this
  exact this
theorem stG_k {j k : Nat} {a : ST × Int32} {q : Nat} (hq : q ≠ 110) : (fo stG j k a).1 q = a.1 q := by
  refine fo_key1 (fun i b => ?_) j k a
  unfold stG
  by_cases c : 0 < b.2 - b.2 / 10 * 10
  · rw [if_pos c]
    show mup b.1 110 _ _ q = b.1 q
    exact mup_k hq
  · rw [if_neg c]
theorem stG_miss {m p : Nat} (hm : m < 10000) : ∀ (j k : Nat) (a : ST), k + j = 4 → (∀ k', k ≤ k' → k' < 4 → dg m k' ≠ p + 1) → (fo stG j k (a, nI (m / 10 ^ k))).1 110 p = a 110 p := by
  intro j
  induction j with
  | zero => intro k a _ _; rfl
  | succ j ih =>
    intro k a h1 h2
    obtain ⟨e1, e2⟩ := dg_step (k := k) hm
    have hd := h2 k (Nat.le_refl _) (by omega)
    have hd9 : dg m k < 10 := Nat.mod_lt _ (by decide)
    show (fo stG j (k + 1) (stG k (a, nI (m / 10 ^ k)))).1 110 p = a 110 p
    have es : stG k (a, nI (m / 10 ^ k)) = (if 0 < nI (dg m k) then mup a 110 (nI (dg m k) - 1).toNatClampNeg (nI (3 - k)) else a, nI (m / 10 ^ (k + 1))) := by
      unfold stG
      rw [e2, e1]
    rw [es, ih (k + 1) _ (by omega) (fun k' h3 h4 => h2 k' (by omega) h4)]
    by_cases c : 0 < nI (dg m k)
    · have c1 : 0 < dg m k := (nI_ltI (a := 0) (by omega) (by omega)).mp c
      have e3 : nI (dg m k) - 1 = nI (dg m k - 1) := pk_sub (b := 1) (by omega)
      rw [if_pos c, e3, nI_clamp (by omega), mup_kk, if_neg (by omega)]
    · rw [if_neg c]
theorem stG_hit {m p : Nat} (hm : m < 10000) (hd : dsm m) : ∀ (j k : Nat) (a : ST), k + j = 4 → ∀ k', k ≤ k' → k' < 4 → dg m k' = p + 1 → (fo stG j k (a, nI (m / 10 ^ k))).1 110 p = nI (3 - k') := by
  intro j
  induction j with
  | zero => intro k a h1 k' h2 h3; omega
  | succ j ih =>
    intro k a h1 k' h2 h3 h4
    obtain ⟨e1, e2⟩ := dg_step (k := k) hm
    have hd9 : dg m k < 10 := Nat.mod_lt _ (by decide)
    show (fo stG j (k + 1) (stG k (a, nI (m / 10 ^ k)))).1 110 p = _
    have es : stG k (a, nI (m / 10 ^ k)) = (if 0 < nI (dg m k) then mup a 110 (nI (dg m k) - 1).toNatClampNeg (nI (3 - k)) else a, nI (m / 10 ^ (k + 1))) := by
      unfold stG
      rw [e2, e1]
    rw [es]
    by_cases c : k' = k
    · subst c
      have c1 : 0 < nI (dg m k') := (nI_ltI (a := 0) (by omega) (by omega)).mpr (by omega)
      have e3 : nI (dg m k') - 1 = nI (dg m k' - 1) := pk_sub (b := 1) (by omega)
      rw [stG_miss hm j (k' + 1) _ (by omega) (fun k2 h5 h6 z => by have := hd k' k2 h3 h6 (by omega) (by omega); omega), if_pos c1, e3, nI_clamp (by omega), mup_kk, if_pos (by omega)]
    · exact ih (k + 1) _ (by omega) k' (by omega) h3 h4
theorem st0_k {q : Nat} (hq : q ≠ 110) : st0 σ q = σ q := fo_key (fun i a => mup_k hq) _ _ _
theorem st0_110 {p : Nat} (hp : p < nP σ) : st0 σ 110 p = -1 := by
  have go : ∀ (j i : Nat) (a : ST), i + j = nP σ → (p < i → a 110 p = -1) → fo (fun p σ => mup σ 110 p (-1)) j i a 110 p = -1 := by
    intro j
    induction j with
    | zero => intro i a h1 h2; exact h2 (by omega)
    | succ j ih =>
      intro i a h1 h2
      refine ih (i + 1) (mup a 110 i (-1)) (by omega) fun h3 => ?_
      rw [mup_kk]
      by_cases z : p = i
      · rw [if_pos z]
      · rw [if_neg z]; exact h2 (by omega)
  exact go (nP σ) 0 σ (by omega) (fun h => by omega)
theorem stC_k {x : Int32} {q : Nat} (hq : q ≠ 110) : stC σ x q = σ q := by
  unfold stC
  rw [stG_k hq]
  exact st0_k hq
theorem stS_k {x : Int32} {q : Nat} (hq : q ≠ 9) : stS σ x q = σ q := by
  unfold stS
  exact fo_key1 (fun i a => mup_k hq) _ _ _
theorem stS_9 {m o : Nat} (hm : m < 10000) (ho : o < 4) : stS σ (nI m) 9 o = nI (dg m (3 - o)) - 1 := by
  have go : ∀ (j k : Nat) (a : ST), k + j = 4 → (fo stF j k (a, nI (m / 10 ^ k))).1 9 o = if k ≤ 3 - o then nI (dg m (3 - o)) - 1 else a 9 o := by
    intro j
    induction j with
    | zero =>
      intro k a h1
      rw [if_neg (by omega)]
      rfl
    | succ j ih =>
      intro k a h1
      obtain ⟨e1, e2⟩ := dg_step (k := k) hm
      show (fo stF j (k + 1) (stF k (a, nI (m / 10 ^ k)))).1 9 o = _
      have es : stF k (a, nI (m / 10 ^ k)) = (mup a 9 (3 - k) (nI (dg m k) - 1), nI (m / 10 ^ (k + 1))) := by
        unfold stF
        rw [e2, e1]
      rw [es, ih (k + 1) _ (by omega), mup_kk]
      by_cases c : k = 3 - o
      · rw [if_neg (by omega), if_pos (by omega), if_pos (by omega), ← c]
      · by_cases c2 : k + 1 ≤ 3 - o
        · rw [if_pos c2, if_pos (by omega)]
        · rw [if_neg c2, if_neg (by omega), if_neg (by omega)]
  have := go 4 0 σ rfl
  rw [if_pos (Nat.zero_le _), Nat.pow_zero, Nat.div_one] at this
  exact this
end LSE
/-- the joined state behind settle: ρ has the reference's fields, κ the class's -/
def seT (σ : ST) (x : Int32) : ST := fun k => if k = 9 then stS σ x 9 else if k = 110 then stC σ x 110 else σ k
section LSF
variable {σ : ST}
theorem seT_k {x : Int32} {k : Nat} (h9 : k ≠ 9) (h : k ≠ 110) : seT σ x k = σ k := by
  unfold seT
  rw [if_neg h9, if_neg h]
theorem se_9 {m o : Nat} (hm : m < 10000) (ho : o < 4) (h6 : dg m (3 - o) ≤ nP σ) : seT σ (nI m) 9 o = -1 ∧ dg m (3 - o) = 0 ∨ ∃ p, p < nP σ ∧ seT σ (nI m) 9 o = nI p ∧ dg m (3 - o) = p + 1 := by
  show stS σ (nI m) 9 o = -1 ∧ _ ∨ ∃ p, _ ∧ stS σ (nI m) 9 o = nI p ∧ _
  rw [stS_9 hm ho]
  by_cases c : dg m (3 - o) = 0
  · left
    rw [c]
    exact ⟨by decide, rfl⟩
  · right
    refine ⟨dg m (3 - o) - 1, by omega, ?_, by omega⟩
    exact pk_sub (b := 1) (by omega)
theorem se_110 {m p : Nat} (hm : m < 10000) (hd : dsm m) (hp : p < nP σ) : (∃ k, k < 4 ∧ dg m k = p + 1 ∧ seT σ (nI m) 110 p = nI (3 - k)) ∨ ((∀ k, k < 4 → dg m k ≠ p + 1) ∧ seT σ (nI m) 110 p = -1) := by
  have e : seT σ (nI m) 110 p = (fo stG 4 0 (st0 σ, nI (m / 10 ^ 0))).1 110 p := by
    rw [Nat.pow_zero, Nat.div_one]
    rfl
  rw [e]
  by_cases c : ∃ k, k < 4 ∧ dg m k = p + 1
  · obtain ⟨k, hk, h⟩ := c
    exact Or.inl ⟨k, hk, h, stG_hit hm hd 4 0 _ rfl k (Nat.zero_le _) hk h⟩
  · refine Or.inr ⟨fun k hk h => c ⟨k, hk, h⟩, ?_⟩
    rw [stG_miss hm 4 0 _ rfl (fun k' _ h2 h3 => c ⟨k', h2, h3⟩)]
    exact st0_110 hp
theorem Iv_seT (hW : WS σ) (hI : Iv σ) {m : Nat} (hg : dgOk (nP σ) 4 m) (hd : dsm m) : Iv (seT σ (nI m)) ∧ WS (seT σ (nI m)) := by
  have hn := (nP_eq hW).2
  have hm : m < 10000 := dgOk_lt 4 m hg
  have hl := dg_le 4 m hg
  have en : nP (seT σ (nI m)) = nP σ := by unfold nP; rw [seT_k (by decide) (by decide)]
  refine ⟨⟨fun o p ho hp => ?_, fun p hp => ?_, fun p hp => ?_⟩, ?_⟩
  · rw [en] at hp
    rcases se_9 (σ := σ) hm ho (hl _) with ⟨a1, a2⟩ | ⟨p', a1, a2, a3⟩
    · rcases se_110 (σ := σ) hm hd hp with ⟨k, b1, b2, b3⟩ | ⟨b1, b2⟩
      · rw [a1, b3]
        refine ⟨fun z => absurd z.symm (nIn1 (by omega)), fun z => ?_⟩
        have : 3 - k = o := (nI_eq (by omega) (by omega)).mp z
        have e : 3 - o = k := by omega
        rw [e] at a2
        omega
      · rw [a1, b2]
        exact ⟨fun z => absurd z.symm (nIn1 (by omega)), fun z => absurd z.symm (nIn1 (by omega))⟩
    · rcases se_110 (σ := σ) hm hd hp with ⟨k, b1, b2, b3⟩ | ⟨b1, b2⟩
      · rw [a2, b3]
        refine ⟨fun z => ?_, fun z => ?_⟩
        · have : p' = p := (nI_eq (by omega) (by omega)).mp z
          have e : 3 - o = k := hd _ _ (by omega) b1 (by omega) (by omega)
          rw [← e, show 3 - (3 - o) = o by omega]
        · have : 3 - k = o := (nI_eq (by omega) (by omega)).mp z
          have e : 3 - o = k := by omega
          rw [e] at a3
          rw [show p' = p by omega]
      · rw [a2, b2]
        refine ⟨fun z => ?_, fun z => absurd z.symm (nIn1 (by omega))⟩
        have : p' = p := (nI_eq (by omega) (by omega)).mp z
        exact absurd (by omega) (b1 (3 - o) (by omega))
  · rw [en] at hp
    rcases se_110 (σ := σ) hm hd hp with ⟨k, b1, b2, b3⟩ | ⟨b1, b2⟩
    · exact Or.inr ⟨3 - k, by omega, b3⟩
    · exact Or.inl b2
  · rw [en] at hp
    unfold ab
    rw [seT_k (by decide) (by decide), seT_k (by decide) (by decide)]
    exact hI.2.2 p hp
  · obtain ⟨w1, w2, w3, w4, w5, w6, w7, w8⟩ := hW
    unfold WS
    rw [en, seT_k (k := 13) (by decide) (by decide), seT_k (k := 3) (by decide) (by decide), seT_k (k := 4) (by decide) (by decide), seT_k (k := 6) (by decide) (by decide), seT_k (k := 1) (by decide) (by decide), seT_k (k := 5) (by decide) (by decide), seT_k (k := 2) (by decide) (by decide), seT_k (k := 10) (by decide) (by decide)]
    refine ⟨w1, w2, w3, w4, w5, w6, fun o ho => ?_, w8⟩
    rcases se_9 (σ := σ) hm ho (hl _) with ⟨a1, a2⟩ | ⟨p', a1, a2, a3⟩
    · exact Or.inl a1
    · exact Or.inr ⟨p', a1, a2⟩
end LSF
