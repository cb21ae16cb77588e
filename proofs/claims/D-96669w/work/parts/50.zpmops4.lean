/-! THE REFERENCE's CALLS: chance, swap, turnOut, house -/
set_option maxRecDepth 100000
/-- how many of the drawn days are peaceful -/
def soN (G : TG) (σ : ST) (seed : Int32) (m : Nat) : Nat := fo (fun t a => a + (if qst G (drS σ (seed + nI t)) = 0 then 1 else 0)) m 0 0
def chS (G : TG) (σ : ST) (seed : Int32) (m : Nat) (part : Int32) : Int64 := (if part = 0 then lN (soN G σ seed m) else lN m) / lN (Nat.gcd m (soN G σ seed m))
def swS (σ : ST) (i j : Nat) : ST := mup (mup σ 9 i (σ 9 j)) 9 j (σ 9 i)
def swV (G : TG) (σ : ST) : Int32 := if qst G σ = 0 then bri G σ else -1
def swF (G : TG) (σ : ST) (i : Nat) : Nat → Int32 × Int32 × Int32 → Int32 × Int32 × Int32 := fun j a => if swV G (swS σ i j) = -1 then a else if a.2.1 < swV G (swS σ i j) then (10 * nI i + nI j, swV G (swS σ i j), 0) else if a.2.2 = 0 then a else (10 * nI i + nI j, swV G (swS σ i j), 0)
def swL (G : TG) (σ : ST) : Int32 × Int32 × Int32 := fo (fun i a => fo (swF G σ i) (3 - i) (i + 1) a) 4 0 (-1, bri G σ, if qst G σ = 0 then 0 else 1)
def tuF (G : TG) (σ : ST) : Nat → Int32 × Int32 → Int32 × Int32 := fun i a => if σ 9 i = -1 then a else if pc 7 0 (qst G (mup σ 9 i (-1))) < a.2 then (σ 9 i, pc 7 0 (qst G (mup σ 9 i (-1)))) else a
def tuL (G : TG) (σ : ST) : Int32 × Int32 := fo (tuF G σ) 4 0 (-1, pc 7 0 (qst G σ))
theorem mup_ne9 {τ : ST} {k j i : Nat} {v : Int32} (h : j ≠ k) : mup τ k i v j = τ j := if_neg h
theorem swS_at (σ : ST) {i j : Nat} (hij : i ≠ j) (k o : Nat) : swS σ i j k o = if k = 9 then (if o = j then σ 9 i else if o = i then σ 9 j else σ 9 o) else σ k o := by
  unfold swS mup
  by_cases c : k = 9
  · subst c
    rw [if_pos rfl, if_pos rfl, if_pos rfl]
    rfl
  · rw [if_neg c, if_neg c, if_neg c]
theorem swS_swS (σ : ST) {i j : Nat} (hij : i ≠ j) : swS (swS σ i j) i j = σ := by
  funext k o
  have ai : swS σ i j 9 i = σ 9 j := by rw [swS_at _ hij, if_pos rfl, if_neg hij, if_pos rfl]
  have aj : swS σ i j 9 j = σ 9 i := by rw [swS_at _ hij, if_pos rfl, if_pos rfl]
  rw [swS_at _ hij, ai, aj]
  by_cases c : k = 9
  · subst c
    rw [if_pos rfl]
    by_cases cj : o = j
    · rw [if_pos cj, cj]
    · rw [if_neg cj]
      by_cases ci : o = i
      · rw [if_pos ci, ci]
      · rw [if_neg ci, swS_at _ hij, if_pos rfl, if_neg cj, if_neg ci]
  · rw [if_neg c]
    show mup (mup σ 9 i (σ 9 j)) 9 j (σ 9 i) k o = σ k o
    unfold mup
    rw [if_neg c, if_neg c]
theorem qst_8 (G : TG) (σ : ST) : ∃ j : Nat, j < 8 ∧ qst G σ = nI j := by
  have e : qst G σ = ((0 ||| (qr G σ (σ 9 0) (σ 9 1) (nI 0) <<< (nI 0 &&& 31))) ||| (qr G σ (σ 9 1) (σ 9 2) (nI 1) <<< (nI 1 &&& 31))) ||| (qr G σ (σ 9 2) (σ 9 3) (nI 2) <<< (nI 2 &&& 31)) := rfl
  rw [e]
  rcases qr01 G σ (σ 9 0) (σ 9 1) (nI 0) with a | a <;> rcases qr01 G σ (σ 9 1) (σ 9 2) (nI 1) with b | b <;> rcases qr01 G σ (σ 9 2) (σ 9 3) (nI 2) with c | c <;> rw [a, b, c]
  · exact ⟨0, by decide, by decide⟩
  · exact ⟨4, by decide, by decide⟩
  · exact ⟨2, by decide, by decide⟩
  · exact ⟨6, by decide, by decide⟩
  · exact ⟨1, by decide, by decide⟩
  · exact ⟨5, by decide, by decide⟩
  · exact ⟨3, by decide, by decide⟩
  · exact ⟨7, by decide, by decide⟩
theorem pcE_q (G : TG) (σ : ST) : pcEnd 6 (qst G σ) = true := by
  obtain ⟨j, hj, e⟩ := qst_8 G σ
  rw [e]
  exact pcEnd_64 j (by omega)
theorem WS_9 {σ σ' : ST} (hW : WS σ) (h : ∀ k, k ≠ 9 → σ' k = σ k) (h9 : ∀ o, o < 4 → σ' 9 o = -1 ∨ ∃ p : Nat, p < nP σ ∧ σ' 9 o = nI p) : WS σ' := by
  unfold WS nP at hW ⊢
  rw [h 1 (by decide), h 2 (by decide), h 3 (by decide), h 4 (by decide), h 5 (by decide), h 6 (by decide), h 10 (by decide), h 13 (by decide)]
  exact ⟨hW.1, hW.2.1, hW.2.2.1, hW.2.2.2.1, hW.2.2.2.2.1, hW.2.2.2.2.2.1, h9, hW.2.2.2.2.2.2.2⟩
theorem WS_sw {σ : ST} (hW : WS σ) {i j : Nat} (hij : i ≠ j) (hi : i < 4) (hj : j < 4) : WS (swS σ i j) := by
  refine WS_9 hW (fun k hk => by funext o; rw [swS_at _ hij, if_neg hk]) fun o ho => ?_
  rw [swS_at _ hij, if_pos rfl]
  by_cases c1 : o = j
  · rw [if_pos c1]; exact hW.2.2.2.2.2.2.1 i hi
  · rw [if_neg c1]
    by_cases c2 : o = i
    · rw [if_pos c2]; exact hW.2.2.2.2.2.2.1 j hj
    · rw [if_neg c2]; exact hW.2.2.2.2.2.2.1 o ho
theorem Gm_sw {σ : ST} {i j : Nat} : Gm (swS σ i j) = Gm σ := by
  refine Gm_of ?_ ?_
  · unfold swS; rw [mup_ne9 (by decide), mup_ne9 (by decide)]
  · unfold swS; rw [mup_ne9 (by decide), mup_ne9 (by decide)]
section M4
variable {f : Nat} {m : Nat} {ad : Nat → Nat} {b : zH} {σ : ST} {h : zH}
theorem L_gcd (hf : 400 ≤ f) {K : Int64 → zH → Prop} {mm part : Int32} {so : Int64} : ∀ (d g a b : Nat), b < d → b < g → a < 1000 → b < 1000 → (a ≠ 0 ∨ b ≠ 0) → K ((if part = 0 then so else mm.toInt64) / lN (Nat.gcd b a)) h → zl8_chance_81 f K g h mm part so (lN a) (lN b) := by
  intro d
  induction d with
  | zero => intro g a b h1; omega
  | succ d ih =>
    intro g a b h1 h2 ha hb h0 kk
    obtain ⟨g, rfl⟩ : ∃ g', g = g' + 1 := ⟨g - 1, by omega⟩
    show zb8_chance_81 f K (zl8_chance_81 f K g) h mm part so (lN a) (lN b)
    unfold zb8_chance_81
    have e0 : (0 : Int64) = lN 0 := rfl
    by_cases c : b = 0
    · subst c
      rw [if_pos (show lg_cmp (lN 0) 0 = 0 from (lg_cmp_eq _ _).mpr rfl)]
      rw [Nat.gcd_zero_left] at kk
      have na : ¬ lN a = 0 := fun z => by rw [e0] at z; have := (pk_lEQ (by omega) (by omega)).mp z; omega
      by_cases cp : part = 0
      · rw [if_pos cp] at kk ⊢; exact ⟨na, kk⟩
      · rw [if_neg cp] at kk ⊢; exact ⟨na, kk⟩
    · have nb : ¬ lN b = 0 := fun z => by rw [e0] at z; have := (pk_lEQ (by omega) (by omega)).mp z; omega
      rw [if_neg (fun z => nb ((lg_cmp_eq _ _).mp z))]
      refine ⟨nb, ?_⟩
      simp only [nm_eq]
      rw [pk_lRem (by omega) (by omega) (by omega)]
      have hm := Nat.mod_lt a (show 0 < b by omega)
      refine ih g b (a % b) (by omega) (by omega) hb (by omega) (Or.inl c) ?_
      rw [Nat.gcd_rec] at kk
      exact kk
theorem soN_le (G : TG) (σ : ST) (s : Int32) : ∀ (j i a : Nat), fo (fun t a => a + (if qst G (drS σ (s + nI t)) = 0 then 1 else 0)) j i a ≤ a + j := by
  intro j
  induction j with
  | zero => intro i a; exact Nat.le_refl _
  | succ j ih =>
    intro i a
    have := ih (i + 1) (a + (if qst G (drS σ (s + nI i)) = 0 then 1 else 0))
    show fo _ j (i + 1) (a + (if qst G (drS σ (s + nI i)) = 0 then 1 else 0)) ≤ a + (j + 1)
    by_cases c : qst G (drS σ (s + nI i)) = 0
    · rw [if_pos c] at this ⊢; omega
    · rw [if_neg c] at this ⊢; omega
theorem n37_k {σ1 σ : ST} (h : n37 σ1 = n37 σ) {k : Nat} (hk : k ≠ 37) : σ1 k = σ k := by
  have := congrFun h k
  unfold n37 at this
  rw [if_neg hk, if_neg hk] at this
  exact this
theorem drS37 {σ1 σ : ST} (h : n37 σ1 = n37 σ) (s : Int32) : n37 (drS σ1 s) = n37 (drS σ s) := by
  unfold drS
  have : nP σ1 = nP σ := by unfold nP; rw [n37_k h (by decide)]
  rw [this]
  exact drF37 _ _ _ _ h rfl
theorem O_chance (ok : mOk m ad) (hf : 400 ≤ f) (hW : WS σ) (hh : Mh m ad b σ h) {s mm part : Int32} {K : Int64 → zH → Prop} (k0 : ¬ ((1 ≤ mm.toInt ∧ mm.toInt ≤ 20) ∧ (0 ≤ part.toInt ∧ part.toInt ≤ 1)) → K (-4611686018427387904) h) (kk : ∀ n : Nat, 1 ≤ n → n ≤ 20 → mm = nI n → (0 ≤ part.toInt ∧ part.toInt ≤ 1) → ∀ σ' h', n37 σ' = n37 σ → Mh m ad b σ' h' → K (chS (Gm σ) σ s n part) h') : zf8_chance f h (some m) s mm part K := by
  unfold zf8_chance zj8_chance_22
  rw [q_inL 1 20 (by decide) (by decide)]
  simp only [ite10, ifn]
  by_cases c1 : 1 ≤ mm.toInt ∧ mm.toInt ≤ 20
  · rw [if_pos c1, q_inL 0 1 (by decide) (by decide)]
    simp only [ite10, ifn]
    by_cases c2 : 0 ≤ part.toInt ∧ part.toInt ≤ 1
    · rw [if_pos c2]
      obtain ⟨n, hn, -, rfl, hn2⟩ := nI_bt (x := mm) (u := 20) ⟨by omega, c1.2⟩
      have hn1 : 1 ≤ n := by omega
      have hn20 : n ≤ 20 := by omega
      have kk := kk n hn1 hn20 rfl c2
      have go : ∀ (j i g : Nat) (a : Nat) (σ1 : ST) (h : zH), i + j = n → a ≤ i → j < g → n37 σ1 = n37 σ → Mh m ad b σ1 h → (∀ so, so ≤ n → so = fo (fun t a => a + (if qst (Gm σ) (drS σ (s + nI t)) = 0 then 1 else 0)) j i a → ∀ σ' h', n37 σ' = n37 σ → Mh m ad b σ' h' → zl8_chance_81 f K f h' (nI n) part (lN so) (lN so) (nI n).toInt64) → zl8_chance_32 f K g h (some m) s (nI n) part (lN a) (nI i) := by
        intro j
        induction j with
        | zero =>
          intro i g a σ1 h h1 ha h2 h37 hh kk
          obtain ⟨g, rfl⟩ : ∃ g', g = g' + 1 := ⟨g - 1, by omega⟩
          show zb8_chance_32 f K (zl8_chance_32 f K g) h (some m) s (nI n) part (lN a) (nI i)
          unfold zb8_chance_32
          rw [if_neg (fun z => by have := (nI_ltI (by omega) (by omega)).mp z; omega)]
          simp only [nm_eq]
          exact kk a (by omega) rfl σ1 h h37 hh
        | succ j ih =>
          intro i g a σ1 h h1 ha h2 h37 hh kk
          obtain ⟨g, rfl⟩ : ∃ g', g = g' + 1 := ⟨g - 1, by omega⟩
          show zb8_chance_32 f K (zl8_chance_32 f K g) h (some m) s (nI n) part (lN a) (nI i)
          unfold zb8_chance_32 zj8_chance_60
          rw [if_pos ((nI_ltI (by omega) (by omega)).mpr (by omega))]
          have hW1 : WS σ1 := WS_of hW fun k hk => n37_k h37 (by intro z; rw [z] at hk; revert hk; decide)
          have hG1 : Gm σ1 = Gm σ := Gm_of (n37_k h37 (by decide)) (n37_k h37 (by decide))
          simp only [zmQ ok hh]
          refine L_draws ok hf hW1 hh fun h3 hh3 => ?_
          simp only [zmQ ok hh3]
          refine L_quarrelSet ok hf (WS_dr hW1 _) hh3 fun h4 hh4 => ?_
          rw [Gm_dr, hG1]
          have e : qst (Gm σ) (drS σ1 (s + nI i)) = qst (Gm σ) (drS σ (s + nI i)) := by rw [qst37, qst37 (Gm σ) (drS σ (s + nI i)), drS37 h37]
          rw [e]
          simp only [zmQ ok hh4, nm_eq, nI_1]
          have e1 : (1 : Int64) = lN 1 := rfl
          have e0 : (0 : Int64) = lN 0 := rfl
          have fin : ∀ v : Nat, v = (if qst (Gm σ) (drS σ (s + nI i)) = 0 then 1 else 0) → zf8_laysBack f h4 (some m) fun h13 => zl8_chance_32 f K g h13 (some m) s (nI n) part (lN a + lN v) (nI (i + 1)) := by
            intro v hv
            refine L_laysBack ok hf (WS_dr hW1 _) hh4 fun h5 hh5 => ?_
            rw [lN_add]
            refine ih (i + 1) g (a + v) _ h5 (by omega) (by rw [hv]; by_cases c : qst (Gm σ) (drS σ (s + nI i)) = 0 <;> simp only [c, if_true, if_false] <;> omega) (by omega) (by rw [lb_dr]; exact h37) hh5 ?_
            rw [hv]
            exact kk
          by_cases c : qst (Gm σ) (drS σ (s + nI i)) = 0
          · rw [if_pos c]
            exact fin 1 (by rw [if_pos c])
          · rw [if_neg c]
            exact fin 0 (by rw [if_neg c])
      refine go n 0 f 0 σ h (by omega) (by omega) (by omega) rfl hh fun so hso e σ' h' h37 hh' => ?_
      rw [nI_l (by omega)]
      refine L_gcd hf 30 f so n (by omega) (by omega) (by omega) (by omega) (Or.inr (by omega)) ?_
      have kq := kk σ' h' h37 hh'
      unfold chS soN at kq
      rw [← e] at kq
      rw [nI_l (by omega)]
      exact kq
    · rw [if_neg c2]
      exact k0 (fun z => c2 z.2)
  · rw [if_neg c1]
    exact k0 (fun z => c1 z.1)
variable {K : Int32 → zH → Prop}
theorem L_swaps (ok : mOk m ad) (hh : Mh m ad b σ h) {i j : Nat} (hi : i < 4) (hj : j < 4) {K : zH → Prop} (kk : ∀ h', Mh m ad b (swS σ i j) h' → K h') : zf8_swaps f h (some m) (nI i) (nI j) K := by
  unfold zf8_swaps
  simp only [zmQ ok hh]
  rw [nI_clamp (by omega), nI_clamp (by omega)]
  refine ⟨vp_in_nI hi (by omega), vp_in_nI hj (by omega), Mst ok hh (by decide) (vp_in_nI hi (by omega)) fun h1 hh1 => ?_⟩
  rw [nI_clamp (by omega)] at hh1
  simp only [zmQ ok hh1]
  refine Mst ok hh1 (by decide) (vp_in_nI hj (by omega)) ?_
  rw [nI_clamp (by omega)]
  exact kk
theorem O_swap (ok : mOk m ad) (hf : 400 ≤ f) (hW : WS σ) (hh : Mh m ad b σ h) {what : Int32} (k0 : ¬ (0 ≤ what.toInt ∧ what.toInt ≤ 1) → K (-2) h) (kk : (0 ≤ what.toInt ∧ what.toInt ≤ 1) → ∀ h', Mh m ad b σ h' → K (if what = 0 then (swL (Gm σ) σ).1 else (swL (Gm σ) σ).2.1) h') : zf8_swap f h (some m) what K := by
  unfold zf8_swap
  rw [q_inL 0 1 (by decide) (by decide)]
  simp only [ite10, ifn]
  by_cases c : 0 ≤ what.toInt ∧ what.toInt ≤ 1
  · rw [if_pos c]
    simp only [zmQ ok hh]
    refine L_brightNow ok hf hW hh fun h1 hh1 => ?_
    simp only [zmQ ok hh1]
    refine L_quarrelSet ok hf hW hh1 fun h2 hh2 => ?_
    have inner : ∀ (i : Nat), i < 4 → ∀ (R : zH → Option Nat → Int32 → Int32 → Int32 → Int32 → Int32 → Prop) (j k g : Nat) (a : Int32 × Int32 × Int32) (h : zH), k + j = 4 → i < k → j < g → Mh m ad b σ h → (∀ h', Mh m ad b σ h' → R h' (some m) what (fo (swF (Gm σ) σ i) j k a).1 (fo (swF (Gm σ) σ i) j k a).2.1 (fo (swF (Gm σ) σ i) j k a).2.2 (nI (i + 1))) → zl8_swap_49 f R K g h (some m) what a.1 a.2.1 a.2.2 (nI i) (nI k) := by
      intro i hi R j
      induction j with
      | zero =>
        intro k g a h h1 h3 h2 hh kk
        obtain ⟨g, rfl⟩ : ∃ g', g = g' + 1 := ⟨g - 1, by omega⟩
        show zb8_swap_49 f R K (zl8_swap_49 f R K g) h (some m) what a.1 a.2.1 a.2.2 (nI i) (nI k)
        unfold zb8_swap_49
        have e : k = 4 := by omega
        subst e
        rw [if_neg (by decide)]
        simp only [nm_eq, nI_1]
        exact kk h hh
      | succ j ih =>
        intro k g a h h1 h3 h2 hh kk
        obtain ⟨g, rfl⟩ : ∃ g', g = g' + 1 := ⟨g - 1, by omega⟩
        show zb8_swap_49 f R K (zl8_swap_49 f R K g) h (some m) what a.1 a.2.1 a.2.2 (nI i) (nI k)
        unfold zb8_swap_49
        rw [if_pos (show nI k < 4 from (nI_ltI (b := 4) (by omega) (by omega)).mpr (by omega))]
        have hik : i ≠ k := by omega
        simp only [zmQ ok hh]
        refine L_swaps ok hh hi (by omega) fun h3 hh3 => ?_
        have hW3 := WS_sw hW hik hi (by omega)
        simp only [zmQ ok hh3]
        refine L_quarrelSet ok hf hW3 hh3 fun h4 hh4 => ?_
        rw [Gm_sw]
        have fin : ∀ h5, Mh m ad b (swS σ i k) h5 → zj8_swap_78 f R (zl8_swap_49 f R K g) K h5 (some m) what a.1 a.2.1 a.2.2 (nI i) (nI k) (swV (Gm σ) (swS σ i k)) := by
          intro h5 hh5
          unfold zj8_swap_78 zj8_swap_105 zj8_swap_120
          simp only [zmQ ok hh5]
          refine L_swaps ok hh5 hi (by omega) fun h6 hh6 => ?_
          rw [swS_swS σ hik] at hh6
          simp only [nm_eq, nI_1]
          have ih := ih (k + 1) g (swF (Gm σ) σ i k a) h6 (by omega) (by omega) (by omega) hh6 kk
          unfold swF at ih
          by_cases c1 : swV (Gm σ) (swS σ i k) = -1
          · rw [if_pos c1] at ih ⊢; exact ih
          rw [if_neg c1] at ih ⊢
          by_cases c2 : a.2.1 < swV (Gm σ) (swS σ i k)
          · rw [if_pos c2] at ih ⊢; exact ih
          rw [if_neg c2] at ih ⊢
          by_cases c3 : a.2.2 = 0
          · rw [if_pos c3] at ih ⊢; exact ih
          rw [if_neg c3] at ih ⊢
          exact ih
        unfold swV at fin
        by_cases c0 : qst (Gm σ) (swS σ i k) = 0
        · rw [if_pos c0] at fin ⊢
          simp only [zmQ ok hh4]
          refine L_brightNow ok hf hW3 hh4 fun h5 hh5 => ?_
          rw [Gm_sw]
          exact fin h5 hh5
        · rw [if_neg c0] at fin ⊢
          exact fin h4 hh4
    have outer : ∀ (j i g : Nat) (a : Int32 × Int32 × Int32) (h : zH), i + j = 4 → j < g → Mh m ad b σ h → (∀ h', Mh m ad b σ h' → K (if what = 0 then (fo (fun i a => fo (swF (Gm σ) σ i) (3 - i) (i + 1) a) j i a).1 else (fo (fun i a => fo (swF (Gm σ) σ i) (3 - i) (i + 1) a) j i a).2.1) h') → zl8_swap_37 f K g h (some m) what a.1 a.2.1 a.2.2 (nI i) := by
      intro j
      induction j with
      | zero =>
        intro i g a h h1 h2 hh kk
        obtain ⟨g, rfl⟩ : ∃ g', g = g' + 1 := ⟨g - 1, by omega⟩
        show zb8_swap_37 f K (zl8_swap_37 f K g) h (some m) what a.1 a.2.1 a.2.2 (nI i)
        unfold zb8_swap_37
        have e : i = 4 := by omega
        subst e
        rw [if_neg (by decide)]
        have kk := kk h hh
        have kk : K (if what = 0 then a.1 else a.2.1) h := kk
        by_cases c : what = 0
        · rw [if_pos c] at kk ⊢; exact kk
        · rw [if_neg c] at kk ⊢; exact kk
      | succ j ih =>
        intro i g a h h1 h2 hh kk
        obtain ⟨g, rfl⟩ : ∃ g', g = g' + 1 := ⟨g - 1, by omega⟩
        show zb8_swap_37 f K (zl8_swap_37 f K g) h (some m) what a.1 a.2.1 a.2.2 (nI i)
        unfold zb8_swap_37
        rw [if_pos (show nI i < 4 from (nI_ltI (b := 4) (by omega) (by omega)).mpr (by omega))]
        simp only [nm_eq, nI_1]
        exact inner i (by omega) _ (3 - i) (i + 1) f a h (by omega) (by omega) (by omega) hh fun h' hh' => ih (i + 1) g _ h' (by omega) (by omega) hh' kk
    have fin := fun any => outer 4 0 f (-1, bri (Gm σ) σ, any) h2 rfl (by omega) hh2
    unfold zj8_swap_32
    have kk := kk c
    unfold swL at kk
    by_cases c0 : qst (Gm σ) σ = 0
    · rw [if_pos c0] at kk ⊢
      exact fin 0 kk
    · rw [if_neg c0] at kk ⊢
      exact fin 1 kk
  · rw [if_neg c]
    exact k0 c
theorem O_turnOut (ok : mOk m ad) (hf : 400 ≤ f) (hW : WS σ) (hh : Mh m ad b σ h) {what : Int32} (k0 : ¬ (0 ≤ what.toInt ∧ what.toInt ≤ 1) → K (-2) h) (kk : (0 ≤ what.toInt ∧ what.toInt ≤ 1) → ∀ h', Mh m ad b σ h' → K (if what = 0 then (tuL (Gm σ) σ).1 else (tuL (Gm σ) σ).2) h') : zf8_turnOut f h (some m) what K := by
  unfold zf8_turnOut
  rw [q_inL 0 1 (by decide) (by decide)]
  simp only [ite10, ifn]
  by_cases c : 0 ≤ what.toInt ∧ what.toInt ≤ 1
  · rw [if_pos c]
    simp only [zmQ ok hh]
    refine L_quarrelSet ok hf hW hh fun h1 hh1 => ?_
    rw [L_bits hf (pcE_q _ _)]
    have go : ∀ (j i g : Nat) (a : Int32 × Int32) (h : zH), i + j = 4 → j < g → Mh m ad b σ h → (∀ h', Mh m ad b σ h' → K (if what = 0 then (fo (tuF (Gm σ) σ) j i a).1 else (fo (tuF (Gm σ) σ) j i a).2) h') → zl8_turnOut_26 f K g h (some m) what a.1 a.2 (nI i) := by
      intro j
      induction j with
      | zero =>
        intro i g a h h1 h2 hh kk
        obtain ⟨g, rfl⟩ : ∃ g', g = g' + 1 := ⟨g - 1, by omega⟩
        show zb8_turnOut_26 f K (zl8_turnOut_26 f K g) h (some m) what a.1 a.2 (nI i)
        unfold zb8_turnOut_26
        have e : i = 4 := by omega
        subst e
        rw [if_neg (by decide)]
        have kk : K (if what = 0 then a.1 else a.2) h := kk h hh
        by_cases c : what = 0
        · rw [if_pos c] at kk ⊢; exact kk
        · rw [if_neg c] at kk ⊢; exact kk
      | succ j ih =>
        intro i g a h h1 h2 hh kk
        obtain ⟨g, rfl⟩ : ∃ g', g = g' + 1 := ⟨g - 1, by omega⟩
        show zb8_turnOut_26 f K (zl8_turnOut_26 f K g) h (some m) what a.1 a.2 (nI i)
        unfold zb8_turnOut_26 zj8_turnOut_85
        rw [if_pos (show nI i < 4 from (nI_ltI (b := 4) (by omega) (by omega)).mpr (by omega))]
        simp only [zmQ ok hh, nI_clamp (show i < 2 ^ 31 by omega)]
        refine ⟨vp_in_nI (by omega) (by omega), Mst ok hh (by decide) (vp_in_nI (show i < 4 by omega) (by omega)) fun h3 hh3 => ?_⟩
        rw [nI_clamp (by omega)] at hh3
        simp only [zmQ ok hh3]
        have hW3 : WS (mup σ 9 i (-1)) := WS_9 hW (fun k hk => if_neg hk) fun o ho => by
          show mup σ 9 i (-1) 9 o = -1 ∨ _
          unfold mup
          rw [if_pos rfl]
          unfold upd
          by_cases co : o = i
          · rw [if_pos co]; exact Or.inl rfl
          · rw [if_neg co]; exact hW.2.2.2.2.2.2.1 o ho
        refine L_quarrelSet ok hf hW3 hh3 fun h4 hh4 => ?_
        have eG : Gm (mup σ 9 i (-1)) = Gm σ := Gm_of (if_neg (by decide)) (if_neg (by decide))
        rw [eG, L_bits hf (pcE_q _ _)]
        simp only [zmQ ok hh4]
        refine Mst ok hh4 (by decide) (vp_in_nI (show i < 4 by omega) (by omega)) fun h5 hh5 => ?_
        have eb : mup (mup σ 9 i (-1)) 9 (nI i).toNatClampNeg (σ 9 i) = σ := by
          rw [nI_clamp (by omega)]
          funext k o
          unfold mup
          by_cases ck : k = 9
          · subst ck
            rw [if_pos rfl, if_pos rfl]
            unfold upd
            by_cases co : o = i
            · rw [if_pos co, co]
            · rw [if_neg co, if_neg co]
          · rw [if_neg ck, if_neg ck]
        rw [eb] at hh5
        simp only [nm_eq, nI_1]
        have ih := ih (i + 1) g (tuF (Gm σ) σ i a) h5 (by omega) (by omega) hh5 kk
        unfold tuF at ih
        by_cases c1 : σ 9 i = -1
        · rw [if_pos c1] at ih ⊢; exact ih
        rw [if_neg c1] at ih ⊢
        by_cases c2 : pc 7 0 (qst (Gm σ) (mup σ 9 i (-1))) < a.2
        · rw [if_pos c2] at ih ⊢; exact ih
        · rw [if_neg c2] at ih ⊢; exact ih
    exact go 4 0 f (-1, pc 7 0 (qst (Gm σ) σ)) h1 rfl (by omega) hh1 (kk c)
  · rw [if_neg c]
    exact k0 c
end M4
