/-! THE CLASS's CALLS: drawn, chance, turnOut, swap, feed -/
set_option maxRecDepth 100000
theorem drC_k {σ : ST} {seed : Int32} {k : Nat} (h11 : k ≠ 11) (h229 : k ≠ 229) : drC σ seed k = σ k := by
  unfold drC
  exact fo_key1 (fun i a => (if_neg h11).trans (if_neg h229)) _ _ _
theorem lbC_k {σ : ST} {k : Nat} (h11 : k ≠ 11) : lbC σ k = σ k := by
  unfold lbC
  exact fo_key (fun i a => if_neg h11) _ _ _
/-- the same but for the class's kept days -/
def n229 (σ : ST) : ST := fun k => if k = 229 then (fun _ => 0) else σ k
theorem n229_k {σ1 σ : ST} (h : n229 σ1 = n229 σ) {k : Nat} (hk : k ≠ 229) : σ1 k = σ k := by
  have := congrFun h k
  unfold n229 at this
  rw [if_neg hk, if_neg hk] at this
  exact this
theorem drG229 : ∀ (j i : Nat) (a b : ST × Int32), n229 a.1 = n229 b.1 → a.2 = b.2 → n229 (fo drG j i a).1 = n229 (fo drG j i b).1 := by
  intro j
  induction j with
  | zero => intro i a b h1 _; exact h1
  | succ j ih =>
    intro i a b h1 h2
    refine ih (i + 1) (drG i a) (drG i b) ?_ (by unfold drG; rw [h2])
    have e11 : a.1 11 = b.1 11 := n229_k h1 (by decide)
    funext k
    unfold n229 drG
    by_cases c : k = 229
    · rw [if_pos c, if_pos c]
    · rw [if_neg c, if_neg c]
      by_cases c2 : k = 11
      · subst c2
        funext j
        show mup (mup a.1 229 i (a.1 11 (3 * i + 1))) 11 (3 * i + 1) (dyz (a.2 * 1103515245 + 12345)) 11 j = mup (mup b.1 229 i (b.1 11 (3 * i + 1))) 11 (3 * i + 1) (dyz (b.2 * 1103515245 + 12345)) 11 j
        unfold mup
        rw [if_pos rfl, if_pos rfl, if_neg (by decide), if_neg (by decide), e11, h2]
      · show mup (mup a.1 229 i (a.1 11 (3 * i + 1))) 11 (3 * i + 1) (dyz (a.2 * 1103515245 + 12345)) k = mup (mup b.1 229 i (b.1 11 (3 * i + 1))) 11 (3 * i + 1) (dyz (b.2 * 1103515245 + 12345)) k
        unfold mup
        rw [if_neg c2, if_neg c2, if_neg c, if_neg c]
        exact n229_k h1 c
theorem drG_at (σ : ST) (s : Int32) : ∀ n, (∀ p, p < n → (fo drG n 0 (σ, s)).1 229 p = σ 11 (3 * p + 1)) ∧ (∀ i, (∀ p, p < n → i ≠ 3 * p + 1) → (fo drG n 0 (σ, s)).1 11 i = σ 11 i) := by
  intro n
  induction n with
  | zero => exact ⟨fun p hp => by omega, fun i _ => rfl⟩
  | succ n ih =>
    obtain ⟨i1, i2⟩ := ih
    rw [fo_snoc]
    generalize fo drG n 0 (σ, s) = a at i1 i2 ⊢
    have e0 : 0 + n = n := Nat.zero_add n
    rw [e0]
    refine ⟨fun p hp => ?_, fun i hi => ?_⟩
    · show mup (mup a.1 229 n (a.1 11 (3 * n + 1))) 11 (3 * n + 1) (dyz (a.2 * 1103515245 + 12345)) 229 p = _
      unfold mup
      rw [if_neg (by decide), if_pos rfl]
      unfold upd
      by_cases c : p = n
      · rw [if_pos c, c]
        exact i2 _ (fun q hq => by omega)
      · rw [if_neg c]
        exact i1 p (by omega)
    · show mup (mup a.1 229 n (a.1 11 (3 * n + 1))) 11 (3 * n + 1) (dyz (a.2 * 1103515245 + 12345)) 11 i = _
      unfold mup
      rw [if_pos rfl, if_neg (by decide)]
      unfold upd
      rw [if_neg (hi n (by omega))]
      exact i2 i (fun q hq => hi q (by omega))
theorem lbG_at (σ : ST) : ∀ n, (∀ i, fo (fun p (σ : ST) => mup σ 11 (3 * p + 1) (σ 229 p)) n 0 σ 229 i = σ 229 i) ∧ (∀ p, p < n → fo (fun p (σ : ST) => mup σ 11 (3 * p + 1) (σ 229 p)) n 0 σ 11 (3 * p + 1) = σ 229 p) ∧ (∀ i, (∀ p, p < n → i ≠ 3 * p + 1) → fo (fun p (σ : ST) => mup σ 11 (3 * p + 1) (σ 229 p)) n 0 σ 11 i = σ 11 i) := by
  intro n
  induction n with
  | zero => exact ⟨fun i => rfl, fun p hp => by omega, fun i _ => rfl⟩
  | succ n ih =>
    obtain ⟨i0, i1, i2⟩ := ih
    rw [fo_snoc]
    generalize fo (fun p (σ : ST) => mup σ 11 (3 * p + 1) (σ 229 p)) n 0 σ = a at i0 i1 i2 ⊢
    have e0 : 0 + n = n := Nat.zero_add n
    rw [e0]
    refine ⟨fun i => ?_, fun p hp => ?_, fun i hi => ?_⟩
    · show mup a 11 (3 * n + 1) (a 229 n) 229 i = _
      unfold mup
      rw [if_neg (by decide)]
      exact i0 i
    · show mup a 11 (3 * n + 1) (a 229 n) 11 (3 * p + 1) = _
      unfold mup
      rw [if_pos rfl]
      unfold upd
      by_cases c : p = n
      · rw [if_pos (by omega), c]
        exact i0 n
      · rw [if_neg (by omega)]
        exact i1 p (by omega)
    · show mup a 11 (3 * n + 1) (a 229 n) 11 i = _
      unfold mup
      rw [if_pos rfl]
      unfold upd
      rw [if_neg (hi n (by omega))]
      exact i2 i (fun q hq => hi q (by omega))
theorem lbC_dr (σ : ST) (s : Int32) : n229 (lbC (drC σ s)) = n229 σ := by
  have hn : nP (drC σ s) = nP σ := by unfold nP; rw [drC_k (by decide) (by decide)]
  funext k
  unfold n229
  by_cases c : k = 229
  · rw [if_pos c, if_pos c]
  · rw [if_neg c, if_neg c]
    by_cases c2 : k = 11
    · subst c2
      funext i
      have d := drG_at σ s (nP σ)
      have l := lbG_at (drC σ s) (nP σ)
      unfold lbC
      rw [hn]
      by_cases hi : ∃ p, p < nP σ ∧ i = 3 * p + 1
      · obtain ⟨p, hp, rfl⟩ := hi
        rw [l.2.1 p hp]
        exact d.1 p hp
      · have hi' : ∀ p, p < nP σ → i ≠ 3 * p + 1 := fun p hp z => hi ⟨p, hp, z⟩
        rw [l.2.2 i hi']
        exact d.2 i hi'
    · rw [lbC_k c2, drC_k c2 c]
theorem drC229 {σ1 σ : ST} (h : n229 σ1 = n229 σ) (s : Int32) : n229 (drC σ1 s) = n229 (drC σ s) := by
  unfold drC
  have : nP σ1 = nP σ := by unfold nP; rw [n229_k h (by decide)]
  rw [this]
  exact drG229 _ _ _ _ h rfl
theorem qst229 (G : TG) (σ : ST) : qstC G σ = qstC G (n229 σ) := rfl
def soC (G : TG) (σ : ST) (seed : Int32) (m : Nat) : Nat := fo (fun t a => a + (if qstC G (drC σ (seed + nI t)) = 0 then 1 else 0)) m 0 0
def ciS (G : TG) (σ : ST) (seed : Int32) (m : Nat) (part : Int32) : Int64 := (if part = 0 then lN (soC G σ seed m) else lN m) / lN (Nat.gcd m (soC G σ seed m))
theorem WB_of {σ σ' : ST} (hB : WB σ) (h13 : σ' 13 = σ 13) (h111 : σ' 111 = σ 111) : WB σ' := by
  unfold WB nP at hB ⊢
  rw [h13, h111]
  exact hB
section D3
variable {f : Nat} {sa : Nat → Nat} {x : Nat} {ca : Nat → Nat} {Md : Nat → Prop} {b0 : zH} {G : TG} {pa : Nat → Nat} {rw : Nat → Option Nat} {σ : ST} {h : zH}
theorem WS_drC (hW : WS σ) (s : Int32) : WS (drC σ s) := WS_ge hW fun k h1 h2 => drC_k h2 (by omega)
theorem WB_drC (hB : WB σ) (s : Int32) : WB (drC σ s) := WB_of hB (drC_k (by decide) (by decide)) (drC_k (by decide) (by decide))
theorem D_drawn {K : Int32 → zH → Prop} (hf : 400 ≤ f) (hW : WS σ) (hB : WB σ) (hh : Ch sa x ca Md b0 G pa rw σ h) {s : Int32} (kk : ∀ h', Ch sa x ca Md b0 G pa rw (lbC (drC σ s)) h' → K (briC G (drC σ s)) h') : zf0_drawn f h (some x) s K := by
  unfold zf0_drawn
  simp only [zcQ hh]
  refine C_draws hf hW hh fun h1 hh1 => ?_
  simp only [zcQ hh1]
  refine C_bright hf (WS_drC hW s) (WB_drC hB s) hh1 fun h2 hh2 => ?_
  simp only [zcQ hh2]
  exact C_laysD hf (WS_drC hW s) hh2 kk
theorem C_isPeace {K : Int32 → zH → Prop} (hf : 400 ≤ f) (hW : WS σ) (hB : WB σ) (hh : Ch sa x ca Md b0 G pa rw σ h) {s : Int32} (kk : ∀ h', Ch sa x ca Md b0 G pa rw (lbC (drC σ s)) h' → K (if qstC G (drC σ s) = 0 then 1 else 0) h') : zf0_isPeace f h (some x) s K := by
  unfold zf0_isPeace zj0_isPeace_17
  simp only [zcQ hh]
  refine C_draws hf hW hh fun h1 hh1 => ?_
  simp only [zcQ hh1]
  refine C_quarrelSet hf (WS_drC hW s) (WB_drC hB s) hh1 fun h2 hh2 => ?_
  simp only [zcQ hh2]
  by_cases c : qstC G (drC σ s) = 0
  · rw [if_pos c] at kk ⊢
    exact C_laysD hf (WS_drC hW s) hh2 fun h3 hh3 => ⟨Or.inr rfl, kk h3 hh3⟩
  · rw [if_neg c] at kk ⊢
    exact C_laysD hf (WS_drC hW s) hh2 fun h3 hh3 => ⟨Or.inl rfl, kk h3 hh3⟩
theorem C_gcd (hf : 400 ≤ f) {K : Int64 → zH → Prop} {mm part : Int32} {so : Int64} : ∀ (d g a b : Nat), b < d → b < g → a < 1000 → b < 1000 → (a ≠ 0 ∨ b ≠ 0) → K ((if part = 0 then so else mm.toInt64) / lN (Nat.gcd b a)) h → zl0_chance_73 f K g h mm part so (lN a) (lN b) := by
  intro d
  induction d with
  | zero => intro g a b h1; omega
  | succ d ih =>
    intro g a b h1 h2 ha hb h0 kk
    obtain ⟨g, rfl⟩ : ∃ g', g = g' + 1 := ⟨g - 1, by omega⟩
    show zb0_chance_73 f K (zl0_chance_73 f K g) h mm part so (lN a) (lN b)
    unfold zb0_chance_73 zj0_chance_109
    have e0 : (0 : Int64) = lN 0 := rfl
    by_cases c : b = 0
    · subst c
      rw [if_pos (show lg_cmp (lN 0) 0 = 0 from (lg_cmp_eq _ _).mpr rfl)]
      rw [Nat.gcd_zero_left] at kk
      have na : ¬ lN a = 0 := fun z => by rw [e0] at z; have := (pk_lEQ (by omega) (by omega)).mp z; omega
      by_cases cp : part = 0
      · rw [if_pos cp] at kk ⊢; exact ⟨na, kk⟩
      · rw [if_neg cp] at kk ⊢; exact ⟨na, kk⟩
    · have nb : ¬ lN b = 0 := fun z => by rw [e0] at z; have := (pk_lEQ (by omega) (by omega)).mp z; omega
      rw [if_neg (fun z => nb ((lg_cmp_eq _ _).mp z))]
      refine ⟨nb, ?_⟩
      simp only [nm_eq]
      rw [pk_lRem (by omega) (by omega) (by omega)]
      have hm := Nat.mod_lt a (show 0 < b by omega)
      refine ih g b (a % b) (by omega) (by omega) hb (by omega) (Or.inl c) ?_
      rw [Nat.gcd_rec] at kk
      exact kk
theorem D_chance (hf : 400 ≤ f) (hW : WS σ) (hB : WB σ) (hh : Ch sa x ca Md b0 G pa rw σ h) {s mm part : Int32} {K : Int64 → zH → Prop} (k0 : ¬ ((1 ≤ mm.toInt ∧ mm.toInt ≤ 20) ∧ (0 ≤ part.toInt ∧ part.toInt ≤ 1)) → K (-4611686018427387904) h) (kk : ∀ n : Nat, 1 ≤ n → n ≤ 20 → mm = nI n → (0 ≤ part.toInt ∧ part.toInt ≤ 1) → ∀ σ' h', n229 σ' = n229 σ → Ch sa x ca Md b0 G pa rw σ' h' → K (ciS G σ s n part) h') : zf0_chance f h (some x) s mm part K := by
  unfold zf0_chance zj0_chance_22
  rw [q_inC 1 20 (by decide) (by decide)]
  simp only [ite10, ifn]
  by_cases c1 : 1 ≤ mm.toInt ∧ mm.toInt ≤ 20
  · rw [if_pos c1, q_inC 0 1 (by decide) (by decide)]
    simp only [ite10, ifn]
    by_cases c2 : 0 ≤ part.toInt ∧ part.toInt ≤ 1
    · rw [if_pos c2]
      obtain ⟨n, hn, -, rfl, hn2⟩ := nI_bt (x := mm) (u := 20) ⟨by omega, c1.2⟩
      have hn1 : 1 ≤ n := by omega
      have hn20 : n ≤ 20 := by omega
      have kk := kk n hn1 hn20 rfl c2
      have go : ∀ (j i g : Nat) (a : Nat) (σ1 : ST) (h : zH), i + j = n → a ≤ i → j < g → n229 σ1 = n229 σ → Ch sa x ca Md b0 G pa rw σ1 h → (∀ so, so ≤ n → so = fo (fun t a => a + (if qstC G (drC σ (s + nI t)) = 0 then 1 else 0)) j i a → ∀ σ' h', n229 σ' = n229 σ → Ch sa x ca Md b0 G pa rw σ' h' → zl0_chance_73 f K f h' (nI n) part (lN so) (lN so) (nI n).toInt64) → zl0_chance_32 f K g h (some x) s (nI n) part (lN a) (nI i) := by
        intro j
        induction j with
        | zero =>
          intro i g a σ1 h h1 ha h2 h37 hh kk
          obtain ⟨g, rfl⟩ : ∃ g', g = g' + 1 := ⟨g - 1, by omega⟩
          show zb0_chance_32 f K (zl0_chance_32 f K g) h (some x) s (nI n) part (lN a) (nI i)
          unfold zb0_chance_32
          rw [if_neg (fun z => by have := (nI_ltI (by omega) (by omega)).mp z; omega)]
          simp only [nm_eq]
          exact kk a (by omega) rfl σ1 h h37 hh
        | succ j ih =>
          intro i g a σ1 h h1 ha h2 h37 hh kk
          obtain ⟨g, rfl⟩ : ∃ g', g = g' + 1 := ⟨g - 1, by omega⟩
          show zb0_chance_32 f K (zl0_chance_32 f K g) h (some x) s (nI n) part (lN a) (nI i)
          unfold zb0_chance_32 zj0_chance_56
          rw [if_pos ((nI_ltI (by omega) (by omega)).mpr (by omega))]
          have hW1 : WS σ1 := WS_ge hW fun k h1 h2 => n229_k h37 (by omega)
          have hB1 : WB σ1 := WB_of hB (n229_k h37 (by decide)) (n229_k h37 (by decide))
          simp only [zcQ hh]
          refine C_isPeace hf hW1 hB1 hh fun h4 hh4 => ?_
          have e : qstC G (drC σ1 (s + nI i)) = qstC G (drC σ (s + nI i)) := by rw [qst229, qst229 G (drC σ (s + nI i)), drC229 h37]
          rw [e]
          simp only [nm_eq, nI_1]
          have e1 : (1 : Int64) = lN 1 := rfl
          have e0 : (0 : Int64) = lN 0 := rfl
          have fin : ∀ v : Nat, v = (if qstC G (drC σ (s + nI i)) = 0 then 1 else 0) → zl0_chance_32 f K g h4 (some x) s (nI n) part (lN a + lN v) (nI (i + 1)) := by
            intro v hv
            rw [lN_add]
            refine ih (i + 1) g (a + v) _ h4 (by omega) (by rw [hv]; by_cases c : qstC G (drC σ (s + nI i)) = 0 <;> simp only [c, if_true, if_false] <;> omega) (by omega) (by rw [lbC_dr]; exact h37) hh4 ?_
            rw [hv]
            exact kk
          by_cases c : qstC G (drC σ (s + nI i)) = 0
          · rw [if_pos c, if_neg (by decide)]
            exact fin 1 (by rw [if_pos c])
          · rw [if_neg c, if_pos rfl]
            exact fin 0 (by rw [if_neg c])
      refine go n 0 f 0 σ h (by omega) (by omega) (by omega) rfl hh fun so hso e σ' h' h37 hh' => ?_
      rw [nI_l (by omega)]
      refine C_gcd hf 30 f so n (by omega) (by omega) (by omega) (by omega) (Or.inr (by omega)) ?_
      have kq := kk σ' h' h37 hh'
      unfold ciS soC at kq
      rw [← e] at kq
      rw [nI_l (by omega)]
      exact kq
    · rw [if_neg c2]
      exact k0 (fun z => c2 z.2)
  · rw [if_neg c1]
    exact k0 (fun z => c1 z.1)
variable {K : Int32 → zH → Prop}
theorem WS_110 (hW : WS σ) {p : Nat} {v : Int32} : WS (mup σ 110 p v) := WS_ge hW fun k h1 h2 => mup_k (by omega)
theorem WB_110 (hB : WB σ) {p : Nat} {v : Int32} : WB (mup σ 110 p v) := WB_of hB (mup_k (by decide)) (mup_k (by decide))
theorem mup_back (σ : ST) (k i : Nat) (v : Int32) : mup (mup σ k i v) k i (σ k i) = σ := by
  funext j o
  unfold mup
  by_cases ck : j = k
  · subst ck
    rw [if_pos rfl, if_pos rfl]
    unfold upd
    by_cases co : o = i
    · rw [if_pos co, co]
    · rw [if_neg co, if_neg co]
  · rw [if_neg ck, if_neg ck]
theorem D_turnOut (hf : 400 ≤ f) (hW : WS σ) (hB : WB σ) (hh : Ch sa x ca Md b0 G pa rw σ h) {what : Int32} (k0 : ¬ (0 ≤ what.toInt ∧ what.toInt ≤ 1) → K (-2) h) (kk : (0 ≤ what.toInt ∧ what.toInt ≤ 1) → ∀ h', Ch sa x ca Md b0 G pa rw σ h' → K (if what = 0 then (tuM G σ).1 else (tuM G σ).2) h') : zf0_turnOut f h (some x) what K := by
  have hn := (nP_eq hW).2
  unfold zf0_turnOut
  rw [q_inC 0 1 (by decide) (by decide)]
  simp only [ite10, ifn]
  by_cases c : 0 ≤ what.toInt ∧ what.toInt ≤ 1
  · rw [if_pos c]
    simp only [zcQ hh]
    refine C_quarrelSet hf hW hB hh fun h1 hh1 => ?_
    rw [q_bc]
    have go : ∀ (j i g : Nat) (a : Int32 × Int32) (h : zH), i + j = 4 → j < g → Ch sa x ca Md b0 G pa rw σ h → (∀ h', Ch sa x ca Md b0 G pa rw σ h' → K (if what = 0 then (fo (tuD G σ) j i a).1 else (fo (tuD G σ) j i a).2) h') → zl0_turnOut_26 f K g h (some x) what a.1 a.2 (nI i) := by
      intro j
      induction j with
      | zero =>
        intro i g a h h1 h2 hh kk
        obtain ⟨g, rfl⟩ : ∃ g', g = g' + 1 := ⟨g - 1, by omega⟩
        show zb0_turnOut_26 f K (zl0_turnOut_26 f K g) h (some x) what a.1 a.2 (nI i)
        unfold zb0_turnOut_26
        have e : i = 4 := by omega
        subst e
        rw [if_neg (by decide)]
        have kk : K (if what = 0 then a.1 else a.2) h := kk h hh
        by_cases c : what = 0
        · rw [if_pos c] at kk ⊢; exact kk
        · rw [if_neg c] at kk ⊢; exact kk
      | succ j ih =>
        intro i g a h h1 h2 hh kk
        obtain ⟨g, rfl⟩ : ∃ g', g = g' + 1 := ⟨g - 1, by omega⟩
        show zb0_turnOut_26 f K (zl0_turnOut_26 f K g) h (some x) what a.1 a.2 (nI i)
        unfold zb0_turnOut_26 zj0_turnOut_56 zj0_turnOut_70
        rw [if_pos (show nI i < 4 from (nI_ltI (b := 4) (by omega) (by omega)).mpr (by omega))]
        simp only [zcQ hh, C_whoIn hf hW hh, nm_eq, nI_1]
        have ih := fun h' hh' => ih (i + 1) g (tuD G σ i a) h' (by omega) (by omega) hh' kk
        unfold tuD at ih
        rcases whC_or σ (nI i) with z | ⟨p, p1, p2, -⟩
        · rw [if_pos z] at ih ⊢
          have nl : ¬ a.2 < a.2 := by rw [Int32.lt_iff_toInt_lt]; omega
          simp only [if_neg nl]
          exact ih h hh
        · rw [p2] at ih ⊢
          rw [if_neg (nIn1 (by omega))] at ih ⊢
          rw [nI_clamp (by omega)] at ih
          unfold zf0_quarrelsWithout
          have hkc := kc6 hW (p := p) (by omega)
          simp only [zcQ hh, C_pa hh hn p1, C_pI hh p1 hkc (k := 3) rfl]
          refine C_p110 hW hh p1 fun h3 hh3 => ?_
          simp only [zcQ hh3]
          refine C_quarrelSet hf (WS_110 hW) (WB_110 hB) hh3 fun h4 hh4 => ?_
          have en : nP (mup σ 110 p (-1)) = nP σ := by unfold nP; rw [mup_k (by decide)]
          rw [q_bc]
          simp only [zcQ hh4, C_pa hh4 (by omega) (show p < nP (mup σ 110 p (-1)) by omega)]
          refine C_p110 (WS_110 hW) hh4 (by omega) fun h5 hh5 => ?_
          rw [mup_back] at hh5
          have ih := ih h5 hh5
          by_cases c2 : bcJ (qstC G (mup σ 110 p (-1))) < a.2
          · rw [if_pos c2] at ih ⊢; exact ih
          · rw [if_neg c2] at ih ⊢; exact ih
    exact go 4 0 f (-1, bcJ (qstC G σ)) h1 rfl (by omega) hh1 (kk c)
  · rw [if_neg c]
    exact k0 c
theorem C_changes (hf : 400 ≤ f) (hW : WS σ) (hh : Ch sa x ca Md b0 G pa rw σ h) {a c : Int32} {K : zH → Prop} (kk : ∀ h', Ch sa x ca Md b0 G pa rw (chC σ a c) h' → K h') : zf0_changes f h (some x) a c K := by
  have hn := (nP_eq hW).2
  unfold chC at kk
  unfold zf0_changes
  simp only [zcQ hh, C_whoIn hf hW hh]
  have put : ∀ (σ1 : ST) (h1 : zH), Ch sa x ca Md b0 G pa rw σ1 h1 → WS σ1 → nP σ1 = nP σ → (∀ h', Ch sa x ca Md b0 G pa rw (if whC σ c = -1 then σ1 else mup σ1 110 (whC σ c).toNatClampNeg a) h' → K h') → zj0_changes_28 f K h1 (some x) a (whC σ c) := by
    intro σ1 h1 hh1 hW1 hn1 kk
    unfold zj0_changes_28
    rcases whC_or σ c with z | ⟨q, q1, q2, -⟩
    · rw [if_pos z] at kk ⊢
      exact kk h1 hh1
    · rw [q2] at kk ⊢
      rw [if_neg (nIn1 (by omega))] at kk ⊢
      rw [nI_clamp (by omega)] at kk
      simp only [zcQ hh1, C_pa hh1 (by omega) (show q < nP σ1 by omega)]
      exact C_p110 hW1 hh1 (by omega) kk
  rcases whC_or σ a with z | ⟨q, q1, q2, -⟩
  · rw [if_pos z] at kk ⊢
    exact put σ h hh hW rfl kk
  · rw [q2] at kk ⊢
    rw [if_neg (nIn1 (by omega))] at kk ⊢
    rw [nI_clamp (by omega)] at kk
    rw [C_pa hh hn q1]
    exact C_p110 hW hh q1 fun h2 hh2 => put _ h2 hh2 (WS_110 hW) (by unfold nP; rw [mup_k (by decide)]) kk
theorem chC_k {a c : Int32} {k : Nat} (hk : k ≠ 110) : chC σ a c k = σ k := by
  unfold chC
  by_cases c1 : whC σ c = -1
  · rw [if_pos c1]
    by_cases c2 : whC σ a = -1
    · rw [if_pos c2]
    · rw [if_neg c2, mup_k hk]
  · rw [if_neg c1, mup_k hk]
    by_cases c2 : whC σ a = -1
    · rw [if_pos c2]
    · rw [if_neg c2, mup_k hk]
theorem D_swap (hf : 400 ≤ f) (hW : WS σ) (hB : WB σ) (hch : ∀ i j : Nat, i < 4 → j < 4 → i < j → chC (chC σ (nI i) (nI j)) (nI i) (nI j) = σ) (hh : Ch sa x ca Md b0 G pa rw σ h) {what : Int32} (k0 : ¬ (0 ≤ what.toInt ∧ what.toInt ≤ 1) → K (-2) h) (kk : (0 ≤ what.toInt ∧ what.toInt ≤ 1) → ∀ h', Ch sa x ca Md b0 G pa rw σ h' → K (if what = 0 then (swM G σ).1 else if (swM G σ).1 = -1 then briC G σ else (swM G σ).2) h') : zf0_swap f h (some x) what K := by
  unfold zf0_swap
  rw [q_inC 0 1 (by decide) (by decide)]
  simp only [ite10, ifn]
  by_cases c : 0 ≤ what.toInt ∧ what.toInt ≤ 1
  · rw [if_pos c]
    simp only [zcQ hh]
    have inner : ∀ (i : Nat), i < 4 → ∀ (R : zH → Option Nat → Int32 → Int32 → Int32 → Int32 → Prop) (j k g : Nat) (a : Int32 × Int32) (h : zH), k + j = 4 → i < k → j < g → Ch sa x ca Md b0 G pa rw σ h → (∀ h', Ch sa x ca Md b0 G pa rw σ h' → R h' (some x) what (fo (swD G σ i) j k a).1 (fo (swD G σ i) j k a).2 (nI (i + 1))) → zl0_swap_46 f R K g h (some x) what a.1 a.2 (nI i) (nI k) := by
      intro i hi R j
      induction j with
      | zero =>
        intro k g a h h1 h3 h2 hh kk
        obtain ⟨g, rfl⟩ : ∃ g', g = g' + 1 := ⟨g - 1, by omega⟩
        show zb0_swap_46 f R K (zl0_swap_46 f R K g) h (some x) what a.1 a.2 (nI i) (nI k)
        unfold zb0_swap_46
        have e : k = 4 := by omega
        subst e
        rw [if_neg (by decide)]
        simp only [nm_eq, nI_1]
        exact kk h hh
      | succ j ih =>
        intro k g a h h1 h3 h2 hh kk
        obtain ⟨g, rfl⟩ : ∃ g', g = g' + 1 := ⟨g - 1, by omega⟩
        show zb0_swap_46 f R K (zl0_swap_46 f R K g) h (some x) what a.1 a.2 (nI i) (nI k)
        unfold zb0_swap_46 zf0_brightChanged
        rw [if_pos (show nI k < 4 from (nI_ltI (b := 4) (by omega) (by omega)).mpr (by omega))]
        simp only [zcQ hh]
        refine C_changes hf hW hh fun h3 hh3 => ?_
        have hW3 : WS (chC σ (nI i) (nI k)) := WS_ge hW fun k h1 h2 => chC_k (by omega)
        have hB3 : WB (chC σ (nI i) (nI k)) := WB_of hB (chC_k (by decide)) (chC_k (by decide))
        simp only [zcQ hh3]
        refine C_quarrelSet hf hW3 hB3 hh3 fun h4 hh4 => ?_
        have fin : ∀ h5, Ch sa x ca Md b0 G pa rw (chC σ (nI i) (nI k)) h5 → zj0_brightChanged_21 f (fun x11 h12 => if a.2 < x11 then (zj0_swap_80 f R (zl0_swap_46 f R K g) K h12 (some x) what a.2 (nI i) (nI k) x11 ((10 * nI i) + nI k)) else (zj0_swap_80 f R (zl0_swap_46 f R K g) K h12 (some x) what a.2 (nI i) (nI k) x11 a.1)) h5 (some x) (nI i) (nI k) (swW G (chC σ (nI i) (nI k))) := by
          intro h5 hh5
          unfold zj0_brightChanged_21 zj0_swap_80
          simp only [zcQ hh5]
          refine C_changes hf hW3 hh5 fun h6 hh6 => ?_
          rw [hch i k hi (by omega) (by omega)] at hh6
          simp only [nm_eq, nI_1]
          have ih := ih (k + 1) g (swD G σ i k a) h6 (by omega) (by omega) (by omega) hh6 kk
          unfold swD at ih
          by_cases c2 : a.2 < swW G (chC σ (nI i) (nI k))
          · simp only [if_pos c2] at ih ⊢; exact ih
          · simp only [if_neg c2] at ih ⊢; exact ih
        unfold swW at fin
        by_cases c0 : qstC G (chC σ (nI i) (nI k)) = 0
        · rw [if_pos c0] at fin ⊢
          simp only [zcQ hh4]
          exact C_bright hf hW3 hB3 hh4 fin
        · rw [if_neg c0] at fin ⊢
          exact fin h4 hh4
    have outer : ∀ (j i g : Nat) (a : Int32 × Int32) (h : zH), i + j = 4 → j < g → Ch sa x ca Md b0 G pa rw σ h → (∀ h', Ch sa x ca Md b0 G pa rw σ h' → K (if what = 0 then (fo (fun i a => fo (swD G σ i) (3 - i) (i + 1) a) j i a).1 else if (fo (fun i a => fo (swD G σ i) (3 - i) (i + 1) a) j i a).1 = -1 then briC G σ else (fo (fun i a => fo (swD G σ i) (3 - i) (i + 1) a) j i a).2) h') → zl0_swap_34 f K g h (some x) what a.1 a.2 (nI i) := by
      intro j
      induction j with
      | zero =>
        intro i g a h h1 h2 hh kk
        obtain ⟨g, rfl⟩ : ∃ g', g = g' + 1 := ⟨g - 1, by omega⟩
        show zb0_swap_34 f K (zl0_swap_34 f K g) h (some x) what a.1 a.2 (nI i)
        unfold zb0_swap_34
        have e : i = 4 := by omega
        subst e
        rw [if_neg (by decide)]
        have kk : ∀ h', Ch sa x ca Md b0 G pa rw σ h' → K (if what = 0 then a.1 else if a.1 = -1 then briC G σ else a.2) h' := kk
        simp only [zcQ hh]
        by_cases c : what = 0
        · rw [if_pos c] at kk ⊢; exact kk h hh
        · rw [if_neg c] at kk ⊢
          by_cases c1 : a.1 = -1
          · rw [if_pos c1] at kk ⊢; exact C_bright hf hW hB hh kk
          · rw [if_neg c1] at kk ⊢; exact kk h hh
      | succ j ih =>
        intro i g a h h1 h2 hh kk
        obtain ⟨g, rfl⟩ : ∃ g', g = g' + 1 := ⟨g - 1, by omega⟩
        show zb0_swap_34 f K (zl0_swap_34 f K g) h (some x) what a.1 a.2 (nI i)
        unfold zb0_swap_34
        rw [if_pos (show nI i < 4 from (nI_ltI (b := 4) (by omega) (by omega)).mpr (by omega))]
        simp only [nm_eq, nI_1]
        exact inner i (by omega) _ (3 - i) (i + 1) f a h (by omega) (by omega) (by omega) hh fun h' hh' => ih (i + 1) g _ h' (by omega) (by omega) hh' kk
    have kk := kk c
    unfold swM swW at kk
    unfold zj0_swap_30
    refine C_quarrelSet hf hW hB hh fun h2 hh2 => ?_
    by_cases c0 : qstC G σ = 0
    · rw [if_pos c0] at kk ⊢
      simp only [zcQ hh2]
      exact C_bright hf hW hB hh2 fun h3 hh3 => outer 4 0 f (-1, briC G σ) h3 rfl (by omega) hh3 kk
    · rw [if_neg c0] at kk ⊢
      exact outer 4 0 f (-1, -1) h2 rfl (by omega) hh2 kk
  · rw [if_neg c]
    exact k0 c
end D3
