/-! THE CLASS's CALLS: brightest, cheapest, settle -/
set_option maxRecDepth 100000
def bestC (G : TG) (σ : ST) (goal : Int32) : B3 := skC (nP σ) (smC G σ) (ct G σ) (htC G σ) (σ 8) (σ 111) goal (σ 7 0) 4 0 (-1) 0 0 0 0 (0, 0, 0)
def offG (σ1 σ : ST) : Prop := ∀ k, k ≠ 223 → (k < 225 ∨ 228 < k) → (k < 300 ∨ 333 < k) → σ1 k = σ k
def dgOk (n : Nat) : Nat → Nat → Prop
  | 0, m => m = 0
  | k + 1, m => m % 10 ≤ n ∧ dgOk n k (m / 10)
def goodB (n : Nat) (B : B3) : Prop := ∃ m : Nat, B.2.1 = nI m ∧ dgOk n 4 m
theorem dgOk_lt {n : Nat} : ∀ k m, dgOk n k m → m < 10 ^ k := by
  intro k
  induction k with
  | zero => intro m h; have : m = 0 := h; rw [this]; decide
  | succ k ih =>
    intro m h
    have := ih _ h.2
    rw [Nat.pow_succ]
    omega
theorem fo_inv {α : Type} {P : α → Prop} {F : Nat → α → α} {n : Nat} (hs : ∀ i a, i < n → P a → P (F i a)) : ∀ j i a, i + j ≤ n → P a → P (fo F j i a) := by
  intro j
  induction j with
  | zero => intro i a _ h; exact h
  | succ j ih => intro i a h1 h; exact ih (i + 1) (F i a) (by omega) (hs i a (by omega) h)
theorem skC_good {n : Nat} (hn : n ≤ 6) {S : Nat → Nat → Int32} {C : Nat → Int32} {H : Nat → Nat → Nat → Int32} {W Z : Nat → Int32} {goal purse : Int32} : ∀ (d i : Nat) (last used bright price digits : Int32) (B : B3), i + d = 4 → (∃ m, digits = nI m ∧ dgOk n i m) → goodB n B → goodB n (skC n S C H W Z goal purse d i last used bright price digits B) := by
  intro d
  induction d with
  | zero =>
    intro i last used bright price digits B h1 ⟨m, e, hm⟩ hB
    have e4 : i = 4 := by omega
    subst e4
    show goodB n (lkC goal bright price digits B)
    unfold lkC
    by_cases c : B.1 = 0 ∨ B.2.2 < (if goal = 1 then -price else bright)
    · rw [if_pos c]; exact ⟨m, e, hm⟩
    · rw [if_neg c]; exact hB
  | succ d ih =>
    intro i last used bright price digits B h1 ⟨m, e, hm⟩ hB
    unfold skC
    refine fo_inv (P := goodB n) (n := n) (fun p B' hp hB' => ?_) n 0 _ (by omega) ?_
    · by_cases c : (((used >>> (nI p &&& 31)) &&& 1 = 0 ∧ Z p = 0) ∧ ¬ (goal = 1 ∧ S p i < W i)) ∧ ((last = -1 ∨ H last.toNatClampNeg p (i - 1) = 0) ∧ ¬ (goal = 2 ∧ purse < price + C p))
      · rw [if_pos c]
        refine ih (i + 1) _ _ _ _ _ B' (by omega) ⟨10 * m + (p + 1), ?_, ?_, ?_⟩ hB'
        · rw [e]
          have : (10 : Int32) * nI m = nI (10 * m) := pk_mul 10 m
          rw [this, nI_add, nI_1, Nat.add_assoc]
        · omega
        · rw [show (10 * m + (p + 1)) / 10 = m by omega]; exact hm
      · rw [if_neg c]; exact hB'
    · by_cases c : goal = 1 ∧ 0 < W i
      · rw [if_pos c]; exact hB
      · rw [if_neg c]
        refine ih (i + 1) _ _ _ _ _ B (by omega) ⟨10 * m, ?_, ?_, ?_⟩ hB
        · rw [e]; exact pk_mul 10 m
        · omega
        · rw [show 10 * m / 10 = m by omega]; exact hm
def stG : Nat → ST × Int32 → ST × Int32 := fun k a => (if 0 < a.2 - a.2 / 10 * 10 then mup a.1 110 ((a.2 - a.2 / 10 * 10) - 1).toNatClampNeg (nI (3 - k)) else a.1, a.2 / 10)
def st0 (σ : ST) : ST := fo (fun p σ => mup σ 110 p (-1)) (nP σ) 0 σ
def stC (σ : ST) (digits : Int32) : ST := (fo stG 4 0 (st0 σ, digits)).1
section CG
variable {f : Nat} {sa : Nat → Nat} {x : Nat} {ca : Nat → Nat} {Md : Nat → Prop} {b0 : zH} {G : TG} {pa : Nat → Nat} {rw : Nat → Option Nat} {σ : ST} {h : zH} {K : Int32 → zH → Prop}
theorem C_goes (hf : 400 ≤ f) (hW : WS σ) (hB : WB σ) (hh : Ch sa x ca Md b0 G pa rw σ h) {goal : Int32} {K : zH → Prop} (kk : ∀ σ1 h', Ch sa x ca Md b0 G pa rw σ1 h' → offG σ1 σ → isBc σ1 (bestC G σ goal) → K h') : zf0_goesThrough f h (some x) goal K := by
  unfold zf0_goesThrough
  simp only [zcQ hh]
  refine C_tells hf hW hB hh fun σ1 h1 hh1 hu hT => ?_
  refine C_pf2 (q := 225) hh1 (by decide) (by decide) fun h2 hh2 => ?_
  refine C_pf2 (q := 226) hh2 (by decide) (by decide) fun h3 hh3 => ?_
  refine C_pf2 (q := 227) hh3 (by decide) (by decide) fun h4 hh4 => ?_
  refine C_pf2 (q := 228) hh4 (by decide) (by decide) fun h5 hh5 => ?_
  simp only [zcQ hh5]
  have ek : ∀ k, (k < 225 ∨ 228 < k) → (mup (mup (mup (mup σ1 225 0 goal) 226 0 0) 227 0 0) 228 0 0) k = σ1 k := fun k hk => by rw [mup_k (by omega), mup_k (by omega), mup_k (by omega), mup_k (by omega)]
  have eo : ∀ k, k ≠ 223 → (k < 225 ∨ 228 < k) → (k < 300 ∨ 333 < k) → (mup (mup (mup (mup σ1 225 0 goal) 226 0 0) 227 0 0) 228 0 0) k = σ k := fun k h1 h2 h3 => (ek k h2).trans (hu k h1 h3)
  refine C_tries (σ0 := σ) hf (WS_ge hW fun k h1 h2 => eo k (by omega) (by omega) (by omega)) (by unfold nP; rw [eo 13 (by decide) (by decide) (by decide)]) (eo 7 (by decide) (by decide) (by decide)) (eo 8 (by decide) (by decide) (by decide)) (eo 111 (by decide) (by decide) (by decide)) (fun p hp => ?_) 4 6 0 (-1) 0 0 0 0 (0, 0, 0) _ h5 K rfl (by decide) (Or.inl rfl) hh5 (fun _ _ => rfl) ⟨rfl, rfl, rfl⟩ fun σ2 h' hh' ho hBb => ?_
  · obtain ⟨t1, t2, t3⟩ := hT p hp
    exact ⟨by rw [ek 223 (by decide)]; exact t1, fun o ho => by rw [ek (300 + p) (by omega)]; exact t2 o ho, fun o q a1 a2 => by rw [ek _ (by omega)]; exact t3 o q a1 a2⟩
  · refine kk σ2 h' hh' (fun k h1 h2 h3 => ?_) hBb
    rw [ho k (by simp only [List.mem_cons, List.not_mem_nil, or_false, not_or]; omega)]
    exact eo k h1 h2 h3
theorem D_brightest (hf : 400 ≤ f) (hW : WS σ) (hB : WB σ) (hh : Ch sa x ca Md b0 G pa rw σ h) {what : Int32} (k0 : ¬ (0 ≤ what.toInt ∧ what.toInt ≤ 1) → K (-2) h) (kk : (0 ≤ what.toInt ∧ what.toInt ≤ 1) → ∀ σ1 h', Ch sa x ca Md b0 G pa rw σ1 h' → offG σ1 σ → K (if what = 0 then (bestC G σ 0).2.1 else (bestC G σ 0).2.2) h') : zf0_brightest f h (some x) what K := by
  unfold zf0_brightest
  rw [q_inC 0 1 (by decide) (by decide)]
  simp only [ite10, ifn]
  by_cases c : 0 ≤ what.toInt ∧ what.toInt ≤ 1
  · rw [if_pos c]
    simp only [zcQ hh]
    refine C_goes hf hW hB hh fun σ1 h1 hh1 ho hBb => ?_
    simp only [zcQ hh1]
    have kk := kk c σ1 h1 hh1 ho
    rw [hBb.2.1, hBb.2.2]
    by_cases c0 : what = 0
    · rw [if_pos c0] at kk ⊢; exact kk
    · rw [if_neg c0] at kk ⊢; exact kk
  · rw [if_neg c]
    exact k0 c
theorem D_cheapest (hf : 400 ≤ f) (hW : WS σ) (hB : WB σ) (hh : Ch sa x ca Md b0 G pa rw σ h) {what : Int32} (k0 : ¬ (0 ≤ what.toInt ∧ what.toInt ≤ 3) → K (-2) h) (kk : (0 ≤ what.toInt ∧ what.toInt ≤ 3) → ∀ σ1 h', Ch sa x ca Md b0 G pa rw σ1 h' → offG σ1 σ → K (if (bestC G σ (if what < 2 then 1 else 2)).1 = 0 then -1 else if what - what / 2 * 2 = 0 then (bestC G σ (if what < 2 then 1 else 2)).2.1 else if what = 1 then -(bestC G σ (if what < 2 then 1 else 2)).2.2 else (bestC G σ (if what < 2 then 1 else 2)).2.2) h') : zf0_cheapest f h (some x) what K := by
  unfold zf0_cheapest
  rw [q_inC 0 3 (by decide) (by decide)]
  simp only [ite10, ifn]
  by_cases c : 0 ≤ what.toInt ∧ what.toInt ≤ 3
  · rw [if_pos c]
    have kk := kk c
    have go : zj0_cheapest_26 f K h (some x) what (if what < 2 then 1 else 2) (some x) := by
      generalize (if what < 2 then (1 : Int32) else 2) = goal at kk ⊢
      unfold zj0_cheapest_26
      simp only [zcQ hh]
      refine C_goes hf hW hB hh fun σ1 h1 hh1 ho hBb => ?_
      simp only [zcQ hh1]
      have kk := kk σ1 h1 hh1 ho
      rw [hBb.1, hBb.2.1, hBb.2.2]
      by_cases c0 : (bestC G σ goal).1 = 0
      · rw [if_pos c0] at kk ⊢; exact kk
      · rw [if_neg c0] at kk ⊢
        by_cases c1 : what - what / 2 * 2 = 0
        · rw [if_pos c1] at kk ⊢; exact kk
        · rw [if_neg c1] at kk ⊢
          by_cases c2 : what = 1
          · rw [if_pos c2] at kk ⊢; exact kk
          · rw [if_neg c2] at kk ⊢; exact kk
    by_cases c0 : what < 2
    · rw [if_pos c0] at go ⊢; exact go
    · rw [if_neg c0] at go ⊢; exact go
  · rw [if_neg c]
    exact k0 c
theorem D_settle (hf : 400 ≤ f) (hW : WS σ) (hB : WB σ) (hh : Ch sa x ca Md b0 G pa rw σ h) (kk : ∀ σ1 h', offG σ1 σ → Ch sa x ca Md b0 G pa rw (stC σ1 (bestC G σ 0).2.1) h' → K (bestC G σ 0).2.2 h') : zf0_settle f h (some x) K := by
  have hn := (nP_eq hW).2
  unfold zf0_settle
  simp only [zcQ hh]
  refine C_goes hf hW hB hh fun σ1 h1 hh1 ho hBb => ?_
  have hg : goodB (nP σ) (bestC G σ 0) := skC_good hn 4 0 _ _ _ _ _ _ rfl ⟨0, rfl, rfl⟩ ⟨0, rfl, Nat.zero_le _, Nat.zero_le _, Nat.zero_le _, Nat.zero_le _, rfl⟩
  have hW1 : WS σ1 := WS_ge hW fun k h1 h2 => ho k (by omega) (by omega) (by omega)
  have en1 : nP σ1 = nP σ := by unfold nP; rw [ho 13 (by decide) (by decide) (by decide)]
  have go2 : ∀ (j k g : Nat) (v : Int32) (a : ST × Int32) (m : Nat) (h : zH), k + j = 4 → j < g → (j ≠ 0 → v = nI (3 - k)) → (j = 0 → v = -1) → a.2 = nI m → dgOk (nP σ) j m → WS a.1 → nP a.1 = nP σ → Ch sa x ca Md b0 G pa rw a.1 h → a.1 227 = σ1 227 → (∀ h', Ch sa x ca Md b0 G pa rw (fo stG j k a).1 h' → K (bestC G σ 0).2.2 h') → zl0_settle_38 f K g h (some x) a.2 v := by
    intro j
    induction j with
    | zero =>
      intro k g v a m h h1 h2 _ hv em hm hWa en hh h227 kk
      obtain ⟨g, rfl⟩ : ∃ g', g = g' + 1 := ⟨g - 1, by omega⟩
      show zb0_settle_38 f K (zl0_settle_38 f K g) h (some x) a.2 v
      unfold zb0_settle_38
      rw [hv rfl, if_pos (by decide)]
      simp only [zcQ hh]
      rw [h227, hBb.2.2]
      exact kk h hh
    | succ j ih =>
      intro k g v a m h h1 h2 hv _ em hm hWa en hh h227 kk
      obtain ⟨g, rfl⟩ : ∃ g', g = g' + 1 := ⟨g - 1, by omega⟩
      show zb0_settle_38 f K (zl0_settle_38 f K g) h (some x) a.2 v
      unfold zb0_settle_38
      have hm4 : m < 10000 := Nat.lt_of_lt_of_le (dgOk_lt _ _ hm) (by
        have : j + 1 ≤ 4 := by omega
        exact Nat.pow_le_pow_right (by decide) this)
      have e10 : a.2 - a.2 / 10 * 10 = nI (m % 10) := by rw [em]; exact pk_rem (d := 10) (by omega) (by omega) (by omega)
      have d10 : a.2 / 10 = nI (m / 10) := by rw [em]; exact pk_div (d := 10) (by omega) (by omega) (by omega)
      rw [hv (by omega), if_neg (nI_pos (by omega)), e10]
      have e2 : (stG k a).2 = nI (m / 10) := d10
      have fin : ∀ h', Ch sa x ca Md b0 G pa rw (stG k a).1 h' → WS (stG k a).1 → nP (stG k a).1 = nP σ → (stG k a).1 227 = σ1 227 → zj0_settle_64 f (zl0_settle_38 f K g) K h' (some x) a.2 (nI (3 - k)) := by
        intro h' hh' b1 b2 b3
        unfold zj0_settle_64
        simp only [nm_eq]
        refine ih (k + 1) g _ (stG k a) (m / 10) h' (by omega) (by omega) (fun z => ?_) (fun z => ?_) e2 hm.2 b1 b2 hh' b3 kk
        · have : 3 - k = (3 - (k + 1)) + 1 := by omega
          rw [this, pk_m1]
        · have : 3 - k = 0 := by omega
          rw [this]
          decide
      have e1 : (stG k a).1 = if 0 < nI (m % 10) then mup a.1 110 (nI (m % 10) - 1).toNatClampNeg (nI (3 - k)) else a.1 := by
        unfold stG
        rw [e10]
      have hm1 := hm.1
      by_cases c : m % 10 = 0
      · have c' : ¬ (0 : Int32) < nI (m % 10) := by rw [c]; decide
        rw [if_neg c'] at e1 ⊢
        rw [e1] at fin
        exact fin h hh hWa en h227
      · have c' : (0 : Int32) < nI (m % 10) := (nI_ltI (a := 0) (by omega) (by omega)).mpr (by omega)
        rw [if_pos c'] at e1 ⊢
        have ep : nI (m % 10) - 1 = nI (m % 10 - 1) := by
          have : m % 10 = (m % 10 - 1) + 1 := by omega
          rw [this, nI_pred]
          rfl
        rw [ep] at e1 ⊢
        rw [nI_clamp (by omega)] at e1
        simp only [zcQ hh, C_pa hh (by omega) (show m % 10 - 1 < nP a.1 by omega)]
        refine C_p110 hWa hh (by omega) fun h' hh' => ?_
        rw [e1] at fin
        exact fin h' hh' (WS_110 hWa) (by unfold nP at en ⊢; rw [mup_k (by decide)]; exact en) ((mup_k (by decide)).trans h227)
  have go1 : ∀ (j p g : Nat) (σ2 : ST) (h : zH), p + j = nP σ → j < g → WS σ2 → nP σ2 = nP σ → Ch sa x ca Md b0 G pa rw σ2 h → σ2 227 = σ1 227 → σ2 228 = σ1 228 → (∀ h', Ch sa x ca Md b0 G pa rw (fo stG 4 0 (fo (fun p σ => mup σ 110 p (-1)) j p σ2, (bestC G σ 0).2.1)).1 h' → K (bestC G σ 0).2.2 h') → zl0_settle_7 f K g h (some x) (nI p) := by
    intro j
    induction j with
    | zero =>
      intro p g σ2 h h1 h2 hW2 en hh h227 h228 kk
      obtain ⟨g, rfl⟩ : ∃ g', g = g' + 1 := ⟨g - 1, by omega⟩
      show zb0_settle_7 f K (zl0_settle_7 f K g) h (some x) (nI p)
      unfold zb0_settle_7
      simp only [zcQ hh]
      rw [(nP_eq hW2).1, if_neg (fun z => by have := (nI_ltI (by omega) (by omega)).mp z; omega), h228, hBb.2.1]
      obtain ⟨m, em, hm⟩ := hg
      exact go2 4 0 f 3 (σ2, (bestC G σ 0).2.1) m h rfl (by omega) (fun _ => rfl) (fun z => by omega) em hm hW2 en hh h227 kk
    | succ j ih =>
      intro p g σ2 h h1 h2 hW2 en hh h227 h228 kk
      obtain ⟨g, rfl⟩ : ∃ g', g = g' + 1 := ⟨g - 1, by omega⟩
      show zb0_settle_7 f K (zl0_settle_7 f K g) h (some x) (nI p)
      unfold zb0_settle_7
      simp only [zcQ hh, C_pa hh (by omega) (show p < nP σ2 by omega)]
      rw [(nP_eq hW2).1, if_pos ((nI_ltI (by omega) (by omega)).mpr (by omega))]
      refine C_p110 hW2 hh (by omega) fun h' hh' => ?_
      simp only [nm_eq, nI_1]
      exact ih (p + 1) g _ h' (by omega) (by omega) (WS_110 hW2) (by unfold nP at en ⊢; rw [mup_k (by decide)]; exact en) hh' ((mup_k (by decide)).trans h227) ((mup_k (by decide)).trans h228) kk
  refine go1 (nP σ) 0 f σ1 h1 (by omega) (by omega) hW1 en1 hh1 rfl rfl ?_
  have kk := kk σ1
  unfold stC st0 at kk
  rw [en1] at kk
  exact fun h' hh' => kk h' ho hh'
end CG
