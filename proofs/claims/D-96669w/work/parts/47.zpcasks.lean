/-! THE CLASS: what a node is worth, what is asked of a text; light, costs, spilling by class -/
set_option maxRecDepth 100000
theorem gfI_of {h : zH} {a ci k : Nat} {fs : List Value} {cs : List Nat} {n : Int32} {P : Int32 → Prop} (ha : h a = some (.inr (ci, fs))) (hc : ci ∈ cs) (hk : fs[k]? = some (.int n)) (hP : P n) : gfI h (some a) cs k P := ⟨a, ci, fs, n, rfl, ha, hc, hk, hP⟩
theorem gfR_of {h : zH} {a ci k : Nat} {fs : List Value} {cs : List Nat} {n : Option Nat} {P : Option Nat → Prop} (ha : h a = some (.inr (ci, fs))) (hc : ci ∈ cs) (hk : fs[k]? = some (va_rf n)) (hP : P n) : gfR h (some a) cs k P := ⟨a, ci, fs, n, rfl, ha, hc, hk, hP⟩
theorem zdp_of {h : zH} {a ci : Nat} {fs : List Value} {F : Nat → Prop} (ha : h a = some (.inr (ci, fs))) (hF : F ci) : zdp h (some a) F := ⟨a, ci, fs, rfl, ha, hF⟩
theorem pf_cell {h : zH} {a k : Nat} {cs : List Nat} {w : Value} {P : zH → Prop} (hp : pf h (some a) cs k w (fun h' => (∀ ci fs, h a = some (.inr (ci, fs)) → h' a = some (.inr (ci, fs.set k w))) → P h')) : pf h (some a) cs k w P := by
  obtain ⟨a', ci, fs, h1, h2, h3, h4, h5⟩ := hp
  cases h1
  refine ⟨a, ci, fs, rfl, h2, h3, h4, h5 fun ci' fs' h => ?_⟩
  rw [h2] at h
  cases h
  exact hup_self _ _ _
section CA
variable {f : Nat} {sa : Nat → Nat} {x : Nat} {ca : Nat → Nat} {Md : Nat → Prop} {b0 : zH} {G : TG} {pa : Nat → Nat} {rw : Nat → Option Nat} {σ : ST} {h : zH} {K : Int32 → zH → Prop}
theorem C_worth (hh : Ch sa x ca Md b0 G pa rw σ h) (hn : nP σ ≤ 6) {p : Nat} (hp : p < nP σ) (hkc : kcl (σ 10 p) ∈ ([1, 2, 3, 4, 5, 6] : List Nat)) {o hr bt : Int32} {fs : List Value} (hx : h x = some (.inr (0, fs))) (h5 : fs[5]? = some (.int (nI p))) (h6 : fs[6]? = some (.int hr)) (h7 : fs[7]? = some (.int o)) (h8 : fs[8]? = some (.int bt)) : ∀ (d' d a : Nat) (g : SEM) (K : Int32 → zH → Prop), d' ≤ d → nd x h d' a g → K (g (ev6 hr (σ 11 (3 * p + 1)) (σ 11 (3 * p + 2)) (σ 11 (3 * p)) o bt)) h → zd_worth f (zgrw f d) h (some a) K := by
  intro d'
  induction d' with
  | zero => intro d a g K _ n; exact n.elim
  | succ d' ih =>
    intro d a g K hd n kk
    obtain ⟨d, rfl⟩ : ∃ e, d = e + 1 := ⟨d - 1, by omega⟩
    unfold zd_worth
    rcases n with ⟨v, h1, rfl⟩ | ⟨j, hj, h1, rfl⟩ | ⟨b, g1, h1, h2, rfl⟩ | ⟨b, g1, h1, h2, rfl⟩ | ⟨s, b, c, g1, g2, h1, h2, h3, h4⟩
    · refine zdp_of h1 ?_
      rw [if_pos rfl]
      show zf5_worth f (zgrw f d) h (some a) K
      exact gfI_of h1 (by simp) rfl kk
    · refine zdp_of h1 ?_
      rw [if_neg (by decide), if_pos rfl]
      show zf6_worth f (zgrw f d) h (some a) K
      unfold zf6_worth
      refine gfI_of h1 (by simp) rfl ?_
      have rx : ∀ P : Option Nat → Prop, P (some x) → gfR h (some a) [8] 1 P := fun P hP => gfR_of (n := some x) h1 (by simp) rfl hP
      have pn : ∀ (k : Nat) (v : Int32) (P : Int32 → Prop), ([.int (σ 11 (3 * p)), .int (σ 11 (3 * p + 1)), .int (σ 11 (3 * p + 2)), .int (σ 110 p), .int (σ 111 p)] : List Value)[k]? = some (.int v) → P v → gfR h (some x) [0] 0 fun r => gfR h (some a) [8] 1 fun r6 => gfI h r6 [0] 5 fun x7 => aldR h r 4 x7 fun r8 => gfI h r8 [1, 2, 3, 4, 5, 6] k P := by
        intro k v P hk hP
        simp only [zcQ hh]
        refine rx _ ?_
        refine gfI_of hx (by simp) h5 ?_
        rw [C_pa hh hn hp, C_pI hh hp hkc hk]
        exact hP
      have hc : j = 0 ∨ j = 1 ∨ j = 2 ∨ j = 3 ∨ j = 4 ∨ j = 5 := by omega
      rcases hc with rfl | rfl | rfl | rfl | rfl | rfl
      · rw [if_pos (by decide)]
        exact rx _ (gfI_of hx (by simp) h6 kk)
      · rw [if_neg (by decide), if_pos (by decide)]
        exact rx _ (pn 1 _ _ rfl kk)
      · rw [if_neg (by decide), if_neg (by decide), if_pos (by decide)]
        exact rx _ (pn 2 _ _ rfl kk)
      · rw [if_neg (by decide), if_neg (by decide), if_neg (by decide), if_pos (by decide)]
        exact rx _ (pn 0 _ _ rfl kk)
      · rw [if_neg (by decide), if_neg (by decide), if_neg (by decide), if_neg (by decide), if_pos (by decide)]
        exact rx _ (gfI_of hx (by simp) h7 kk)
      · rw [if_neg (by decide), if_neg (by decide), if_neg (by decide), if_neg (by decide), if_neg (by decide)]
        exact rx _ (gfI_of hx (by simp) h8 kk)
    · refine zdp_of h1 ?_
      rw [if_neg (by decide), if_neg (by decide), if_pos rfl]
      show zf4_worth f (zgrw f d) h (some a) K
      unfold zf4_worth
      refine gfR_of (n := some b) h1 (by simp) rfl ?_
      refine ih d b g1 _ (by omega) h2 ?_
      refine gfI_of h1 (by simp) rfl ?_
      rw [if_pos rfl]
      have kk : K (if g1 (ev6 hr (σ 11 (3 * p + 1)) (σ 11 (3 * p + 2)) (σ 11 (3 * p)) o bt) = 0 then 1 else 0) h := kk
      by_cases c0 : g1 (ev6 hr (σ 11 (3 * p + 1)) (σ 11 (3 * p + 2)) (σ 11 (3 * p)) o bt) = 0
      · rw [if_pos c0] at kk ⊢; exact kk
      · rw [if_neg c0] at kk ⊢; exact kk
    · refine zdp_of h1 ?_
      rw [if_neg (by decide), if_neg (by decide), if_pos rfl]
      show zf4_worth f (zgrw f d) h (some a) K
      unfold zf4_worth
      refine gfR_of (n := some b) h1 (by simp) rfl ?_
      refine ih d b g1 _ (by omega) h2 ?_
      refine gfI_of h1 (by simp) rfl ?_
      rw [if_neg (by decide)]
      exact kk
    · refine zdp_of h1 ?_
      rw [if_neg (by decide), if_neg (by decide), if_neg (by decide), if_pos rfl]
      show zf7_worth f (zgrw f d) h (some a) K
      unfold zf7_worth zj7_worth_136
      refine gfR_of (n := some b) h1 (by simp) rfl ?_
      refine ih d b g1 _ (by omega) h2 ?_
      refine gfR_of (n := some c) h1 (by simp) rfl ?_
      refine ih d c g2 _ (by omega) h3 ?_
      refine gfI_of h1 (by simp) rfl ?_
      generalize ev6 hr (σ 11 (3 * p + 1)) (σ 11 (3 * p + 2)) (σ 11 (3 * p)) o bt = en at kk ⊢
      rcases h4 with ⟨rfl, rfl⟩ | ⟨rfl, rfl⟩ | ⟨rfl, rfl⟩ | ⟨rfl | rfl, rfl⟩ | ⟨rfl | rfl, rfl⟩
      · rw [if_neg (by decide), if_neg (by decide), if_neg (by decide), if_neg (by decide), if_neg (by decide), if_neg (by decide)]
        have kk : K (if g1 en = 0 then (if g2 en = 0 then 0 else 1) else 1) h := kk
        by_cases c1 : g1 en = 0
        · rw [if_pos c1] at kk ⊢
          by_cases c2 : g2 en = 0
          · rw [if_pos c2] at kk ⊢; exact kk
          · rw [if_neg c2] at kk ⊢; exact kk
        · rw [if_neg c1] at kk ⊢; exact kk
      · rw [if_pos rfl]
        have kk : K (if g1 en = 0 then 0 else (if g2 en = 0 then 0 else 1)) h := kk
        by_cases c1 : g1 en = 0
        · rw [if_pos c1] at kk ⊢; exact kk
        · rw [if_neg c1] at kk ⊢
          by_cases c2 : g2 en = 0
          · rw [if_pos c2] at kk ⊢; exact kk
          · rw [if_neg c2] at kk ⊢; exact kk
      · rw [if_neg (by decide), if_pos rfl]
        exact kk
      · rw [if_neg (by decide), if_neg (by decide), if_pos rfl]
        exact kk
      · rw [if_neg (by decide), if_neg (by decide), if_neg (by decide), if_pos rfl]
        exact kk
      · rw [if_neg (by decide), if_neg (by decide), if_neg (by decide), if_neg (by decide), if_pos rfl]
        have kk : K (if g1 en < g2 en then 1 else 0) h := kk
        by_cases c1 : g1 en < g2 en
        · rw [if_pos c1] at kk ⊢; exact kk
        · rw [if_neg c1] at kk ⊢; exact kk
      · rw [if_neg (by decide), if_neg (by decide), if_neg (by decide), if_neg (by decide), if_neg (by decide), if_pos rfl]
        have kk : K (if g1 en = g2 en then 1 else 0) h := kk
        by_cases c1 : g1 en = g2 en
        · rw [if_pos c1] at kk ⊢; exact kk
        · rw [if_neg c1] at kk ⊢; exact kk
theorem C_text (hh : Ch sa x ca Md b0 G pa rw σ h) {t : Nat} (ht : t < (σ 3 0).toNatClampNeg) (h6 : t < 6) {P : Option Nat → Prop} (kk : ∀ q, (∀ (k : Nat) (P' : Option Nat → Prop), k < 3 → (∀ a, nd x h 190 a (G t k) → P' (some a)) → aldR h (some q) 5 (nI k) P') → P (some q)) : aldR h (some (ca 9)) 6 (nI t) P := by
  obtain ⟨κ, lab, a1, a2, a3, a4, a5, a6, a7, ⟨tx, ⟨⟨fo, f1, f2⟩, -⟩, f3⟩, a9, a10⟩ := hh
  rw [cldR f1, nI_clamp (by omega), f2 t ht]
  refine ⟨vp_in_nI (by omega) (by omega), kk _ fun k P' hk hP => ?_⟩
  obtain ⟨-, fr, g1, g2⟩ := f3 t ht
  obtain ⟨a, g3, g4⟩ := g2 k hk
  rw [cldR g1, nI_clamp (by omega), g3]
  exact ⟨vp_in_nI (by omega) (by omega), hP a g4⟩
/-- the kinds -/
theorem kd_of (hW : WS σ) {p : Nat} (hp : p < 6) : ∃ k : Nat, k ≤ 5 ∧ σ 10 p = nI k ∧ kcl (σ 10 p) = k + 1 := by
  obtain ⟨k, h1, h2, h3, h4⟩ := nI_bt (hW.2.2.2.2.2.2.2 p hp)
  refine ⟨k, by omega, h3, ?_⟩
  rw [h3]
  unfold kcl
  rw [nI_clamp (by omega)]
theorem kc6 (hW : WS σ) {p : Nat} (hp : p < 6) : kcl (σ 10 p) ∈ ([1, 2, 3, 4, 5, 6] : List Nat) := by
  obtain ⟨k, h1, h2, h3⟩ := kd_of hW hp
  rw [h3]
  have : k = 0 ∨ k = 1 ∨ k = 2 ∨ k = 3 ∨ k = 4 ∨ k = 5 := by omega
  rcases this with rfl | rfl | rfl | rfl | rfl | rfl <;> decide
theorem C_asks (hW : WS σ) (hh : Ch sa x ca Md b0 G pa rw σ h) {p k : Nat} {wh o hr bt : Int32} (hp : p < nP σ) (hk : k ≤ 2) (hwh : wh = nI k) (kk : ∀ h', Ch sa x ca Md b0 G pa rw σ h' → K (asq G σ k p o hr bt) h') : zf0_asks f h (some x) wh (nI p) hr o bt K := by
  subst hwh
  have hn := (nP_eq hW).2
  have hkc := kc6 hW (p := p) (by omega)
  obtain ⟨-, ⟨c, r, hc, h3, hr0, h4⟩, -⟩ := hW
  have hrc : r < (σ 3 0).toNatClampNeg := by rw [h3, nI_clamp (by omega)]; exact hr0
  have hx : ∃ κ, h x = some (.inr (0, cfs ca κ)) := by
    obtain ⟨κ, lab, a1, a2, -⟩ := hh
    exact ⟨κ, a2.1⟩
  obtain ⟨κ, hx⟩ := hx
  unfold zf0_asks
  refine pf_cell (C_pf hh (show (5, 205) ∈ csc by decide) (fun κ a => agr_scr a (by omega)) sameP_rfl fun h1 hh1 x1 => ?_)
  refine pf_cell (C_pf hh1 (show (6, 206) ∈ csc by decide) (fun κ a => agr_scr a (by omega)) sameP_rfl fun h2 hh2 x2 => ?_)
  refine pf_cell (C_pf hh2 (show (7, 207) ∈ csc by decide) (fun κ a => agr_scr a (by omega)) sameP_rfl fun h3' hh3 x3 => ?_)
  refine pf_cell (C_pf hh3 (show (8, 208) ∈ csc by decide) (fun κ a => agr_scr a (by omega)) sameP_rfl fun h4' hh4 x4 => ?_)
  have hx4 := x4 _ _ (x3 _ _ (x2 _ _ (x1 _ _ hx)))
  simp only [zcQ hh4]
  rw [h4]
  refine C_text hh4 hrc (by omega) fun q hq => ?_
  refine hq k _ (by omega) fun a ha => ?_
  refine C_worth hh4 hn hp hkc hx4 rfl rfl rfl rfl 190 200 a _ _ (by omega) ha ?_
  have kq := kk _ hh4
  unfold asq at kq
  rw [h4, nI_clamp (by omega)] at kq
  by_cases c2 : k = 2
  · rw [if_pos c2] at kq
    rw [if_pos (by rw [c2]; rfl)]
    exact kq
  · rw [if_neg c2] at kq
    rw [if_neg (show ¬ nI k = 2 from fun z => c2 ((nI_eq (b := 2) (by omega) (by omega)).mp z))]
    intro y hy z hz
    rw [cl0_mm (by decide) hy hz]
    exact kq
end CA
