/-! THE CLASS's CALLS: pane -/
set_option maxRecDepth 100000
def paC (σ : ST) (n : Nat) (k nb on_ : Int32) : ST := mup (mup (mup (mup (mup (mup (mup σ 10 n k) 11 (3 * n) nb) 11 (3 * n + 1) on_) 11 (3 * n + 2) 0) 110 n (-1)) 111 n 0) 13 0 (nI (n + 1))
def paN (pa : Nat → Nat) (n q : Nat) : Nat → Nat := fun p => if p = n then q else pa p
theorem pcl_new (σ : ST) (n : Nat) (k nb on_ : Int32) : pcl (paC σ n k nb on_) n = .inr (kcl k, [.int nb, .int on_, .int 0, .int (-1), .int 0]) := by
  have e10 : paC σ n k nb on_ 10 n = k := by
    show mup σ 10 n k 10 n = k
    rw [mup_kk, if_pos rfl]
  have e0 : paC σ n k nb on_ 11 (3 * n) = nb := by
    show mup (mup (mup (mup σ 10 n k) 11 (3 * n) nb) 11 (3 * n + 1) on_) 11 (3 * n + 2) 0 11 (3 * n) = nb
    rw [mup_kk, if_neg (by omega), mup_kk, if_neg (by omega), mup_kk, if_pos rfl]
  have e1 : paC σ n k nb on_ 11 (3 * n + 1) = on_ := by
    show mup (mup (mup (mup σ 10 n k) 11 (3 * n) nb) 11 (3 * n + 1) on_) 11 (3 * n + 2) 0 11 (3 * n + 1) = on_
    rw [mup_kk, if_neg (by omega), mup_kk, if_pos rfl]
  have e2 : paC σ n k nb on_ 11 (3 * n + 2) = 0 := by
    show mup (mup (mup (mup σ 10 n k) 11 (3 * n) nb) 11 (3 * n + 1) on_) 11 (3 * n + 2) 0 11 (3 * n + 2) = 0
    rw [mup_kk, if_pos rfl]
  have e3 : paC σ n k nb on_ 110 n = -1 := by
    show mup (mup (mup (mup (mup σ 10 n k) 11 (3 * n) nb) 11 (3 * n + 1) on_) 11 (3 * n + 2) 0) 110 n (-1) 110 n = -1
    rw [mup_kk, if_pos rfl]
  have e4 : paC σ n k nb on_ 111 n = 0 := by
    show mup (mup (mup (mup (mup (mup σ 10 n k) 11 (3 * n) nb) 11 (3 * n + 1) on_) 11 (3 * n + 2) 0) 110 n (-1)) 111 n 0 111 n = 0
    rw [mup_kk, if_pos rfl]
  unfold pcl
  rw [e10, e0, e1, e2, e3, e4]
theorem pcl_old (σ : ST) {n p : Nat} (hp : p < n) (k nb on_ : Int32) : pcl (paC σ n k nb on_) p = pcl σ p := by
  have e10 : paC σ n k nb on_ 10 p = σ 10 p := by
    show mup σ 10 n k 10 p = _
    rw [mup_kk, if_neg (by omega)]
  have e0 : ∀ j, j < 3 → paC σ n k nb on_ 11 (3 * p + j) = σ 11 (3 * p + j) := by
    intro j hj
    show mup (mup (mup (mup σ 10 n k) 11 (3 * n) nb) 11 (3 * n + 1) on_) 11 (3 * n + 2) 0 11 (3 * p + j) = _
    rw [mup_kk, if_neg (by omega), mup_kk, if_neg (by omega), mup_kk, if_neg (by omega), mup_k (by decide)]
  have e3 : paC σ n k nb on_ 110 p = σ 110 p := by
    show mup (mup (mup (mup (mup σ 10 n k) 11 (3 * n) nb) 11 (3 * n + 1) on_) 11 (3 * n + 2) 0) 110 n (-1) 110 p = _
    rw [mup_kk, if_neg (by omega), mup_k (by decide), mup_k (by decide), mup_k (by decide), mup_k (by decide)]
  have e4 : paC σ n k nb on_ 111 p = σ 111 p := by
    show mup (mup (mup (mup (mup (mup σ 10 n k) 11 (3 * n) nb) 11 (3 * n + 1) on_) 11 (3 * n + 2) 0) 110 n (-1)) 111 n 0 111 p = _
    rw [mup_kk, if_neg (by omega), mup_k (by decide), mup_k (by decide), mup_k (by decide), mup_k (by decide), mup_k (by decide)]
  unfold pcl
  rw [e10, e0 1 (by decide), e0 2 (by decide), e3, e4, show paC σ n k nb on_ 11 (3 * p) = σ 11 (3 * p) from e0 0 (by decide)]
section CN
variable {f : Nat} {sa : Nat → Nat} {x : Nat} {ca : Nat → Nat} {Md : Nat → Prop} {b0 : zH} {G : TG} {pa : Nat → Nat} {rw : Nat → Option Nat} {σ : ST} {h : zH} {K : Int32 → zH → Prop}
theorem C_newpane (hW : WS σ) (hh : Ch sa x ca Md b0 G pa rw σ h) (hn6 : nP σ < 6) {k nb on_ : Int32} (hk : kcl k ∈ ([1, 2, 3, 4, 5, 6] : List Nat)) {q : Nat} (hq : h q = none) {P : zH → Prop} (kk : ∀ h', Ch sa x ca Md b0 G (paN pa (nP σ) q) rw (paC σ (nP σ) k nb on_) h' → P h') : asR (hup h q (.inr (kcl k, [.int nb, .int on_, .int 0, .int (-1), .int 0]))) (some (ca 0)) 4 (nI (nP σ)) (some q) [1, 2, 3, 4, 5, 6] fun h14 => gfI h14 (some x) [0] 1 fun x15 => pf h14 (some x) [0] 1 (.int (x15 + 1)) P := by
  have hk7 : kcl k < 7 := by
    simp only [List.mem_cons, List.not_mem_nil, or_false] at hk
    omega
  have e13 := (nP_eq hW).1
  obtain ⟨κ, lab, a1, a2, a3, a4, a5, a6, a7, a8, a9, a10, lq, np, -⟩ := Ch_alloc hh hq (e := .inr (kcl k, [.int nb, .int on_, .int 0, .int (-1), .int 0])) (isN_no (Or.inl hk7)) (L := 1000 + nP σ) (by omega)
  have hcell : hup h q (.inr (kcl k, [.int nb, .int on_, .int 0, .int (-1), .int 0])) q = some (.inr (kcl k, [.int nb, .int on_, .int 0, .int (-1), .int 0])) := hup_self _ _ _
  generalize hup h q (.inr (kcl k, [.int nb, .int on_, .int 0, .int (-1), .int 0])) = h1 at a1 a2 a3 a4 a5 a6 a7 a8 a9 a10 hcell ⊢
  obtain ⟨⟨⟨g, g1, g2⟩, g3⟩, g4⟩ := a5
  refine ⟨Or.inr ⟨q, _, _, rfl, hcell, hk⟩, ca 0, 6, g, rfl, g1, vp_in_nI hn6 (by omega), ?_⟩
  rw [nI_clamp (by omega)]
  have b2 := a2.up (a := ca 0) (e := .inl (4, 6, pav (va_up g (nP σ) (some q)))) (by rw [g3]; decide)
  have b3 := a3.up (a := ca 0) (e := .inl (4, 6, pav (va_up g (nP σ) (some q)))) (fun e he => by rw [g3]; have := cia_le e he; omega)
  have b4 := a4.up (a := ca 0) (e := .inl (4, 6, pav (va_up g (nP σ) (some q)))) (fun e he => by rw [g3]; have := cra_le e he; omega)
  have b6 := a6.up (a := ca 0) (e := .inl (4, 6, pav (va_up g (nP σ) (some q)))) (fun s hs => by rw [g3]; omega)
  have b7 := a7.up (a := ca 0) (e := .inl (4, 6, pav (va_up g (nP σ) (some q)))) (fun s hs => by rw [g3]; omega)
  have b8 := a8.up (a := ca 0) (e := .inl (4, 6, pav (va_up g (nP σ) (some q)))) (by rw [g3]; decide) (by rw [g3]; decide) a10.2.2 (by rw [g3]; decide)
  have b9 := a9.up (a := ca 0) (e := .inl (4, 6, pav (va_up g (nP σ) (some q)))) (by rw [g3]; decide)
  have b10 := a10.up (a := ca 0) (e := .inl (4, 6, pav (va_up g (nP σ) (some q)))) (by rw [g3]; decide) isN_noA
  have bp : ∀ p, p < nP σ → hup h1 (ca 0) (.inl (4, 6, pav (va_up g (nP σ) (some q)))) (pa p) = some (pcl σ p) := fun p hp => by
    rw [hup_lab (lab := lab) (by rw [(g4 p hp).2, g3]; omega)]
    exact (g4 p hp).1
  have bq : hup h1 (ca 0) (.inl (4, 6, pav (va_up g (nP σ) (some q)))) q = some (.inr (kcl k, [.int nb, .int on_, .int 0, .int (-1), .int 0])) := by
    rw [hup_lab (lab := lab) (by rw [lq, g3]; omega)]
    exact hcell
  have ba : hup h1 (ca 0) (.inl (4, 6, pav (va_up g (nP σ) (some q)))) (ca 0) = some (.inl (4, 6, pav (va_up g (nP σ) (some q)))) := hup_self _ _ _
  generalize hup h1 (ca 0) (.inl (4, 6, pav (va_up g (nP σ) (some q)))) = h2 at b2 b3 b4 b6 b7 b8 b9 b10 bp bq ba ⊢
  have ek : κ 13 0 = nI (nP σ) := (a1.1 13 (by decide)).trans e13
  refine ⟨x, 0, cfs ca κ, κ 13 0, rfl, b2.1, by simp, rfl, x, 0, cfs ca κ, rfl, b2.1, by simp, (cfs_set (ca := ca) (κ := κ) (k := 1) (q := 13) (by decide) 0).2, kk _ ?_⟩
  have lx := b2.2
  rw [(cfs_set (ca := ca) (κ := κ) (k := 1) (q := 13) (by decide) (κ 13 0 + 1)).1, ek, nI_1]
  refine ⟨mup κ 13 0 (nI (nP σ + 1)), lab, ?_, ⟨hup_self _ _ _, lx⟩, ?_, b4.up (fun e _ => by rw [lx]; omega), ?_, b6.up (fun s _ => by rw [lx]; omega), b7.up (fun s _ => by rw [lx]; omega), b8.up (by rw [lx]; decide) (by rw [lx]; decide) b10.2.2 (by rw [lx]; decide), b9.up (by rw [lx]; decide), b10.up (by rw [lx]; decide) (isN_no (by omega))⟩
  · unfold paC
    exact agr_mup (agr_oth (agr_oth (agr_oth (agr_oth (agr_oth (agr_oth a1 (by decide) (by decide)) (by decide) (by decide)) (by decide) (by decide)) (by decide) (by decide)) (by decide) (by decide)) (by decide) (by decide)) (by decide) (by decide) (by decide)
  · have := b3.up (a := x) (e := .inr (0, cfs ca (mup κ 13 0 (nI (nP σ + 1))))) (fun e _ => by rw [lx]; omega)
    intro e he
    rw [mup_k (csc_cia (1, 13) (by decide) e he)]
    exact this e he
  · have en : nP (paC σ (nP σ) k nb on_) = nP σ + 1 := by
      show (nI (nP σ + 1)).toNatClampNeg = nP σ + 1
      exact nI_clamp (by omega)
    unfold Cp
    rw [en]
    refine ⟨⟨⟨_, by rw [hup_lab (lab := lab) (by rw [lx, g3]; decide)]; exact ba, fun p hp => ?_⟩, g3⟩, fun p hp => ?_⟩
    · unfold paN va_up
      by_cases c : p = nP σ
      · rw [if_pos c, if_pos c]
      · rw [if_neg c, if_neg c]; exact g2 p (by omega)
    · unfold paN
      by_cases c : p = nP σ
      · rw [if_pos c, c, pcl_new]
        exact ⟨by rw [hup_lab (lab := lab) (by rw [lx, lq]; omega)]; exact bq, lq⟩
      · rw [if_neg c, pcl_old σ (by omega)]
        exact ⟨by rw [hup_lab (lab := lab) (by rw [lx, (g4 p (by omega)).2]; omega)]; exact bp p (by omega), (g4 p (by omega)).2⟩
end CN
