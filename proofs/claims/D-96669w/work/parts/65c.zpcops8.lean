/-! THE CLASS's CALLS: pane, as called -/
set_option maxRecDepth 100000
def pnOk (k nb on_ : Int32) : Prop := (0 ≤ k.toInt ∧ k.toInt ≤ 5) ∧ (0 ≤ nb.toInt ∧ nb.toInt ≤ 9) ∧ (0 ≤ on_.toInt ∧ on_.toInt ≤ 364)
section CM
variable {f : Nat} {sa : Nat → Nat} {x : Nat} {ca : Nat → Nat} {Md : Nat → Prop} {b0 : zH} {G : TG} {pa : Nat → Nat} {rw : Nat → Option Nat} {σ : ST} {h : zH} {K : Int32 → zH → Prop}
theorem C_init9 {q ci : Nat} (hc : ci ∈ ([1, 2, 3, 4, 5, 6] : List Nat)) {a1 a2 : Int32} {K : zH → Prop} (kk : K (hup h q (.inr (ci, [.int a1, .int a2, .int 0, .int (-1), .int 0])))) : zf9_init f (hup h q (.inr (ci, [.int 0, .int 0, .int 0, .int 0, .int 0]))) (some q) a1 a2 K := by
  have st : ∀ {fs : List Value} {k : Nat} {w : Value} {P : zH → Prop}, k < fs.length → P (hup h q (.inr (ci, fs.set k w))) → pf (hup h q (.inr (ci, fs))) (some q) [1, 2, 3, 4, 5, 6] k w P := by
    intro fs k w P hk hP
    refine ⟨q, ci, fs, rfl, hup_self _ _ _, hc, hk, ?_⟩
    rw [hup_hup]
    exact hP
  unfold zf9_init
  exact ⟨q, rfl, st (by simp) (st (by simp) (st (by simp) kk))⟩
theorem C_made {mc ms : Nat} (hmc : 1 ≤ mc) (hms : 5 ≤ ms) {k a1 a2 : Int32} (hk : 0 ≤ k.toInt ∧ k.toInt ≤ 5) {K : Option Nat → zH → Prop} (kk : ∀ q, h q = none → K (some q) (hup h q (.inr (kcl k, [.int a1, .int a2, .int 0, .int (-1), .int 0])))) : zf0_made f h mc ms k a1 a2 K := by
  obtain ⟨j, hj, -, rfl, -⟩ := nI_bt (x := k) (u := 5) hk
  have hj : j ≤ 5 := by omega
  unfold zf0_made zf10_init zf12_init zf13_init zf14_init
  unfold zf10_init zf11_init
  have : j = 0 ∨ j = 1 ∨ j = 2 ∨ j = 3 ∨ j = 4 ∨ j = 5 := by omega
  rcases this with rfl | rfl | rfl | rfl | rfl | rfl
  · rw [if_neg (by decide), if_neg (by decide), if_neg (by decide), if_neg (by decide), if_neg (by decide)]
    exact ⟨hmc, hms, fun q hq => ⟨q, rfl, C_init9 (by decide) (kk q hq)⟩⟩
  · rw [if_pos (by decide)]
    exact ⟨hmc, hms, fun q hq => ⟨q, rfl, q, rfl, C_init9 (by decide) (kk q hq)⟩⟩
  · rw [if_neg (by decide), if_pos (by decide)]
    exact ⟨hmc, hms, fun q hq => ⟨q, rfl, q, rfl, C_init9 (by decide) (kk q hq)⟩⟩
  · rw [if_neg (by decide), if_neg (by decide), if_pos (by decide)]
    exact ⟨hmc, hms, fun q hq => ⟨q, rfl, q, rfl, q, rfl, C_init9 (by decide) (kk q hq)⟩⟩
  · rw [if_neg (by decide), if_neg (by decide), if_neg (by decide), if_pos (by decide)]
    exact ⟨hmc, hms, fun q hq => ⟨q, rfl, q, rfl, q, rfl, C_init9 (by decide) (kk q hq)⟩⟩
  · rw [if_neg (by decide), if_neg (by decide), if_neg (by decide), if_neg (by decide), if_pos (by decide)]
    exact ⟨hmc, hms, fun q hq => ⟨q, rfl, q, rfl, C_init9 (by decide) (kk q hq)⟩⟩
theorem D_pane (hW : WS σ) (hh : Ch sa x ca Md b0 G pa rw σ h) {mc ms : Nat} (hmc : 1 ≤ mc) (hms : 5 ≤ ms) {k nb on_ : Int32} (k0 : ¬ pnOk k nb on_ → K (-2) h) (k4 : pnOk k nb on_ → nP σ = 6 → K (-4) h) (kk : pnOk k nb on_ → nP σ < 6 → ∀ q h', h q = none → Ch sa x ca Md b0 G (paN pa (nP σ) q) rw (paC σ (nP σ) k nb on_) h' → K (nI (nP σ)) h') : zf0_pane f h mc ms (some x) k nb on_ K := by
  obtain ⟨e13, hn⟩ := nP_eq hW
  unfold pnOk at k0 k4 kk
  unfold zf0_pane
  rw [q_inC 0 5 (by decide) (by decide)]
  simp only [ite10, ifn]
  by_cases c1 : 0 ≤ k.toInt ∧ k.toInt ≤ 5
  · rw [if_pos c1, q_inC 0 9 (by decide) (by decide)]
    simp only [ite10, ifn]
    by_cases c2 : 0 ≤ nb.toInt ∧ nb.toInt ≤ 9
    · rw [if_pos c2, q_inC 0 364 (by decide) (by decide)]
      simp only [ite10, ifn]
      by_cases c3 : 0 ≤ on_.toInt ∧ on_.toInt ≤ 364
      · rw [if_pos c3]
        simp only [zcQ hh]
        rw [e13]
        by_cases c6 : nP σ = 6
        · rw [if_pos (by rw [c6]; rfl)]
          exact k4 ⟨c1, c2, c3⟩ c6
        · rw [if_neg (show ¬ nI (nP σ) = 6 from fun z => c6 ((nI_eq (b := 6) (by omega) (by omega)).mp z))]
          refine ⟨1, 5, hmc, hms, C_made (by decide) (by decide) c1 fun q hq => ?_⟩
          have hkc : kcl k ∈ ([1, 2, 3, 4, 5, 6] : List Nat) := by
            obtain ⟨j, hj, -, rfl, -⟩ := nI_bt (x := k) (u := 5) c1
            unfold kcl
            rw [nI_clamp (by omega)]
            simp only [List.mem_cons, List.not_mem_nil, or_false]
            omega
          refine C_newpane hW hh (by omega) hkc hq fun h' hh' => ?_
          simp only [zcQ hh']
          have e : paC σ (nP σ) k nb on_ 13 0 = nI (nP σ + 1) := rfl
          rw [e, nI_pred]
          exact kk ⟨c1, c2, c3⟩ (by omega) q h' hq hh'
      · rw [if_neg c3]
        exact k0 (fun z => c3 z.2.2)
    · rw [if_neg c2]
      exact k0 (fun z => c2 z.2.1)
  · rw [if_neg c1]
    exact k0 (fun z => c1 z.1)
end CM
