/-! THE CLASS's CALLS: told, set, glaze, stone, feed, force, light, half -/
set_option maxRecDepth 100000
def tpC (G : TG) (σ : ST) (p : Nat) (what : Int32) : Int32 := if what = 2 then σ 11 (3 * p) else if what = 3 then σ 11 (3 * p + 1) else if what = 4 then σ 11 (3 * p + 2) else if what = 5 then σ 10 p else if what = 6 then σ 110 p else if what = 7 then (if σ 111 p = 0 then 0 else 1) else if what = 8 then ct G σ p else sp σ p
def toC (G : TG) (σ : ST) (of what : Int32) : Int32 := if what = 0 then σ 7 0 else if what = 1 then (if opn of then σ 8 of.toNatClampNeg else -2) else if what = 10 then (if opn of then whC σ of else -2) else if what = 11 then (if opn of then siC G σ of.toNatClampNeg else -2) else if 2 ≤ what.toInt ∧ what.toInt ≤ 9 then (if pnl σ of then tpC G σ of.toNatClampNeg what else -2) else -2
def glC (σ : ST) (o p : Int32) : ST := if p = -1 then (if whC σ o = -1 then σ else mup σ 110 (whC σ o).toNatClampNeg (-1)) else mup (if whC σ o = -1 then σ else mup σ 110 (whC σ o).toNatClampNeg (-1)) 110 p.toNatClampNeg o
def spC (σ : ST) (p : Nat) : Int32 := fo (fun i a => a ||| (if sp σ p < aabs (nI i - σ 110 p) then 0 else ((1 : Int32) <<< (nI i &&& 31)))) 4 0 0
section D1
variable {f : Nat} {sa : Nat → Nat} {x : Nat} {ca : Nat → Nat} {Md : Nat → Prop} {b0 : zH} {G : TG} {pa : Nat → Nat} {rw : Nat → Option Nat} {σ : ST} {h : zH} {K : Int32 → zH → Prop}
theorem kc7 (hW : WS σ) {p : Nat} (hp : p < 6) : kcl (σ 10 p) < 7 := by
  obtain ⟨k, h1, h2, h3⟩ := kd_of hW hp
  omega
theorem C_p11 (hW : WS σ) (hh : Ch sa x ca Md b0 G pa rw σ h) {p j : Nat} (hp : p < nP σ) (hj : j < 3) {v : Int32} {P : zH → Prop} (kk : ∀ h', Ch sa x ca Md b0 G pa rw (mup σ 11 (3 * p + j) v) h' → P h') : pf h (some (pa p)) [1, 2, 3, 4, 5, 6] j (.int v) P := by
  have hn := (nP_eq hW).2
  refine C_pp hh hn hp (kc6 hW (by omega)) (by omega) (kc7 hW (by omega)) (fun κ a => agr_oth a (by decide) (by decide)) ?_ (fun q hq hqp => ?_) (by unfold nP; rw [mup_k (by decide)]) (fun k h1 h2 => mup_k (by omega)) (by rw [mup_k (by decide)]) kk
  · unfold pcl
    rw [mup_k (show (10 : Nat) ≠ 11 by decide), mup_k (show (110 : Nat) ≠ 11 by decide), mup_k (show (111 : Nat) ≠ 11 by decide), mup_kk, mup_kk, mup_kk]
    have : j = 0 ∨ j = 1 ∨ j = 2 := by omega
    rcases this with rfl | rfl | rfl
    · rw [if_pos (by omega), if_neg (by omega), if_neg (by omega)]; rfl
    · rw [if_neg (by omega), if_pos (by omega), if_neg (by omega)]; rfl
    · rw [if_neg (by omega), if_neg (by omega), if_pos (by omega)]; rfl
  · unfold pcl
    rw [mup_k (show (10 : Nat) ≠ 11 by decide), mup_k (show (110 : Nat) ≠ 11 by decide), mup_k (show (111 : Nat) ≠ 11 by decide), mup_kk, mup_kk, mup_kk, if_neg (by omega), if_neg (by omega), if_neg (by omega)]
theorem C_p110 (hW : WS σ) (hh : Ch sa x ca Md b0 G pa rw σ h) {p : Nat} (hp : p < nP σ) {v : Int32} {P : zH → Prop} (kk : ∀ h', Ch sa x ca Md b0 G pa rw (mup σ 110 p v) h' → P h') : pf h (some (pa p)) [1, 2, 3, 4, 5, 6] 3 (.int v) P := by
  have hn := (nP_eq hW).2
  refine C_pp hh hn hp (kc6 hW (by omega)) (by omega) (kc7 hW (by omega)) (fun κ a => agr_oth a (by decide) (by decide)) ?_ (fun q hq hqp => ?_) (by unfold nP; rw [mup_k (by decide)]) (fun k h1 h2 => mup_k (by omega)) (by rw [mup_k (by decide)]) kk
  · unfold pcl
    rw [mup_k (show (10 : Nat) ≠ 110 by decide), mup_k (show (11 : Nat) ≠ 110 by decide), mup_k (show (111 : Nat) ≠ 110 by decide), mup_kk, if_pos rfl]
    rfl
  · unfold pcl
    rw [mup_k (show (10 : Nat) ≠ 110 by decide), mup_k (show (11 : Nat) ≠ 110 by decide), mup_k (show (111 : Nat) ≠ 110 by decide), mup_kk, if_neg hqp]
theorem C_p111 (hW : WS σ) (hh : Ch sa x ca Md b0 G pa rw σ h) {p : Nat} (hp : p < nP σ) {v : Int32} {P : zH → Prop} (kk : ∀ h', Ch sa x ca Md b0 G pa rw (mup σ 111 p v) h' → P h') : pf h (some (pa p)) [1, 2, 3, 4, 5, 6] 4 (.int v) P := by
  have hn := (nP_eq hW).2
  refine C_pp hh hn hp (kc6 hW (by omega)) (by omega) (kc7 hW (by omega)) (fun κ a => agr_oth a (by decide) (by decide)) ?_ (fun q hq hqp => ?_) (by unfold nP; rw [mup_k (by decide)]) (fun k h1 h2 => mup_k (by omega)) (by rw [mup_k (by decide)]) kk
  · unfold pcl
    rw [mup_k (show (10 : Nat) ≠ 111 by decide), mup_k (show (11 : Nat) ≠ 111 by decide), mup_k (show (110 : Nat) ≠ 111 by decide), mup_kk, if_pos rfl]
    rfl
  · unfold pcl
    rw [mup_k (show (10 : Nat) ≠ 111 by decide), mup_k (show (11 : Nat) ≠ 111 by decide), mup_k (show (110 : Nat) ≠ 111 by decide), mup_kk, if_neg hqp]
theorem C_isPane (hW : WS σ) (hh : Ch sa x ca Md b0 G pa rw σ h) {a : Int32} : zf0_isPane f h (some x) a K = K (if 0 ≤ a.toInt ∧ a.toInt ≤ (nP σ : Int) - 1 then 1 else 0) h := by
  obtain ⟨h1, h2⟩ := nP_eq hW
  unfold zf0_isPane
  simp only [zcQ hh]
  rw [h1, q_inC 0 ((nP σ : Int) - 1) (by decide) (nI_pr (by omega)), zbl_ite]
  exact true_and _
theorem C_kind (hW : WS σ) (hh : Ch sa x ca Md b0 G pa rw σ h) {p : Nat} (hp : p < nP σ) (kk : K (σ 10 p) h) : zd_kind f h (some (pa p)) K := by
  have hn := (nP_eq hW).2
  obtain ⟨k, h1, h2, h3⟩ := kd_of hW (p := p) (by omega)
  have ra : ∀ F : Prop, zra h (some (pa p)) F = F := fun F => C_pra hh hp (by omega) F
  unfold zd_kind
  rw [C_pd hh hp, h3]
  rw [h2] at kk
  have : k = 0 ∨ k = 1 ∨ k = 2 ∨ k = 3 ∨ k = 4 ∨ k = 5 := by omega
  rcases this with rfl | rfl | rfl | rfl | rfl | rfl
  · rw [if_pos rfl]
    exact kk
  · rw [if_neg (by decide), if_pos rfl]
    unfold zf10_kind zf9_kind
    simp only [ra]
    exact kk
  · rw [if_neg (by decide), if_neg (by decide), if_pos rfl]
    unfold zf11_kind zf9_kind
    simp only [ra]
    exact kk
  · rw [if_neg (by decide), if_neg (by decide), if_neg (by decide), if_pos rfl]
    unfold zf12_kind zf10_kind zf9_kind
    simp only [ra]
    exact kk
  · rw [if_neg (by decide), if_neg (by decide), if_neg (by decide), if_neg (by decide), if_pos rfl]
    unfold zf13_kind zf11_kind zf9_kind
    simp only [ra]
    exact kk
  · rw [if_neg (by decide), if_neg (by decide), if_neg (by decide), if_neg (by decide), if_neg (by decide), if_pos rfl]
    unfold zf14_kind zf9_kind
    simp only [ra]
    exact kk
theorem C_told (hf : 400 ≤ f) (hW : WS σ) (hB : WB σ) (hh : Ch sa x ca Md b0 G pa rw σ h) {what of : Int32} (kk : ∀ h', Ch sa x ca Md b0 G pa rw σ h' → K (toC G σ of what) h') : zf0_told f h (some x) of what K := by
  have hn := (nP_eq hW).2
  unfold toC tpC at kk
  unfold zf0_told
  simp only [q_op0, ite10, ifn, zcQ hh, C_whoIn hf hW hh]
  by_cases c0 : what = 0
  · rw [if_pos c0] at kk ⊢; exact kk h hh
  rw [if_neg c0] at kk ⊢
  by_cases c1 : what = 1
  · rw [if_pos c1] at kk ⊢
    by_cases co : opn of
    · rw [if_pos co] at kk ⊢
      obtain ⟨o, ho, rfl⟩ := opn_nat co
      exact ⟨vp_in_nI ho (by omega), kk h hh⟩
    · rw [if_neg co] at kk ⊢; exact kk h hh
  rw [if_neg c1] at kk ⊢
  by_cases c10 : what = 10
  · rw [if_pos c10] at kk ⊢
    by_cases co : opn of
    · rw [if_pos co] at kk ⊢; exact kk h hh
    · rw [if_neg co] at kk ⊢; exact kk h hh
  rw [if_neg c10] at kk ⊢
  by_cases c11 : what = 11
  · rw [if_pos c11] at kk ⊢
    by_cases co : opn of
    · rw [if_pos co] at kk ⊢
      obtain ⟨o, ho, rfl⟩ := opn_nat co
      rw [nI_clamp (by omega)] at kk
      exact C_sumIn hf hW hB hh kk
    · rw [if_neg co] at kk ⊢; exact kk h hh
  rw [if_neg c11] at kk ⊢
  rw [q_inC 2 9 (by decide) (by decide)]
  simp only [ite10, ifn]
  by_cases c : 2 ≤ what.toInt ∧ what.toInt ≤ 9
  · rw [if_pos c] at kk ⊢
    simp only [zcQ hh, C_isPane hW hh, ite10, ifn]
    by_cases cp : pnl σ of
    · rw [if_pos cp] at kk ⊢
      obtain ⟨p, hp, rfl⟩ := pnl_nat cp
      have hkc := kc6 hW (p := p) (by omega)
      rw [nI_clamp (by omega)] at kk
      unfold zf0_toldPane
      simp only [zcQ hh, C_pa hh hn hp, C_pI hh hp hkc (k := 0) rfl, C_pI hh hp hkc (k := 1) rfl, C_pI hh hp hkc (k := 2) rfl, C_pI hh hp hkc (k := 3) rfl, C_pI hh hp hkc (k := 4) rfl]
      by_cases d2 : what = 2
      · rw [if_pos d2] at kk ⊢; exact kk h hh
      rw [if_neg d2] at kk ⊢
      by_cases d3 : what = 3
      · rw [if_pos d3] at kk ⊢; exact kk h hh
      rw [if_neg d3] at kk ⊢
      by_cases d4 : what = 4
      · rw [if_pos d4] at kk ⊢; exact kk h hh
      rw [if_neg d4] at kk ⊢
      by_cases d5 : what = 5
      · rw [if_pos d5] at kk ⊢; exact C_kind hW hh hp (kk h hh)
      rw [if_neg d5] at kk ⊢
      by_cases d6 : what = 6
      · rw [if_pos d6] at kk ⊢; exact kk h hh
      rw [if_neg d6] at kk ⊢
      by_cases d7 : what = 7
      · rw [if_pos d7] at kk ⊢
        by_cases e0 : σ 111 p = 0
        · rw [if_pos e0] at kk ⊢; exact kk h hh
        · rw [if_neg e0] at kk ⊢; exact kk h hh
      rw [if_neg d7] at kk ⊢
      by_cases d8 : what = 8
      · rw [if_pos d8] at kk ⊢; exact C_costsOf hW hh hp kk
      rw [if_neg d8] at kk ⊢
      exact C_spills hW hh hp (kk h hh)
    · rw [if_neg cp] at kk ⊢; exact kk h hh
  · rw [if_neg c] at kk ⊢; exact kk h hh
/-- a value is laid: what is laid 0 .. 4 -/
theorem C_becomes (hW : WS σ) (hh : Ch sa x ca Md b0 G pa rw σ h) {j of : Nat} {v ofI : Int32} (hj : j ≤ 4) (h1 : j = 1 → ofI = nI of ∧ of < 4) (h2 : 2 ≤ j → ofI = nI of ∧ of < nP σ) {K : zH → Prop} (kk : ∀ h', Ch sa x ca Md b0 G pa rw (laysS σ j of v) h' → K h') : zf0_becomes f h (some x) (nI j) ofI v K := by
  have hn := (nP_eq hW).2
  unfold laysS at kk
  unfold zf0_becomes
  simp only [zcQ hh]
  have : j = 0 ∨ j = 1 ∨ j = 2 ∨ j = 3 ∨ j = 4 := by omega
  rcases this with rfl | rfl | rfl | rfl | rfl
  · simp (config := { decide := true }) only [show nI 0 = (0 : Int32) from rfl, ite_true, ite_false, reduceIte] at kk ⊢
    exact C_pf hh (show (2, 7) ∈ csc by decide) (fun κ a => agr_mup a (by decide) (by decide) (by decide)) (sameP_mup (by decide)) kk
  · obtain ⟨rfl, h4⟩ := h1 rfl
    simp (config := { decide := true }) only [show nI 1 = (1 : Int32) from rfl, ite_true, ite_false, reduceIte] at kk ⊢
    refine C_st hh (show (8, 0, 4) ∈ cia by decide) (vp_in_nI h4 (by omega)) (fun κ a => agr_mup a (by decide) (by decide) (by decide)) (sameP_mup (by decide)) ?_
    rw [nI_clamp (by omega)]
    exact kk
  · obtain ⟨rfl, h4⟩ := h2 (by decide)
    simp (config := { decide := true }) only [show nI 2 = (2 : Int32) from rfl, ite_true, ite_false, reduceIte] at kk ⊢
    rw [C_pa hh hn h4]
    exact C_p11 hW hh h4 (by decide) kk
  · obtain ⟨rfl, h4⟩ := h2 (by decide)
    simp (config := { decide := true }) only [show nI 3 = (3 : Int32) from rfl, ite_true, ite_false, reduceIte] at kk ⊢
    rw [C_pa hh hn h4]
    exact C_p11 hW hh h4 (by decide) kk
  · obtain ⟨rfl, h4⟩ := h2 (by decide)
    simp (config := { decide := true }) only [show nI 4 = (4 : Int32) from rfl, ite_true, ite_false, reduceIte] at kk ⊢
    rw [C_pa hh hn h4]
    exact C_p11 hW hh h4 (by decide) kk
theorem q_99 {v : Int32} {h : zH} {K : Int32 → zH → Prop} (u : Int) (uu : Int64) (hu : uu.toInt = u) : (zf0_in f h v.toInt64 0 uu fun x h4 => if x = 0 then (K 0 h4) else (K 1 h4)) = K (if 0 ≤ v.toInt ∧ v.toInt ≤ u then 1 else 0) h := by
  rw [q_inC 0 u (by decide) hu]
  by_cases c : 0 ≤ v.toInt ∧ v.toInt ≤ u
  · rw [if_pos c]; rfl
  · rw [if_neg c]; rfl
theorem C_isSo (hW : WS σ) (hh : Ch sa x ca Md b0 G pa rw σ h) {what of v : Int32} (k0 : ¬ seOk σ what of v → K 0 h) (k1 : seOk σ what of v → K 1 h) : zf0_isSo f h (some x) what of v K := by
  unfold seOk at k0 k1
  unfold zf0_isSo
  simp only [zcQ hh, C_isPane hW hh, q_op0, ite10, ifn]
  have fin : ∀ (P : Prop) [Decidable P], (P → K 1 h) → (¬ P → K 0 h) → K (if P then 1 else 0) h := by
    intro P _ a1 a2
    by_cases c : P
    · rw [if_pos c]; exact a1 c
    · rw [if_neg c]; exact a2 c
  by_cases c0 : what = 0
  · subst c0
    simp (config := { decide := true }) only [ite_true, ite_false, reduceIte, true_and, false_and, or_false, false_or] at k0 k1 ⊢
    rw [q_inC 0 9999 (by decide) (by decide), zbl_ite, true_and]
    exact fin _ k1 k0
  rw [if_neg c0]
  by_cases c1 : what = 1
  · subst c1
    simp (config := { decide := true }) only [ite_true, ite_false, reduceIte, true_and, false_and, or_false, false_or] at k0 k1 ⊢
    by_cases co : opn of
    · rw [if_pos co, q_99 999 999 (by decide)]
      exact fin _ (fun z => k1 ⟨co, z⟩) (fun z => k0 (fun y => z y.2))
    · rw [if_neg co]
      exact k0 (fun y => co y.1)
  rw [if_neg c1]
  by_cases c2 : what = 2
  · subst c2
    simp (config := { decide := true }) only [ite_true, ite_false, reduceIte, true_and, false_and, or_false, false_or] at k0 k1 ⊢
    by_cases co : pnl σ of
    · rw [if_pos co, q_99 9 9 (by decide)]
      exact fin _ (fun z => k1 ⟨co, z⟩) (fun z => k0 (fun y => z y.2))
    · rw [if_neg co]
      exact k0 (fun y => co y.1)
  rw [if_neg c2]
  by_cases c3 : what = 3
  · subst c3
    simp (config := { decide := true }) only [ite_true, ite_false, reduceIte, true_and, false_and, or_false, false_or] at k0 k1 ⊢
    by_cases co : pnl σ of
    · rw [if_pos co, q_99 364 364 (by decide)]
      exact fin _ (fun z => k1 ⟨co, z⟩) (fun z => k0 (fun y => z y.2))
    · rw [if_neg co]
      exact k0 (fun y => co y.1)
  rw [if_neg c3]
  by_cases c4 : what = 4
  · subst c4
    simp (config := { decide := true }) only [ite_true, ite_false, reduceIte, true_and, false_and, or_false, false_or] at k0 k1 ⊢
    by_cases co : pnl σ of
    · rw [if_pos co, q_99 9 9 (by decide)]
      exact fin _ (fun z => k1 ⟨co, z⟩) (fun z => k0 (fun y => z y.2))
    · rw [if_neg co]
      exact k0 (fun y => co y.1)
  rw [if_neg c4]
  exact k0 (fun z => z.elim (fun y => c0 y.1) fun z => z.elim (fun y => c1 y.1) fun z => z.elim (fun y => c2 y.1) fun z => z.elim (fun y => c3 y.1) fun y => c4 y.1)
theorem D_set (hf : 400 ≤ f) (hW : WS σ) (hB : WB σ) (hh : Ch sa x ca Md b0 G pa rw σ h) {what of v : Int32} (k0 : ¬ seOk σ what of v → K (-2) h) (kk : ∀ j : Nat, j ≤ 4 → what = nI j → seOk σ what of v → ∀ h', Ch sa x ca Md b0 G pa rw (laysS σ j of.toNatClampNeg v) h' → K (toC G σ of what) h') : zf0_set f h (some x) what of v K := by
  have hn := (nP_eq hW).2
  unfold zf0_set
  simp only [zcQ hh]
  refine C_isSo hW hh (fun z => ?_) (fun z => ?_)
  · rw [if_pos rfl]
    exact k0 z
  · rw [if_neg (by decide)]
    simp only [zcQ hh]
    have hj : ∃ j : Nat, j ≤ 4 ∧ what = nI j ∧ (j = 1 → of = nI of.toNatClampNeg ∧ of.toNatClampNeg < 4) ∧ (2 ≤ j → of = nI of.toNatClampNeg ∧ of.toNatClampNeg < nP σ) := by
      have po : opn of → of = nI of.toNatClampNeg ∧ of.toNatClampNeg < 4 := by
        intro z
        obtain ⟨o, ho, rfl⟩ := opn_nat z
        rw [nI_clamp (by omega)]
        exact ⟨rfl, ho⟩
      have pp : pnl σ of → of = nI of.toNatClampNeg ∧ of.toNatClampNeg < nP σ := by
        intro z
        obtain ⟨o, ho, rfl⟩ := pnl_nat z
        rw [nI_clamp (by omega)]
        exact ⟨rfl, ho⟩
      rcases z with z | z | z | z | z
      · exact ⟨0, by omega, z.1, fun y => by omega, fun y => by omega⟩
      · exact ⟨1, by omega, z.1, fun _ => po z.2.1, fun y => by omega⟩
      · exact ⟨2, by omega, z.1, fun y => by omega, fun _ => pp z.2.1⟩
      · exact ⟨3, by omega, z.1, fun y => by omega, fun _ => pp z.2.1⟩
      · exact ⟨4, by omega, z.1, fun y => by omega, fun _ => pp z.2.1⟩
    obtain ⟨j, j4, rfl, j1, j2⟩ := hj
    refine C_told hf hW hB hh fun h' hh' => ?_
    simp only [zcQ hh']
    exact C_becomes hW hh' j4 j1 j2 (kk j j4 rfl z)
theorem D_glaze (hf : 400 ≤ f) (hW : WS σ) (hB : WB σ) (hh : Ch sa x ca Md b0 G pa rw σ h) {o p : Int32} (k0 : ¬ opn o ∨ ¬ (p = -1 ∨ pnl σ p) → K (-2) h) (k3 : opn o → pnl σ p → σ 111 p.toNatClampNeg = 1 → K (-3) h) (kk : ∀ oo : Nat, oo < 4 → o = nI oo → (p = -1 ∨ (pnl σ p ∧ σ 111 p.toNatClampNeg = 0)) → ∀ h', Ch sa x ca Md b0 G pa rw (glC σ o p) h' → K (whC σ o) h') : zf0_glaze f h (some x) o p K := by
  have hn := (nP_eq hW).2
  unfold zf0_glaze zj0_glaze_23
  simp only [zcQ hh, q_op0, C_isPane hW hh, ite10, ifn]
  by_cases co : opn o
  · rw [if_pos co]
    obtain ⟨oo, ho, rfl⟩ := opn_nat co
    have put : ∀ (σ1 : ST) (h1 : zH), Ch sa x ca Md b0 G pa rw σ1 h1 → WS σ1 → nP σ1 = nP σ → σ1 = (if whC σ (nI oo) = -1 then σ else mup σ 110 (whC σ (nI oo)).toNatClampNeg (-1)) → (p = -1 ∨ (pnl σ p ∧ σ 111 p.toNatClampNeg = 0)) → zj0_glaze_64 f K h1 (some x) (nI oo) p (whC σ (nI oo)) := by
      intro σ1 h1 hh1 hW1 hn1 e hp
      have kk := kk oo ho rfl hp
      unfold glC at kk
      rw [← e] at kk
      unfold zj0_glaze_64
      by_cases c1 : p = -1
      · rw [if_pos c1] at kk ⊢
        exact kk h1 hh1
      · rw [if_neg c1] at kk ⊢
        obtain ⟨pp, hpp, rfl⟩ := pnl_nat (hp.resolve_left c1).1
        rw [nI_clamp (by omega)] at kk
        simp only [zcQ hh1, C_pa hh1 (by rw [hn1]; exact hn) (show pp < nP σ1 by rw [hn1]; exact hpp)]
        exact C_p110 hW1 hh1 (by rw [hn1]; exact hpp) kk
    have loop : (p = -1 ∨ (pnl σ p ∧ σ 111 p.toNatClampNeg = 0)) → zj0_glaze_43 f K h (some x) (nI oo) p := by
      intro hp
      unfold zj0_glaze_43
      simp only [zcQ hh, C_whoIn hf hW hh]
      rcases whC_or σ (nI oo) with z | ⟨q, q1, q2, -⟩
      · rw [if_pos z]
        exact put σ h hh hW rfl (by rw [if_pos z]) hp
      · have nq : ¬ whC σ (nI oo) = -1 := by rw [q2]; exact nIn1 (by omega)
        rw [if_neg nq]
        have kq : (aldR h (some (ca 0)) 4 (whC σ (nI oo)) fun r11 => pf h r11 [1, 2, 3, 4, 5, 6] 3 (.int (-1)) fun h12 => zj0_glaze_64 f K h12 (some x) (nI oo) p (whC σ (nI oo))) := by
          have e : aldR h (some (ca 0)) 4 (whC σ (nI oo)) = aldR h (some (ca 0)) 4 (nI q) := by rw [q2]
          rw [e, C_pa hh hn q1]
          refine C_p110 hW hh q1 fun h2 hh2 => ?_
          refine put _ h2 hh2 (WS_of hW fun k hk => mup_k (by intro z; rw [z] at hk; revert hk; decide)) (by unfold nP; rw [mup_k (by decide)]) ?_ hp
          rw [if_neg nq, q2, nI_clamp (by omega)]
        exact kq
    by_cases c1 : p = -1
    · rw [if_pos c1, if_pos c1]
      exact loop (Or.inl c1)
    · rw [if_neg c1]
      by_cases cp : pnl σ p
      · rw [if_pos cp, if_neg c1]
        obtain ⟨pp, hpp, rfl⟩ := pnl_nat cp
        rw [nI_clamp (by omega)] at k3 loop
        simp only [C_pa hh hn hpp, C_pI hh hpp (kc6 hW (by omega)) (k := 4) rfl]
        rcases hB pp hpp with z | z
        · rw [if_pos z]
          exact loop (Or.inr ⟨cp, z⟩)
        · rw [if_neg (by rw [z]; decide)]
          exact k3 co cp z
      · rw [if_neg cp]
        exact k0 (Or.inr (fun z => z.elim c1 cp))
  · rw [if_neg co]
    exact k0 (Or.inl co)
theorem C_spilt (hf : 400 ≤ f) (hW : WS σ) (hh : Ch sa x ca Md b0 G pa rw σ h) {p : Nat} (hp : p < nP σ) (kk : K (spC σ p) h) : zf0_spilt f h (some x) (nI p) K := by
  have hn := (nP_eq hW).2
  have hkc := kc6 hW (p := p) (by omega)
  unfold spC at kk
  have go : ∀ (j i g : Nat) (a : Int32), i + j = 4 → j < g → K (fo (fun i a => a ||| (if sp σ p < aabs (nI i - σ 110 p) then 0 else ((1 : Int32) <<< (nI i &&& 31)))) j i a) h → zl0_spilt_4 f K g h (some x) (nI p) a (nI i) := by
    intro j
    induction j with
    | zero =>
      intro i g a h1 h2 kk
      obtain ⟨g, rfl⟩ : ∃ g', g = g' + 1 := ⟨g - 1, by omega⟩
      show zb0_spilt_4 f K (zl0_spilt_4 f K g) h (some x) (nI p) a (nI i)
      unfold zb0_spilt_4
      have e : i = 4 := by omega
      subst e
      rw [if_neg (by decide)]
      exact kk
    | succ j ih =>
      intro i g a h1 h2 kk
      obtain ⟨g, rfl⟩ : ∃ g', g = g' + 1 := ⟨g - 1, by omega⟩
      show zb0_spilt_4 f K (zl0_spilt_4 f K g) h (some x) (nI p) a (nI i)
      unfold zb0_spilt_4 zj0_spilt_43
      rw [if_pos (show nI i < 4 from (nI_ltI (b := 4) (by omega) (by omega)).mpr (by omega))]
      simp only [zcQ hh, C_pa hh hn hp, C_pI hh hp hkc (k := 3) rfl]
      intro y hy
      rw [aabs_m hy]
      refine C_spills hW hh hp ?_
      simp only [nm_eq, nI_1]
      have ih := ih (i + 1) g (a ||| (if sp σ p < aabs (nI i - σ 110 p) then 0 else ((1 : Int32) <<< (nI i &&& 31)))) (by omega) (by omega) kk
      by_cases c : sp σ p < aabs (nI i - σ 110 p)
      · rw [if_pos c] at ih ⊢; exact ih
      · rw [if_neg c] at ih ⊢; exact ih
  exact go 4 0 f 0 rfl (by omega) kk
theorem D_stone (hf : 400 ≤ f) (hW : WS σ) (hB : WB σ) (hh : Ch sa x ca Md b0 G pa rw σ h) {o : Int32} (k0 : ¬ opn o → K (-2) h) (k3 : ∀ oo : Nat, oo < 4 → o = nI oo → whC σ o = -1 ∨ σ 111 (whC σ o).toNatClampNeg = 1 → K (-3) h) (kk : ∀ oo p : Nat, oo < 4 → o = nI oo → p < nP σ → whC σ o = nI p → σ 111 p = 0 → ∀ h', Ch sa x ca Md b0 G pa rw (mup σ 111 p 1) h' → K (spC σ p) h') : zf0_stone f h (some x) o K := by
  have hn := (nP_eq hW).2
  unfold zf0_stone
  simp only [zcQ hh, q_op0, C_whoIn hf hW hh, ite10, ifn]
  by_cases co : opn o
  · rw [if_pos co]
    obtain ⟨oo, ho, rfl⟩ := opn_nat co
    rcases whC_or σ (nI oo) with z | ⟨q, q1, q2, -⟩
    · rw [if_pos z]
      exact k3 oo ho rfl (Or.inl z)
    · rw [q2] at k3 ⊢
      rw [if_neg (nIn1 (by omega))]
      rw [nI_clamp (by omega)] at k3
      simp only [C_pa hh hn q1, C_pI hh q1 (kc6 hW (by omega)) (k := 4) rfl]
      rcases hB q q1 with z | z
      · rw [if_pos z]
        refine C_p111 hW hh q1 fun h' hh' => ?_
        simp only [zcQ hh']
        have en : nP (mup σ 111 q 1) = nP σ := by unfold nP; rw [mup_k (by decide)]
        refine C_spilt hf (WS_of hW fun k hk => mup_k (by intro z; rw [z] at hk; revert hk; decide)) hh' (by rw [en]; exact q1) ?_
        have e : spC (mup σ 111 q 1) q = spC σ q := rfl
        rw [e]
        exact kk oo q ho rfl q1 q2 z h' hh'
      · rw [if_neg (by rw [z]; decide)]
        exact k3 oo ho rfl (Or.inr z)
  · rw [if_neg co]
    exact k0 co
theorem D_force (hW : WS σ) (hh : Ch sa x ca Md b0 G pa rw σ h) {a : Int32} (k0 : ¬ (0 ≤ a.toInt ∧ a.toInt ≤ ((σ 3 0).toNatClampNeg : Int) - 1) → K (-2) h) (kk : (0 ≤ a.toInt ∧ a.toInt ≤ ((σ 3 0).toNatClampNeg : Int) - 1) → ∀ h', Ch sa x ca Md b0 G pa rw (mup σ 4 0 a) h' → K (σ 4 0) h') : zf0_force f h (some x) a K := by
  obtain ⟨-, ⟨c, r, hc, h3, -⟩, -⟩ := hW
  have e : ((σ 3 0).toNatClampNeg : Int) = c := by rw [h3, nI_clamp (by omega)]
  unfold zf0_force zf0_isText
  simp only [zcQ hh]
  rw [e] at k0 kk
  rw [h3, q_inC 0 ((c : Int) - 1) (by decide) (nI_pr (by omega)), zbl_ite, true_and]
  simp only [zcQ hh, ite10, ifn]
  by_cases cc : 0 ≤ a.toInt ∧ a.toInt ≤ (c : Int) - 1
  · rw [if_pos cc]
    exact C_pf hh (show (21, 4) ∈ csc by decide) (fun κ a => agr_mup a (by decide) (by decide) (by decide)) (sameP_mup (by decide)) (kk cc)
  · rw [if_neg cc]
    exact k0 cc
theorem D_light (hW : WS σ) (hh : Ch sa x ca Md b0 G pa rw σ h) {p o hr : Int32} (kk : ∀ h', Ch sa x ca Md b0 G pa rw σ h' → K (if pnl σ p ∧ (0 ≤ o.toInt ∧ o.toInt ≤ 4) ∧ (0 ≤ hr.toInt ∧ hr.toInt ≤ 7) then lt G σ p.toNatClampNeg o hr else -2) h') : zf0_light f h (some x) p o hr K := by
  have hn := (nP_eq hW).2
  unfold zf0_light
  simp only [zcQ hh, C_isPane hW hh, ite10, ifn]
  by_cases c1 : pnl σ p
  · rw [if_pos c1, q_inC 0 4 (by decide) (by decide)]
    simp only [ite10, ifn]
    by_cases c2 : 0 ≤ o.toInt ∧ o.toInt ≤ 4
    · rw [if_pos c2, q_inC 0 7 (by decide) (by decide)]
      simp only [zcQ hh, ite10, ifn]
      by_cases c3 : 0 ≤ hr.toInt ∧ hr.toInt ≤ 7
      · rw [if_pos c3]
        rw [if_pos ⟨c1, c2, c3⟩] at kk
        obtain ⟨pp, hp, rfl⟩ := pnl_nat c1
        rw [nI_clamp (by omega)] at kk
        exact C_lightOf hW hh hp kk
      · rw [if_neg c3]
        rw [if_neg (fun z => c3 z.2.2)] at kk
        exact kk h hh
    · rw [if_neg c2]
      rw [if_neg (fun z => c2 z.2.1)] at kk
      exact kk h hh
  · rw [if_neg c1]
    rw [if_neg (fun z => c1 z.1)] at kk
    exact kk h hh
end D1
