/-! THE CLASS's CALLS: tells, as called -/
set_option maxRecDepth 100000
/-- the places where P holds, as bits -/
def btC (P : Nat → Bool) (n : Nat) : Int32 := fo (fun v a => a ||| (if P v = true then (1 : Int32) <<< (nI v &&& 31) else 0)) n 0 0
def ctC (P : Nat → Bool) (n : Nat) : Int32 := fo (fun v a => if P v = true then a + 1 else a) n 0 0
def teC (G : TG) (σ : ST) (s : Nat) (o : Int32) (w : Nat) : Int32 :=
  if w = 0 then btC (fun p => decide (foS G σ s p o = -1)) (nP σ) else if w < 20 then foS G σ s (w % 10) o else if w < 30 then btC (hit G σ s (w % 10) o 5) 6 else if w < 40 then btC (hit G σ s (w % 10) o 2) 10 else if w < 50 then btC (hit G σ s (w % 10) o 4) 10 else if w < 60 then ctC (hit G σ s (w % 10) o 3) 365 else if w < 70 then fi (hit G σ s (w % 10) o 3) 365 0 else btC (hit G σ s (w % 10) o 6) (σ 3 0).toNatClampNeg
section TS2
variable {f : Nat} {sa : Nat → Nat} {x : Nat} {ca : Nat → Nat} {Md : Nat → Prop} {b0 : zH} {G : TG} {pa : Nat → Nat} {rw : Nat → Option Nat} {σ : ST} {h : zH} {K : Int32 → zH → Prop}
theorem toC_j {p j : Nat} (hp : p < nP σ) (hn : nP σ ≤ 6) (hj : 2 ≤ j) (hj4 : j ≤ 4) : toC G σ (nI p) (nI j) = laysV σ j p := by
  have hpl : pnl σ (nI p) := ⟨by rw [nI_toInt (by omega)]; omega, by rw [nI_toInt (by omega)]; omega⟩
  have hj3 : j = 2 ∨ j = 3 ∨ j = 4 := by omega
  unfold toC laysV
  rcases hj3 with rfl | rfl | rfl
  · rw [if_neg (by decide), if_neg (by decide), if_neg (by decide), if_neg (by decide), if_pos (by decide), if_pos hpl, nI_clamp (by omega), if_pos (by decide)]
    unfold tpC
    rw [if_pos (by decide)]
    rfl
  · rw [if_neg (by decide), if_neg (by decide), if_neg (by decide), if_neg (by decide), if_pos (by decide), if_pos hpl, nI_clamp (by omega), if_pos (by decide)]
    unfold tpC
    rw [if_neg (by decide), if_pos (by decide)]
  · rw [if_neg (by decide), if_neg (by decide), if_neg (by decide), if_neg (by decide), if_pos (by decide), if_pos hpl, nI_clamp (by omega), if_pos (by decide)]
    unfold tpC
    rw [if_neg (by decide), if_neg (by decide), if_pos (by decide)]
theorem C_soBy (hf : 400 ≤ f) (hW : WS σ) (hH : WH σ) (hB : WB σ) (hh : Ch sa x ca Md b0 G pa rw σ h) {s p j v : Nat} (hs : s < 4) (hp : p < nP σ) (h1 : σ 45 s = 1) (h8 : σ 47 s = 8) (hj : 2 ≤ j) (hj4 : j ≤ 4) {o : Int32} {mc ms : Nat} (kk : ∀ h', Ch sa x ca Md b0 G pa rw σ h' → K (if hit G σ s p o j v = true then 1 else 0) h') : zf0_isSoBy f h mc ms (some x) (rw s) (nI p) o (nI j) (nI v) K := by
  have hn := (nP_eq hW).2
  unfold zf0_isSoBy
  simp only [zcQ hh]
  refine C_told hf hW hB hh fun h2 hh2 => ?_
  rw [toC_j hp hn hj hj4]
  simp only [zcQ hh2]
  refine C_becomes (v := nI v) hW hh2 hj4 (fun z => by omega) (fun _ => ⟨rfl, hp⟩) fun h4 hh4 => ?_
  have hWv : WS (laysS σ j p (nI v)) := WS_lays hW hj (by omega) (fun z => by omega) (fun z => by omega)
  have k45 : laysS σ j p (nI v) 45 = σ 45 := lays_k (by decide) (by decide) (by decide) (by decide) (by decide)
  have k46 : laysS σ j p (nI v) 46 = σ 46 := lays_k (by decide) (by decide) (by decide) (by decide) (by decide)
  have k47 : laysS σ j p (nI v) 47 = σ 47 := lays_k (by decide) (by decide) (by decide) (by decide) (by decide)
  have k13 : laysS σ j p (nI v) 13 = σ 13 := lays_k (by decide) (by decide) (by decide) (by decide) (by decide)
  have enp : nP (laysS σ j p (nI v)) = nP σ := by unfold nP; rw [k13]
  refine ⟨0, 0, Nat.zero_le _, Nat.zero_le _, ?_⟩
  simp only [zcQ hh4]
  refine C_other hf hWv (WH_of hH k45 k46 k47) hh4 hs (by rw [enp]; exact hp) (by rw [k45]; exact h1) (by rw [k47]; exact h8) fun h6 hh6 => ?_
  have go : ∀ r : Int32, (r = 0 ∨ r = 1) → r = (if hit G σ s p o j v = true then 1 else 0) → ∀ m1 m2, zj0_isSoBy_34 f K h6 m1 m2 (some x) (nI p) (nI j) (laysV σ j p) r := by
    intro r hr hr2 m1 m2
    unfold zj0_isSoBy_34
    simp only [zcQ hh6]
    refine C_becomes (v := laysV σ j p) hWv hh6 hj4 (fun z => by omega) (fun _ => ⟨rfl, by rw [enp]; exact hp⟩) fun h7 hh7 => ⟨hr, ?_⟩
    rw [lays_lays σ hj, lays_self σ hj] at hh7
    rw [hr2]
    exact kk h7 hh7
  rw [foS_b]
  by_cases c : hit G σ s p o j v = true
  · rw [if_pos c]; exact go 1 (Or.inr rfl) (by rw [if_pos c]) _ _
  · rw [if_neg c]; exact go 0 (Or.inl rfl) (by rw [if_neg c]) _ _
theorem C_kinds (hf : 400 ≤ f) (hW : WS σ) (hH : WH σ) (hB : WB σ) (hh : Ch sa x ca Md b0 G pa rw σ h) {s p : Nat} (hs : s < 4) (hp : p < nP σ) (h1 : σ 45 s = 1) (h8 : σ 47 s = 8) {o : Int32} {mc ms : Nat} (hmc : 6 ≤ mc) (hms : 30 ≤ ms) (kk : ∀ h', Ch sa x ca Md b0 G pa rw σ h' → K (btC (hit G σ s p o 5) 6) h') : zf0_kindsOf f h mc ms (some x) (rw s) (nI p) o K := by
  unfold zf0_kindsOf
  have go : ∀ (j k g mc ms : Nat) (h : zH) (a : Int32), k + j = 6 → j < g → j ≤ mc → 5 * j ≤ ms → Ch sa x ca Md b0 G pa rw σ h → (∀ h', Ch sa x ca Md b0 G pa rw σ h' → K (fo (fun v a => a ||| (if hit G σ s p o 5 v = true then (1 : Int32) <<< (nI v &&& 31) else 0)) j k a) h') → zl0_kindsOf_6 f K g h mc ms (some x) (rw s) (nI p) o a (nI k) := by
    intro j
    induction j with
    | zero =>
      intro k g mc ms h a e1 e2 e3 e4 hh kk
      obtain ⟨g, rfl⟩ : ∃ g', g = g' + 1 := ⟨g - 1, by omega⟩
      show zb0_kindsOf_6 f K (zl0_kindsOf_6 f K g) h mc ms (some x) (rw s) (nI p) o a (nI k)
      unfold zb0_kindsOf_6
      rw [if_neg (show ¬ nI _ < 6 from fun z => by have := (nI_ltI (b := 6) (by omega) (by omega)).mp z; omega)]
      exact kk h hh
    | succ j ih =>
      intro k g mc ms h a e1 e2 e3 e4 hh kk
      obtain ⟨g, rfl⟩ : ∃ g', g = g' + 1 := ⟨g - 1, by omega⟩
      show zb0_kindsOf_6 f K (zl0_kindsOf_6 f K g) h mc ms (some x) (rw s) (nI p) o a (nI k)
      unfold zb0_kindsOf_6
      rw [if_pos (show nI _ < 6 from (nI_ltI (b := 6) (by omega) (by omega)).mpr (by omega))]
      refine ⟨1, 5, by omega, by omega, ?_⟩
      simp only [zcQ hh]
      refine C_soAs hf hW hH hB hh hs hp h1 h8 (by omega) (by decide) (by decide) fun h2 hh2 => ?_
      have nx : ∀ b : Int32, b = (if hit G σ s p o 5 k = true then (1 : Int32) <<< (nI k &&& 31) else 0) → zj0_kindsOf_35 f (zl0_kindsOf_6 f K g) K h2 (mc - 1) (ms - 5) (some x) (rw s) (nI p) o (nI k) b a := by
        intro b hb
        unfold zj0_kindsOf_35
        simp only [nm_eq, nI_1]
        refine ih (k + 1) g _ _ h2 _ (by omega) (by omega) (by omega) (by omega) hh2 ?_
        rw [hb]
        exact kk
      by_cases c : hit G σ s p o 5 k = true
      · rw [if_pos c, if_neg (by decide)]; exact nx _ (by rw [if_pos c])
      · rw [if_neg c, if_pos rfl]; exact nx _ (by rw [if_neg c])
  exact go 6 0 f mc ms h 0 (by omega) (by omega) (by omega) (by omega) hh kk
theorem C_digits (hf : 400 ≤ f) (hW : WS σ) (hH : WH σ) (hB : WB σ) (hh : Ch sa x ca Md b0 G pa rw σ h) {s p j : Nat} (hs : s < 4) (hp : p < nP σ) (h1 : σ 45 s = 1) (h8 : σ 47 s = 8) (hj : 2 ≤ j) (hj4 : j ≤ 4) {o : Int32} {mc ms : Nat} (kk : ∀ h', Ch sa x ca Md b0 G pa rw σ h' → K (btC (hit G σ s p o j) 10) h') : zf0_digitsBy f h mc ms (some x) (rw s) (nI p) o (nI j) K := by
  unfold zf0_digitsBy
  have go : ∀ (i k g mc ms : Nat) (h : zH) (a : Int32), k + i = 10 → i < g → Ch sa x ca Md b0 G pa rw σ h → (∀ h', Ch sa x ca Md b0 G pa rw σ h' → K (fo (fun v a => a ||| (if hit G σ s p o j v = true then (1 : Int32) <<< (nI v &&& 31) else 0)) i k a) h') → zl0_digitsBy_6 f K g h mc ms (some x) (rw s) (nI p) o (nI j) a (nI k) := by
    intro i
    induction i with
    | zero =>
      intro k g mc ms h a e1 e2 hh kk
      obtain ⟨g, rfl⟩ : ∃ g', g = g' + 1 := ⟨g - 1, by omega⟩
      show zb0_digitsBy_6 f K (zl0_digitsBy_6 f K g) h mc ms (some x) (rw s) (nI p) o (nI j) a (nI k)
      unfold zb0_digitsBy_6
      rw [if_pos (show 9 < nI _ from (nI_ltI (a := 9) (by omega) (by omega)).mpr (by omega))]
      exact kk h hh
    | succ i ih =>
      intro k g mc ms h a e1 e2 hh kk
      obtain ⟨g, rfl⟩ : ∃ g', g = g' + 1 := ⟨g - 1, by omega⟩
      show zb0_digitsBy_6 f K (zl0_digitsBy_6 f K g) h mc ms (some x) (rw s) (nI p) o (nI j) a (nI k)
      unfold zb0_digitsBy_6
      rw [if_neg (show ¬ 9 < nI _ from fun z => by have := (nI_ltI (a := 9) (by omega) (by omega)).mp z; omega)]
      refine ⟨0, 0, Nat.zero_le _, Nat.zero_le _, ?_⟩
      simp only [zcQ hh]
      refine C_soBy hf hW hH hB hh hs hp h1 h8 hj hj4 fun h2 hh2 => ?_
      have nx : ∀ b : Int32, b = (if hit G σ s p o j k = true then (1 : Int32) <<< (nI k &&& 31) else 0) → zj0_digitsBy_37 f (zl0_digitsBy_6 f K g) K h2 (mc - 0) (ms - 0) (some x) (rw s) (nI p) o (nI j) (nI k) b a := by
        intro b hb
        unfold zj0_digitsBy_37
        simp only [nm_eq, nI_1]
        refine ih (k + 1) g _ _ h2 _ (by omega) (by omega) hh2 ?_
        rw [hb]
        exact kk
      by_cases c : hit G σ s p o j k = true
      · rw [if_pos c, if_neg (by decide)]; exact nx _ (by rw [if_pos c])
      · rw [if_neg c, if_pos rfl]; exact nx _ (by rw [if_neg c])
  exact go 10 0 f mc ms h 0 (by omega) (by omega) hh kk
theorem C_days (hf : 400 ≤ f) (hW : WS σ) (hH : WH σ) (hB : WB σ) (hh : Ch sa x ca Md b0 G pa rw σ h) {s p : Nat} (hs : s < 4) (hp : p < nP σ) (h1 : σ 45 s = 1) (h8 : σ 47 s = 8) {o fst : Int32} {mc ms : Nat} (kk : ∀ h', Ch sa x ca Md b0 G pa rw σ h' → K (if fst = 0 then ctC (hit G σ s p o 3) 365 else fi (hit G σ s p o 3) 365 0) h') : zf0_daysBy f h mc ms (some x) (rw s) (nI p) o fst K := by
  unfold zf0_daysBy
  have go : ∀ (i k g mc ms : Nat) (h : zH) (a : Int32), k + i = 365 → i < g → Ch sa x ca Md b0 G pa rw σ h → (∀ h', Ch sa x ca Md b0 G pa rw σ h' → K (if fst = 0 then fo (fun v a => if hit G σ s p o 3 v = true then a + 1 else a) i k a else fi (hit G σ s p o 3) i k) h') → zl0_daysBy_6 f K g h mc ms (some x) (rw s) (nI p) o fst a (nI k) := by
    intro i
    induction i with
    | zero =>
      intro k g mc ms h a e1 e2 hh kk
      obtain ⟨g, rfl⟩ : ∃ g', g = g' + 1 := ⟨g - 1, by omega⟩
      show zb0_daysBy_6 f K (zl0_daysBy_6 f K g) h mc ms (some x) (rw s) (nI p) o fst a (nI k)
      unfold zb0_daysBy_6
      rw [if_neg (show ¬ nI _ < 365 from fun z => by have := (nI_ltI (b := 365) (by omega) (by omega)).mp z; omega)]
      have kk := kk h hh
      by_cases c : fst = 0
      · rw [if_pos c] at kk ⊢; exact kk
      · rw [if_neg c] at kk ⊢; exact kk
    | succ i ih =>
      intro k g mc ms h a e1 e2 hh kk
      obtain ⟨g, rfl⟩ : ∃ g', g = g' + 1 := ⟨g - 1, by omega⟩
      show zb0_daysBy_6 f K (zl0_daysBy_6 f K g) h mc ms (some x) (rw s) (nI p) o fst a (nI k)
      unfold zb0_daysBy_6
      rw [if_pos (show nI _ < 365 from (nI_ltI (b := 365) (by omega) (by omega)).mpr (by omega))]
      refine ⟨0, 0, Nat.zero_le _, Nat.zero_le _, ?_⟩
      simp only [zcQ hh]
      refine C_soBy (j := 3) hf hW hH hB hh hs hp h1 h8 (by decide) (by decide) fun h2 hh2 => ?_
      have nx : ∀ b : Int32, (∀ h', Ch sa x ca Md b0 G pa rw σ h' → K (if fst = 0 then fo (fun v a => if hit G σ s p o 3 v = true then a + 1 else a) i (k + 1) b else fi (hit G σ s p o 3) i (k + 1)) h') → zj0_daysBy_38 f (zl0_daysBy_6 f K g) K h2 (mc - 0) (ms - 0) (some x) (rw s) (nI p) o fst b (nI k) := by
        intro b hb
        unfold zj0_daysBy_38
        simp only [nm_eq, nI_1]
        exact ih (k + 1) g _ _ h2 _ (by omega) (by omega) hh2 hb
      by_cases c : hit G σ s p o 3 k = true
      · have e1' : fo (fun v a => if hit G σ s p o 3 v = true then a + 1 else a) (i + 1) k a = fo (fun v a => if hit G σ s p o 3 v = true then a + 1 else a) i (k + 1) (a + 1) := by
          show fo _ i (k + 1) (if hit G σ s p o 3 k = true then a + 1 else a) = _
          rw [if_pos c]
        have e2' : fi (hit G σ s p o 3) (i + 1) k = nI k := by
          show (if hit G σ s p o 3 k = true then nI k else fi (hit G σ s p o 3) i (k + 1)) = _
          rw [if_pos c]
        rw [e1', e2'] at kk
        rw [if_pos c, if_neg (by decide)]
        by_cases c0 : fst = 0
        · rw [if_pos c0]
          simp only [nm_eq]
          refine nx _ fun h' hh' => ?_
          have := kk h' hh'
          rw [if_pos c0] at this ⊢
          exact this
        · rw [if_neg c0]
          have := kk h2 hh2
          rw [if_neg c0] at this
          exact this
      · have e1' : fo (fun v a => if hit G σ s p o 3 v = true then a + 1 else a) (i + 1) k a = fo (fun v a => if hit G σ s p o 3 v = true then a + 1 else a) i (k + 1) a := by
          show fo _ i (k + 1) (if hit G σ s p o 3 k = true then a + 1 else a) = _
          rw [if_neg c]
        have e2' : fi (hit G σ s p o 3) (i + 1) k = fi (hit G σ s p o 3) i (k + 1) := by
          show (if hit G σ s p o 3 k = true then nI k else fi (hit G σ s p o 3) i (k + 1)) = _
          rw [if_neg c]
        rw [e1', e2'] at kk
        rw [if_neg c, if_pos rfl]
        exact nx a kk
  exact go 365 0 f mc ms h 0 (by omega) (by omega) hh kk
theorem C_texts (hf : 400 ≤ f) (hW : WS σ) (hH : WH σ) (hh : Ch sa x ca Md b0 G pa rw σ h) {s p : Nat} (hs : s < 4) (hp : p < nP σ) (h1 : σ 45 s = 1) (h8 : σ 47 s = 8) {o : Int32} {mc ms : Nat} (kk : ∀ h', Ch sa x ca Md b0 G pa rw σ h' → K (btC (hit G σ s p o 6) (σ 3 0).toNatClampNeg) h') : zf0_textsOf f h mc ms (some x) (rw s) (nI p) o K := by
  obtain ⟨-, ⟨c, r, hc, e3, hr, e4⟩, -⟩ := id hW
  have ec : (σ 3 0).toNatClampNeg = c := by rw [e3, nI_clamp (by omega)]
  rw [ec] at kk
  unfold zf0_textsOf
  simp only [zcQ hh]
  have set : ∀ {h : zH} {v w : Int32} {P : zH → Prop}, Ch sa x ca Md b0 G pa rw (mup σ 4 0 v) h → (∀ h', Ch sa x ca Md b0 G pa rw (mup σ 4 0 w) h' → P h') → pf h (some x) [0] 21 (.int w) P := by
    intro h v w P hh kk
    refine C_pf (k := 21) (q := 4) (σ' := mup σ 4 0 w) hh (by decide) (fun κ a => ?_) ⟨rfl, fun _ _ => rfl, fun _ _ => ⟨rfl, fun _ => ⟨rfl, rfl, fun _ _ => rfl⟩⟩, rfl⟩ kk
    have := agr_mup (q := 4) (i := 0) (v := w) a (by decide) (by decide) (by decide)
    rw [mup_mup] at this
    exact this
  have self : mup σ 4 0 (σ 4 0) = σ := mup_id σ 4 0 _ rfl
  have go : ∀ (i k g mc ms : Nat) (h : zH) (a v : Int32), k + i = c → i < g → Ch sa x ca Md b0 G pa rw (mup σ 4 0 v) h → (∀ h', Ch sa x ca Md b0 G pa rw σ h' → K (fo (fun v a => a ||| (if hit G σ s p o 6 v = true then (1 : Int32) <<< (nI v &&& 31) else 0)) i k a) h') → zl0_textsOf_12 f K g h mc ms (some x) (rw s) (nI p) o (σ 4 0) a (nI k) := by
    intro i
    induction i with
    | zero =>
      intro k g mc ms h a v e1 e2 hh kk
      obtain ⟨g, rfl⟩ : ∃ g', g = g' + 1 := ⟨g - 1, by omega⟩
      show zb0_textsOf_12 f K (zl0_textsOf_12 f K g) h mc ms (some x) (rw s) (nI p) o (σ 4 0) a (nI k)
      unfold zb0_textsOf_12
      simp only [zcQ hh]
      rw [show mup σ 4 0 v 3 0 = nI c from e3, if_neg (fun z => by have := (nI_ltI (by omega) (by omega)).mp z; omega)]
      refine set hh fun h' hh' => ?_
      rw [self] at hh'
      exact kk h' hh'
    | succ i ih =>
      intro k g mc ms h a v e1 e2 hh kk
      obtain ⟨g, rfl⟩ : ∃ g', g = g' + 1 := ⟨g - 1, by omega⟩
      show zb0_textsOf_12 f K (zl0_textsOf_12 f K g) h mc ms (some x) (rw s) (nI p) o (σ 4 0) a (nI k)
      unfold zb0_textsOf_12
      simp only [zcQ hh]
      rw [show mup σ 4 0 v 3 0 = nI c from e3, if_pos ((nI_ltI (by omega) (by omega)).mpr (by omega))]
      refine set hh fun h1' hh1 => ?_
      refine ⟨0, 0, Nat.zero_le _, Nat.zero_le _, ?_⟩
      simp only [zcQ hh1]
      have hW6 : WS (mup σ 4 0 (nI k)) := by
        have := WS_lays (p := p) (v := nI k) hW (j := 6) (by decide) (by decide) (fun z => absurd z (by decide)) (fun _ => ⟨k, by rw [ec]; omega, rfl⟩)
        rw [lays6] at this
        exact this
      refine C_other hf hW6 (WH_of hH rfl rfl rfl) hh1 hs hp h1 h8 fun h2 hh2 => ?_
      have nx : ∀ b : Int32, b = (if hit G σ s p o 6 k = true then (1 : Int32) <<< (nI k &&& 31) else 0) → zj0_textsOf_48 f (zl0_textsOf_12 f K g) K h2 (mc - 0) (ms - 0) (some x) (rw s) (nI p) o (σ 4 0) (nI k) b a := by
        intro b hb
        unfold zj0_textsOf_48
        simp only [nm_eq, nI_1]
        refine ih (k + 1) g _ _ h2 _ _ (by omega) (by omega) hh2 ?_
        rw [hb]
        exact kk
      have eh : ∀ {A B : Prop}, (if foS G (mup σ 4 0 (nI k)) s p o = -1 then A else B) = (if hit G σ s p o 6 k = true then A else B) := fun {A B} => foS_b (j := 6)
      rw [eh]
      by_cases c : hit G σ s p o 6 k = true
      · rw [if_pos c]; exact nx _ (by rw [if_pos c])
      · rw [if_neg c]; exact nx _ (by rw [if_neg c])
  exact go c 0 f mc ms h 0 (σ 4 0) (by omega) (by omega) (by rw [self]; exact hh) kk
theorem C_panesOf (hf : 400 ≤ f) (hW : WS σ) (hH : WH σ) (hh : Ch sa x ca Md b0 G pa rw σ h) {s : Nat} (hs : s < 4) (h1 : σ 45 s = 1) (h8 : σ 47 s = 8) {o : Int32} {mc ms : Nat} (kk : ∀ h', Ch sa x ca Md b0 G pa rw σ h' → K (btC (fun p => decide (foS G σ s p o = -1)) (nP σ)) h') : zf0_panesOf f h mc ms (some x) (rw s) o K := by
  have e13 := (nP_eq hW).1
  have hn := (nP_eq hW).2
  unfold zf0_panesOf
  have go : ∀ (i k g mc ms : Nat) (h : zH) (a : Int32), k + i = nP σ → i < g → Ch sa x ca Md b0 G pa rw σ h → (∀ h', Ch sa x ca Md b0 G pa rw σ h' → K (fo (fun v a => a ||| (if decide (foS G σ s v o = -1) = true then (1 : Int32) <<< (nI v &&& 31) else 0)) i k a) h') → zl0_panesOf_5 f K g h mc ms (some x) (rw s) o a (nI k) := by
    intro i
    induction i with
    | zero =>
      intro k g mc ms h a e1 e2 hh kk
      obtain ⟨g, rfl⟩ : ∃ g', g = g' + 1 := ⟨g - 1, by omega⟩
      show zb0_panesOf_5 f K (zl0_panesOf_5 f K g) h mc ms (some x) (rw s) o a (nI k)
      unfold zb0_panesOf_5
      simp only [zcQ hh]
      rw [e13, if_neg (fun z => by have := (nI_ltI (by omega) (by omega)).mp z; omega)]
      exact kk h hh
    | succ i ih =>
      intro k g mc ms h a e1 e2 hh kk
      obtain ⟨g, rfl⟩ : ∃ g', g = g' + 1 := ⟨g - 1, by omega⟩
      show zb0_panesOf_5 f K (zl0_panesOf_5 f K g) h mc ms (some x) (rw s) o a (nI k)
      unfold zb0_panesOf_5
      simp only [zcQ hh]
      rw [e13, if_pos ((nI_ltI (by omega) (by omega)).mpr (by omega))]
      refine ⟨0, 0, Nat.zero_le _, Nat.zero_le _, ?_⟩
      refine C_other hf hW hH hh hs (by omega) h1 h8 fun h2 hh2 => ?_
      have nx : ∀ b : Int32, b = (if decide (foS G σ s k o = -1) = true then (1 : Int32) <<< (nI k &&& 31) else 0) → zj0_panesOf_35 f (zl0_panesOf_5 f K g) K h2 (mc - 0) (ms - 0) (some x) (rw s) o (nI k) b a := by
        intro b hb
        unfold zj0_panesOf_35
        simp only [nm_eq, nI_1]
        refine ih (k + 1) g _ _ h2 _ (by omega) (by omega) hh2 ?_
        rw [hb]
        exact kk
      by_cases c : foS G σ s k o = -1
      · rw [if_pos c]; exact nx _ (by rw [if_pos (decide_eq_true c)])
      · rw [if_neg c]; exact nx _ (by rw [if_neg (fun z => c (of_decide_eq_true z))])
  exact go (nP σ) 0 f mc ms h 0 (by omega) (by omega) hh kk
theorem D_tells (hf : 400 ≤ f) (hW : WS σ) (hH : WH σ) (hB : WB σ) (hh : Ch sa x ca Md b0 G pa rw σ h) {mc ms : Nat} (hmc : 8 ≤ mc) (hms : 2000 ≤ ms) {s o what : Int32} (k0 : ¬ teOk σ s o what → K (-2) h) (k11 : ∀ sn : Nat, sn < 4 → s = nI sn → teOk σ s o what → σ 45 sn = 0 → K (-11) h) (k8 : ∀ sn : Nat, sn < 4 → s = nI sn → teOk σ s o what → σ 45 sn = 1 → ¬ σ 47 sn = 8 → K (-2) h) (kk : ∀ sn w : Nat, sn < 4 → s = nI sn → what = nI w → (w = 0 ∨ 10 ≤ w ∧ w ≤ 79 ∧ w % 10 < nP σ) → teOk σ s o what → σ 45 sn = 1 → σ 47 sn = 8 → ∀ h', Ch sa x ca Md b0 G pa rw σ h' → K (teC G σ sn o w) h') : zf0_tells f h mc ms (some x) s o what K := by
  have hn := (nP_eq hW).2
  unfold zf0_tells
  rw [q_sh0]
  simp only [ite10, ifn]
  by_cases c1 : 0 ≤ s.toInt ∧ s.toInt ≤ 3
  · rw [if_pos c1, q_op0]
    simp only [ite10, ifn]
    by_cases c2 : 0 ≤ o.toInt ∧ o.toInt ≤ 3
    · rw [if_pos c2]
      obtain ⟨sn, hsn, -, rfl, -⟩ := nI_bt (x := s) (u := 3) c1
      have hsn : sn < 4 := by omega
      have go : ∀ w : Nat, what = nI w → (w = 0 ∨ 10 ≤ w ∧ w ≤ 79 ∧ w % 10 < nP σ) → teOk σ (nI sn) o what → zj0_tells_46 f K h mc ms (some x) (nI sn) o what := by
        intro w ew hw hok
        subst ew
        have hwl : w < 80 := by omega
        unfold zj0_tells_46
        simp only [zcQ hh]
        rw [C_t34 hh hsn, C_sh hh hsn]
        rcases hH sn hsn with h0 | ⟨h1, ⟨n, hn40, en⟩, t, ht, et⟩
        · rw [if_pos (C_rown hh hsn h0)]
          exact k11 sn hsn rfl hok h0
        · have h1' : σ 45 sn ≠ 0 := by rw [h1]; decide
          obtain ⟨a, g1, r1, r2, r3⟩ := C_row hh hsn h1'
          rw [if_neg (by rw [r1]; exact fun z => by cases z)]
          refine C_sort hH hh hsn h1' ⟨0, 0, Nat.zero_le _, Nat.zero_le _, C_len hh hsn h1' ?_⟩
          have e47 : nI (σ 47 sn).toNatClampNeg = σ 47 sn := by rw [en, nI_clamp (by omega)]
          rw [e47]
          by_cases c8 : σ 47 sn = 8
          · rw [if_pos c8]
            have kk := fun h' hh' => kk sn w hsn rfl rfl hw hok h1 c8 h' hh'
            unfold teC at kk
            by_cases w0 : w = 0
            · rw [if_pos w0] at kk
              rw [if_pos (by rw [w0]; rfl)]
              refine ⟨0, 0, Nat.zero_le _, Nat.zero_le _, ?_⟩
              simp only [zcQ hh]
              exact C_panesOf hf hW hH hh hsn h1 c8 kk
            · rw [if_neg w0] at kk
              rw [if_neg (show ¬ nI _ = 0 from fun z => w0 ((nI_eq (b := 0) (by omega) (by omega)).mp z))]
              have hwn : 10 ≤ w ∧ w ≤ 79 ∧ w % 10 < nP σ := hw.resolve_left w0
              have em : nI w - nI w / 10 * 10 = nI (w % 10) := pk_rem (d := 10) (by omega) (by decide) (by decide)
              have ed : nI w / 10 = nI (w / 10) := pk_div (d := 10) (by omega) (by decide) (by decide)
              have hp := hwn.2.2
              rw [em, ed]
              refine ⟨mc, ms, by omega, by omega, ?_⟩
              simp only [zcQ hh]
              unfold zf0_toldOne
              have q1 : nI (w / 10) = 1 ↔ w / 10 = 1 := nI_eq (b := 1) (by omega) (by omega)
              have q2 : nI (w / 10) = 2 ↔ w / 10 = 2 := nI_eq (b := 2) (by omega) (by omega)
              have q3 : nI (w / 10) = 3 ↔ w / 10 = 3 := nI_eq (b := 3) (by omega) (by omega)
              have q4 : nI (w / 10) = 4 ↔ w / 10 = 4 := nI_eq (b := 4) (by omega) (by omega)
              have q5 : nI (w / 10) = 5 ↔ w / 10 = 5 := nI_eq (b := 5) (by omega) (by omega)
              have q6 : nI (w / 10) = 6 ↔ w / 10 = 6 := nI_eq (b := 6) (by omega) (by omega)
              by_cases d1 : w / 10 = 1
              · rw [if_pos (q1.mpr d1)]
                rw [if_pos (by omega)] at kk
                refine ⟨0, 0, Nat.zero_le _, Nat.zero_le _, ?_⟩
                simp only [zcQ hh]
                exact C_other hf hW hH hh hsn hp h1 c8 kk
              rw [if_neg (fun z => d1 (q1.mp z))]
              rw [if_neg (by omega)] at kk
              by_cases d2 : w / 10 = 2
              · rw [if_pos (q2.mpr d2)]
                rw [if_pos (by omega)] at kk
                refine ⟨mc, ms, Nat.le_refl _, Nat.le_refl _, ?_⟩
                simp only [zcQ hh]
                exact C_kinds hf hW hH hB hh hsn hp h1 c8 (by omega) (by omega) kk
              rw [if_neg (fun z => d2 (q2.mp z))]
              rw [if_neg (by omega)] at kk
              by_cases d3 : w / 10 = 3
              · rw [if_pos (q3.mpr d3)]
                rw [if_pos (by omega)] at kk
                refine ⟨0, 0, Nat.zero_le _, Nat.zero_le _, ?_⟩
                simp only [zcQ hh]
                exact C_digits (j := 2) hf hW hH hB hh hsn hp h1 c8 (by decide) (by decide) kk
              rw [if_neg (fun z => d3 (q3.mp z))]
              rw [if_neg (by omega)] at kk
              by_cases d4 : w / 10 = 4
              · rw [if_pos (q4.mpr d4)]
                rw [if_pos (by omega)] at kk
                refine ⟨0, 0, Nat.zero_le _, Nat.zero_le _, ?_⟩
                simp only [zcQ hh]
                exact C_digits (j := 4) hf hW hH hB hh hsn hp h1 c8 (by decide) (by decide) kk
              rw [if_neg (fun z => d4 (q4.mp z))]
              rw [if_neg (by omega)] at kk
              by_cases d5 : w / 10 = 5
              · rw [if_pos (q5.mpr d5)]
                rw [if_pos (by omega)] at kk
                unfold zj0_toldOne_74
                rw [if_neg (fun z => by have := q6.mp z; omega)]
                unfold zj0_toldOne_90
                refine ⟨0, 0, Nat.zero_le _, Nat.zero_le _, ?_⟩
                simp only [zcQ hh]
                exact C_days (fst := 0) hf hW hH hB hh hsn hp h1 c8 (fun h' hh' => by rw [if_pos rfl]; exact kk h' hh')
              rw [if_neg (fun z => d5 (q5.mp z))]
              rw [if_neg (by omega)] at kk
              by_cases d6 : w / 10 = 6
              · rw [if_pos (q6.mpr d6)]
                rw [if_pos (by omega)] at kk
                unfold zj0_toldOne_74
                rw [if_pos (q6.mpr d6)]
                unfold zj0_toldOne_90
                refine ⟨0, 0, Nat.zero_le _, Nat.zero_le _, ?_⟩
                simp only [zcQ hh]
                exact C_days (fst := 1) hf hW hH hB hh hsn hp h1 c8 (fun h' hh' => by rw [if_neg (by decide)]; exact kk h' hh')
              rw [if_neg (fun z => d6 (q6.mp z))]
              rw [if_neg (by omega)] at kk
              refine ⟨0, 0, Nat.zero_le _, Nat.zero_le _, ?_⟩
              simp only [zcQ hh]
              exact C_texts hf hW hH hh hsn hp h1 c8 kk
          · rw [if_neg c8]
            exact k8 sn hsn rfl hok h1 c8
      by_cases c0 : what = 0
      · rw [if_pos c0]
        exact go 0 c0 (Or.inl rfl) ⟨c1, c2, Or.inl c0⟩
      · rw [if_neg c0, q_inC 10 79 (by decide) (by decide)]
        simp only [ite10, ifn]
        by_cases c3 : 10 ≤ what.toInt ∧ what.toInt ≤ 79
        · rw [if_pos c3]
          obtain ⟨w, hw, -, ew, hw2⟩ := nI_bt (x := what) (u := 79) ⟨by omega, c3.2⟩
          have hw10 : 10 ≤ w := by omega
          have hw79 : w ≤ 79 := by omega
          have em : what - what / 10 * 10 = nI (w % 10) := by rw [ew]; exact pk_rem (d := 10) (by omega) (by decide) (by decide)
          simp only [zcQ hh, C_isPane hW hh, ite10, ifn]
          rw [em]
          by_cases c4 : 0 ≤ (nI (w % 10)).toInt ∧ (nI (w % 10)).toInt ≤ (nP σ : Int) - 1
          · rw [if_pos c4]
            have c5 : w % 10 < nP σ := by have := c4.2; rw [nI_toInt (by omega)] at this; omega
            exact go w ew (Or.inr ⟨hw10, hw79, c5⟩) ⟨c1, c2, Or.inr ⟨w, hw10, hw79, ew, c5⟩⟩
          · rw [if_neg c4]
            refine k0 fun z => ?_
            rcases z.2.2 with z | ⟨w', a1, a2, a3, a4⟩
            · exact c0 z
            · have : w = w' := (nI_eq (by omega) (by omega)).mp (ew.symm.trans a3)
              subst this
              exact c4 ⟨by rw [nI_toInt (by omega)]; omega, by rw [nI_toInt (by omega)]; omega⟩
        · rw [if_neg c3]
          refine k0 fun z => ?_
          rcases z.2.2 with z | ⟨w', a1, a2, a3, a4⟩
          · exact c0 z
          · rw [a3, nI_toInt (by omega)] at c3
            exact c3 ⟨by omega, by omega⟩
    · rw [if_neg c2]
      exact k0 fun z => c2 z.2.1
  · rw [if_neg c1]
    exact k0 fun z => c1 z.1
end TS2
