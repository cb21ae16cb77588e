/-! THE CLASS, what it reads only: light, costs, spilling, sums, quarrels -/
set_option maxRecDepth 100000
/-- who is in an opening, by the panes' own openings -/
def whC (σ : ST) (o : Int32) : Int32 := fi (fun p => decide (σ 110 p = o)) (nP σ) 0
def siC (G : TG) (σ : ST) (o : Nat) : Int32 := siX G σ (whC σ (nI o)) (σ 111 (whC σ (nI o)).toNatClampNeg) (nI o)
def briC (G : TG) (σ : ST) : Int32 := fo (fun o a => a + siC G σ o) 4 0 0
def qrC (G : TG) (σ : ST) (x y o : Int32) : Int32 := qrX G σ x y (σ 111 x.toNatClampNeg) (σ 111 y.toNatClampNeg) o
def qstC (G : TG) (σ : ST) : Int32 := fo (fun o a => a ||| (qrC G σ (whC σ (nI o)) (whC σ (nI (o + 1))) (nI o) <<< (nI o &&& 31))) 3 0 0
/-- the panes' own flags are 0 or 1 -/
def WB (σ : ST) : Prop := ∀ p, p < nP σ → σ 111 p = 0 ∨ σ 111 p = 1
theorem fi_or (P : Nat → Bool) : ∀ j i, (fi P j i = -1) ∨ ∃ p, i ≤ p ∧ p < i + j ∧ fi P j i = nI p ∧ P p = true := by
  intro j
  induction j with
  | zero => intro i; exact Or.inl rfl
  | succ j ih =>
    intro i
    by_cases c : P i = true
    · exact Or.inr ⟨i, Nat.le_refl _, by omega, if_pos c, c⟩
    · have e : fi P (j + 1) i = fi P j (i + 1) := if_neg c
      rw [e]
      rcases ih (i + 1) with z | ⟨p, h1, h2, h3, h4⟩
      · exact Or.inl z
      · exact Or.inr ⟨p, by omega, by omega, h3, h4⟩
theorem whC_or (σ : ST) (o : Int32) : whC σ o = -1 ∨ ∃ p, p < nP σ ∧ whC σ o = nI p ∧ σ 110 p = o := by
  rcases fi_or (fun p => decide (σ 110 p = o)) (nP σ) 0 with z | ⟨p, h1, h2, h3, h4⟩
  · exact Or.inl z
  · exact Or.inr ⟨p, by omega, h3, of_decide_eq_true h4⟩
section CB
variable {f : Nat} {sa : Nat → Nat} {x : Nat} {ca : Nat → Nat} {Md : Nat → Prop} {b0 : zH} {G : TG} {pa : Nat → Nat} {rw : Nat → Option Nat} {σ : ST} {h : zH} {K : Int32 → zH → Prop}
theorem q_hr {h : zH} {hr : Int32} {K : Int32 → zH → Prop} : zf0_in f h hr.toInt64 3 5 K = K (if 3 ≤ hr.toInt ∧ hr.toInt ≤ 5 then 1 else 0) h := q_inC 3 5 (by decide) (by decide)
theorem C_light (hW : WS σ) (hh : Ch sa x ca Md b0 G pa rw σ h) {p : Nat} {hr v : Int32} (hp : p < nP σ) (kk : K (nlt (σ 10 p) (σ 11 (3 * p)) (σ 11 (3 * p + 1)) hr v) h) : zd_light f h (some (pa p)) v hr K := by
  have hn := (nP_eq hW).2
  obtain ⟨k, h1, h2, h3⟩ := kd_of hW (p := p) (by omega)
  have ra : ∀ F : Prop, zra h (some (pa p)) F = F := fun F => C_pra hh hp (by omega) F
  have n0 : ∀ {cs : List Nat}, kcl (σ 10 p) ∈ cs → ∀ P : Int32 → Prop, gfI h (some (pa p)) cs 0 P = P (σ 11 (3 * p)) := fun hc P => C_pI hh hp hc rfl P
  have n1 : ∀ {cs : List Nat}, kcl (σ 10 p) ∈ cs → ∀ P : Int32 → Prop, gfI h (some (pa p)) cs 1 P = P (σ 11 (3 * p + 1)) := fun hc P => C_pI hh hp hc rfl P
  have d5 : (5 < hr) ↔ ¬ hr < 6 := by
    rw [Int32.lt_iff_toInt_lt, Int32.lt_iff_toInt_lt]
    have e5 : (5 : Int32).toInt = 5 := by decide
    have e6 : (6 : Int32).toInt = 6 := by decide
    rw [e5, e6]
    omega
  unfold zd_light
  rw [C_pd hh hp, h3]
  unfold nlt at kk
  rw [h2] at kk
  rw [h3] at n0 n1
  have : k = 0 ∨ k = 1 ∨ k = 2 ∨ k = 3 ∨ k = 4 ∨ k = 5 := by omega
  rcases this with rfl | rfl | rfl | rfl | rfl | rfl
  · rw [if_pos rfl]
    exact kk
  · rw [if_neg (by decide), if_pos rfl]
    unfold zf10_light zf9_light
    rw [ra]
    rw [if_pos (by decide)] at kk
    exact kk
  · rw [if_neg (by decide), if_neg (by decide), if_pos rfl]
    unfold zf11_light zf9_light
    rw [if_neg (by decide), if_neg (by decide), if_pos (by decide)] at kk
    unfold noo at kk
    simp only [q_hr, ite10, ifn, ra]
    by_cases c : 3 ≤ hr.toInt ∧ hr.toInt ≤ 5
    · rw [if_pos c] at kk ⊢; exact kk
    · rw [if_neg c] at kk ⊢; exact kk
  · rw [if_neg (by decide), if_neg (by decide), if_neg (by decide), if_pos rfl]
    unfold zf12_light zf10_light zf9_light
    rw [if_neg (by decide), if_pos (by decide)] at kk
    simp only [ra]
    rw [n0 (by decide)]
    exact kk
  · rw [if_neg (by decide), if_neg (by decide), if_neg (by decide), if_neg (by decide), if_pos rfl]
    unfold zf13_light zf11_light zf9_light zj13_light_29
    rw [if_neg (by decide), if_neg (by decide), if_neg (by decide), if_pos (by decide)] at kk
    simp only [q_hr, ite10, ifn, ra, n0 (show (4 + 1 : Nat) ∈ ([5] : List Nat) by decide), n1 (show (4 + 1 : Nat) ∈ ([5] : List Nat) by decide)]
    unfold noo at kk
    by_cases c : 3 ≤ hr.toInt ∧ hr.toInt ≤ 5
    · rw [if_pos c] at kk ⊢
      by_cases c7 : σ 11 (3 * p + 1) - σ 11 (3 * p + 1) / 7 * 7 = σ 11 (3 * p) - σ 11 (3 * p) / 7 * 7
      · rw [if_pos c7] at kk ⊢; exact kk
      · rw [if_neg c7] at kk ⊢; rw [Int32.add_zero]; exact kk
    · rw [if_neg c] at kk ⊢
      by_cases c7 : σ 11 (3 * p + 1) - σ 11 (3 * p + 1) / 7 * 7 = σ 11 (3 * p) - σ 11 (3 * p) / 7 * 7
      · rw [if_pos c7] at kk ⊢; exact kk
      · rw [if_neg c7] at kk ⊢; rw [Int32.add_zero]; exact kk
  · rw [if_neg (by decide), if_neg (by decide), if_neg (by decide), if_neg (by decide), if_neg (by decide), if_pos rfl]
    unfold zf14_light zf9_light
    rw [if_neg (by decide), if_neg (by decide), if_neg (by decide), if_neg (by decide), if_pos (by decide)] at kk
    rw [ra]
    by_cases c : hr < 6
    · rw [if_pos c] at kk
      rw [if_neg (fun z => d5.mp z c)]
      exact kk
    · rw [if_neg c] at kk
      rw [if_pos (d5.mpr c)]
      exact kk
theorem C_costs (hW : WS σ) (hh : Ch sa x ca Md b0 G pa rw σ h) {p : Nat} {v : Int32} (hp : p < nP σ) (kk : K (nct (σ 10 p) (σ 11 (3 * p)) v) h) : zd_costs f h (some (pa p)) v K := by
  have hn := (nP_eq hW).2
  obtain ⟨k, h1, h2, h3⟩ := kd_of hW (p := p) (by omega)
  have ra : ∀ F : Prop, zra h (some (pa p)) F = F := fun F => C_pra hh hp (by omega) F
  have n0 : ∀ {cs : List Nat}, kcl (σ 10 p) ∈ cs → ∀ P : Int32 → Prop, gfI h (some (pa p)) cs 0 P = P (σ 11 (3 * p)) := fun hc P => C_pI hh hp hc rfl P
  unfold zd_costs
  rw [C_pd hh hp, h3]
  unfold nct at kk
  rw [h2] at kk
  rw [h3] at n0
  have : k = 0 ∨ k = 1 ∨ k = 2 ∨ k = 3 ∨ k = 4 ∨ k = 5 := by omega
  rcases this with rfl | rfl | rfl | rfl | rfl | rfl
  · rw [if_pos rfl]
    exact kk
  · rw [if_neg (by decide), if_pos rfl]
    unfold zf10_costs zf9_costs
    rw [ra]
    rw [if_pos (by decide)] at kk
    exact kk
  · rw [if_neg (by decide), if_neg (by decide), if_pos rfl]
    unfold zf11_costs zf9_costs
    rw [if_neg (by decide), if_neg (by decide), if_pos (by decide)] at kk
    simp only [ra]
    rw [n0 (by decide)]
    exact kk
  · rw [if_neg (by decide), if_neg (by decide), if_neg (by decide), if_pos rfl]
    unfold zf12_costs zf10_costs zf9_costs
    rw [if_neg (by decide), if_pos (by decide)] at kk
    simp only [ra]
    exact kk
  · rw [if_neg (by decide), if_neg (by decide), if_neg (by decide), if_neg (by decide), if_pos rfl]
    unfold zf13_costs zf11_costs zf9_costs
    rw [if_neg (by decide), if_neg (by decide), if_neg (by decide), if_pos (by decide)] at kk
    simp only [ra]
    rw [n0 (by decide)]
    exact kk
  · rw [if_neg (by decide), if_neg (by decide), if_neg (by decide), if_neg (by decide), if_neg (by decide), if_pos rfl]
    exact kk
theorem C_spills (hW : WS σ) (hh : Ch sa x ca Md b0 G pa rw σ h) {p : Nat} (hp : p < nP σ) (kk : K (sp σ p) h) : zd_spills f h (some (pa p)) K := by
  have hn := (nP_eq hW).2
  obtain ⟨k, h1, h2, h3⟩ := kd_of hW (p := p) (by omega)
  have ra : ∀ F : Prop, zra h (some (pa p)) F = F := fun F => C_pra hh hp (by omega) F
  have n2 : ∀ {cs : List Nat}, kcl (σ 10 p) ∈ cs → ∀ P : Int32 → Prop, gfI h (some (pa p)) cs 2 P = P (σ 11 (3 * p + 2)) := fun hc P => C_pI hh hp hc rfl P
  unfold zd_spills
  rw [C_pd hh hp, h3]
  unfold sp nsp at kk
  rw [h2] at kk
  rw [h3] at n2
  have z1 : (0 : Int32) + 1 = 1 := by decide
  have : k = 0 ∨ k = 1 ∨ k = 2 ∨ k = 3 ∨ k = 4 ∨ k = 5 := by omega
  rcases this with rfl | rfl | rfl | rfl | rfl | rfl
  · rw [if_pos rfl]
    exact kk
  · rw [if_neg (by decide), if_pos rfl]
    unfold zf10_spills zf9_spills
    rw [if_pos (by decide)] at kk
    simp only [ra]
    rw [n2 (by decide), z1]
    exact kk
  · rw [if_neg (by decide), if_neg (by decide), if_pos rfl]
    exact kk
  · rw [if_neg (by decide), if_neg (by decide), if_neg (by decide), if_pos rfl]
    unfold zf12_spills zf10_spills zf9_spills
    rw [if_neg (by decide), if_pos (by decide)] at kk
    simp only [ra]
    rw [n2 (by decide), z1]
    exact kk
  · rw [if_neg (by decide), if_neg (by decide), if_neg (by decide), if_neg (by decide), if_pos rfl]
    exact kk
  · rw [if_neg (by decide), if_neg (by decide), if_neg (by decide), if_neg (by decide), if_neg (by decide), if_pos rfl]
    unfold zf14_spills zf9_spills
    rw [if_neg (by decide), if_neg (by decide), if_pos (by decide)] at kk
    simp only [ra]
    rw [z1]
    exact kk
theorem q_held {a : Int32} : zf0_held f h a K = K (cl0 999 a) h := by
  unfold zf0_held
  refine propext ⟨fun z => ?_, fun z y hy w hw => ?_⟩
  · have := z _ rfl _ rfl
    rw [cl0_mm (hi := 999) (by decide) rfl rfl] at this
    exact this
  · rw [cl0_mm (by decide) hy hw]
    exact z
theorem C_lightOf (hW : WS σ) (hh : Ch sa x ca Md b0 G pa rw σ h) {p : Nat} {o hr : Int32} (hp : p < nP σ) (kk : ∀ h', Ch sa x ca Md b0 G pa rw σ h' → K (lt G σ p o hr) h') : zf0_lightOf f h (some x) (nI p) o hr K := by
  have hn := (nP_eq hW).2
  unfold zf0_lightOf
  simp only [zcQ hh, C_pa hh hn hp]
  refine C_asks hW hh hp (k := 0) (by omega) rfl fun h' hh' => ?_
  refine C_light hW hh' hp ?_
  rw [q_held]
  exact kk h' hh'
theorem C_costsOf (hW : WS σ) (hh : Ch sa x ca Md b0 G pa rw σ h) {p : Nat} (hp : p < nP σ) (kk : ∀ h', Ch sa x ca Md b0 G pa rw σ h' → K (ct G σ p) h') : zf0_costsOf f h (some x) (nI p) K := by
  have hn := (nP_eq hW).2
  unfold zf0_costsOf
  simp only [zcQ hh, C_pa hh hn hp]
  refine C_asks hW hh hp (k := 1) (by omega) rfl fun h' hh' => ?_
  refine C_costs hW hh' hp ?_
  rw [q_held]
  exact kk h' hh'
theorem C_sumOf (hf : 400 ≤ f) (hW : WS σ) (hB : WB σ) (hh : Ch sa x ca Md b0 G pa rw σ h) {p : Nat} {o : Int32} (hp : p < nP σ) (kk : ∀ h', Ch sa x ca Md b0 G pa rw σ h' → K (if σ 111 p = 1 then 0 else sm G σ p o) h') : zf0_sumOf f h (some x) (nI p) o K := by
  have hn := (nP_eq hW).2
  have hkc := kc6 hW (p := p) (by omega)
  rcases hB p hp with hb | hb
  · rw [hb, if_neg (by decide)] at kk
    have go : ∀ (j i g : Nat) (a : Int32) (h : zH), i + j = 8 → j < g → Ch sa x ca Md b0 G pa rw σ h → (∀ h', Ch sa x ca Md b0 G pa rw σ h' → K (fo (fun h a => a + lt G σ p o (nI h)) j i a) h') → zl0_sumOf_5 f K g h (some x) (nI p) o a (nI i) := by
      intro j
      induction j with
      | zero =>
        intro i g a h h1 h2 hh kk
        obtain ⟨g, rfl⟩ : ∃ g', g = g' + 1 := ⟨g - 1, by omega⟩
        show zb0_sumOf_5 f K (zl0_sumOf_5 f K g) h (some x) (nI p) o a (nI i)
        unfold zb0_sumOf_5
        have e : i = 8 := by omega
        subst e
        rw [if_neg (by decide)]
        exact kk h hh
      | succ j ih =>
        intro i g a h h1 h2 hh kk
        obtain ⟨g, rfl⟩ : ∃ g', g = g' + 1 := ⟨g - 1, by omega⟩
        show zb0_sumOf_5 f K (zl0_sumOf_5 f K g) h (some x) (nI p) o a (nI i)
        unfold zb0_sumOf_5
        rw [if_pos (show nI i < 8 from (nI_ltI (b := 8) (by omega) (by omega)).mpr (by omega))]
        simp only [zcQ hh, C_pa hh hn hp, C_pI hh hp hkc (k := 4) rfl, nm_eq, nI_1]
        rw [if_pos hb]
        exact C_lightOf hW hh hp fun h' hh' => ih (i + 1) g _ h' (by omega) (by omega) hh' kk
    exact go 8 0 f 0 h rfl (by omega) hh kk
  · rw [hb, if_pos rfl] at kk
    obtain ⟨g, rfl⟩ : ∃ g', f = g' + 1 := ⟨f - 1, by omega⟩
    unfold zf0_sumOf
    show zb0_sumOf_5 (g + 1) K (zl0_sumOf_5 (g + 1) K g) h (some x) (nI p) o 0 0
    unfold zb0_sumOf_5
    rw [if_pos (by decide)]
    simp only [zcQ hh, C_pa hh hn hp, C_pI hh hp hkc (k := 4) rfl]
    rw [if_neg (by rw [hb]; decide)]
    exact kk h hh
theorem C_whoIn (hf : 400 ≤ f) (hW : WS σ) (hh : Ch sa x ca Md b0 G pa rw σ h) {o : Int32} : zf0_whoIn f h (some x) o K = K (whC σ o) h := by
  obtain ⟨h13, hn⟩ := nP_eq hW
  have go : ∀ (j i g : Nat), i + j = nP σ → j < g → zl0_whoIn_2 f K g h (some x) o (nI i) = K (fi (fun p => decide (σ 110 p = o)) j i) h := by
    intro j
    induction j with
    | zero =>
      intro i g h1 h2
      obtain ⟨g, rfl⟩ : ∃ g', g = g' + 1 := ⟨g - 1, by omega⟩
      show zb0_whoIn_2 f K (zl0_whoIn_2 f K g) h (some x) o (nI i) = _
      unfold zb0_whoIn_2
      simp only [zcQ hh]
      rw [h13, if_neg (fun z => by have := (nI_ltI (by omega) (by omega)).mp z; omega)]
      rfl
    | succ j ih =>
      intro i g h1 h2
      obtain ⟨g, rfl⟩ : ∃ g', g = g' + 1 := ⟨g - 1, by omega⟩
      show zb0_whoIn_2 f K (zl0_whoIn_2 f K g) h (some x) o (nI i) = K (if decide (σ 110 i = o) = true then nI i else fi (fun p => decide (σ 110 p = o)) j (i + 1)) h
      unfold zb0_whoIn_2
      have hi : i < nP σ := by omega
      have hkc := kc6 hW (p := i) (by omega)
      simp only [zcQ hh, C_pa hh hn hi, C_pI hh hi hkc (k := 3) rfl, nm_eq, nI_1, decide_eq_true_eq]
      rw [h13, if_pos ((nI_ltI (by omega) (by omega)).mpr hi)]
      by_cases c : σ 110 i = o
      · rw [if_pos c, if_pos c]
      · rw [if_neg c, if_neg c]
        exact ih (i + 1) g (by omega) (by omega)
  exact go (nP σ) 0 f (by omega) (by omega)
theorem C_sumIn (hf : 400 ≤ f) (hW : WS σ) (hB : WB σ) (hh : Ch sa x ca Md b0 G pa rw σ h) {o : Nat} (kk : ∀ h', Ch sa x ca Md b0 G pa rw σ h' → K (siC G σ o) h') : zf0_sumIn f h (some x) (nI o) K := by
  have hn := (nP_eq hW).2
  unfold zf0_sumIn
  simp only [zcQ hh, C_whoIn hf hW hh]
  unfold siC siX at kk
  rcases whC_or σ (nI o) with z | ⟨p, h1, h2, -⟩
  · rw [z] at kk ⊢
    rw [if_pos rfl] at kk ⊢
    exact kk h hh
  · rw [h2] at kk ⊢
    rw [if_neg (nIn1 (by omega))] at kk ⊢
    rw [nI_clamp (by omega)] at kk
    exact C_sumOf hf hW hB hh h1 kk
theorem aabs_m {d y : Int32} (h : y = if 0 ≤ d then d else 0 - d) : y = aabs d := by
  subst h
  unfold aabs
  have z : (0 : Int32).toInt = 0 := by decide
  by_cases c : d < 0
  · rw [if_pos c, if_neg (fun y => by rw [Int32.lt_iff_toInt_lt] at c; rw [Int32.le_iff_toInt_le] at y; omega), Int32.zero_sub]
  · rw [if_neg c, if_pos (by rw [Int32.lt_iff_toInt_lt] at c; rw [Int32.le_iff_toInt_le]; omega)]
theorem C_doQuarrel (hW : WS σ) (hB : WB σ) (hh : Ch sa x ca Md b0 G pa rw σ h) {p q : Nat} {o : Int32} (hp : p < nP σ) (hq : q < nP σ) (kk : ∀ h', Ch sa x ca Md b0 G pa rw σ h' → K (qrC G σ (nI p) (nI q) o) h') : zf0_doQuarrel f h (some x) (nI p) (nI q) o K := by
  have hn := (nP_eq hW).2
  have hkp := kc6 hW (p := p) (by omega)
  have hkq := kc6 hW (p := q) (by omega)
  unfold qrC qrX at kk
  rw [if_neg (nIn1 (by omega)), if_neg (nIn1 (by omega)), nI_clamp (by omega), nI_clamp (by omega)] at kk
  unfold zf0_doQuarrel
  simp only [zcQ hh, C_pa hh hn hp, C_pa hh hn hq, C_pI hh hp hkp (k := 4) rfl, C_pI hh hq hkq (k := 4) rfl, C_pI hh hp hkp (k := 1) rfl, C_pI hh hq hkq (k := 1) rfl]
  rcases hB p hp with z | z
  · rw [if_pos z]
    rw [z, if_neg (by decide)] at kk
    rcases hB q hq with z2 | z2
    · rw [if_pos z2]
      rw [z2, if_neg (by decide)] at kk
      intro y hy
      rw [aabs_m hy]
      refine C_asks hW hh hp (k := 2) (by omega) rfl fun h' hh' => ?_
      have kq := kk h' hh'
      unfold qv at kq
      by_cases c : asq G σ 2 p o 4 (aabs (σ 11 (3 * p + 1) - σ 11 (3 * q + 1))) = 0
      · rw [if_pos c] at kq ⊢; exact kq
      · rw [if_neg c] at kq ⊢; exact kq
    · rw [if_neg (by rw [z2]; decide)]
      rw [z2, if_pos rfl] at kk
      exact kk h hh
  · rw [if_neg (by rw [z]; decide)]
    rw [z, if_pos rfl] at kk
    exact kk h hh
theorem C_bright (hf : 400 ≤ f) (hW : WS σ) (hB : WB σ) (hh : Ch sa x ca Md b0 G pa rw σ h) (kk : ∀ h', Ch sa x ca Md b0 G pa rw σ h' → K (briC G σ) h') : zf0_bright f h (some x) K := by
  have go : ∀ (j i g : Nat) (a : Int32) (h : zH), i + j = 4 → j < g → Ch sa x ca Md b0 G pa rw σ h → (∀ h', Ch sa x ca Md b0 G pa rw σ h' → K (fo (fun o a => a + siC G σ o) j i a) h') → zl0_bright_4 f K g h (some x) a (nI i) := by
    intro j
    induction j with
    | zero =>
      intro i g a h h1 h2 hh kk
      obtain ⟨g, rfl⟩ : ∃ g', g = g' + 1 := ⟨g - 1, by omega⟩
      show zb0_bright_4 f K (zl0_bright_4 f K g) h (some x) a (nI i)
      unfold zb0_bright_4
      have e : i = 4 := by omega
      subst e
      rw [if_neg (by decide)]
      exact kk h hh
    | succ j ih =>
      intro i g a h h1 h2 hh kk
      obtain ⟨g, rfl⟩ : ∃ g', g = g' + 1 := ⟨g - 1, by omega⟩
      show zb0_bright_4 f K (zl0_bright_4 f K g) h (some x) a (nI i)
      unfold zb0_bright_4
      rw [if_pos (show nI i < 4 from (nI_ltI (b := 4) (by omega) (by omega)).mpr (by omega))]
      simp only [zcQ hh, nm_eq, nI_1]
      exact C_sumIn hf hW hB hh fun h' hh' => ih (i + 1) g _ h' (by omega) (by omega) hh' kk
  exact go 4 0 f 0 h rfl (by omega) hh kk
theorem qrC01 (G : TG) (σ : ST) (x y o : Int32) : qrC G σ x y o = 0 ∨ qrC G σ x y o = 1 := by
  unfold qrC qrX
  by_cases c1 : x = -1
  · rw [if_pos c1]; exact Or.inl rfl
  rw [if_neg c1]
  by_cases c2 : y = -1
  · rw [if_pos c2]; exact Or.inl rfl
  rw [if_neg c2]
  by_cases c3 : σ 111 x.toNatClampNeg = 1
  · rw [if_pos c3]; exact Or.inl rfl
  rw [if_neg c3]
  by_cases c4 : σ 111 y.toNatClampNeg = 1
  · rw [if_pos c4]; exact Or.inl rfl
  rw [if_neg c4]
  by_cases c5 : qv G σ x.toNatClampNeg y.toNatClampNeg o = 0
  · rw [if_pos c5]; exact Or.inl rfl
  · rw [if_neg c5]; exact Or.inr rfl
theorem shl0 (s : Int32) : (0 : Int32) <<< s = 0 := by
  apply Int32.toBitVec_inj.mp
  simp
theorem C_quarrelSet (hf : 400 ≤ f) (hW : WS σ) (hB : WB σ) (hh : Ch sa x ca Md b0 G pa rw σ h) (kk : ∀ h', Ch sa x ca Md b0 G pa rw σ h' → K (qstC G σ) h') : zf0_quarrelSet f h (some x) K := by
  have hn := (nP_eq hW).2
  have go : ∀ (j i g : Nat) (a : Int32) (h : zH), i + j = 3 → j < g → Ch sa x ca Md b0 G pa rw σ h → (∀ h', Ch sa x ca Md b0 G pa rw σ h' → K (fo (fun o a => a ||| (qrC G σ (whC σ (nI o)) (whC σ (nI (o + 1))) (nI o) <<< (nI o &&& 31))) j i a) h') → zl0_quarrelSet_4 f K g h (some x) a (nI i) := by
    intro j
    induction j with
    | zero =>
      intro i g a h h1 h2 hh kk
      obtain ⟨g, rfl⟩ : ∃ g', g = g' + 1 := ⟨g - 1, by omega⟩
      show zb0_quarrelSet_4 f K (zl0_quarrelSet_4 f K g) h (some x) a (nI i)
      unfold zb0_quarrelSet_4
      have e : i = 3 := by omega
      subst e
      rw [if_neg (by decide)]
      exact kk h hh
    | succ j ih =>
      intro i g a h h1 h2 hh kk
      obtain ⟨g, rfl⟩ : ∃ g', g = g' + 1 := ⟨g - 1, by omega⟩
      show zb0_quarrelSet_4 f K (zl0_quarrelSet_4 f K g) h (some x) a (nI i)
      unfold zb0_quarrelSet_4 zj0_quarrelSet_55 zj0_quarrelSet_56
      rw [nI_1, if_pos (show nI (i + 1) < 4 from (nI_ltI (b := 4) (by omega) (by omega)).mpr (by omega))]
      simp only [zcQ hh, C_whoIn hf hW hh, nm_eq, nI_1]
      have go : ∀ h', Ch sa x ca Md b0 G pa rw σ h' → zl0_quarrelSet_4 f K g h' (some x) (a ||| (qrC G σ (whC σ (nI i)) (whC σ (nI (i + 1))) (nI i) <<< (nI i &&& 31))) (nI (i + 1)) := fun h' hh' => ih (i + 1) g _ h' (by omega) (by omega) hh' kk
      rcases whC_or σ (nI i) with z | ⟨p, p1, p2, -⟩
      · have e : qrC G σ (whC σ (nI i)) (whC σ (nI (i + 1))) (nI i) = 0 := by unfold qrC qrX; rw [if_pos z]
        rw [e, shl0] at go
        rw [if_pos z]
        exact go h hh
      · rcases whC_or σ (nI (i + 1)) with z | ⟨q, q1, q2, -⟩
        · have e : qrC G σ (whC σ (nI i)) (whC σ (nI (i + 1))) (nI i) = 0 := by unfold qrC qrX; rw [if_pos z, ite_self]
          rw [e, shl0] at go
          rw [if_pos z, ite_self]
          exact go h hh
        · rw [p2, q2] at go ⊢
          rw [if_neg (nIn1 (by omega)), if_neg (nIn1 (by omega))]
          refine C_doQuarrel hW hB hh p1 q1 fun h' hh' => ?_
          have go := go h' hh'
          rcases qrC01 G σ (nI p) (nI q) (nI i) with z | z
          · rw [z, shl0] at go; rw [if_pos z]; exact go
          · rw [z] at go; rw [if_neg (by rw [z]; decide)]; exact go
  exact go 3 0 f 0 h rfl (by omega) hh kk
end CB
