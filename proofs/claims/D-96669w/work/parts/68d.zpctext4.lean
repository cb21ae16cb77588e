/-! THE CLASS READS: its grammar, held against tk_ps -/
set_option maxRecDepth 100000
/-- what a reading makes: cells -/
def rcost (n : Nat) (t : Tok) (r : PR) : Nat := match r with
  | .inl _ => tk_mu n t
  | .inr q => tk_mu n t - tk_mu n q.2
theorem rcost_l {n : Nat} {t : Tok} {e : Nat} : rcost n t (.inl e) = tk_mu n t := rfl
theorem rcost_r {n : Nat} {t : Tok} {q : SEM × Tok} : rcost n t (.inr q) = tk_mu n t - tk_mu n q.2 := rfl
section GR
variable {f : Nat} {sa : Nat → Nat} {x : Nat} {ca : Nat → Nat} {Md : Nat → Prop} {b0 : zH} {G : TG} {pa : Nat → Nat} {rw : Nat → Option Nat} {σ : ST} {lab : Nat → Nat} {n : Nat} {b : Nat → Int32}
def OUTc (sa : Nat → Nat) (x : Nat) (ca : Nat → Nat) (Md : Nat → Prop) (b0 : zH) (G : TG) (pa : Nat → Nat) (rw : Nat → Option Nat) (σ : ST) (lab : Nat → Nat) (n : Nat) (b : Nat → Int32) (K : Option Nat → zH → Prop) (X0 : zH → Prop) (H0 : zH) (op mu0 : Nat) (r : PR) : Prop := match r with
  | .inl e => ∀ H, PXc sa x ca Md b0 G pa rw σ lab e H → X0 H
  | .inr q => ∀ H a, POc sa x ca Md b0 G pa rw σ lab n b q.2 op H → FR x H0 H → nd x H (mu0 - tk_mu n q.2) a q.1 → K (some a) H
def GIHc (f : Nat) (sa : Nat → Nat) (x : Nat) (ca : Nat → Nat) (Md : Nat → Prop) (b0 : zH) (G : TG) (pa : Nat → Nat) (rw : Nat → Option Nat) (σ : ST) (lab : Nat → Nat) (n : Nat) (b : Nat → Int32) (d : Nat) : Prop := ∀ (l op : Nat) (t : Tok) (H : zH) (mc ms : Nat) (K : Option Nat → zH → Prop) (X0 : zH → Prop), l ≤ 5 → op ≤ 5 → need l op ≤ d → POc sa x ca Md b0 G pa rw σ lab n b t op H → rcost n t (tk_ps b n d l op t) ≤ mc → 3 * rcost n t (tk_ps b n d l op t) ≤ ms → OUTc sa x ca Md b0 G pa rw σ lab n b K X0 H op (tk_mu n t) (tk_ps b n d l op t) → zgr0 sa f d l H mc ms (some x) K X0
/-- the right operand, and the node over both -/
theorem N_two {d l op : Nat} {u : Tok} {H0 H1 : zH} (ih : GIHc f sa x ca Md b0 G pa rw σ lab n b d) (hl : l ≤ 5) (ho : op ≤ 5) (hn : need l op ≤ d) (hP : POc sa x ca Md b0 G pa rw σ lab n b u op H1) (hF : FR x H0 H1) {da va : Nat} {sem : SEM} (hnd : nd x H1 da va sem) {s : Int32} {gF : SEM → SEM} (hs : ∀ g2, (s = 124 ∧ gF g2 = tk_or s sem g2) ∨ (s = 38 ∧ gF g2 = tk_an s sem g2) ∨ (s = 42 ∧ gF g2 = tk_ti s sem g2) ∨ ((s = 43 ∨ s = 45) ∧ gF g2 = tk_pm s sem g2) ∨ ((s = 60 ∨ s = 61) ∧ gF g2 = tk_cm s sem g2)) {ru : PR} (hru : tk_ps b n d l op u = ru) {mc ms : Nat} (hc : 1 + rcost n u ru ≤ mc) (hc3 : 3 + 3 * rcost n u ru ≤ ms) {KK : zH → Nat → Nat → Option Nat → Prop} {X0 : zH → Prop}
    (kx : ∀ e, ru = .inl e → ∀ H, PXc sa x ca Md b0 G pa rw σ lab e H → X0 H)
    (kk : ∀ q, ru = .inr q → ∀ H4 a, POc sa x ca Md b0 G pa rw σ lab n b q.2 op H4 → FR x H0 H4 → (∀ D, da < D → tk_mu n u - tk_mu n q.2 < D → nd x H4 D a (gF q.1)) → KK H4 ((mc - 1) - rcost n u ru) ((ms - 3) - 3 * rcost n u ru) (some a)) :
    nwO H1 mc ms 10 [.int 0, .null, .null] fun q10 h11 => ∃ c14 d15 : Nat, c14 ≤ (mc - 1) ∧ d15 ≤ (ms - 3) ∧ zrc h11 (some x) 0 (zgr0 sa f d l h11 c14 d15 (some x) (fun r12 h13 => zrn (some q10) (zf7_init f h13 (some q10) s (some va) r12 fun h17 => KK h17 ((mc - 1) - c14) ((ms - 3) - d15) (some q10))) (fun h18 => X0 h18)) := by
  refine ⟨by omega, by show 3 ≤ ms; omega, fun q hq => ?_⟩
  have hN : isN (.inr (10, [.int 0, .null, .null])) := raw_N (Or.inl rfl)
  have hP1 := N_al hP (q := q) (Or.inl hq) hN
  have hF1 : FR x H1 (hup H1 q (.inr (10, [.int 0, .null, .null]))) := FR_al hq
  have hnM := N_nM hP hq
  have hnx := N_nx hP hq
  refine ⟨rcost n u ru, 3 * rcost n u ru, by omega, by omega, ?_⟩
  rw [N_rc hP1]
  refine ih l op u _ _ _ _ _ hl ho hn hP1 (by rw [hru]; exact Nat.le_refl _) (by rw [hru]; exact Nat.le_refl _) ?_
  rw [hru]
  cases ru with
  | inl e => exact fun H hp => kx e rfl H hp
  | inr r =>
    intro H3 a hp3 hF3 hnd3
    have hq3 : H3 q = some (.inr (10, [.int 0, .null, .null])) := by
      rw [hF3 q hnx (by rw [hup_self]; exact fun z => by cases z)]
      exact hup_self _ _ _
    refine ⟨q, rfl, i_7 hq3 ?_⟩
    have hN4 : isN (.inr (10, [.int s, va_rf (some va), va_rf (some a)])) := ⟨10, _, rfl, by decide, by decide⟩
    have hF4 : FR x H1 (hup H3 q (.inr (10, [.int s, va_rf (some va), va_rf (some a)]))) := fun y ny z => by
      have ne : y ≠ q := fun w => z (by rw [w]; exact hq)
      rw [hup_ne _ _ ne]
      exact (hF1.trans hF3) y ny z
    refine kk r rfl _ q (N_al hp3 (Or.inr ⟨⟨_, hq3, Or.inl rfl⟩, hnM⟩) hN4) (hF.trans hF4) fun D h1 h2 => ?_
    obtain ⟨D, rfl⟩ : ∃ D', D = D' + 1 := ⟨D - 1, by omega⟩
    refine Or.inr (Or.inr (Or.inr (Or.inr ⟨s, va, a, sem, r.1, hup_self _ _ _, nd_mono da D va sem (by omega) (N_keep hP hF4 hnd), nd_mono _ D a r.1 (by omega) (nd_raw hq3 (Or.inl rfl) _ _ _ hnd3), hs r.1⟩)))
/-- one further operand of a row -/
theorem N_lp {d l op : Nat} {t : Tok} {H0 H : zH} (hf : 200 ≤ f) (ih : GIHc f sa x ca Md b0 G pa rw σ lab n b d) (hl : l ≤ 5) (ho : op ≤ 5) (hn : need l op ≤ d) (hh : POc sa x ca Md b0 G pa rw σ lab n b t op H) (h0 : t.1 ≠ 0) (hF : FR x H0 H) {mu0 va : Nat} {sem : SEM} (hmu0 : tk_mu n t < mu0) (hnd : nd x H (mu0 - tk_mu n t) va sem) {s : Int32} {F : Int32 → SEM → SEM → SEM} (hs : ∀ g2, (s = 124 ∧ F t.2.1 sem g2 = tk_or s sem g2) ∨ (s = 38 ∧ F t.2.1 sem g2 = tk_an s sem g2) ∨ (s = 42 ∧ F t.2.1 sem g2 = tk_ti s sem g2) ∨ ((s = 43 ∨ s = 45) ∧ F t.2.1 sem g2 = tk_pm s sem g2) ∨ ((s = 60 ∨ s = 61) ∧ F t.2.1 sem g2 = tk_cm s sem g2)) {C : Tok → Bool} (hC : ∀ t : Tok, C t = true → t.1 ≠ 0) {D : Nat} {mc ms : Nat} {K : Option Nat → zH → Prop} {X0 : zH → Prop} {r : PR} (hr : tk_nx b n t (fun u => tk_bd (tk_ps b n d l op u) fun c v => tk_lp b n (tk_ps b n d l op) C F D (F t.2.1 sem c) v) = r) (hc : rcost n t r ≤ mc) (hc3 : 3 * rcost n t r ≤ ms) (k : OUTc sa x ca Md b0 G pa rw σ lab n b K X0 H0 op mu0 r) {KK : zH → Nat → Nat → Option Nat → Prop}
    (kk : ∀ (v : Tok) (g : SEM) (H4 : zH) (a mc' ms' : Nat), tk_mu n v < tk_mu n t → POc sa x ca Md b0 G pa rw σ lab n b v op H4 → FR x H0 H4 → nd x H4 (mu0 - tk_mu n v) a g → tk_lp b n (tk_ps b n d l op) C F D g v = r → rcost n v r ≤ mc' → 3 * rcost n v r ≤ ms' → KK H4 mc' ms' (some a)) :
    zf0_next sa f H (some x) (fun h9 => nwO h9 mc ms 10 [.int 0, .null, .null] fun q10 h11 => ∃ c14 d15 : Nat, c14 ≤ (mc - 1) ∧ d15 ≤ (ms - 3) ∧ zrc h11 (some x) 0 (zgr0 sa f d l h11 c14 d15 (some x) (fun r12 h13 => zrn (some q10) (zf7_init f h13 (some q10) s (some va) r12 fun h17 => KK h17 ((mc - 1) - c14) ((ms - 3) - d15) (some q10))) (fun h18 => X0 h18))) (fun h19 => X0 h19) := by
  have hle := N_le hh
  have hmu := tk_mu_lt (b := b) h0 hle
  refine N_next hf hh (fun c5 h' hp => ?_) (fun c5 h' hp hF' => ?_)
  · rw [tk_nx_5 c5] at hr
    subst hr
    exact k h' hp
  · rw [tk_nx_n c5] at hr
    generalize hu : tk_lex b n t.2.2.2 = u at *
    have ex : ∃ ru, tk_ps b n d l op u = ru := ⟨_, rfl⟩
    obtain ⟨ru, hru⟩ := ex
    rw [hru] at hr
    have fl : ∀ g v q, v.2.2.2 ≤ n → tk_lp b n (tk_ps b n d l op) C F D g v = .inr q → tk_mu n q.2 ≤ tk_mu n v := fun g v q h1 h2 => (tk_lp_fw hC (fun t q => tk_ps_fw d l op t q) D g v q h1 h2).2
    have hcr : 1 + rcost n u ru ≤ mc ∧ 3 + 3 * rcost n u ru ≤ ms := by
      cases ru with
      | inl e =>
        have hr : (.inl e : PR) = r := hr
        subst hr
        rw [rcost_l] at hc hc3 ⊢
        omega
      | inr q =>
        have hq := tk_ps_fw d l op u q (N_le hp) hru
        have hr : tk_lp b n (tk_ps b n d l op) C F D (F t.2.1 sem q.1) q.2 = r := hr
        rw [rcost_r]
        cases r with
        | inl e =>
          rw [rcost_l] at hc hc3
          omega
        | inr z =>
          have := fl _ _ z hq.1 hr
          rw [rcost_r] at hc hc3
          have h2 := hq.2
          omega
    refine N_two ih hl ho hn hp (hF.trans hF') (N_keep hh hF' hnd) (gF := fun g2 => F t.2.1 sem g2) hs hru hcr.1 hcr.2 (fun e he H4 hp4 => ?_) (fun q he H4 a hp4 hF4 hnd4 => ?_)
    · subst he
      have hr : (.inl e : PR) = r := hr
      subst hr
      exact k H4 hp4
    · subst he
      have hr : tk_lp b n (tk_ps b n d l op) C F D (F t.2.1 sem q.1) q.2 = r := hr
      have hq := tk_ps_fw d l op u q (N_le hp) hru
      have hq2 := hq.2
      refine kk q.2 _ H4 a _ _ (by omega) hp4 hF4 (hnd4 _ (by omega) (by omega)) hr ?_ ?_
      · rw [rcost_r]
        cases r with
        | inl e =>
          rw [rcost_l] at hc ⊢
          omega
        | inr z =>
          have := fl _ _ z hq.1 hr
          rw [rcost_r] at hc ⊢
          omega
      · rw [rcost_r]
        cases r with
        | inl e =>
          rw [rcost_l] at hc3 ⊢
          omega
        | inr z =>
          have := fl _ _ z hq.1 hr
          rw [rcost_r] at hc3 ⊢
          omega
theorem G_orc {d op : Nat} {H0 : zH} {K : Option Nat → zH → Prop} {X0 : zH → Prop} {mu0 : Nat} (hf : 200 ≤ f) (ih : GIHc f sa x ca Md b0 G pa rw σ lab n b d) (ho : op ≤ 5) (hn : need 1 op ≤ d) : ∀ (D g : Nat) (sem : SEM) (t : Tok) (H : zH) (va mc ms : Nat) (r : PR), tk_mu n t < D → tk_mu n t < g → tk_mu n t < mu0 → POc sa x ca Md b0 G pa rw σ lab n b t op H → FR x H0 H → nd x H (mu0 - tk_mu n t) va sem → tk_lp b n (tk_ps b n d 1 op) (fun v => decide (tk_key 3 v)) tk_or D sem t = r → rcost n t r ≤ mc → 3 * rcost n t r ≤ ms → OUTc sa x ca Md b0 G pa rw σ lab n b K X0 H0 op mu0 r → zl0_either_5 sa f (zgr0 sa f d) K X0 g H mc ms (some x) (some va) := by
  intro D
  induction D with
  | zero => intro g sem t H va mc ms r h1; omega
  | succ D ihD =>
    intro g sem t H va mc ms r h1 h2 h3 hh hF hnd hr hc hc3 k
    obtain ⟨g, rfl⟩ : ∃ g', g = g' + 1 := ⟨g - 1, by omega⟩
    show zb0_either_5 sa f (zgr0 sa f d) K X0 (zl0_either_5 sa f (zgr0 sa f d) K X0 g) H mc ms (some x) (some va)
    unfold zb0_either_5
    have w : ∀ K, zf0_isKey f H (some x) 3 K = K (if tk_key 3 t then 1 else 0) H := fun K => N_isKey hh (k := 3) (by decide)
    rw [N_rc hh, w]
    by_cases c : tk_key 3 t
    · have h0 : t.1 ≠ 0 := by rw [c.1]; decide
      rw [tk_lp_t _ (decide_eq_true c)] at hr
      rw [if_pos c, if_neg (by decide), N_rc hh]
      exact N_lp hf ih (by decide) ho hn hh h0 hF h3 hnd (s := 124) (F := tk_or) (fun g2 => Or.inl ⟨rfl, rfl⟩) (fun t c => by have := (of_decide_eq_true c).1; rw [this]; decide) hr hc hc3 k (KK := fun h17 m1 m2 v => zl0_either_5 sa f (zgr0 sa f d) K X0 g h17 m1 m2 (some x) v) fun v g' H4 a m1 m2 a1 a2 a3 a4 a5 a6 a7 => ihD g g' v H4 a m1 m2 r (by omega) (by omega) (by omega) a2 a3 a4 a5 a6 a7 k
    · rw [tk_lp_f _ (fun z => c (of_decide_eq_true z))] at hr
      subst hr
      rw [if_neg c, if_pos rfl]
      exact k H va hh hF hnd
theorem G_anc {d op : Nat} {H0 : zH} {K : Option Nat → zH → Prop} {X0 : zH → Prop} {mu0 : Nat} (hf : 200 ≤ f) (ih : GIHc f sa x ca Md b0 G pa rw σ lab n b d) (ho : op ≤ 5) (hn : need 2 op ≤ d) : ∀ (D g : Nat) (sem : SEM) (t : Tok) (H : zH) (va mc ms : Nat) (r : PR), tk_mu n t < D → tk_mu n t < g → tk_mu n t < mu0 → POc sa x ca Md b0 G pa rw σ lab n b t op H → FR x H0 H → nd x H (mu0 - tk_mu n t) va sem → tk_lp b n (tk_ps b n d 2 op) (fun v => decide (tk_key 4 v)) tk_an D sem t = r → rcost n t r ≤ mc → 3 * rcost n t r ≤ ms → OUTc sa x ca Md b0 G pa rw σ lab n b K X0 H0 op mu0 r → zl0_both_5 sa f (zgr0 sa f d) K X0 g H mc ms (some x) (some va) := by
  intro D
  induction D with
  | zero => intro g sem t H va mc ms r h1; omega
  | succ D ihD =>
    intro g sem t H va mc ms r h1 h2 h3 hh hF hnd hr hc hc3 k
    obtain ⟨g, rfl⟩ : ∃ g', g = g' + 1 := ⟨g - 1, by omega⟩
    show zb0_both_5 sa f (zgr0 sa f d) K X0 (zl0_both_5 sa f (zgr0 sa f d) K X0 g) H mc ms (some x) (some va)
    unfold zb0_both_5
    have w : ∀ K, zf0_isKey f H (some x) 4 K = K (if tk_key 4 t then 1 else 0) H := fun K => N_isKey hh (k := 4) (by decide)
    rw [N_rc hh, w]
    by_cases c : tk_key 4 t
    · have h0 : t.1 ≠ 0 := by rw [c.1]; decide
      rw [tk_lp_t _ (decide_eq_true c)] at hr
      rw [if_pos c, if_neg (by decide), N_rc hh]
      exact N_lp hf ih (by decide) ho hn hh h0 hF h3 hnd (s := 38) (F := tk_an) (fun g2 => Or.inr (Or.inl ⟨rfl, rfl⟩)) (fun t c => by have := (of_decide_eq_true c).1; rw [this]; decide) hr hc hc3 k (KK := fun h17 m1 m2 v => zl0_both_5 sa f (zgr0 sa f d) K X0 g h17 m1 m2 (some x) v) fun v g' H4 a m1 m2 a1 a2 a3 a4 a5 a6 a7 => ihD g g' v H4 a m1 m2 r (by omega) (by omega) (by omega) a2 a3 a4 a5 a6 a7 k
    · rw [tk_lp_f _ (fun z => c (of_decide_eq_true z))] at hr
      subst hr
      rw [if_neg c, if_pos rfl]
      exact k H va hh hF hnd
theorem G_tic {d op : Nat} {H0 : zH} {K : Option Nat → zH → Prop} {X0 : zH → Prop} {mu0 : Nat} (hf : 200 ≤ f) (ih : GIHc f sa x ca Md b0 G pa rw σ lab n b d) (ho : op ≤ 5) (hn : need 5 op ≤ d) : ∀ (D g : Nat) (sem : SEM) (t : Tok) (H : zH) (va mc ms : Nat) (r : PR), tk_mu n t < D → tk_mu n t < g → tk_mu n t < mu0 → POc sa x ca Md b0 G pa rw σ lab n b t op H → FR x H0 H → nd x H (mu0 - tk_mu n t) va sem → tk_lp b n (tk_ps b n d 5 op) (fun v => decide (tk_sg 42 v)) tk_ti D sem t = r → rcost n t r ≤ mc → 3 * rcost n t r ≤ ms → OUTc sa x ca Md b0 G pa rw σ lab n b K X0 H0 op mu0 r → zl0_times_5 sa f (zgr0 sa f d) K X0 g H mc ms (some x) (some va) := by
  intro D
  induction D with
  | zero => intro g sem t H va mc ms r h1; omega
  | succ D ihD =>
    intro g sem t H va mc ms r h1 h2 h3 hh hF hnd hr hc hc3 k
    obtain ⟨g, rfl⟩ : ∃ g', g = g' + 1 := ⟨g - 1, by omega⟩
    show zb0_times_5 sa f (zgr0 sa f d) K X0 (zl0_times_5 sa f (zgr0 sa f d) K X0 g) H mc ms (some x) (some va)
    unfold zb0_times_5
    rw [N_rc hh, N_isSign hh]
    by_cases c : tk_sg 42 t
    · have h0 : t.1 ≠ 0 := by rw [c.1]; decide
      rw [tk_lp_t _ (decide_eq_true c)] at hr
      rw [if_pos c, if_neg (by decide), N_rc hh]
      exact N_lp hf ih (by decide) ho hn hh h0 hF h3 hnd (s := 42) (F := tk_ti) (fun g2 => Or.inr (Or.inr (Or.inl ⟨rfl, rfl⟩))) (fun t c => by have := (of_decide_eq_true c).1; rw [this]; decide) hr hc hc3 k (KK := fun h17 m1 m2 v => zl0_times_5 sa f (zgr0 sa f d) K X0 g h17 m1 m2 (some x) v) fun v g' H4 a m1 m2 a1 a2 a3 a4 a5 a6 a7 => ihD g g' v H4 a m1 m2 r (by omega) (by omega) (by omega) a2 a3 a4 a5 a6 a7 k
    · rw [tk_lp_f _ (fun z => c (of_decide_eq_true z))] at hr
      subst hr
      rw [if_neg c, if_pos rfl]
      exact k H va hh hF hnd
theorem G_pmc {d op : Nat} {H0 : zH} {K : Option Nat → zH → Prop} {X0 : zH → Prop} {mu0 : Nat} (hf : 200 ≤ f) (ih : GIHc f sa x ca Md b0 G pa rw σ lab n b d) (ho : op ≤ 5) (hn : need 4 op ≤ d) : ∀ (D g : Nat) (sem : SEM) (t : Tok) (H : zH) (va mc ms : Nat) (r : PR), tk_mu n t < D → tk_mu n t < g → tk_mu n t < mu0 → POc sa x ca Md b0 G pa rw σ lab n b t op H → FR x H0 H → nd x H (mu0 - tk_mu n t) va sem → tk_lp b n (tk_ps b n d 4 op) (fun v => decide (tk_sg 43 v ∨ tk_sg 45 v)) tk_pm D sem t = r → rcost n t r ≤ mc → 3 * rcost n t r ≤ ms → OUTc sa x ca Md b0 G pa rw σ lab n b K X0 H0 op mu0 r → zl0_plus_5 sa f (zgr0 sa f d) K X0 g H mc ms (some x) (some va) := by
  intro D
  induction D with
  | zero => intro g sem t H va mc ms r h1; omega
  | succ D ihD =>
    intro g sem t H va mc ms r h1 h2 h3 hh hF hnd hr hc hc3 k
    obtain ⟨g, rfl⟩ : ∃ g', g = g' + 1 := ⟨g - 1, by omega⟩
    show zb0_plus_5 sa f (zgr0 sa f d) K X0 (zl0_plus_5 sa f (zgr0 sa f d) K X0 g) H mc ms (some x) (some va)
    unfold zb0_plus_5
    rw [N_rc hh, N_isSign hh]
    have step : (tk_sg 43 t ∨ tk_sg 45 t) → zj0_plus_23 sa f (zgr0 sa f d) (zl0_plus_5 sa f (zgr0 sa f d) K X0 g) K X0 H mc ms (some x) (some va) := by
      intro c
      have h4 : t.1 = 4 := by rcases c with z | z <;> exact z.1
      have h0 : t.1 ≠ 0 := by rw [h4]; decide
      rw [tk_lp_t _ (decide_eq_true c)] at hr
      unfold zj0_plus_23
      refine N_19 hh fun v hv => ?_
      have hv := hv h0
      subst hv
      rw [N_rc hh]
      exact N_lp hf ih (by decide) ho hn hh h0 hF h3 hnd (s := t.2.1) (F := tk_pm) (fun g2 => Or.inr (Or.inr (Or.inr (Or.inl ⟨c.elim (fun z => Or.inl z.2) (fun z => Or.inr z.2), rfl⟩)))) (fun t c => by have := of_decide_eq_true c; rcases this with z | z <;> (rw [z.1]; decide)) hr hc hc3 k (KK := fun h17 m1 m2 v => zl0_plus_5 sa f (zgr0 sa f d) K X0 g h17 m1 m2 (some x) v) fun v g' H4 a m1 m2 a1 a2 a3 a4 a5 a6 a7 => ihD g g' v H4 a m1 m2 r (by omega) (by omega) (by omega) a2 a3 a4 a5 a6 a7 k
    by_cases c43 : tk_sg 43 t
    · rw [if_pos c43, if_neg (by decide)]
      exact step (Or.inl c43)
    · rw [if_neg c43, if_pos rfl, N_rc hh, N_isSign hh]
      by_cases c45 : tk_sg 45 t
      · rw [if_pos c45, if_neg (by decide)]
        exact step (Or.inr c45)
      · rw [tk_lp_f _ (fun z => (of_decide_eq_true z).elim c43 c45)] at hr
        subst hr
        rw [if_neg c45, if_pos rfl]
        exact k H va hh hF hnd
end GR
