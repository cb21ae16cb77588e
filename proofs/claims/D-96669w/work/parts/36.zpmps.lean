/-! THE REFERENCE READS: the whole grammar, and a text -/
set_option maxRecDepth 100000
section PS
variable {b : Nat → Int32} {n d op : Nat} {t : Tok}
theorem tk_ps0 : tk_ps b n (d + 1) 0 op t = tk_bd (tk_ps b n d 1 op t) fun a u => tk_lp b n (tk_ps b n d 1 op) (fun v => decide (tk_key 3 v)) tk_or (n + 3) a u := rfl
theorem tk_ps1 : tk_ps b n (d + 1) 1 op t = tk_bd (tk_ps b n d 2 op t) fun a u => tk_lp b n (tk_ps b n d 2 op) (fun v => decide (tk_key 4 v)) tk_an (n + 3) a u := rfl
theorem tk_ps2 : tk_ps b n (d + 1) 2 op t = if tk_key 5 t then (if op < 5 then tk_nx b n t (fun u => tk_bd (tk_ps b n d 2 (op + 1) u) fun a v => .inr (tk_no a, v)) else .inl t.2.2.1)
      else tk_bd (tk_ps b n d 3 op t) fun a u => if tk_sg 60 u ∨ tk_sg 61 u then tk_nx b n u (fun v => tk_bd (tk_ps b n d 3 op v) fun c w => .inr (tk_cm u.2.1 a c, w)) else .inr (a, u) := rfl
theorem tk_ps3 : tk_ps b n (d + 1) 3 op t = tk_bd (tk_ps b n d 4 op t) fun a u => tk_lp b n (tk_ps b n d 4 op) (fun v => decide (tk_sg 43 v ∨ tk_sg 45 v)) tk_pm (n + 3) a u := rfl
theorem tk_ps4 : tk_ps b n (d + 1) 4 op t = tk_bd (tk_ps b n d 5 op t) fun a u => tk_lp b n (tk_ps b n d 5 op) (fun v => decide (tk_sg 42 v)) tk_ti (n + 3) a u := rfl
theorem tk_ps5 : tk_ps b n (d + 1) 5 op t = if t.1 = 3 then tk_nx b n t (fun u => .inr ((fun _ => t.2.1), u))
      else if t.1 = 2 then tk_nx b n t (fun u => .inr ((fun e => e t.2.1.toNatClampNeg), u))
      else if tk_sg 45 t then (if op < 5 then tk_nx b n t (fun u => tk_bd (tk_ps b n d 5 (op + 1) u) fun a v => .inr (tk_ne a, v)) else .inl t.2.2.1)
      else if tk_sg 40 t then (if op < 5 then tk_nx b n t (fun u => tk_bd (tk_ps b n d 0 (op + 1) u) fun a v => if tk_sg 41 v then tk_nx b n v (fun w => .inr (a, w)) else .inl v.2.2.1) else .inl t.2.2.1)
      else .inl t.2.2.1 := rfl
theorem tk_nx_inr {k : Tok → PR} {q : SEM × Tok} (h : tk_nx b n t k = .inr q) : (tk_lex b n t.2.2.2).1 ≠ 5 ∧ k (tk_lex b n t.2.2.2) = .inr q := by
  unfold tk_nx at h
  by_cases c : (tk_lex b n t.2.2.2).1 = 5
  · rw [if_pos c] at h; cases h
  · rw [if_neg c] at h; exact ⟨c, h⟩
theorem tk_nx_5 {k : Tok → PR} (c : (tk_lex b n t.2.2.2).1 = 5) : tk_nx b n t k = .inl (tk_lex b n t.2.2.2).2.2.1 := if_pos c
theorem tk_nx_n {k : Tok → PR} (c : (tk_lex b n t.2.2.2).1 ≠ 5) : tk_nx b n t k = k (tk_lex b n t.2.2.2) := if_neg c
theorem tk_bd_inr {r : PR} {k : SEM → Tok → PR} {q : SEM × Tok} (h : tk_bd r k = .inr q) : ∃ p : SEM × Tok, r = .inr p ∧ k p.1 p.2 = .inr q := by
  cases r with
  | inl e => cases h
  | inr p => exact ⟨p, rfl, h⟩
theorem tk_lp_t {R : Tok → PR} (C : Tok → Bool) {F : Int32 → SEM → SEM → SEM} {a : SEM} (h : C t = true) : tk_lp b n R C F (d + 1) a t = tk_nx b n t (fun u => tk_bd (R u) fun c v => tk_lp b n R C F d (F t.2.1 a c) v) := if_pos h
theorem tk_lp_f {R : Tok → PR} (C : Tok → Bool) {F : Int32 → SEM → SEM → SEM} {a : SEM} (h : ¬ C t = true) : tk_lp b n R C F (d + 1) a t = .inr (a, t) := if_neg h
/-- not behind: where a result's token stands -/
def tk_fw (n : Nat) (t u : Tok) : Prop := u.2.2.2 ≤ n ∧ tk_mu n u ≤ tk_mu n t
theorem tk_fw_lex (h : t.1 ≠ 0) (ha : t.2.2.2 ≤ n) : tk_fw n t (tk_lex b n t.2.2.2) := ⟨(tk_lex_at ha).2.2.1, Nat.le_of_lt (tk_mu_lt h ha)⟩
theorem tk_fw.trans {u v : Tok} (h1 : tk_fw n t u) (h2 : tk_fw n u v) : tk_fw n t v := ⟨h2.1, Nat.le_trans h2.2 h1.2⟩
theorem tk_lp_fw {R : Tok → PR} {C : Tok → Bool} {F : Int32 → SEM → SEM → SEM} (hC : ∀ t : Tok, C t = true → t.1 ≠ 0) (hR : ∀ (t : Tok) (q : SEM × Tok), t.2.2.2 ≤ n → R t = .inr q → tk_fw n t q.2) : ∀ (d : Nat) (a : SEM) (t : Tok) (q : SEM × Tok), t.2.2.2 ≤ n → tk_lp b n R C F d a t = .inr q → tk_fw n t q.2 := by
  intro d
  induction d with
  | zero => intro a t q _ h; cases h
  | succ d ih =>
    intro a t q ht h
    by_cases c : C t = true
    · rw [tk_lp_t C c] at h
      obtain ⟨-, h2⟩ := tk_nx_inr h
      obtain ⟨p, h3, h4⟩ := tk_bd_inr h2
      have f1 := tk_fw_lex (b := b) (hC t c) ht
      have f2 := hR _ p f1.1 h3
      exact (f1.trans f2).trans (ih _ _ q f2.1 h4)
    · rw [tk_lp_f C c] at h
      cases h
      exact ⟨ht, Nat.le_refl _⟩
theorem tk_ps_fw : ∀ (d l op : Nat) (t : Tok) (q : SEM × Tok), t.2.2.2 ≤ n → tk_ps b n d l op t = .inr q → tk_fw n t q.2 := by
  intro d
  induction d with
  | zero => intro l op t q _ h; cases h
  | succ d ih =>
    have five : ∀ (op : Nat) (t : Tok) (q : SEM × Tok), t.2.2.2 ≤ n → tk_ps b n (d + 1) 5 op t = .inr q → tk_fw n t q.2 := by
      intro op t q ht h
      rw [tk_ps5] at h
      by_cases c3 : t.1 = 3
      · rw [if_pos c3] at h
        obtain ⟨-, h2⟩ := tk_nx_inr h
        cases h2
        exact tk_fw_lex (by rw [c3]; decide) ht
      rw [if_neg c3] at h
      by_cases c2 : t.1 = 2
      · rw [if_pos c2] at h
        obtain ⟨-, h2⟩ := tk_nx_inr h
        cases h2
        exact tk_fw_lex (by rw [c2]; decide) ht
      rw [if_neg c2] at h
      by_cases c45 : tk_sg 45 t
      · rw [if_pos c45] at h
        by_cases co : op < 5
        · rw [if_pos co] at h
          obtain ⟨-, h2⟩ := tk_nx_inr h
          obtain ⟨p, h3, h4⟩ := tk_bd_inr h2
          cases h4
          have f1 := tk_fw_lex (b := b) (t := t) (by rw [c45.1]; decide) ht
          exact f1.trans (ih 5 _ _ p f1.1 h3)
        · rw [if_neg co] at h; cases h
      rw [if_neg c45] at h
      by_cases c40 : tk_sg 40 t
      · rw [if_pos c40] at h
        by_cases co : op < 5
        · rw [if_pos co] at h
          obtain ⟨-, h2⟩ := tk_nx_inr h
          obtain ⟨p, h3, h4⟩ := tk_bd_inr h2
          have f1 := tk_fw_lex (b := b) (t := t) (by rw [c40.1]; decide) ht
          have f2 := f1.trans (ih 0 _ _ p f1.1 h3)
          by_cases c41 : tk_sg 41 p.2
          · rw [if_pos c41] at h4
            obtain ⟨-, h5⟩ := tk_nx_inr h4
            cases h5
            exact f2.trans (tk_fw_lex (by rw [c41.1]; decide) f2.1)
          · rw [if_neg c41] at h4; cases h4
        · rw [if_neg co] at h; cases h
      rw [if_neg c40] at h
      cases h
    intro l op t q ht h
    match l with
    | 0 =>
      rw [tk_ps0] at h
      obtain ⟨p, h3, h4⟩ := tk_bd_inr h
      have f1 := ih 1 _ _ p ht h3
      exact f1.trans (tk_lp_fw (fun t c => by have := (of_decide_eq_true c).1; rw [this]; decide) (fun t q => ih 1 op t q) _ _ _ q f1.1 h4)
    | 1 =>
      rw [tk_ps1] at h
      obtain ⟨p, h3, h4⟩ := tk_bd_inr h
      have f1 := ih 2 _ _ p ht h3
      exact f1.trans (tk_lp_fw (fun t c => by have := (of_decide_eq_true c).1; rw [this]; decide) (fun t q => ih 2 op t q) _ _ _ q f1.1 h4)
    | 2 =>
      rw [tk_ps2] at h
      by_cases c5 : tk_key 5 t
      · rw [if_pos c5] at h
        by_cases co : op < 5
        · rw [if_pos co] at h
          obtain ⟨-, h2⟩ := tk_nx_inr h
          obtain ⟨p, h3, h4⟩ := tk_bd_inr h2
          cases h4
          have f1 := tk_fw_lex (b := b) (t := t) (by rw [c5.1]; decide) ht
          exact f1.trans (ih 2 _ _ p f1.1 h3)
        · rw [if_neg co] at h; cases h
      · rw [if_neg c5] at h
        obtain ⟨p, h3, h4⟩ := tk_bd_inr h
        have f1 := ih 3 _ _ p ht h3
        by_cases c6 : tk_sg 60 p.2 ∨ tk_sg 61 p.2
        · rw [if_pos c6] at h4
          obtain ⟨-, h5⟩ := tk_nx_inr h4
          obtain ⟨r, h6, h7⟩ := tk_bd_inr h5
          cases h7
          have f2 := tk_fw_lex (b := b) (t := p.2) (by rcases c6 with z | z <;> (rw [z.1]; decide)) f1.1
          exact (f1.trans f2).trans (ih 3 _ _ r f2.1 h6)
        · rw [if_neg c6] at h4
          cases h4
          exact f1
    | 3 =>
      rw [tk_ps3] at h
      obtain ⟨p, h3, h4⟩ := tk_bd_inr h
      have f1 := ih 4 _ _ p ht h3
      exact f1.trans (tk_lp_fw (fun t c => by rcases of_decide_eq_true c with z | z <;> (rw [z.1]; decide)) (fun t q => ih 4 op t q) _ _ _ q f1.1 h4)
    | 4 =>
      rw [tk_ps4] at h
      obtain ⟨p, h3, h4⟩ := tk_bd_inr h
      have f1 := ih 5 _ _ p ht h3
      exact f1.trans (tk_lp_fw (fun t c => by have := (of_decide_eq_true c).1; rw [this]; decide) (fun t q => ih 5 op t q) _ _ _ q f1.1 h4)
    | _ + 5 => exact five op t q ht h
end PS
section MP
variable {f m : Nat} {ad : Nat → Nat} {b0 : zH} {σ : Nat → Nat → Int32} {n base : Nat} {h : zH} {t : Tok} {op e : Nat} {K : Int32 → zH → Prop}
def OUT (m : Nat) (ad : Nat → Nat) (b0 : zH) (σ : Nat → Nat → Int32) (n base op : Nat) (K : Int32 → zH → Prop) (r : PR) : Prop := match r with
  | .inl e => ∀ v h', PF m ad b0 σ n base e h' → K v h'
  | .inr q => ∀ h', POk m ad b0 σ n base q.2 op h' → K (q.1 (tk_en σ)) h'
abbrev need (l op : Nat) : Nat := 6 * (5 - op) + (6 - l)
def GIH (f m : Nat) (ad : Nat → Nat) (b0 : zH) (σ : Nat → Nat → Int32) (n base d : Nat) : Prop := ∀ (l op : Nat) (t : Tok) (h : zH) (K : Int32 → zH → Prop), l ≤ 5 → op ≤ 5 → need l op ≤ d → POk m ad b0 σ n base t op h → OUT m ad b0 σ n base op K (tk_ps (MB σ base) n d l op t) → zgr8 f d l h (some m) K
theorem POk.le (hh : POk m ad b0 σ n base t op h) : t.2.2.2 ≤ n := by
  obtain ⟨τ, w, -, -, -, -, -, ht⟩ := hh
  exact ht.2.2.1
theorem POk.nm (hh : POk m ad b0 σ n base t op h) (h2 : t.1 = 2) : ∃ k : Nat, k < 6 ∧ t.2.1 = nI k := by
  obtain ⟨τ, w, -, -, -, -, -, ht⟩ := hh
  rcases ht.2.2.2 with z | z | ⟨-, -, -, -, z1, z2, z3⟩ | z | z | z
  · rw [h2] at z; exact absurd z.1 (by decide)
  · rw [h2] at z; exact absurd z.1 (by decide)
  · exact ⟨_, by omega, z3⟩
  · rw [h2] at z; exact absurd z.1 (by decide)
  · rw [h2] at z; exact absurd z.1 (by decide)
  · rw [h2] at z; exact absurd z.1 (by decide)
theorem tk_mu_pos {t : Tok} (h0 : t.1 ≠ 0) (h : t.2.2.2 ≤ n) : 1 ≤ tk_mu n t := by
  unfold tk_mu
  rw [if_neg h0]
  omega
theorem P_dn1 (C : MC f m ad σ n base) (hh : PF1 m ad b0 σ e h) {P : zH → Prop} (k : ∀ h', PF1 m ad b0 σ e h' → P h') : gfI h (some m) [13] 26 fun x => pf h (some m) [13] 26 (.int (x - 1)) P := by
  obtain ⟨τ, w, rfl, h2, h3, h4⟩ := hh
  simp only [zmR C.1]
  exact k _ ⟨_, w, rfl, h2.up ⟨by omega, by omega⟩, by rw [mup_ne0 (by decide)]; exact h3, by rw [mup_ne0 (by decide)]; exact h4⟩
variable {Rg : Nat → zH → Option Nat → (Int32 → zH → Prop) → Prop}
theorem F_or (C : MC f m ad σ n base) (hp : PF m ad b0 σ n base e h) (k : ∀ v h', PF m ad b0 σ n base e h' → K v h') {g : Nat} (hg : 1 ≤ g) {v : Int32} : zl8_either_5 f Rg K g h (some m) v := by
  obtain ⟨g, rfl⟩ : ∃ g', g = g' + 1 := ⟨g - 1, by omega⟩
  show zb8_either_5 f Rg K (zl8_either_5 f Rg K g) h (some m) v
  unfold zb8_either_5
  have w : ∀ K, zf8_isWord f h (some m) 111 114 0 0 0 0 0 0 K = K 0 h := fun K => P_isWordF C hp 3 (by decide)
  rw [P_rc hp.hm, w, if_pos rfl]
  exact k v h hp
theorem F_an (C : MC f m ad σ n base) (hp : PF m ad b0 σ n base e h) (k : ∀ v h', PF m ad b0 σ n base e h' → K v h') {g : Nat} (hg : 1 ≤ g) {v : Int32} : zl8_both_5 f Rg K g h (some m) v := by
  obtain ⟨g, rfl⟩ : ∃ g', g = g' + 1 := ⟨g - 1, by omega⟩
  show zb8_both_5 f Rg K (zl8_both_5 f Rg K g) h (some m) v
  unfold zb8_both_5
  have w : ∀ K, zf8_isWord f h (some m) 97 110 100 0 0 0 0 0 K = K 0 h := fun K => P_isWordF C hp 4 (by decide)
  rw [P_rc hp.hm, w, if_pos rfl]
  exact k v h hp
theorem F_pm (C : MC f m ad σ n base) (hp : PF m ad b0 σ n base e h) (k : ∀ v h', PF m ad b0 σ n base e h' → K v h') {g : Nat} (hg : 1 ≤ g) {v : Int32} : zl8_added_5 f Rg K g h (some m) v := by
  obtain ⟨g, rfl⟩ : ∃ g', g = g' + 1 := ⟨g - 1, by omega⟩
  show zb8_added_5 f Rg K (zl8_added_5 f Rg K g) h (some m) v
  unfold zb8_added_5
  rw [P_rc hp.hm, P_isSignF C hp, if_pos rfl, P_rc hp.hm, P_isSignF C hp, if_pos rfl]
  exact k v h hp
theorem F_ti (C : MC f m ad σ n base) (hp : PF m ad b0 σ n base e h) (k : ∀ v h', PF m ad b0 σ n base e h' → K v h') {g : Nat} (hg : 1 ≤ g) {v : Int32} : zl8_term_5 f Rg K g h (some m) v := by
  obtain ⟨g, rfl⟩ : ∃ g', g = g' + 1 := ⟨g - 1, by omega⟩
  show zb8_term_5 f Rg K (zl8_term_5 f Rg K g) h (some m) v
  unfold zb8_term_5
  rw [P_rc hp.hm, P_isSignF C hp, if_pos rfl]
  exact k v h hp
theorem G_or (C : MC f m ad σ n base) (d : Nat) (ih : GIH f m ad b0 σ n base d) (ho : op ≤ 5) (hn : need 1 op ≤ d) : ∀ (D g : Nat) (a : SEM) (t : Tok) (h : zH), tk_mu n t < D → tk_mu n t < g → POk m ad b0 σ n base t op h → OUT m ad b0 σ n base op K (tk_lp (MB σ base) n (tk_ps (MB σ base) n d 1 op) (fun v => decide (tk_key 3 v)) tk_or D a t) → zl8_either_5 f (zgr8 f d) K g h (some m) (a (tk_en σ)) := by
  have hnn : 6 * (5 - op) + (6 - 1) ≤ d := hn
  intro D
  induction D with
  | zero => intro g a t h h1; omega
  | succ D ihD =>
    intro g a t h h1 h2 hh k
    obtain ⟨g, rfl⟩ : ∃ g', g = g' + 1 := ⟨g - 1, by omega⟩
    show zb8_either_5 f (zgr8 f d) K (zl8_either_5 f (zgr8 f d) K g) h (some m) (a (tk_en σ))
    have w : ∀ K, zf8_isWord f h (some m) 111 114 0 0 0 0 0 0 K = K (if tk_key 3 t then 1 else 0) h := fun K => P_isWordK C hh 3 (by decide)
    unfold zb8_either_5
    rw [P_rc hh.hm, w]
    by_cases c : tk_key 3 t
    · have h0 : t.1 ≠ 0 := by rw [c.1]; decide
      have hp0 := tk_mu_pos h0 hh.le
      have hmu := tk_mu_lt (b := MB σ base) h0 hh.le
      rw [tk_lp_t _ (decide_eq_true c)] at k
      rw [if_pos c, if_neg (by decide), P_rc hh.hm]
      have sp : ∀ (x : Int32) (h8 : zH), zl8_either_5 f (zgr8 f d) K g h8 (some m) (if a (tk_en σ) = 0 then (if x = 0 then 0 else 1) else 1) → (if a (tk_en σ) = 0 then (if x = 0 then zj8_either_44 f (zgr8 f d) (zl8_either_5 f (zgr8 f d) K g) K h8 (some m) 0 else zj8_either_39 f (zgr8 f d) (zl8_either_5 f (zgr8 f d) K g) K h8 (some m)) else zj8_either_39 f (zgr8 f d) (zl8_either_5 f (zgr8 f d) K g) K h8 (some m)) := by
        intro x h8 hr
        unfold zj8_either_39 zj8_either_44
        by_cases c1 : a (tk_en σ) = 0
        · rw [if_pos c1] at hr ⊢
          by_cases c2 : x = 0
          · rw [if_pos c2] at hr ⊢; exact hr
          · rw [if_neg c2] at hr ⊢; exact hr
        · rw [if_neg c1] at hr ⊢; exact hr
      refine P_next C hh h0 (fun c5 h' hp => ?_) (fun c5 h' hp => ?_)
      · rw [tk_nx_5 c5] at k
        rw [P_rc hp.hm]
        exact G_F C d 1 h' _ (by omega) (by omega) hp fun v h3 hp3 => sp v h3 (F_or C hp3 k (by omega))
      · rw [tk_nx_n c5] at k
        rw [P_rc hp.hm]
        refine ih 1 op _ h' _ (by omega) ho hn hp ?_
        cases hr : tk_ps (MB σ base) n d 1 op (tk_lex (MB σ base) n t.2.2.2) with
        | inl e => rw [hr] at k; exact fun v h3 hp3 => sp v h3 (F_or C hp3 k (by omega))
        | inr q =>
          rw [hr] at k
          have hq := tk_ps_fw d 1 op _ q hp.le hr
          exact fun h3 hp3 => sp _ h3 (ihD g (tk_or t.2.1 a q.1) q.2 h3 (by have := hq.2; omega) (by have := hq.2; omega) hp3 k)
    · rw [tk_lp_f _ (fun z => c (of_decide_eq_true z))] at k
      rw [if_neg c, if_pos rfl]
      exact k h hh
theorem G_an (C : MC f m ad σ n base) (d : Nat) (ih : GIH f m ad b0 σ n base d) (ho : op ≤ 5) (hn : need 2 op ≤ d) : ∀ (D g : Nat) (a : SEM) (t : Tok) (h : zH), tk_mu n t < D → tk_mu n t < g → POk m ad b0 σ n base t op h → OUT m ad b0 σ n base op K (tk_lp (MB σ base) n (tk_ps (MB σ base) n d 2 op) (fun v => decide (tk_key 4 v)) tk_an D a t) → zl8_both_5 f (zgr8 f d) K g h (some m) (a (tk_en σ)) := by
  have hnn : 6 * (5 - op) + (6 - 2) ≤ d := hn
  intro D
  induction D with
  | zero => intro g a t h h1; omega
  | succ D ihD =>
    intro g a t h h1 h2 hh k
    obtain ⟨g, rfl⟩ : ∃ g', g = g' + 1 := ⟨g - 1, by omega⟩
    show zb8_both_5 f (zgr8 f d) K (zl8_both_5 f (zgr8 f d) K g) h (some m) (a (tk_en σ))
    have w : ∀ K, zf8_isWord f h (some m) 97 110 100 0 0 0 0 0 K = K (if tk_key 4 t then 1 else 0) h := fun K => P_isWordK C hh 4 (by decide)
    unfold zb8_both_5
    rw [P_rc hh.hm, w]
    by_cases c : tk_key 4 t
    · have h0 : t.1 ≠ 0 := by rw [c.1]; decide
      have hp0 := tk_mu_pos h0 hh.le
      have hmu := tk_mu_lt (b := MB σ base) h0 hh.le
      rw [tk_lp_t _ (decide_eq_true c)] at k
      rw [if_pos c, if_neg (by decide), P_rc hh.hm]
      have sp : ∀ (x : Int32) (h8 : zH), zl8_both_5 f (zgr8 f d) K g h8 (some m) (if a (tk_en σ) = 0 then 0 else (if x = 0 then 0 else 1)) → (if a (tk_en σ) = 0 then zj8_both_44 f (zgr8 f d) (zl8_both_5 f (zgr8 f d) K g) K h8 (some m) else (if x = 0 then zj8_both_44 f (zgr8 f d) (zl8_both_5 f (zgr8 f d) K g) K h8 (some m) else zj8_both_45 f (zgr8 f d) (zl8_both_5 f (zgr8 f d) K g) K h8 (some m) 1)) := by
        intro x h8 hr
        unfold zj8_both_44 zj8_both_45
        by_cases c1 : a (tk_en σ) = 0
        · rw [if_pos c1] at hr ⊢; exact hr
        · rw [if_neg c1] at hr ⊢
          by_cases c2 : x = 0
          · rw [if_pos c2] at hr ⊢; exact hr
          · rw [if_neg c2] at hr ⊢; exact hr
      refine P_next C hh h0 (fun c5 h' hp => ?_) (fun c5 h' hp => ?_)
      · rw [tk_nx_5 c5] at k
        rw [P_rc hp.hm]
        exact G_F C d 2 h' _ (by omega) (by omega) hp fun v h3 hp3 => sp v h3 (F_an C hp3 k (by omega))
      · rw [tk_nx_n c5] at k
        rw [P_rc hp.hm]
        refine ih 2 op _ h' _ (by omega) ho hn hp ?_
        cases hr : tk_ps (MB σ base) n d 2 op (tk_lex (MB σ base) n t.2.2.2) with
        | inl e => rw [hr] at k; exact fun v h3 hp3 => sp v h3 (F_an C hp3 k (by omega))
        | inr q =>
          rw [hr] at k
          have hq := tk_ps_fw d 2 op _ q hp.le hr
          exact fun h3 hp3 => sp _ h3 (ihD g (tk_an t.2.1 a q.1) q.2 h3 (by have := hq.2; omega) (by have := hq.2; omega) hp3 k)
    · rw [tk_lp_f _ (fun z => c (of_decide_eq_true z))] at k
      rw [if_neg c, if_pos rfl]
      exact k h hh
theorem G_ti (C : MC f m ad σ n base) (d : Nat) (ih : GIH f m ad b0 σ n base d) (ho : op ≤ 5) (hn : need 5 op ≤ d) : ∀ (D g : Nat) (a : SEM) (t : Tok) (h : zH), tk_mu n t < D → tk_mu n t < g → POk m ad b0 σ n base t op h → OUT m ad b0 σ n base op K (tk_lp (MB σ base) n (tk_ps (MB σ base) n d 5 op) (fun v => decide (tk_sg 42 v)) tk_ti D a t) → zl8_term_5 f (zgr8 f d) K g h (some m) (a (tk_en σ)) := by
  have hnn : 6 * (5 - op) + (6 - 5) ≤ d := hn
  intro D
  induction D with
  | zero => intro g a t h h1; omega
  | succ D ihD =>
    intro g a t h h1 h2 hh k
    obtain ⟨g, rfl⟩ : ∃ g', g = g' + 1 := ⟨g - 1, by omega⟩
    show zb8_term_5 f (zgr8 f d) K (zl8_term_5 f (zgr8 f d) K g) h (some m) (a (tk_en σ))
    unfold zb8_term_5
    rw [P_rc hh.hm, P_isSign C hh]
    by_cases c : tk_sg 42 t
    · have h0 : t.1 ≠ 0 := by rw [c.1]; decide
      have hp0 := tk_mu_pos h0 hh.le
      have hmu := tk_mu_lt (b := MB σ base) h0 hh.le
      rw [tk_lp_t _ (decide_eq_true c)] at k
      rw [if_pos c, if_neg (by decide), P_rc hh.hm]
      refine P_next C hh h0 (fun c5 h' hp => ?_) (fun c5 h' hp => ?_)
      · rw [tk_nx_5 c5] at k
        rw [P_rc hp.hm]
        exact G_F C d 5 h' _ (by omega) (by omega) hp fun v h3 hp3 x ex => F_ti C hp3 k (by omega)
      · rw [tk_nx_n c5] at k
        rw [P_rc hp.hm]
        refine ih 5 op _ h' _ (by omega) ho hn hp ?_
        cases hr : tk_ps (MB σ base) n d 5 op (tk_lex (MB σ base) n t.2.2.2) with
        | inl e => rw [hr] at k; exact fun v h3 hp3 x ex => F_ti C hp3 k (by omega)
        | inr q =>
          rw [hr] at k
          have hq := tk_ps_fw d 5 op _ q hp.le hr
          intro h3 hp3 x ex
          rw [ex]
          exact ihD g (tk_ti t.2.1 a q.1) q.2 h3 (by have := hq.2; omega) (by have := hq.2; omega) hp3 k
    · rw [tk_lp_f _ (fun z => c (of_decide_eq_true z))] at k
      rw [if_neg c, if_pos rfl]
      exact k h hh
theorem G_pm (C : MC f m ad σ n base) (d : Nat) (ih : GIH f m ad b0 σ n base d) (ho : op ≤ 5) (hn : need 4 op ≤ d) : ∀ (D g : Nat) (a : SEM) (t : Tok) (h : zH), tk_mu n t < D → tk_mu n t < g → POk m ad b0 σ n base t op h → OUT m ad b0 σ n base op K (tk_lp (MB σ base) n (tk_ps (MB σ base) n d 4 op) (fun v => decide (tk_sg 43 v ∨ tk_sg 45 v)) tk_pm D a t) → zl8_added_5 f (zgr8 f d) K g h (some m) (a (tk_en σ)) := by
  have hnn : 6 * (5 - op) + (6 - 4) ≤ d := hn
  intro D
  induction D with
  | zero => intro g a t h h1; omega
  | succ D ihD =>
    intro g a t h h1 h2 hh k
    obtain ⟨g, rfl⟩ : ∃ g', g = g' + 1 := ⟨g - 1, by omega⟩
    show zb8_added_5 f (zgr8 f d) K (zl8_added_5 f (zgr8 f d) K g) h (some m) (a (tk_en σ))
    unfold zb8_added_5
    have step : (tk_sg 43 t ∨ tk_sg 45 t) → zj8_added_23 f (zgr8 f d) (zl8_added_5 f (zgr8 f d) K g) K h (some m) (a (tk_en σ)) := by
      intro c
      have h4 : t.1 = 4 := by rcases c with z | z <;> exact z.1
      have h0 : t.1 ≠ 0 := by rw [h4]; decide
      have hp0 := tk_mu_pos h0 hh.le
      have hmu := tk_mu_lt (b := MB σ base) h0 hh.le
      rw [tk_lp_t _ (decide_eq_true c)] at k
      have go : ∀ s0 : Int32, s0 = (if t.2.1 = 43 then 1 else 0) → zj8_added_39 f (zgr8 f d) (zl8_added_5 f (zgr8 f d) K g) K h (some m) (a (tk_en σ)) s0 := by
        intro s0 hs
        unfold zj8_added_39
        rw [P_rc hh.hm]
        have sp : ∀ (x : Int32) (h8 : zH), zl8_added_5 f (zgr8 f d) K g h8 (some m) (if t.2.1 = 43 then a (tk_en σ) + x else a (tk_en σ) - x) → (if s0 = 0 then zj8_added_62 f (zgr8 f d) (zl8_added_5 f (zgr8 f d) K g) K h8 (some m) (a (tk_en σ) - x) else zj8_added_62 f (zgr8 f d) (zl8_added_5 f (zgr8 f d) K g) K h8 (some m) (a (tk_en σ) + x)) := by
          intro x h8 hr
          unfold zj8_added_62
          by_cases c1 : t.2.1 = 43
          · rw [if_pos c1] at hr hs
            rw [hs, if_neg (by decide)]
            exact hr
          · rw [if_neg c1] at hr hs
            rw [hs, if_pos rfl]
            exact hr
        refine P_next C hh h0 (fun c5 h' hp => ?_) (fun c5 h' hp => ?_)
        · rw [tk_nx_5 c5] at k
          rw [P_rc hp.hm]
          exact G_F C d 4 h' _ (by omega) (by omega) hp fun v h3 hp3 => sp v h3 (F_pm C hp3 k (by omega))
        · rw [tk_nx_n c5] at k
          rw [P_rc hp.hm]
          refine ih 4 op _ h' _ (by omega) ho hn hp ?_
          cases hr : tk_ps (MB σ base) n d 4 op (tk_lex (MB σ base) n t.2.2.2) with
          | inl e => rw [hr] at k; exact fun v h3 hp3 => sp v h3 (F_pm C hp3 k (by omega))
          | inr q =>
            rw [hr] at k
            have hq := tk_ps_fw d 4 op _ q hp.le hr
            exact fun h3 hp3 => sp _ h3 (ihD g (tk_pm t.2.1 a q.1) q.2 h3 (by have := hq.2; omega) (by have := hq.2; omega) hp3 k)
      unfold zj8_added_23
      rw [P_25s C hh h4]
      have e43 : (43 : Int64) = (43 : Int32).toInt64 := by decide
      by_cases c1 : t.2.1 = 43
      · rw [if_pos ((lg_cmp_eq _ _).mpr (by rw [c1]; exact e43.symm))]
        exact go 1 (by rw [if_pos c1])
      · rw [if_neg (fun z => c1 (i32_64.mp (by rw [← e43]; exact (lg_cmp_eq _ _).mp z)))]
        exact go 0 (by rw [if_neg c1])
    rw [P_rc hh.hm, P_isSign C hh, P_rc hh.hm, P_isSign C hh]
    by_cases c43 : tk_sg 43 t
    · rw [if_pos c43, if_neg (by decide)]
      exact step (Or.inl c43)
    · rw [if_neg c43, if_pos rfl]
      by_cases c45 : tk_sg 45 t
      · rw [if_pos c45, if_neg (by decide)]
        exact step (Or.inr c45)
      · rw [if_neg c45, if_pos rfl]
        rw [tk_lp_f _ (fun z => (of_decide_eq_true z).elim c43 c45)] at k
        exact k h hh
end MP
