/-! THE REFERENCE READS: every level; parts; a whole text -/
set_option maxRecDepth 100000
section MA
variable {f m : Nat} {ad : Nat → Nat} {b0 : zH} {σ : Nat → Nat → Int32} {n base : Nat} {h : zH} {t : Tok} {op e : Nat} {K : Int32 → zH → Prop}
theorem POk.ne5 (hh : POk m ad b0 σ n base t op h) : t.1 ≠ 5 := by
  obtain ⟨τ, w, -, -, -, -, h5, -⟩ := hh
  exact h5
theorem G_71F (C : MC f m ad σ n base) (Rg : Nat → zH → Option Nat → (Int32 → zH → Prop) → Prop) {v : Int32} (hh : PF1 m ad b0 σ e h) (k : ∀ v h', PF m ad b0 σ n base e h' → K v h') : zj8_atom_71 f Rg K h (some m) v := by
  unfold zj8_atom_71
  refine P_dn1 C hh fun h' hp => ?_
  rw [P_27F C hp, if_neg (by decide)]
  exact k v h' (Or.inl hp)
theorem G_1 (C : MC f m ad σ n base) (d : Nat) (ih : GIH f m ad b0 σ n base d) (ho : op ≤ 5) (hn : need 5 op ≤ d + 1) (hh : POk m ad b0 σ n base t op h) (k : OUT m ad b0 σ n base op K (tk_ps (MB σ base) n (d + 1) 5 op t)) : zf8_atom f (zgr8 f d) h (some m) K := by
  have hnn : 6 * (5 - op) + (6 - 5) ≤ d + 1 := hn
  have hn5 := hh.ne5
  rw [tk_ps5] at k
  unfold zf8_atom
  rw [P_rc hh.hm, P_isSign C hh]
  have g157 : (t.1 = 3 → False) → (t.1 = 2 → False) → ¬ tk_sg 45 t → ¬ tk_sg 40 t → zj8_atom_157 f (zgr8 f d) K h (some m) 0 := by
    intro c3 c2 c45 c40
    rw [if_neg c3, if_neg c2, if_neg c45, if_neg c40] at k
    unfold zj8_atom_157
    rw [P_rc hh.hm]
    exact P_fail C hh fun h' hp => k 0 h' (Or.inl hp)
  by_cases c45 : tk_sg 45 t
  · have h0 : t.1 ≠ 0 := by rw [c45.1]; decide
    rw [if_neg (by rw [c45.1]; decide), if_neg (by rw [c45.1]; decide), if_pos c45] at k
    rw [if_pos c45, if_neg (by decide), P_rc hh.hm]
    refine P_opens C hh h0 ho (fun co h' hp => ?_) (fun co c5 h' hp => ?_) (fun co c5 h' hp => ?_)
    · rw [if_neg co] at k
      rw [if_pos rfl]
      exact k 0 h' (Or.inl hp)
    · rw [if_pos co, tk_nx_5 c5] at k
      rw [if_neg (by decide), P_rc hp.hm]
      refine G_F C d 5 h' _ (by omega) (by omega) hp fun v h2 hp2 x ex => ?_
      exact P_dnF C hp2 fun h3 hp3 => k x h3 hp3
    · rw [if_pos co, tk_nx_n c5] at k
      rw [if_neg (by decide), P_rc hp.hm]
      refine ih 5 (op + 1) _ h' _ (by omega) (by omega) (by show 6 * (5 - (op + 1)) + (6 - 5) ≤ d; omega) hp ?_
      cases hr : tk_ps (MB σ base) n d 5 (op + 1) (tk_lex (MB σ base) n t.2.2.2) with
      | inl e => rw [hr] at k; exact fun v h2 hp2 x ex => P_dnF C hp2 fun h3 hp3 => k x h3 hp3
      | inr q =>
        rw [hr] at k
        intro h2 hp2 x ex
        refine P_dn C hp2 fun h3 hp3 => ?_
        rw [ex]
        exact k h3 hp3
  · rw [if_neg c45, if_pos rfl, P_rc hh.hm, P_isSign C hh]
    by_cases c40 : tk_sg 40 t
    · have h0 : t.1 ≠ 0 := by rw [c40.1]; decide
      rw [if_neg (by rw [c40.1]; decide), if_neg (by rw [c40.1]; decide), if_neg c45, if_pos c40] at k
      rw [if_pos c40, if_neg (by decide), P_rc hh.hm]
      refine P_opens C hh h0 ho (fun co h' hp => ?_) (fun co c5 h' hp => ?_) (fun co c5 h' hp => ?_)
      · rw [if_neg co] at k
        rw [if_pos rfl]
        exact k 0 h' (Or.inl hp)
      · rw [if_pos co, tk_nx_5 c5] at k
        rw [if_neg (by decide), P_rc hp.hm]
        refine G_F C d 0 h' _ (by omega) (by omega) hp fun v h2 hp2 => ?_
        rw [P_rc hp2.hm, P_isSignF C hp2, if_pos rfl, P_rc hp2.hm]
        exact P_failF C hp2 fun h3 hp3 => G_71F C _ hp3 k
      · rw [if_pos co, tk_nx_n c5] at k
        rw [if_neg (by decide), P_rc hp.hm]
        refine ih 0 (op + 1) _ h' _ (by omega) (by omega) (by show 6 * (5 - (op + 1)) + (6 - 0) ≤ d; omega) hp ?_
        cases hr : tk_ps (MB σ base) n d 0 (op + 1) (tk_lex (MB σ base) n t.2.2.2) with
        | inl e =>
          rw [hr] at k
          intro v h2 hp2
          rw [P_rc hp2.hm, P_isSignF C hp2, if_pos rfl, P_rc hp2.hm]
          exact P_failF C hp2 fun h3 hp3 => G_71F C _ hp3 k
        | inr q =>
          rw [hr] at k
          have k : OUT m ad b0 σ n base op K (if tk_sg 41 q.2 then tk_nx (MB σ base) n q.2 (fun w => .inr (q.1, w)) else .inl q.2.2.2.1) := k
          intro h2 hp2
          rw [P_rc hp2.hm, P_isSign C hp2]
          by_cases c41 : tk_sg 41 q.2
          · rw [if_pos c41] at k
            rw [if_pos c41, if_neg (by decide)]
            unfold zj8_atom_71
            refine P_dn C hp2 fun h3 hp3 => ?_
            rw [P_27 C hp3, if_pos rfl, P_rc hp3.hm]
            refine P_next C hp3 (by rw [c41.1]; decide) (fun c6 h4 hp4 => ?_) (fun c6 h4 hp4 => ?_)
            · rw [tk_nx_5 c6] at k
              exact k _ h4 hp4
            · rw [tk_nx_n c6] at k
              exact k h4 hp4
          · rw [if_neg c41] at k
            rw [if_neg c41, if_pos rfl, P_rc hp2.hm]
            exact P_fail C hp2 fun h3 hp3 => G_71F C _ hp3 k
    · rw [if_neg c40, if_pos rfl, P_27 C hh, if_pos rfl, P_23 C hh]
      by_cases c3 : t.1 = 3
      · rw [if_pos c3] at k
        rw [if_pos (by rw [c3]; decide)]
        refine P_25n C hh c3 fun w hw x ex => ?_
        rw [P_rc hh.hm]
        refine P_next C hh (by rw [c3]; decide) (fun c6 h4 hp4 => ?_) (fun c6 h4 hp4 => ?_)
        · rw [tk_nx_5 c6] at k
          exact k _ h4 hp4
        · rw [tk_nx_n c6] at k
          rw [ex, hw]
          exact k h4 hp4
      · have n2 : ¬ (if t.1 = 0 then (0 : Int32) else if t.1 = 3 then 2 else if t.1 = 4 then 3 else 1) = 2 := by
          rw [if_neg c3]
          by_cases y0 : t.1 = 0
          · rw [if_pos y0]; decide
          · rw [if_neg y0]
            by_cases y4 : t.1 = 4
            · rw [if_pos y4]; decide
            · rw [if_neg y4]; decide
        rw [if_neg n2]
        unfold zj8_atom_123
        rw [P_27 C hh, if_pos rfl, P_23 C hh, if_neg c3]
        by_cases c2 : t.1 = 2
        · rw [if_neg c3, if_pos c2] at k
          rw [if_pos (by rw [c2]; decide), P_rc hh.hm]
          refine P_name C hh hh.nm (fun _ => ?_) (fun z => absurd c2 z)
          rw [P_27 C hh, if_pos rfl, P_rc hh.hm]
          refine P_next C hh (by rw [c2]; decide) (fun c6 h4 hp4 => ?_) (fun c6 h4 hp4 => ?_)
          · rw [tk_nx_5 c6] at k
            exact k _ h4 hp4
          · rw [tk_nx_n c6] at k
            exact k h4 hp4
        · have k2 := k
          rw [if_neg c3, if_neg c2, if_neg c45, if_neg c40] at k2
          have g := g157 c3 c2 c45 c40
          by_cases y0 : t.1 = 0
          · rw [if_pos y0, if_neg (by decide)]
            exact g
          · rw [if_neg y0]
            by_cases y4 : t.1 = 4
            · rw [if_pos y4, if_neg (by decide)]
              exact g
            · rw [if_neg y4, if_pos rfl, P_rc hh.hm]
              refine P_name C hh hh.nm (fun z => absurd z c2) (fun _ h' hp => ?_)
              rw [P_27F C hp, if_neg (by decide)]
              exact k2 0 h' (Or.inl hp)
theorem G_77 (C : MC f m ad σ n base) (d : Nat) (ih : GIH f m ad b0 σ n base d) (ho : op ≤ 5) (hn : need 3 op ≤ d) (hh : POk m ad b0 σ n base t op h) (c : tk_sg 60 t ∨ tk_sg 61 t) {a : SEM} (k : OUT m ad b0 σ n base op K (tk_nx (MB σ base) n t (fun v => tk_bd (tk_ps (MB σ base) n d 3 op v) fun c w => .inr (tk_cm t.2.1 a c, w)))) : zj8_not_77 f (zgr8 f d) K h (some m) (a (tk_en σ)) := by
  have hnn : 6 * (5 - op) + (6 - 3) ≤ d := hn
  have h4 : t.1 = 4 := by rcases c with z | z <;> exact z.1
  have go : ∀ s0 : Int32, s0 = (if t.2.1 = 60 then 1 else 0) → zj8_not_93 f (zgr8 f d) K h (some m) (a (tk_en σ)) s0 := by
    intro s0 hs
    unfold zj8_not_93
    rw [P_rc hh.hm]
    have sp : ∀ (x : Int32) (h8 : zH), (K (if t.2.1 = 60 then (if a (tk_en σ) < x then 1 else 0) else (if a (tk_en σ) = x then 1 else 0)) h8) → (if s0 = 0 then (if a (tk_en σ) = x then zj8_not_120 f (zgr8 f d) K h8 else K 0 h8) else (if a (tk_en σ) < x then zj8_not_120 f (zgr8 f d) K h8 else K 0 h8)) := by
      intro x h8 hr
      unfold zj8_not_120
      by_cases c1 : t.2.1 = 60
      · rw [if_pos c1] at hr hs
        rw [hs, if_neg (by decide)]
        by_cases c2 : a (tk_en σ) < x
        · rw [if_pos c2] at hr ⊢; exact hr
        · rw [if_neg c2] at hr ⊢; exact hr
      · rw [if_neg c1] at hr hs
        rw [hs, if_pos rfl]
        by_cases c2 : a (tk_en σ) = x
        · rw [if_pos c2] at hr ⊢; exact hr
        · rw [if_neg c2] at hr ⊢; exact hr
    refine P_next C hh (by rw [h4]; decide) (fun c5 h' hp => ?_) (fun c5 h' hp => ?_)
    · rw [tk_nx_5 c5] at k
      rw [P_rc hp.hm]
      exact G_F C d 3 h' _ (by omega) (by omega) hp fun v h3 hp3 => sp v h3 (k _ h3 hp3)
    · rw [tk_nx_n c5] at k
      rw [P_rc hp.hm]
      refine ih 3 op _ h' _ (by omega) ho hn hp ?_
      cases hr : tk_ps (MB σ base) n d 3 op (tk_lex (MB σ base) n t.2.2.2) with
      | inl e => rw [hr] at k; exact fun v h3 hp3 => sp v h3 (k _ h3 hp3)
      | inr q => rw [hr] at k; exact fun h3 hp3 => sp _ h3 (k h3 hp3)
  unfold zj8_not_77
  rw [P_25s C hh h4]
  have e60 : (60 : Int64) = (60 : Int32).toInt64 := by decide
  by_cases c1 : t.2.1 = 60
  · rw [if_pos ((lg_cmp_eq _ _).mpr (by rw [c1]; exact e60.symm))]
    exact go 1 (by rw [if_pos c1])
  · rw [if_neg (fun z => c1 (i32_64.mp (by rw [← e60]; exact (lg_cmp_eq _ _).mp z)))]
    exact go 0 (by rw [if_neg c1])
theorem G_ps (C : MC f m ad σ n base) : ∀ d, GIH f m ad b0 σ n base d := by
  intro d
  induction d with
  | zero =>
    intro l op t h K h1 h2 h3
    have : 6 * (5 - op) + (6 - l) ≤ 0 := h3
    omega
  | succ d ih =>
    intro l op t h K h1 ho h3 hh k
    have hnn : 6 * (5 - op) + (6 - l) ≤ d + 1 := h3
    have hf := C.2.1
    have hn := C.2.2.2.2.2.1
    have : l = 0 ∨ l = 1 ∨ l = 2 ∨ l = 3 ∨ l = 4 ∨ l = 5 := by omega
    rcases this with rfl | rfl | rfl | rfl | rfl | rfl
    · show zf8_either f (zgr8 f d) h (some m) K
      rw [tk_ps0] at k
      unfold zf8_either
      rw [P_rc hh.hm]
      have hd : need 1 op ≤ d := by show 6 * (5 - op) + (6 - 1) ≤ d; omega
      refine ih 1 op t h _ (by omega) ho hd hh ?_
      cases hr : tk_ps (MB σ base) n d 1 op t with
      | inl e => rw [hr] at k; exact fun v h3 hp3 => F_or C hp3 k (by omega)
      | inr q =>
        rw [hr] at k
        intro h3 hp3
        have := tk_mu_le (n := n) (t := q.2)
        exact G_or C d ih ho hd (n + 3) f q.1 q.2 h3 (by omega) (by omega) hp3 k
    · show zf8_both f (zgr8 f d) h (some m) K
      rw [tk_ps1] at k
      unfold zf8_both
      rw [P_rc hh.hm]
      have hd : need 2 op ≤ d := by show 6 * (5 - op) + (6 - 2) ≤ d; omega
      refine ih 2 op t h _ (by omega) ho hd hh ?_
      cases hr : tk_ps (MB σ base) n d 2 op t with
      | inl e => rw [hr] at k; exact fun v h3 hp3 => F_an C hp3 k (by omega)
      | inr q =>
        rw [hr] at k
        intro h3 hp3
        have := tk_mu_le (n := n) (t := q.2)
        exact G_an C d ih ho hd (n + 3) f q.1 q.2 h3 (by omega) (by omega) hp3 k
    · show zf8_not f (zgr8 f d) h (some m) K
      rw [tk_ps2] at k
      unfold zf8_not
      have w : ∀ K, zf8_isWord f h (some m) 110 111 116 0 0 0 0 0 K = K (if tk_key 5 t then 1 else 0) h := fun K => P_isWordK C hh 5 (by decide)
      rw [P_rc hh.hm, w]
      by_cases c : tk_key 5 t
      · rw [if_pos c] at k
        rw [if_pos c, if_neg (by decide), P_rc hh.hm]
        refine P_opens C hh (by rw [c.1]; decide) ho (fun co h' hp => ?_) (fun co c5 h' hp => ?_) (fun co c5 h' hp => ?_)
        · rw [if_neg co] at k
          rw [if_pos rfl]
          exact k 0 h' (Or.inl hp)
        · rw [if_pos co, tk_nx_5 c5] at k
          rw [if_neg (by decide), P_rc hp.hm]
          refine G_F C d 2 h' _ (by omega) (by omega) hp fun v h2 hp2 => P_dnF C hp2 fun h3 hp3 => ?_
          by_cases c0 : v = 0
          · rw [if_pos c0]; exact k _ h3 hp3
          · rw [if_neg c0]; exact k _ h3 hp3
        · rw [if_pos co, tk_nx_n c5] at k
          rw [if_neg (by decide), P_rc hp.hm]
          refine ih 2 (op + 1) _ h' _ (by omega) (by omega) (by show 6 * (5 - (op + 1)) + (6 - 2) ≤ d; omega) hp ?_
          cases hr : tk_ps (MB σ base) n d 2 (op + 1) (tk_lex (MB σ base) n t.2.2.2) with
          | inl e =>
            rw [hr] at k
            intro v h2 hp2
            refine P_dnF C hp2 fun h3 hp3 => ?_
            by_cases c0 : v = 0
            · rw [if_pos c0]; exact k _ h3 hp3
            · rw [if_neg c0]; exact k _ h3 hp3
          | inr q =>
            rw [hr] at k
            intro h2 hp2
            refine P_dn C hp2 fun h3 hp3 => ?_
            have k := k h3 hp3
            have k : K (if q.1 (tk_en σ) = 0 then 1 else 0) h3 := k
            by_cases c0 : q.1 (tk_en σ) = 0
            · rw [if_pos c0] at k ⊢; exact k
            · rw [if_neg c0] at k ⊢; exact k
      · rw [if_neg c] at k
        rw [if_neg c, if_pos rfl, P_rc hh.hm]
        have hd : need 3 op ≤ d := by show 6 * (5 - op) + (6 - 3) ≤ d; omega
        refine ih 3 op t h _ (by omega) ho hd hh ?_
        cases hr : tk_ps (MB σ base) n d 3 op t with
        | inl e =>
          rw [hr] at k
          intro v h3 hp
          rw [P_rc hp.hm, P_isSignF C hp, if_pos rfl, P_rc hp.hm, P_isSignF C hp, if_pos rfl]
          exact k v h3 hp
        | inr q =>
          rw [hr] at k
          have k : OUT m ad b0 σ n base op K (if tk_sg 60 q.2 ∨ tk_sg 61 q.2 then tk_nx (MB σ base) n q.2 (fun v => tk_bd (tk_ps (MB σ base) n d 3 op v) fun c w => .inr (tk_cm q.2.2.1 q.1 c, w)) else .inr (q.1, q.2)) := k
          intro h3 hp
          rw [P_rc hp.hm, P_isSign C hp]
          by_cases c60 : tk_sg 60 q.2
          · rw [if_pos (Or.inl c60)] at k
            rw [if_pos c60, if_neg (by decide)]
            exact G_77 C d ih ho hd hp (Or.inl c60) k
          · rw [if_neg c60, if_pos rfl, P_rc hp.hm, P_isSign C hp]
            by_cases c61 : tk_sg 61 q.2
            · rw [if_pos (Or.inr c61)] at k
              rw [if_pos c61, if_neg (by decide)]
              exact G_77 C d ih ho hd hp (Or.inr c61) k
            · rw [if_neg (fun z => z.elim c60 c61)] at k
              rw [if_neg c61, if_pos rfl]
              exact k h3 hp
    · show zf8_added f (zgr8 f d) h (some m) K
      rw [tk_ps3] at k
      unfold zf8_added
      rw [P_rc hh.hm]
      have hd : need 4 op ≤ d := by show 6 * (5 - op) + (6 - 4) ≤ d; omega
      refine ih 4 op t h _ (by omega) ho hd hh ?_
      cases hr : tk_ps (MB σ base) n d 4 op t with
      | inl e => rw [hr] at k; exact fun v h3 hp3 => F_pm C hp3 k (by omega)
      | inr q =>
        rw [hr] at k
        intro h3 hp3
        have := tk_mu_le (n := n) (t := q.2)
        exact G_pm C d ih ho hd (n + 3) f q.1 q.2 h3 (by omega) (by omega) hp3 k
    · show zf8_term f (zgr8 f d) h (some m) K
      rw [tk_ps4] at k
      unfold zf8_term
      rw [P_rc hh.hm]
      have hd : need 5 op ≤ d := by show 6 * (5 - op) + (6 - 5) ≤ d; omega
      refine ih 5 op t h _ (by omega) ho hd hh ?_
      cases hr : tk_ps (MB σ base) n d 5 op t with
      | inl e => rw [hr] at k; exact fun v h3 hp3 => F_ti C hp3 k (by omega)
      | inr q =>
        rw [hr] at k
        intro h3 hp3
        have := tk_mu_le (n := n) (t := q.2)
        exact G_ti C d ih ho hd (n + 3) f q.1 q.2 h3 (by omega) (by omega) hp3 k
    · exact G_1 C d ih ho h3 hh k
end MA
