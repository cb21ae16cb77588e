/-! THE CLASS READS: every level -/
set_option maxRecDepth 100000
section GA
variable {f : Nat} {sa : Nat → Nat} {x : Nat} {ca : Nat → Nat} {Md : Nat → Prop} {b0 : zH} {G : TG} {pa : Nat → Nat} {rw : Nat → Option Nat} {σ : ST} {lab : Nat → Nat} {n : Nat} {b : Nat → Int32}
theorem tk_mu_pc {t : Tok} (h0 : t.1 ≠ 0) (h : t.2.2.2 ≤ n) : 1 ≤ tk_mu n t := tk_mu_pos h0 h
theorem G_onec {d op : Nat} {t : Tok} {H : zH} {K : Option Nat → zH → Prop} {X0 : zH → Prop} {mc ms : Nat} (hf : 200 ≤ f) (ih : GIHc f sa x ca Md b0 G pa rw σ lab n b d) (ho : op ≤ 5) (hn : need 5 op ≤ d + 1) (hh : POc sa x ca Md b0 G pa rw σ lab n b t op H) (hc : rcost n t (tk_ps b n (d + 1) 5 op t) ≤ mc) (hc3 : 3 * rcost n t (tk_ps b n (d + 1) 5 op t) ≤ ms) (k : OUTc sa x ca Md b0 G pa rw σ lab n b K X0 H op (tk_mu n t) (tk_ps b n (d + 1) 5 op t)) : zf0_one sa f (zgr0 sa f d) H mc ms (some x) K X0 := by
  have hnn : 6 * (5 - op) + (6 - 5) ≤ d + 1 := hn
  have hle := N_le hh
  have ht5 := N_lt hh
  have er : ∃ r, tk_ps b n (d + 1) 5 op t = r := ⟨_, rfl⟩
  obtain ⟨r, hr⟩ := er
  rw [hr] at hc hc3 k
  rw [tk_ps5] at hr
  unfold zf0_one
  refine N_19 hh fun v hv => ?_
  rw [N_18 hh]
  by_cases c3 : t.1 = 3
  · have h0 : t.1 ≠ 0 := by rw [c3]; decide
    have hmu := tk_mu_lt (b := b) h0 hle
    rw [if_pos c3] at hr
    rw [if_pos (by rw [c3]; rfl), N_rc hh]
    refine N_next hf hh (fun c5 h' hp => ?_) (fun c5 h' hp hF => ?_)
    · rw [tk_nx_5 c5] at hr
      subst hr
      exact k h' hp
    · rw [tk_nx_n c5] at hr
      subst hr
      rw [rcost_r] at hc hc3
      have hc : tk_mu n t - tk_mu n (tk_lex b n t.2.2.2) ≤ mc := hc
      have hc3 : 3 * (tk_mu n t - tk_mu n (tk_lex b n t.2.2.2)) ≤ ms := hc3
      refine ⟨by omega, by show 1 ≤ ms; omega, fun q hq => ⟨q, rfl, i_5 (hup_self _ _ _) ?_⟩⟩
      rw [hup_hup]
      have hN : isN (.inr (7, [.int v])) := ⟨7, _, rfl, by decide, by decide⟩
      refine k _ q (N_al hp (Or.inl hq) hN) (hF.trans (FR_al hq)) ?_
      show nd x _ (tk_mu n t - tk_mu n (tk_lex b n t.2.2.2)) q (fun _ => t.2.1)
      obtain ⟨D, hD⟩ : ∃ D, tk_mu n t - tk_mu n (tk_lex b n t.2.2.2) = D + 1 := ⟨tk_mu n t - tk_mu n (tk_lex b n t.2.2.2) - 1, by omega⟩
      rw [hD]
      exact Or.inl ⟨v, hup_self _ _ _, by rw [hv h0]⟩
  · rw [if_neg c3] at hr
    rw [if_neg (show ¬ nI _ = 3 from fun z => c3 ((nI_eq (b := 3) (by omega) (by omega)).mp z)), N_18 hh]
    by_cases c2 : t.1 = 2
    · have h0 : t.1 ≠ 0 := by rw [c2]; decide
      have hmu := tk_mu_lt (b := b) h0 hle
      obtain ⟨j, hj, ej⟩ := N_nm hh c2
      rw [if_pos c2] at hr
      rw [if_pos (by rw [c2]; rfl), N_rc hh]
      refine N_next hf hh (fun c5 h' hp => ?_) (fun c5 h' hp hF => ?_)
      · rw [tk_nx_5 c5] at hr
        subst hr
        exact k h' hp
      · rw [tk_nx_n c5] at hr
        subst hr
        rw [rcost_r] at hc hc3
        have hc : tk_mu n t - tk_mu n (tk_lex b n t.2.2.2) ≤ mc := hc
        have hc3 : 3 * (tk_mu n t - tk_mu n (tk_lex b n t.2.2.2)) ≤ ms := hc3
        refine ⟨by omega, by show 2 ≤ ms; omega, fun q hq => ⟨q, rfl, i_6 (hup_self _ _ _) ?_⟩⟩
        rw [hup_hup]
        have hN : isN (.inr (8, [.int v, va_rf (some x)])) := ⟨8, _, rfl, by decide, by decide⟩
        refine k _ q (N_al hp (Or.inl hq) hN) (hF.trans (FR_al hq)) ?_
        show nd x _ (tk_mu n t - tk_mu n (tk_lex b n t.2.2.2)) q (fun e => e t.2.1.toNatClampNeg)
        obtain ⟨D, hD⟩ : ∃ D, tk_mu n t - tk_mu n (tk_lex b n t.2.2.2) = D + 1 := ⟨tk_mu n t - tk_mu n (tk_lex b n t.2.2.2) - 1, by omega⟩
        rw [hD]
        refine Or.inr (Or.inl ⟨j, hj, ?_, ?_⟩)
        · rw [hup_self, hv h0, ej]
          rfl
        · rw [ej, nI_clamp (by omega)]
    · rw [if_neg c2] at hr
      rw [if_neg (show ¬ nI _ = 2 from fun z => c2 ((nI_eq (b := 2) (by omega) (by omega)).mp z)), N_rc hh, N_isSign hh]
      by_cases c45 : tk_sg 45 t
      · have h0 : t.1 ≠ 0 := by rw [c45.1]; decide
        have hmu := tk_mu_lt (b := b) h0 hle
        rw [if_pos c45] at hr
        rw [if_pos c45, if_neg (by decide), N_rc hh]
        refine N_open hf hh ho (fun co h' hp => ?_) (fun co c5 h' hp => ?_) (fun co c5 h' hp hF => ?_)
        · rw [if_neg co] at hr
          subst hr
          exact k h' hp
        · rw [if_pos co, tk_nx_5 c5] at hr
          subst hr
          exact k h' hp
        · rw [if_pos co, tk_nx_n c5] at hr
          have eru : ∃ ru, tk_ps b n d 5 (op + 1) (tk_lex b n t.2.2.2) = ru := ⟨_, rfl⟩
          obtain ⟨ru, hru⟩ := eru
          rw [hru] at hr
          have hb2 : rcost n (tk_lex b n t.2.2.2) ru ≤ mc ∧ 3 * rcost n (tk_lex b n t.2.2.2) ru ≤ ms := by
            cases ru with
            | inl e =>
              have hr : (.inl e : PR) = r := hr
              subst hr
              rw [rcost_l] at hc hc3 ⊢
              omega
            | inr q =>
              have hq := (tk_ps_fw d 5 (op + 1) _ q (N_le hp) hru).2
              have hr : (.inr (tk_ne q.1, q.2) : PR) = r := hr
              subst hr
              rw [rcost_r] at hc hc3 ⊢
              have hc : tk_mu n t - tk_mu n q.2 ≤ mc := hc
              have hc3 : 3 * (tk_mu n t - tk_mu n q.2) ≤ ms := hc3
              omega
          refine ⟨rcost n (tk_lex b n t.2.2.2) ru, 3 * rcost n (tk_lex b n t.2.2.2) ru, hb2.1, hb2.2, ?_⟩
          rw [N_rc hp]
          refine ih 5 (op + 1) _ h' _ _ _ _ (by omega) (by omega) (by show 6 * (5 - (op + 1)) + (6 - 5) ≤ d; omega) hp (by rw [hru]; exact Nat.le_refl _) (by rw [hru]; exact Nat.le_refl _) ?_
          rw [hru]
          cases ru with
          | inl e =>
            have hr : (.inl e : PR) = r := hr
            subst hr
            exact k
          | inr q =>
            have hq := (tk_ps_fw d 5 (op + 1) _ q (N_le hp) hru).2
            have hr : (.inr (tk_ne q.1, q.2) : PR) = r := hr
            subst hr
            intro h2 a hp2 hF2 hnd2
            rw [rcost_r] at hc hc3 hb2 ⊢
            have hc : tk_mu n t - tk_mu n q.2 ≤ mc := hc
            have hc3 : 3 * (tk_mu n t - tk_mu n q.2) ≤ ms := hc3
            rw [N_20 hp2]
            refine N_opn (op' := op) hp2 (by rw [show nI (op + 1) - 1 = nI op from nI_pred op]) fun h3 hp3 hF3 => ?_
            refine ⟨by omega, by show 2 ≤ ms - 3 * (tk_mu n (tk_lex b n t.2.2.2) - tk_mu n q.2); omega, fun q1 hq1 => ⟨q1, rfl, i_4 (hup_self _ _ _) (Or.inr rfl) ?_⟩⟩
            rw [hup_hup]
            have hN : isN (.inr (9, [va_rf (some a), .int 1])) := ⟨9, _, rfl, by decide, by decide⟩
            refine k _ q1 (N_al hp3 (Or.inl hq1) hN) (hF.trans (hF2.trans (hF3.trans (FR_al hq1)))) ?_
            show nd x _ (tk_mu n t - tk_mu n q.2) q1 (tk_ne q.1)
            obtain ⟨D, hD⟩ : ∃ D, tk_mu n t - tk_mu n q.2 = D + 1 := ⟨tk_mu n t - tk_mu n q.2 - 1, by omega⟩
            rw [hD]
            exact Or.inr (Or.inr (Or.inr (Or.inl ⟨a, q.1, hup_self _ _ _, nd_mono _ D a q.1 (by omega) (N_keep hp3 (FR_al hq1) (N_keep hp2 hF3 hnd2)), rfl⟩)))
      · rw [if_neg c45] at hr
        rw [if_neg c45, if_pos rfl, N_rc hh, N_isSign hh]
        by_cases c40 : tk_sg 40 t
        · have h0 : t.1 ≠ 0 := by rw [c40.1]; decide
          have hmu := tk_mu_lt (b := b) h0 hle
          rw [if_pos c40] at hr
          rw [if_pos c40, if_neg (by decide), N_rc hh]
          refine N_open hf hh ho (fun co h' hp => ?_) (fun co c5 h' hp => ?_) (fun co c5 h' hp hF => ?_)
          · rw [if_neg co] at hr
            subst hr
            exact k h' hp
          · rw [if_pos co, tk_nx_5 c5] at hr
            subst hr
            exact k h' hp
          · rw [if_pos co, tk_nx_n c5] at hr
            have eru : ∃ ru, tk_ps b n d 0 (op + 1) (tk_lex b n t.2.2.2) = ru := ⟨_, rfl⟩
            obtain ⟨ru, hru⟩ := eru
            rw [hru] at hr
            have hb2 : rcost n (tk_lex b n t.2.2.2) ru ≤ mc ∧ 3 * rcost n (tk_lex b n t.2.2.2) ru ≤ ms := by
              cases ru with
              | inl e =>
                have hr : (.inl e : PR) = r := hr
                subst hr
                rw [rcost_l] at hc hc3 ⊢
                omega
              | inr q =>
                have hq := tk_ps_fw d 0 (op + 1) _ q (N_le hp) hru
                have hq2 := hq.2
                have hr : (if tk_sg 41 q.2 then tk_nx b n q.2 (fun w => .inr (q.1, w)) else .inl q.2.2.2.1) = r := hr
                rw [rcost_r]
                by_cases c41 : tk_sg 41 q.2
                · rw [if_pos c41] at hr
                  have hmu2 := tk_mu_lt (b := b) (t := q.2) (by rw [c41.1]; decide) hq.1
                  by_cases c6 : (tk_lex b n q.2.2.2.2).1 = 5
                  · rw [tk_nx_5 c6] at hr
                    subst hr
                    rw [rcost_l] at hc hc3
                    omega
                  · rw [tk_nx_n c6] at hr
                    subst hr
                    rw [rcost_r] at hc hc3
                    have hc : tk_mu n t - tk_mu n (tk_lex b n q.2.2.2.2) ≤ mc := hc
                    have hc3 : 3 * (tk_mu n t - tk_mu n (tk_lex b n q.2.2.2.2)) ≤ ms := hc3
                    omega
                · rw [if_neg c41] at hr
                  subst hr
                  rw [rcost_l] at hc hc3
                  omega
            refine ⟨rcost n (tk_lex b n t.2.2.2) ru, 3 * rcost n (tk_lex b n t.2.2.2) ru, hb2.1, hb2.2, ?_⟩
            rw [N_rc hp]
            refine ih 0 (op + 1) _ h' _ _ _ _ (by omega) (by omega) (by show 6 * (5 - (op + 1)) + (6 - 0) ≤ d; omega) hp (by rw [hru]; exact Nat.le_refl _) (by rw [hru]; exact Nat.le_refl _) ?_
            rw [hru]
            cases ru with
            | inl e =>
              have hr : (.inl e : PR) = r := hr
              subst hr
              exact k
            | inr q =>
              have hq := tk_ps_fw d 0 (op + 1) _ q (N_le hp) hru
              have hq2 := hq.2
              have hr : (if tk_sg 41 q.2 then tk_nx b n q.2 (fun w => .inr (q.1, w)) else .inl q.2.2.2.1) = r := hr
              intro h2 a hp2 hF2 hnd2
              rw [N_rc hp2, N_isSign hp2]
              by_cases c41 : tk_sg 41 q.2
              · rw [if_pos c41] at hr
                have hmu2 := tk_mu_lt (b := b) (t := q.2) (by rw [c41.1]; decide) hq.1
                rw [if_pos c41, if_neg (by decide), N_20 hp2]
                refine N_opn (op' := op) hp2 (by rw [show nI (op + 1) - 1 = nI op from nI_pred op]) fun h3 hp3 hF3 => ?_
                rw [N_rc hp3]
                refine N_next hf hp3 (fun c6 h4 hp4 => ?_) (fun c6 h4 hp4 hF4 => ?_)
                · rw [tk_nx_5 c6] at hr
                  subst hr
                  exact k h4 hp4
                · rw [tk_nx_n c6] at hr
                  subst hr
                  refine k h4 a hp4 (hF.trans (hF2.trans (hF3.trans hF4))) ?_
                  exact nd_mono _ _ a q.1 (by show tk_mu n (tk_lex b n t.2.2.2) - tk_mu n q.2 ≤ tk_mu n t - tk_mu n (tk_lex b n q.2.2.2.2); omega) (N_keep hp3 hF4 (N_keep hp2 hF3 hnd2))
              · rw [if_neg c41] at hr
                subst hr
                rw [if_neg c41, if_pos rfl]
                exact N_throw hp2 k
        · rw [if_neg c40] at hr
          subst hr
          rw [if_neg c40, if_pos rfl]
          exact N_throw hh k
theorem G_notc {d op : Nat} {t : Tok} {H : zH} {K : Option Nat → zH → Prop} {X0 : zH → Prop} {mc ms : Nat} (hf : 200 ≤ f) (ih : GIHc f sa x ca Md b0 G pa rw σ lab n b d) (ho : op ≤ 5) (hn : need 2 op ≤ d + 1) (hh : POc sa x ca Md b0 G pa rw σ lab n b t op H) (hc : rcost n t (tk_ps b n (d + 1) 2 op t) ≤ mc) (hc3 : 3 * rcost n t (tk_ps b n (d + 1) 2 op t) ≤ ms) (k : OUTc sa x ca Md b0 G pa rw σ lab n b K X0 H op (tk_mu n t) (tk_ps b n (d + 1) 2 op t)) : zf0_not sa f (zgr0 sa f d) H mc ms (some x) K X0 := by
  have hnn : 6 * (5 - op) + (6 - 2) ≤ d + 1 := hn
  have hle := N_le hh
  have er : ∃ r, tk_ps b n (d + 1) 2 op t = r := ⟨_, rfl⟩
  obtain ⟨r, hr⟩ := er
  rw [hr] at hc hc3 k
  rw [tk_ps2] at hr
  unfold zf0_not
  have w : ∀ K, zf0_isKey f H (some x) 5 K = K (if tk_key 5 t then 1 else 0) H := fun K => N_isKey hh (k := 5) (by decide)
  rw [N_rc hh, w]
  by_cases c : tk_key 5 t
  · have h0 : t.1 ≠ 0 := by rw [c.1]; decide
    have hmu := tk_mu_lt (b := b) h0 hle
    rw [if_pos c] at hr
    rw [if_pos c, if_neg (by decide), N_rc hh]
    refine N_open hf hh ho (fun co h' hp => ?_) (fun co c5 h' hp => ?_) (fun co c5 h' hp hF => ?_)
    · rw [if_neg co] at hr
      subst hr
      exact k h' hp
    · rw [if_pos co, tk_nx_5 c5] at hr
      subst hr
      exact k h' hp
    · rw [if_pos co, tk_nx_n c5] at hr
      have eru : ∃ ru, tk_ps b n d 2 (op + 1) (tk_lex b n t.2.2.2) = ru := ⟨_, rfl⟩
      obtain ⟨ru, hru⟩ := eru
      rw [hru] at hr
      have hb2 : rcost n (tk_lex b n t.2.2.2) ru ≤ mc ∧ 3 * rcost n (tk_lex b n t.2.2.2) ru ≤ ms := by
        cases ru with
        | inl e =>
          have hr : (.inl e : PR) = r := hr
          subst hr
          rw [rcost_l] at hc hc3 ⊢
          omega
        | inr q =>
          have hq := (tk_ps_fw d 2 (op + 1) _ q (N_le hp) hru).2
          have hr : (.inr (tk_no q.1, q.2) : PR) = r := hr
          subst hr
          rw [rcost_r] at hc hc3 ⊢
          have hc : tk_mu n t - tk_mu n q.2 ≤ mc := hc
          have hc3 : 3 * (tk_mu n t - tk_mu n q.2) ≤ ms := hc3
          omega
      refine ⟨rcost n (tk_lex b n t.2.2.2) ru, 3 * rcost n (tk_lex b n t.2.2.2) ru, hb2.1, hb2.2, ?_⟩
      rw [N_rc hp]
      refine ih 2 (op + 1) _ h' _ _ _ _ (by omega) (by omega) (by show 6 * (5 - (op + 1)) + (6 - 2) ≤ d; omega) hp (by rw [hru]; exact Nat.le_refl _) (by rw [hru]; exact Nat.le_refl _) ?_
      rw [hru]
      cases ru with
      | inl e =>
        have hr : (.inl e : PR) = r := hr
        subst hr
        exact k
      | inr q =>
        have hq := (tk_ps_fw d 2 (op + 1) _ q (N_le hp) hru).2
        have hr : (.inr (tk_no q.1, q.2) : PR) = r := hr
        subst hr
        intro h2 a hp2 hF2 hnd2
        rw [rcost_r] at hc hc3 hb2 ⊢
        have hc : tk_mu n t - tk_mu n q.2 ≤ mc := hc
        have hc3 : 3 * (tk_mu n t - tk_mu n q.2) ≤ ms := hc3
        rw [N_20 hp2]
        refine N_opn (op' := op) hp2 (by rw [show nI (op + 1) - 1 = nI op from nI_pred op]) fun h3 hp3 hF3 => ?_
        refine ⟨by omega, by show 2 ≤ ms - 3 * (tk_mu n (tk_lex b n t.2.2.2) - tk_mu n q.2); omega, fun q1 hq1 => ⟨q1, rfl, i_4 (hup_self _ _ _) (Or.inl rfl) ?_⟩⟩
        rw [hup_hup]
        have hN : isN (.inr (9, [va_rf (some a), .int 0])) := ⟨9, _, rfl, by decide, by decide⟩
        refine k _ q1 (N_al hp3 (Or.inl hq1) hN) (hF.trans (hF2.trans (hF3.trans (FR_al hq1)))) ?_
        show nd x _ (tk_mu n t - tk_mu n q.2) q1 (tk_no q.1)
        obtain ⟨D, hD⟩ : ∃ D, tk_mu n t - tk_mu n q.2 = D + 1 := ⟨tk_mu n t - tk_mu n q.2 - 1, by omega⟩
        rw [hD]
        exact Or.inr (Or.inr (Or.inl ⟨a, q.1, hup_self _ _ _, nd_mono _ D a q.1 (by omega) (N_keep hp3 (FR_al hq1) (N_keep hp2 hF3 hnd2)), rfl⟩))
  · rw [if_neg c] at hr
    rw [if_neg c, if_pos rfl]
    have eru : ∃ ra, tk_ps b n d 3 op t = ra := ⟨_, rfl⟩
    obtain ⟨ra, hra⟩ := eru
    rw [hra] at hr
    have hb2 : rcost n t ra ≤ mc ∧ 3 * rcost n t ra ≤ ms := by
      cases ra with
      | inl e =>
        have hr : (.inl e : PR) = r := hr
        subst hr
        exact ⟨hc, hc3⟩
      | inr q =>
        have hq := tk_ps_fw d 3 op t q hle hra
        have hq2 := hq.2
        rw [rcost_r]
        cases r with
        | inl e =>
          rw [rcost_l] at hc hc3
          omega
        | inr z =>
          have hz : tk_fw n t z.2 := tk_ps_fw (d + 1) 2 op t z hle (by rw [tk_ps2, if_neg c, hra]; exact hr)
          have hz2 : tk_mu n z.2 ≤ tk_mu n q.2 := by
            have hr : (if tk_sg 60 q.2 ∨ tk_sg 61 q.2 then tk_nx b n q.2 (fun v => tk_bd (tk_ps b n d 3 op v) fun c w => .inr (tk_cm q.2.2.1 q.1 c, w)) else .inr (q.1, q.2)) = .inr z := hr
            by_cases cc : tk_sg 60 q.2 ∨ tk_sg 61 q.2
            · rw [if_pos cc] at hr
              have h0 : q.2.1 ≠ 0 := by rcases cc with y | y <;> (rw [y.1]; decide)
              obtain ⟨-, h2⟩ := tk_nx_inr hr
              obtain ⟨p, h3, h4⟩ := tk_bd_inr h2
              cases h4
              have f1 := tk_fw_lex (b := b) h0 hq.1
              exact (f1.trans (tk_ps_fw d 3 op _ p f1.1 h3)).2
            · rw [if_neg cc] at hr
              cases hr
              exact Nat.le_refl _
          rw [rcost_r] at hc hc3
          omega
    refine ⟨rcost n t ra, 3 * rcost n t ra, hb2.1, hb2.2, ?_⟩
    rw [N_rc hh]
    refine ih 3 op t H _ _ _ _ (by omega) ho (by show 6 * (5 - op) + (6 - 3) ≤ d; omega) hh (by rw [hra]; exact Nat.le_refl _) (by rw [hra]; exact Nat.le_refl _) ?_
    rw [hra]
    cases ra with
    | inl e =>
      have hr : (.inl e : PR) = r := hr
      subst hr
      exact k
    | inr q =>
      have hq := tk_ps_fw d 3 op t q hle hra
      have hq2 := hq.2
      have hr : (if tk_sg 60 q.2 ∨ tk_sg 61 q.2 then tk_nx b n q.2 (fun v => tk_bd (tk_ps b n d 3 op v) fun c w => .inr (tk_cm q.2.2.1 q.1 c, w)) else .inr (q.1, q.2)) = r := hr
      intro h2 a hp2 hF2 hnd2
      rw [rcost_r] at hb2 ⊢
      have step : (tk_sg 60 q.2 ∨ tk_sg 61 q.2) → zj0_not_60 sa f (zgr0 sa f d) K X0 h2 (mc - (tk_mu n t - tk_mu n q.2)) (ms - 3 * (tk_mu n t - tk_mu n q.2)) (some x) (some a) := by
        intro cc
        rw [if_pos cc] at hr
        have h4 : q.2.1 = 4 := by rcases cc with z | z <;> exact z.1
        have h0 : q.2.1 ≠ 0 := by rw [h4]; decide
        have hmu := tk_mu_lt (b := b) h0 hq.1
        unfold zj0_not_60
        refine N_19 hp2 fun v hv => ?_
        have hv := hv h0
        subst hv
        rw [N_rc hp2]
        refine N_next hf hp2 (fun c5 h' hp => ?_) (fun c5 h' hp hF => ?_)
        · rw [tk_nx_5 c5] at hr
          subst hr
          exact k h' hp
        · rw [tk_nx_n c5] at hr
          have eru : ∃ ru, tk_ps b n d 3 op (tk_lex b n q.2.2.2.2) = ru := ⟨_, rfl⟩
          obtain ⟨ru, hru⟩ := eru
          rw [hru] at hr
          have hcr : 1 + rcost n (tk_lex b n q.2.2.2.2) ru ≤ mc - (tk_mu n t - tk_mu n q.2) ∧ 3 + 3 * rcost n (tk_lex b n q.2.2.2.2) ru ≤ ms - 3 * (tk_mu n t - tk_mu n q.2) := by
            cases ru with
            | inl e =>
              have hr : (.inl e : PR) = r := hr
              subst hr
              rw [rcost_l] at hc hc3 ⊢
              omega
            | inr z =>
              have hz := (tk_ps_fw d 3 op _ z (N_le hp) hru).2
              have hr : (.inr (tk_cm q.2.2.1 q.1 z.1, z.2) : PR) = r := hr
              subst hr
              rw [rcost_r] at hc hc3 ⊢
              have hc : tk_mu n t - tk_mu n z.2 ≤ mc := hc
              have hc3 : 3 * (tk_mu n t - tk_mu n z.2) ≤ ms := hc3
              omega
          refine N_two ih (by decide) ho (by show 6 * (5 - op) + (6 - 3) ≤ d; omega) hp (hF2.trans hF) (N_keep hp2 hF hnd2) (gF := fun g2 => tk_cm q.2.2.1 q.1 g2) (fun g2 => Or.inr (Or.inr (Or.inr (Or.inr ⟨cc.elim (fun z => Or.inl z.2) (fun z => Or.inr z.2), rfl⟩)))) hru hcr.1 hcr.2 (KK := fun h17 _ _ v => K v h17) (fun e he H4 hp4 => ?_) (fun z he H4 a2 hp4 hF4 hnd4 => ?_)
          · subst he
            have hr : (.inl e : PR) = r := hr
            subst hr
            exact k H4 hp4
          · subst he
            have hz := (tk_ps_fw d 3 op _ z (N_le hp) hru).2
            have hr : (.inr (tk_cm q.2.2.1 q.1 z.1, z.2) : PR) = r := hr
            subst hr
            exact k H4 a2 hp4 hF4 (hnd4 _ (by show tk_mu n t - tk_mu n q.2 < tk_mu n t - tk_mu n z.2; omega) (by show tk_mu n (tk_lex b n q.2.2.2.2) - tk_mu n z.2 < tk_mu n t - tk_mu n z.2; omega))
      rw [N_rc hp2, N_isSign hp2]
      by_cases c60 : tk_sg 60 q.2
      · rw [if_pos c60, if_neg (by decide)]
        exact step (Or.inl c60)
      · rw [if_neg c60, if_pos rfl, N_rc hp2, N_isSign hp2]
        by_cases c61 : tk_sg 61 q.2
        · rw [if_pos c61, if_neg (by decide)]
          exact step (Or.inr c61)
        · rw [if_neg (fun z => z.elim c60 c61)] at hr
          subst hr
          rw [if_neg c61, if_pos rfl]
          exact k h2 a hp2 hF2 hnd2
/-- an operand read is further on -/
theorem tk_ps_lt : ∀ (d l op : Nat) (t : Tok) (q : SEM × Tok), t.2.2.2 ≤ n → tk_ps b n d l op t = .inr q → tk_mu n q.2 < tk_mu n t := by
  intro d
  induction d with
  | zero => intro l op t q _ h; cases h
  | succ d ih =>
    intro l op t q ht h
    have lo : ∀ l2 (C : Tok → Bool) (F : Int32 → SEM → SEM → SEM), (∀ t : Tok, C t = true → t.1 ≠ 0) → (tk_bd (tk_ps b n d l2 op t) fun a u => tk_lp b n (tk_ps b n d l2 op) C F (n + 3) a u) = .inr q → tk_mu n q.2 < tk_mu n t := by
      intro l2 C F hC h
      obtain ⟨p, h3, h4⟩ := tk_bd_inr h
      have f1 := tk_ps_fw d l2 op t p ht h3
      have := ih l2 op t p ht h3
      have := (tk_lp_fw hC (fun t q => tk_ps_fw d l2 op t q) _ _ _ q f1.1 h4).2
      omega
    match l with
    | 0 => exact lo 1 _ _ (fun t c => by have := (of_decide_eq_true c).1; rw [this]; decide) h
    | 1 => exact lo 2 _ _ (fun t c => by have := (of_decide_eq_true c).1; rw [this]; decide) h
    | 2 =>
      rw [tk_ps2] at h
      by_cases c : tk_key 5 t
      · rw [if_pos c] at h
        by_cases co : op < 5
        · rw [if_pos co] at h
          obtain ⟨-, h2⟩ := tk_nx_inr h
          obtain ⟨p, h3, h4⟩ := tk_bd_inr h2
          cases h4
          have h0 : t.1 ≠ 0 := by rw [c.1]; decide
          have f1 := tk_fw_lex (b := b) h0 ht
          have := tk_mu_lt (b := b) h0 ht
          have := (tk_ps_fw d 2 (op + 1) _ p f1.1 h3).2
          show tk_mu n p.2 < tk_mu n t
          omega
        · rw [if_neg co] at h; cases h
      · rw [if_neg c] at h
        obtain ⟨p, h3, h4⟩ := tk_bd_inr h
        have f1 := tk_ps_fw d 3 op t p ht h3
        have h5 := ih 3 op t p ht h3
        by_cases cc : tk_sg 60 p.2 ∨ tk_sg 61 p.2
        · rw [if_pos cc] at h4
          have h0 : p.2.1 ≠ 0 := by rcases cc with y | y <;> (rw [y.1]; decide)
          obtain ⟨-, h6⟩ := tk_nx_inr h4
          obtain ⟨z, h7, h8⟩ := tk_bd_inr h6
          cases h8
          have f2 := tk_fw_lex (b := b) h0 f1.1
          have := (f2.trans (tk_ps_fw d 3 op _ z f2.1 h7)).2
          show tk_mu n z.2 < tk_mu n t
          omega
        · rw [if_neg cc] at h4
          cases h4
          exact h5
    | 3 => exact lo 4 _ _ (fun t c => by have := of_decide_eq_true c; rcases this with z | z <;> (rw [z.1]; decide)) h
    | 4 => exact lo 5 _ _ (fun t c => by have := (of_decide_eq_true c).1; rw [this]; decide) h
    | l + 5 =>
      have h : tk_ps b n (d + 1) 5 op t = .inr q := h
      rw [tk_ps5] at h
      by_cases c3 : t.1 = 3
      · rw [if_pos c3] at h
        obtain ⟨-, h2⟩ := tk_nx_inr h
        cases h2
        exact tk_mu_lt (by rw [c3]; decide) ht
      rw [if_neg c3] at h
      by_cases c2 : t.1 = 2
      · rw [if_pos c2] at h
        obtain ⟨-, h2⟩ := tk_nx_inr h
        cases h2
        exact tk_mu_lt (by rw [c2]; decide) ht
      rw [if_neg c2] at h
      by_cases c45 : tk_sg 45 t
      · rw [if_pos c45] at h
        by_cases co : op < 5
        · rw [if_pos co] at h
          obtain ⟨-, h2⟩ := tk_nx_inr h
          obtain ⟨p, h3, h4⟩ := tk_bd_inr h2
          cases h4
          have h0 : t.1 ≠ 0 := by rw [c45.1]; decide
          have f1 := tk_fw_lex (b := b) h0 ht
          have := tk_mu_lt (b := b) h0 ht
          have := (tk_ps_fw d 5 (op + 1) _ p f1.1 h3).2
          show tk_mu n p.2 < tk_mu n t
          omega
        · rw [if_neg co] at h; cases h
      rw [if_neg c45] at h
      by_cases c40 : tk_sg 40 t
      · rw [if_pos c40] at h
        by_cases co : op < 5
        · rw [if_pos co] at h
          obtain ⟨-, h2⟩ := tk_nx_inr h
          obtain ⟨p, h3, h4⟩ := tk_bd_inr h2
          have h0 : t.1 ≠ 0 := by rw [c40.1]; decide
          have f1 := tk_fw_lex (b := b) h0 ht
          have g1 := tk_mu_lt (b := b) h0 ht
          have f2 := tk_ps_fw d 0 (op + 1) _ p f1.1 h3
          by_cases c41 : tk_sg 41 p.2
          · rw [if_pos c41] at h4
            obtain ⟨-, h5⟩ := tk_nx_inr h4
            cases h5
            have := tk_mu_lt (b := b) (t := p.2) (by rw [c41.1]; decide) f2.1
            have := f2.2
            show tk_mu n (tk_lex b n p.2.2.2.2) < tk_mu n t
            omega
          · rw [if_neg c41] at h4; cases h4
        · rw [if_neg co] at h; cases h
      rw [if_neg c40] at h
      cases h
theorem G_psc (hf : 200 ≤ f) : ∀ d, GIHc f sa x ca Md b0 G pa rw σ lab n b d := by
  intro d
  induction d with
  | zero =>
    intro l op t H mc ms K X0 h1 h2 h3
    have : 6 * (5 - op) + (6 - l) ≤ 0 := h3
    omega
  | succ d ih =>
    intro l op t H mc ms K X0 h1 ho h3 hh hc hc3 k
    have hnn : 6 * (5 - op) + (6 - l) ≤ d + 1 := h3
    have hle := N_le hh
    have hn160 := N_n hh
    have er : ∃ r, tk_ps b n (d + 1) l op t = r := ⟨_, rfl⟩
    obtain ⟨r, hr⟩ := er
    have bud : ∀ l2 (C : Tok → Bool) (F : Int32 → SEM → SEM → SEM) (ra : PR), (∀ t : Tok, C t = true → t.1 ≠ 0) → tk_ps b n d l2 op t = ra → (tk_bd ra fun a u => tk_lp b n (tk_ps b n d l2 op) C F (n + 3) a u) = r → rcost n t ra ≤ rcost n t r ∧ (∀ q, ra = .inr q → rcost n q.2 r ≤ rcost n t r - rcost n t ra ∧ tk_mu n q.2 < tk_mu n t) := by
      intro l2 C F ra hC hra hr
      cases ra with
      | inl e =>
        have hr : (.inl e : PR) = r := hr
        subst hr
        exact ⟨Nat.le_refl _, fun q z => by cases z⟩
      | inr q =>
        have hr : tk_lp b n (tk_ps b n d l2 op) C F (n + 3) q.1 q.2 = r := hr
        have hq := tk_ps_fw d l2 op t q hle hra
        have hq2 := hq.2
        have hlt := tk_ps_lt d l2 op t q hle hra
        refine ⟨?_, fun q' z => ?_⟩
        · rw [rcost_r]
          cases r with
          | inl e => rw [rcost_l]; omega
          | inr z =>
            have := (tk_lp_fw hC (fun t q => tk_ps_fw d l2 op t q) _ _ _ z hq.1 hr).2
            rw [rcost_r]; omega
        · cases z
          refine ⟨?_, hlt⟩
          rw [rcost_r]
          cases r with
          | inl e => rw [rcost_l, rcost_l]; omega
          | inr z =>
            have := (tk_lp_fw hC (fun t q => tk_ps_fw d l2 op t q) _ _ _ z hq.1 hr).2
            rw [rcost_r, rcost_r]; omega
    have : l = 0 ∨ l = 1 ∨ l = 2 ∨ l = 3 ∨ l = 4 ∨ l = 5 := by omega
    rcases this with rfl | rfl | rfl | rfl | rfl | rfl
    · show zf0_either sa f (zgr0 sa f d) H mc ms (some x) K X0
      rw [hr] at hc hc3 k
      rw [tk_ps0] at hr
      have eru : ∃ ra, tk_ps b n d 1 op t = ra := ⟨_, rfl⟩
      obtain ⟨ra, hra⟩ := eru
      rw [hra] at hr
      have hb := bud 1 _ _ ra (fun t c => by have := (of_decide_eq_true c).1; rw [this]; decide) hra hr
      unfold zf0_either
      refine ⟨rcost n t ra, 3 * rcost n t ra, by omega, by omega, ?_⟩
      rw [N_rc hh]
      have hd : need 1 op ≤ d := by show 6 * (5 - op) + (6 - 1) ≤ d; omega
      refine ih 1 op t H _ _ _ _ (by omega) ho hd hh (by rw [hra]; exact Nat.le_refl _) (by rw [hra]; exact Nat.le_refl _) ?_
      rw [hra]
      cases ra with
      | inl e => have hr : (.inl e : PR) = r := hr; subst hr; exact k
      | inr q =>
        intro h2 a hp2 hF2 hnd2
        have hb2 := hb.2 q rfl
        have := tk_mu_le (n := n) (t := q.2)
        exact G_orc hf ih ho hd (n + 3) f q.1 q.2 h2 a _ _ r (by omega) (by omega) hb2.2 hp2 hF2 hnd2 hr (by omega) (by omega) k
    · show zf0_both sa f (zgr0 sa f d) H mc ms (some x) K X0
      rw [hr] at hc hc3 k
      rw [tk_ps1] at hr
      have eru : ∃ ra, tk_ps b n d 2 op t = ra := ⟨_, rfl⟩
      obtain ⟨ra, hra⟩ := eru
      rw [hra] at hr
      have hb := bud 2 _ _ ra (fun t c => by have := (of_decide_eq_true c).1; rw [this]; decide) hra hr
      unfold zf0_both
      refine ⟨rcost n t ra, 3 * rcost n t ra, by omega, by omega, ?_⟩
      rw [N_rc hh]
      have hd : need 2 op ≤ d := by show 6 * (5 - op) + (6 - 2) ≤ d; omega
      refine ih 2 op t H _ _ _ _ (by omega) ho hd hh (by rw [hra]; exact Nat.le_refl _) (by rw [hra]; exact Nat.le_refl _) ?_
      rw [hra]
      cases ra with
      | inl e => have hr : (.inl e : PR) = r := hr; subst hr; exact k
      | inr q =>
        intro h2 a hp2 hF2 hnd2
        have hb2 := hb.2 q rfl
        have := tk_mu_le (n := n) (t := q.2)
        exact G_anc hf ih ho hd (n + 3) f q.1 q.2 h2 a _ _ r (by omega) (by omega) hb2.2 hp2 hF2 hnd2 hr (by omega) (by omega) k
    · show zf0_not sa f (zgr0 sa f d) H mc ms (some x) K X0
      exact G_notc hf ih ho h3 hh hc hc3 k
    · show zf0_plus sa f (zgr0 sa f d) H mc ms (some x) K X0
      rw [hr] at hc hc3 k
      rw [tk_ps3] at hr
      have eru : ∃ ra, tk_ps b n d 4 op t = ra := ⟨_, rfl⟩
      obtain ⟨ra, hra⟩ := eru
      rw [hra] at hr
      have hb := bud 4 _ _ ra (fun t c => by have := of_decide_eq_true c; rcases this with z | z <;> (rw [z.1]; decide)) hra hr
      unfold zf0_plus
      refine ⟨rcost n t ra, 3 * rcost n t ra, by omega, by omega, ?_⟩
      rw [N_rc hh]
      have hd : need 4 op ≤ d := by show 6 * (5 - op) + (6 - 4) ≤ d; omega
      refine ih 4 op t H _ _ _ _ (by omega) ho hd hh (by rw [hra]; exact Nat.le_refl _) (by rw [hra]; exact Nat.le_refl _) ?_
      rw [hra]
      cases ra with
      | inl e => have hr : (.inl e : PR) = r := hr; subst hr; exact k
      | inr q =>
        intro h2 a hp2 hF2 hnd2
        have hb2 := hb.2 q rfl
        have := tk_mu_le (n := n) (t := q.2)
        exact G_pmc hf ih ho hd (n + 3) f q.1 q.2 h2 a _ _ r (by omega) (by omega) hb2.2 hp2 hF2 hnd2 hr (by omega) (by omega) k
    · show zf0_times sa f (zgr0 sa f d) H mc ms (some x) K X0
      rw [hr] at hc hc3 k
      rw [tk_ps4] at hr
      have eru : ∃ ra, tk_ps b n d 5 op t = ra := ⟨_, rfl⟩
      obtain ⟨ra, hra⟩ := eru
      rw [hra] at hr
      have hb := bud 5 _ _ ra (fun t c => by have := (of_decide_eq_true c).1; rw [this]; decide) hra hr
      unfold zf0_times
      refine ⟨rcost n t ra, 3 * rcost n t ra, by omega, by omega, ?_⟩
      rw [N_rc hh]
      have hd : need 5 op ≤ d := by show 6 * (5 - op) + (6 - 5) ≤ d; omega
      refine ih 5 op t H _ _ _ _ (by omega) ho hd hh (by rw [hra]; exact Nat.le_refl _) (by rw [hra]; exact Nat.le_refl _) ?_
      rw [hra]
      cases ra with
      | inl e => have hr : (.inl e : PR) = r := hr; subst hr; exact k
      | inr q =>
        intro h2 a hp2 hF2 hnd2
        have hb2 := hb.2 q rfl
        have := tk_mu_le (n := n) (t := q.2)
        exact G_tic hf ih ho hd (n + 3) f q.1 q.2 h2 a _ _ r (by omega) (by omega) hb2.2 hp2 hF2 hnd2 hr (by omega) (by omega) k
    · show zf0_one sa f (zgr0 sa f d) H mc ms (some x) K X0
      exact G_onec hf ih ho h3 hh hc hc3 k
end GA
