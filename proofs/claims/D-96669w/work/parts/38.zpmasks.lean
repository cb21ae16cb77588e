/-! THE REFERENCE READS: parts, a text, what is asked of it -/
set_option maxRecDepth 100000
section MK
variable {f m : Nat} {ad : Nat → Nat} {b0 : zH} {σ : Nat → Nat → Int32} {n base : Nat} {h : zH} {t : Tok} {op e : Nat} {K : Int32 → zH → Prop}
theorem P_48F (C : MC f m ad σ n base) {v : Int32} (hp : PF1 m ad b0 σ e h) (k : ∀ v h', PF m ad b0 σ n base e h' → K v h') : zj8_part_48 f K h (some m) v := by
  unfold zj8_part_48
  rw [P_27F C hp, if_neg (by decide)]
  exact k v h (Or.inl hp)
theorem P_34F (C : MC f m ad σ n base) {v : Int32} (hp : PF m ad b0 σ n base e h) (k : ∀ v h', PF m ad b0 σ n base e h' → K v h') : zj8_part_34 f K h (some m) v := by
  unfold zj8_part_34
  rw [P_rc hp.hm, P_isSignF C hp, if_pos rfl, P_rc hp.hm]
  exact P_failF C hp fun h2 hp2 => P_48F C hp2 k
theorem P_19F (C : MC f m ad σ n base) (hp : PF m ad b0 σ n base e h) (k : ∀ v h', PF m ad b0 σ n base e h' → K v h') : zj8_part_19 f K h (some m) := by
  unfold zj8_part_19
  rcases hp with hp | hp
  · rw [P_27F C hp, if_neg (by decide)]
    exact P_34F C (Or.inl hp) k
  · have hp2 : PF m ad b0 σ n base e h := Or.inr hp
    obtain ⟨τ, w, t, rfl, hF, h27, -⟩ := hp
    simp only [zmR C.1]
    rw [if_pos h27]
    exact G_F C 60 0 _ _ (by omega) (by omega) hp2 fun v h3 hp3 => P_34F C hp3 k
theorem P_partF (C : MC f m ad σ n base) (hp : PF m ad b0 σ n base e h) (k : ∀ v h', PF m ad b0 σ n base e h' → K v h') : zf8_part f h (some m) 0 K := by
  unfold zf8_part
  rw [if_pos rfl, P_rc hp.hm]
  refine P_failF C hp fun h2 hp2 => ?_
  unfold zj8_part_8
  rw [P_27F C hp2, if_neg (by decide)]
  exact P_19F C (Or.inl hp2) k
theorem P_part (C : MC f m ad σ n base) (hh : POk m ad b0 σ n base t 0 h) {j : Nat} (k : OUT m ad b0 σ n base 0 K (tk_part (MB σ base) n j t)) : zf8_part f h (some m) (if tk_key j t then 1 else 0) K := by
  unfold tk_part at k
  unfold zf8_part
  by_cases c : tk_key j t
  · rw [if_pos c] at k
    rw [if_pos c, if_neg (by decide)]
    unfold zj8_part_8
    rw [P_27 C hh, if_pos rfl, P_rc hh.hm]
    refine P_next C hh (by rw [c.1]; decide) (fun c5 h' hp => ?_) (fun c5 h' hp => ?_)
    · rw [tk_nx_5 c5] at k
      exact P_19F C hp k
    · rw [tk_nx_n c5] at k
      unfold zj8_part_19
      rw [P_27 C hp, if_pos rfl, P_rc hp.hm]
      refine G_ps C 60 0 0 _ h' _ (by omega) (by omega) (by show 6 * (5 - 0) + (6 - 0) ≤ 60; omega) hp ?_
      cases hr : tk_ps (MB σ base) n 60 0 0 (tk_lex (MB σ base) n t.2.2.2) with
      | inl e => rw [hr] at k; exact fun v h3 hp3 => P_34F C hp3 k
      | inr q =>
        rw [hr] at k
        have k : OUT m ad b0 σ n base 0 K (if tk_sg 59 q.2 then tk_nx (MB σ base) n q.2 (fun w => .inr (q.1, w)) else .inl q.2.2.2.1) := k
        intro h3 hp3
        unfold zj8_part_34
        rw [P_rc hp3.hm, P_isSign C hp3]
        by_cases c59 : tk_sg 59 q.2
        · rw [if_pos c59] at k
          rw [if_pos c59, if_neg (by decide)]
          unfold zj8_part_48
          rw [P_27 C hp3, if_pos rfl, P_rc hp3.hm]
          refine P_next C hp3 (by rw [c59.1]; decide) (fun c6 h4 hp4 => ?_) (fun c6 h4 hp4 => ?_)
          · rw [tk_nx_5 c6] at k
            exact k _ h4 hp4
          · rw [tk_nx_n c6] at k
            exact k h4 hp4
        · rw [if_neg c59] at k
          rw [if_neg c59, if_pos rfl, P_rc hp3.hm]
          exact P_fail C hp3 fun h4 hp4 => P_48F C hp4 k
  · rw [if_neg c] at k
    rw [if_neg c, if_pos rfl, P_rc hh.hm]
    refine P_fail C hh fun h2 hp2 => ?_
    unfold zj8_part_8
    rw [P_27F C hp2, if_neg (by decide)]
    exact P_19F C (Or.inl hp2) k
/-- which of three -/
def sel3 {α : Type} (k : Nat) (a b c : α) : α := if k = 0 then a else if k = 1 then b else c
theorem P_150 {j : Nat} (hj : j ≤ 2) {v w x : Int32} (k : K (sel3 j v w x) h) : zj8_read_150 f K h (nI j) v w x := by
  unfold zj8_read_150
  have : j = 0 ∨ j = 1 ∨ j = 2 := by omega
  rcases this with rfl | rfl | rfl
  · rw [if_pos (show nI 0 = 0 from rfl)]; exact k
  · rw [if_neg (show ¬ nI 1 = 0 by decide), if_pos (show nI 1 = 1 from rfl)]; exact k
  · rw [if_neg (show ¬ nI 2 = 0 by decide), if_neg (show ¬ nI 2 = 1 by decide)]; exact k
theorem P_130F (C : MC f m ad σ n base) {j : Nat} (hj : j ≤ 2) {v w x : Int32} (hp : PF m ad b0 σ n base e h) (k : ∀ v h', PF1 m ad b0 σ e h' → K v h') : zj8_read_130 f K h (some m) (nI j) v w x := by
  unfold zj8_read_130
  rcases hp with hp | hp
  · rw [P_27F C hp, if_neg (by decide)]
    exact P_150 hj (k _ h hp)
  · have hp2 : PF m ad b0 σ n base e h := Or.inr hp
    obtain ⟨τ, w, t, rfl, hF, h27, h5, he, ht⟩ := hp
    simp only [zmR C.1]
    have n0 : ¬ τ 23 0 = 0 := by
      rcases ht.2.2.2 with z | z | z | z | z | ⟨-, z⟩
      · rw [h5] at z; exact absurd z.1 (by decide)
      · rw [h5] at z; exact absurd z.1 (by decide)
      · rw [h5] at z; exact absurd z.1 (by decide)
      · rw [h5] at z; exact absurd z.1 (by decide)
      · rw [h5] at z; exact absurd z.1 (by decide)
      · rcases z with z | ⟨z, -⟩
        · rw [z]; decide
        · rw [z]; decide
    rw [if_pos h27, if_neg n0]
    exact P_failF C hp2 fun h2 hp2 => P_150 hj (k _ h2 hp2)
theorem P_93F (C : MC f m ad σ n base) {j : Nat} (hj : j ≤ 2) {v w : Int32} (hp : PF m ad b0 σ n base e h) (k : ∀ v h', PF1 m ad b0 σ e h' → K v h') : zj8_read_93 f K h (some m) (nI j) v w := by
  unfold zj8_read_93
  rcases hp with hp | hp
  · rw [P_27F C hp, if_neg (by decide)]
    exact P_130F C hj (Or.inl hp) k
  · have hp2 : PF m ad b0 σ n base e h := Or.inr hp
    have w : ∀ K, zf8_isWord f h (some m) 113 117 97 114 114 101 108 115 K = K 0 h := fun K => P_isWordF C hp2 2 (by decide)
    rw [P_rc hp2.hm, w, P_rc hp2.hm]
    obtain ⟨τ, w, t, rfl, hF, h27, h5, he, ht⟩ := hp
    simp only [zmR C.1]
    rw [if_pos h27]
    exact P_partF C hp2 fun v h3 hp3 => P_130F C hj hp3 k
/-- what is read of a text -/
theorem M_read (ok : mOk m ad) (hf : 200 ≤ f) {τ : Nat → Nat → Int32} {w : Int64} {ti j : Nat} (ht : ti < 6) (hj : j ≤ 2) (hn : n ≤ 160) (hsz : τ 2 ti = nI n) (hby : ∀ i, i < n → 0 ≤ (τ 1 (160 * ti + i)).toInt)
    (k : ∀ (τ' : Nat → Nat → Int32) (w' : Int64), (∀ k, (k < 20 ∨ 28 < k) → τ' k = τ k) → match tk_text (fun i => τ 1 (160 * ti + i)) n with
      | .inl e => τ' 27 0 = 1 → τ' 28 0 = nI e → ∀ v, K v (hM m ad τ' w' b0)
      | .inr g => τ' 27 0 = 0 → K (sel3 j g.1 g.2.1 g.2.2 (tk_en τ)) (hM m ad τ' w' b0)) : zf8_read f (hM m ad τ w b0) (some m) (nI ti) (nI j) K := by
  have e160 : (160 : Int32) * nI ti = nI (160 * ti) := pk_mul 160 ti
  have c1 : mup τ 20 0 (nI (160 * ti)) 2 (nI ti).toNatClampNeg = nI n := by rw [mup_ne0 (by decide), nI_clamp (by omega)]; exact hsz
  unfold zf8_read
  simp only [zmR ok, e160, c1]
  refine ⟨vp_in_nI ht (by omega), ?_⟩
  have hT : TXT (mup (mup τ 20 0 (nI (160 * ti))) 21 0 (nI n)) n (160 * ti) := ⟨mup_s0, by rw [mup_ne0 (by decide)]; exact mup_s0, by omega, hn, fun i hi => by rw [mup_ne0 (by decide), mup_ne0 (by decide)]; exact hby i hi⟩
  have hb : MB (mup (mup τ 20 0 (nI (160 * ti))) 21 0 (nI n)) (160 * ti) = fun i => τ 1 (160 * ti + i) := by
    funext i
    show mup (mup τ 20 0 (nI (160 * ti))) 21 0 (nI n) 1 (160 * ti + i) = _
    rw [mup_ne0 (by decide), mup_ne0 (by decide)]
  have he : tk_en (mup (mup τ 20 0 (nI (160 * ti))) 21 0 (nI n)) = tk_en τ := by
    unfold tk_en
    simp only [mup_ne0 (show (14 : Nat) ≠ 21 by decide), mup_ne0 (show (14 : Nat) ≠ 20 by decide), mup_ne0 (show (15 : Nat) ≠ 21 by decide), mup_ne0 (show (15 : Nat) ≠ 20 by decide), mup_ne0 (show (16 : Nat) ≠ 21 by decide), mup_ne0 (show (16 : Nat) ≠ 20 by decide), mup_ne0 (show (17 : Nat) ≠ 21 by decide), mup_ne0 (show (17 : Nat) ≠ 20 by decide), mup_ne0 (show (18 : Nat) ≠ 21 by decide), mup_ne0 (show (18 : Nat) ≠ 20 by decide), mup_ne0 (show (19 : Nat) ≠ 21 by decide), mup_ne0 (show (19 : Nat) ≠ 20 by decide)]
  have hkk : ∀ k, (k < 20 ∨ 28 < k) → mup (mup τ 20 0 (nI (160 * ti))) 21 0 (nI n) k = τ k := fun k hk => by rw [mup_ne0 (by omega), mup_ne0 (by omega)]
  rw [← hb] at k
  rw [← he] at k
  generalize mup (mup τ 20 0 (nI (160 * ti))) 21 0 (nI n) = σ at hT k hkk ⊢
  have C : MC f m ad σ n (160 * ti) := ⟨ok, hf, hT⟩
  have kF : ∀ e, tk_text (MB σ (160 * ti)) n = .inl e → ∀ v h', PF1 m ad b0 σ e h' → K v h' := by
    rintro e hx v h' ⟨τ', w', rfl, a1, a2, a3⟩
    have := k τ' w' (fun k hk => by rw [a1 k (by omega), hkk k hk])
    rw [hx] at this
    exact this a2 a3 v
  have hF1 : MF σ (mup (mup (mup σ 22 0 0) 26 0 0) 27 0 0) := ((MF.up (fun _ _ => rfl) ⟨by omega, by omega⟩).up ⟨by omega, by omega⟩).up ⟨by omega, by omega⟩
  have m22 : mup (mup (mup σ 22 0 0) 26 0 0) 27 0 0 22 0 = nI 0 := by rw [mup_ne0 (by decide), mup_ne0 (by decide), mup_s0]; rfl
  have m26 : mup (mup (mup σ 22 0 0) 26 0 0) 27 0 0 26 0 = nI 0 := by rw [mup_ne0 (by decide), mup_s0]; rfl
  have m27 : mup (mup (mup σ 22 0 0) 26 0 0) 27 0 0 27 0 = 0 := mup_s0
  refine M_next ok hT hf hF1 m22 (Nat.zero_le _) fun τ1 w1 a1 a2 a3 a4 a5 => ?_
  have a2 : τ1 26 0 = nI 0 := by rw [a2]; exact m26
  have a3 : τ1 27 0 = 0 := by rw [a3]; exact m27
  have tail1 : ∀ e, tk_text (MB σ (160 * ti)) n = .inl e → ∀ v h2, PF m ad b0 σ n (160 * ti) e h2 → gfI h2 (some m) [13] 27 fun x14 => if x14 = 0 then (zrc h2 (some m) 13 (zf8_isWord f h2 (some m) 99 111 115 116 115 0 0 0 fun x15 h16 => zrc h16 (some m) 13 (zf8_part f h16 (some m) x15 fun x17 h18 => zj8_read_93 f K h18 (some m) (nI j) v x17))) else (zj8_read_93 f K h2 (some m) (nI j) v 0) := by
    intro e hx v h2 hp
    rcases hp with hp | hp
    · rw [P_27F C hp, if_neg (by decide)]
      exact P_93F C hj (Or.inl hp) (kF e hx)
    · have hp2 : PF m ad b0 σ n (160 * ti) e h2 := Or.inr hp
      have w : ∀ K, zf8_isWord f h2 (some m) 99 111 115 116 115 0 0 0 K = K 0 h2 := fun K => P_isWordF C hp2 1 (by decide)
      rw [P_rc hp2.hm, w, P_rc hp2.hm]
      obtain ⟨τ, w, t, rfl, hF, h27, h5, he, ht⟩ := hp
      simp only [zmR C.1]
      rw [if_pos h27]
      exact P_partF C hp2 fun v h3 hp3 => P_93F C hj hp3 (kF e hx)
  by_cases c5 : (tk_lex (MB σ (160 * ti)) n 0).1 = 5
  · have hp : PF m ad b0 σ n (160 * ti) (tk_lex (MB σ (160 * ti)) n 0).2.2.1 (hM m ad τ1 w1 b0) := Or.inr ⟨τ1, w1, _, rfl, a1, a3, c5, rfl, a5⟩
    have w : ∀ K, zf8_isWord f (hM m ad τ1 w1 b0) (some m) 108 105 103 104 116 115 0 0 K = K 0 (hM m ad τ1 w1 b0) := fun K => P_isWordF C hp 0 (by decide)
    rw [P_rc hp.hm, w, P_rc hp.hm]
    exact P_partF C hp fun v h2 hp2 => tail1 _ (if_pos c5) v h2 hp2
  · have hp : POk m ad b0 σ n (160 * ti) (tk_lex (MB σ (160 * ti)) n 0) 0 (hM m ad τ1 w1 b0) := ⟨τ1, w1, rfl, a1, a3, a2, c5, a5⟩
    have w : ∀ K, zf8_isWord f (hM m ad τ1 w1 b0) (some m) 108 105 103 104 116 115 0 0 K = K (if tk_key 0 (tk_lex (MB σ (160 * ti)) n 0) then 1 else 0) (hM m ad τ1 w1 b0) := fun K => P_isWordK C hp 0 (by decide)
    rw [P_rc hp.hm, w, P_rc hp.hm]
    refine P_part C hp ?_
    cases h1 : tk_part (MB σ (160 * ti)) n 0 (tk_lex (MB σ (160 * ti)) n 0) with
    | inl e => exact fun v h2 hp2 => tail1 e (by simp only [tk_text, if_neg c5, h1]) v h2 hp2
    | inr p =>
      intro h2 hp2
      have w : ∀ K, zf8_isWord f h2 (some m) 99 111 115 116 115 0 0 0 K = K (if tk_key 1 p.2 then 1 else 0) h2 := fun K => P_isWordK C hp2 1 (by decide)
      rw [P_27 C hp2, if_pos rfl, P_rc hp2.hm, w, P_rc hp2.hm]
      refine P_part C hp2 ?_
      cases h3 : tk_part (MB σ (160 * ti)) n 1 p.2 with
      | inl e => exact fun v h4 hp4 => P_93F C hj hp4 (kF e (by simp only [tk_text, if_neg c5, h1, h3]))
      | inr q =>
        intro h4 hp4
        unfold zj8_read_93
        have w : ∀ K, zf8_isWord f h4 (some m) 113 117 97 114 114 101 108 115 K = K (if tk_key 2 q.2 then 1 else 0) h4 := fun K => P_isWordK C hp4 2 (by decide)
        rw [P_27 C hp4, if_pos rfl, P_rc hp4.hm, w, P_rc hp4.hm]
        refine P_part C hp4 ?_
        cases h5 : tk_part (MB σ (160 * ti)) n 2 q.2 with
        | inl e => exact fun v h6 hp6 => P_130F C hj hp6 (kF e (by simp only [tk_text, if_neg c5, h1, h3, h5]))
        | inr r =>
          intro h6 hp6
          unfold zj8_read_130
          rw [P_27 C hp6, if_pos rfl, P_23 C hp6]
          by_cases c0 : r.2.1 = 0
          · rw [if_pos c0, if_pos rfl]
            have hx : tk_text (MB σ (160 * ti)) n = .inr (p.1, q.1, r.1) := by simp only [tk_text, if_neg c5, h1, h3, h5, if_pos c0]
            refine P_150 hj ?_
            obtain ⟨τ6, w6, rfl, b1, b2, -⟩ := hp6
            have := k τ6 w6 (fun k hk => by rw [b1 k (by omega), hkk k hk])
            rw [hx] at this
            have := this b2
            unfold sel3 at this ⊢
            by_cases y0 : j = 0
            · rw [if_pos y0] at this ⊢; exact this
            · rw [if_neg y0] at this ⊢
              by_cases y1 : j = 1
              · rw [if_pos y1] at this ⊢; exact this
              · rw [if_neg y1] at this ⊢; exact this
          · have hx : tk_text (MB σ (160 * ti)) n = .inl r.2.2.2.1 := by simp only [tk_text, if_neg c5, h1, h3, h5, if_neg c0]
            have n0 : ¬ (if r.2.1 = 0 then (0 : Int32) else if r.2.1 = 3 then 2 else if r.2.1 = 4 then 3 else 1) = 0 := by
              rw [if_neg c0]
              by_cases y3 : r.2.1 = 3
              · rw [if_pos y3]; decide
              · rw [if_neg y3]
                by_cases y4 : r.2.1 = 4
                · rw [if_pos y4]; decide
                · rw [if_neg y4]; decide
            rw [if_neg n0, P_rc hp6.hm]
            exact P_fail C hp6 fun h7 hp7 => P_150 hj (kF _ hx _ h7 hp7)
end MK
