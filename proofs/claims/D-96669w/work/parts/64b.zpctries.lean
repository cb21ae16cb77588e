/-! THE CLASS's CALLS: the search itself -/
set_option maxRecDepth 100000
def lkC (goal bright price digits : Int32) (B : B3) : B3 := if B.1 = 0 ∨ B.2.2 < (if goal = 1 then -price else bright) then (1, digits, if goal = 1 then -price else bright) else B
def skC (n : Nat) (S : Nat → Nat → Int32) (C : Nat → Int32) (H : Nat → Nat → Nat → Int32) (W Z : Nat → Int32) (goal purse : Int32) : Nat → Nat → Int32 → Int32 → Int32 → Int32 → Int32 → B3 → B3
  | 0, _, _, _, bright, price, digits, B => lkC goal bright price digits B
  | d + 1, i, last, used, bright, price, digits, B => fo (fun p B => if (((used >>> (nI p &&& 31)) &&& 1 = 0 ∧ Z p = 0) ∧ ¬ (goal = 1 ∧ S p i < W i)) ∧ ((last = -1 ∨ H last.toNatClampNeg p (i - 1) = 0) ∧ ¬ (goal = 2 ∧ purse < price + C p)) then skC n S C H W Z goal purse d (i + 1) (nI p) (used ||| (1 <<< (nI p &&& 31))) (bright + S p i) (price + C p) (10 * digits + nI p + 1) B else B) n 0
      (if goal = 1 ∧ 0 < W i then B else skC n S C H W Z goal purse d (i + 1) (-1) used bright price (10 * digits) B)
def offB (σ1 σ : ST) : Prop := ∀ k, k ∉ ([226, 227, 228] : List Nat) → σ1 k = σ k
def isBc (σ : ST) (B : B3) : Prop := σ 226 0 = B.1 ∧ σ 228 0 = B.2.1 ∧ σ 227 0 = B.2.2
section CS
variable {f : Nat} {sa : Nat → Nat} {x : Nat} {ca : Nat → Nat} {Md : Nat → Prop} {b0 : zH} {G : TG} {pa : Nat → Nat} {rw : Nat → Option Nat} {σ : ST} {h : zH}
theorem C_pf2 (hh : Ch sa x ca Md b0 G pa rw σ h) {k q : Nat} (hkq : (k, q) ∈ csc) (h2 : 220 < q) {v : Int32} {P : zH → Prop} (kk : ∀ h', Ch sa x ca Md b0 G pa rw (mup σ q 0 v) h' → P h') : pf h (some x) [0] k (.int v) P := by
  refine C_pf hh hkq (fun κ a => agr_mup a (by omega) (by omega) (by omega)) (sameP_mup ?_) kk
  simp only [List.mem_cons, List.not_mem_nil, or_false, not_or]
  have : ∀ e ∈ csc, e.2 < 300 := by decide
  omega
theorem C_looks (hh : Ch sa x ca Md b0 G pa rw σ h) {B : B3} (hB : isBc σ B) {v digits : Int32} {K : zH → Prop} (kk : ∀ σ1 h', Ch sa x ca Md b0 G pa rw σ1 h' → offB σ1 σ → isBc σ1 (if B.1 = 0 ∨ B.2.2 < v then (1, digits, v) else B) → K h') : zf0_looks f h (some x) v digits K := by
  unfold zf0_looks
  simp only [zcQ hh]
  rw [hB.1, hB.2.2]
  have put : (B.1 = 0 ∨ B.2.2 < v) → zj0_looks_15 f K h (some x) v digits := by
    intro c
    rw [if_pos c] at kk
    unfold zj0_looks_15
    refine C_pf2 (q := 226) hh (by decide) (by decide) fun h1 hh1 => ?_
    refine C_pf2 (q := 227) hh1 (by decide) (by decide) fun h2 hh2 => ?_
    refine C_pf2 (q := 228) hh2 (by decide) (by decide) fun h3 hh3 => ?_
    refine kk _ h3 hh3 (fun k hk => ?_) ⟨rfl, rfl, rfl⟩
    simp only [List.mem_cons, List.not_mem_nil, or_false, not_or] at hk
    rw [mup_k hk.2.2, mup_k hk.2.1, mup_k hk.1]
  by_cases c0 : B.1 = 0
  · rw [if_pos c0]; exact put (Or.inl c0)
  · rw [if_neg c0]
    by_cases cv : B.2.2 < v
    · rw [if_pos cv]; exact put (Or.inr cv)
    · rw [if_neg cv]
      rw [if_neg (fun z => z.elim c0 cv)] at kk
      exact kk σ h hh (fun _ _ => rfl) hB
theorem C_enough0 (hh : Ch sa x ca Md b0 G pa rw σ h) {i : Nat} (hi : i < 4) {K : Int32 → zH → Prop} (kk : K (if σ 225 0 = 1 ∧ 0 < σ 8 i then 0 else 1) h) : zf0_isEnough f h (some x) (nI i) (-1) K := by
  unfold zf0_isEnough zj0_isEnough_25 zj0_isEnough_34
  simp only [zcQ hh]
  by_cases c : σ 225 0 = 1
  · rw [if_pos c, if_pos trivial]
    refine ⟨vp_in_nI hi (by omega), ?_⟩
    rw [nI_clamp (by omega)]
    by_cases c2 : 0 < σ 8 i
    · rw [if_pos c2]; rw [if_pos ⟨c, c2⟩] at kk; exact kk
    · rw [if_neg c2]; rw [if_neg (fun z => c2 z.2)] at kk; exact kk
  · rw [if_neg c]; rw [if_neg (fun z => c z.1)] at kk; exact kk
theorem C_enough1 (hh : Ch sa x ca Md b0 G pa rw σ h) {i p : Nat} (hi : i < 4) (hp : p < 6) {K : Int32 → zH → Prop} (kk : K (if σ 225 0 = 1 ∧ σ (300 + p) i < σ 8 i then 0 else 1) h) : zf0_isEnough f h (some x) (nI i) (nI p) K := by
  unfold zf0_isEnough zj0_isEnough_25 zj0_isEnough_34
  simp only [zcQ hh, C_t22 hh hp, C_ld hh (cia300 p hp) (show 220 < 300 + p by omega)]
  rw [nI_clamp (by omega)]
  by_cases c : σ 225 0 = 1
  · rw [if_pos c, if_neg (nIn1 (by omega))]
    refine ⟨vp_in_nI hi (by omega), vp_in_nI hi (by omega), ?_⟩
    by_cases c2 : σ (300 + p) i < σ 8 i
    · rw [if_pos c2]; rw [if_pos ⟨c, c2⟩] at kk; exact kk
    · rw [if_neg c2]; rw [if_neg (fun z => c2 z.2)] at kk; exact kk
  · rw [if_neg c]; rw [if_neg (fun z => c z.1)] at kk; exact kk
theorem C_tries (hf : 400 ≤ f) {σ0 : ST} (hW : WS σ) (e13 : nP σ = nP σ0) (e7 : σ 7 = σ0 7) (e8 : σ 8 = σ0 8) (e111 : σ 111 = σ0 111) (hT : ∀ p, p < nP σ0 → TBc G σ0 σ p) : ∀ (d D i : Nat) (last used bright price digits : Int32) (B : B3) (σ1 : ST) (h : zH) (K : zH → Prop), i + d = 4 → d < D → (last = -1 ∨ ∃ q : Nat, q < nP σ0 ∧ last = nI q ∧ 0 < i) → Ch sa x ca Md b0 G pa rw σ1 h → offB σ1 σ → isBc σ1 B → (∀ σ2 h', Ch sa x ca Md b0 G pa rw σ2 h' → offB σ2 σ → isBc σ2 (skC (nP σ0) (smC G σ0) (ct G σ0) (htC G σ0) (σ0 8) (σ0 111) (σ 225 0) (σ0 7 0) d i last used bright price digits B) → K h') → zgr0t f D 0 h (some x) (nI i) last used bright price digits K := by
  obtain ⟨h13, hn⟩ := nP_eq hW
  intro d
  induction d with
  | zero =>
    intro D i last used bright price digits B σ1 h K h1 hD hl hh ho hB kk
    obtain ⟨D, rfl⟩ : ∃ D', D = D' + 1 := ⟨D - 1, by omega⟩
    show zf0_tries f (zgr0t f D) h (some x) (nI i) last used bright price digits K
    unfold zf0_tries zj0_tries_22
    have e : i = 4 := by omega
    subst e
    rw [if_pos (show nI 4 = 4 from rfl)]
    simp only [zcQ hh]
    have kk : ∀ σ2 h', Ch sa x ca Md b0 G pa rw σ2 h' → offB σ2 σ → isBc σ2 (lkC (σ 225 0) bright price digits B) → K h' := kk
    unfold lkC at kk
    rw [ho 225 (by decide)]
    by_cases c : σ 225 0 = 1
    · rw [if_pos c]
      rw [if_pos c] at kk
      exact C_looks hh hB fun σ2 h' hh' a1 a2 => kk σ2 h' hh' (fun k hk => by rw [a1 k hk]; exact ho k hk) a2
    · rw [if_neg c]
      rw [if_neg c] at kk
      exact C_looks hh hB fun σ2 h' hh' a1 a2 => kk σ2 h' hh' (fun k hk => by rw [a1 k hk]; exact ho k hk) a2
  | succ d ih =>
    intro D i last used bright price digits B σ1 h K h1 hD hl hh ho hB kk
    obtain ⟨D, rfl⟩ : ∃ D', D = D' + 1 := ⟨D - 1, by omega⟩
    show zf0_tries f (zgr0t f D) h (some x) (nI i) last used bright price digits K
    have hi : i < 4 := by omega
    unfold zf0_tries
    rw [if_neg (show ¬ nI i = 4 from fun z => by have := (nI_eq (b := 4) (by omega) (by omega)).mp z; omega)]
    have e1 : nI i + 1 = nI (i + 1) := nI_1 i
    have loop : ∀ (j p g : Nat) (B1 : B3) (σ3 : ST) (h3 : zH), p + j = nP σ0 → j < g → Ch sa x ca Md b0 G pa rw σ3 h3 → offB σ3 σ → isBc σ3 B1 → (∀ σ2 h', Ch sa x ca Md b0 G pa rw σ2 h' → offB σ2 σ → isBc σ2 (fo (fun p B => if (((used >>> (nI p &&& 31)) &&& 1 = 0 ∧ σ0 111 p = 0) ∧ ¬ (σ 225 0 = 1 ∧ smC G σ0 p i < σ0 8 i)) ∧ ((last = -1 ∨ htC G σ0 last.toNatClampNeg p (i - 1) = 0) ∧ ¬ (σ 225 0 = 2 ∧ σ0 7 0 < price + ct G σ0 p)) then skC (nP σ0) (smC G σ0) (ct G σ0) (htC G σ0) (σ0 8) (σ0 111) (σ 225 0) (σ0 7 0) d (i + 1) (nI p) (used ||| (1 <<< (nI p &&& 31))) (bright + smC G σ0 p i) (price + ct G σ0 p) (10 * digits + nI p + 1) B else B) j p B1) → K h') → zl0_tries_58 f (zgr0t f D) K g h3 (some x) (nI i) last used bright price digits (nI p) := by
      intro j
      induction j with
      | zero =>
        intro p g B1 σ3 h3 a1 a2 hh3 ho3 hB3 kk
        obtain ⟨g, rfl⟩ : ∃ g', g = g' + 1 := ⟨g - 1, by omega⟩
        show zb0_tries_58 f (zgr0t f D) K (zl0_tries_58 f (zgr0t f D) K g) h3 (some x) (nI i) last used bright price digits (nI p)
        unfold zb0_tries_58
        simp only [zcQ hh3]
        rw [ho3 13 (by decide), h13, if_neg (fun z => by have := (nI_ltI (by omega) (by omega)).mp z; omega)]
        exact kk σ3 h3 hh3 ho3 hB3
      | succ j ihj =>
        intro p g B1 σ3 h3 a1 a2 hh3 ho3 hB3 kk
        obtain ⟨g, rfl⟩ : ∃ g', g = g' + 1 := ⟨g - 1, by omega⟩
        show zb0_tries_58 f (zgr0t f D) K (zl0_tries_58 f (zgr0t f D) K g) h3 (some x) (nI i) last used bright price digits (nI p)
        have hpn : p < nP σ0 := by omega
        have hW3 : WS σ3 := WS_ge hW fun k h1 h2 => ho3 k (by simp only [List.mem_cons, List.not_mem_nil, or_false, not_or]; omega)
        have en3 : nP σ3 = nP σ0 := by rw [← e13]; unfold nP; rw [ho3 13 (by decide)]
        obtain ⟨tb1, tb2, tb3⟩ := hT p hpn
        have off3 : ∀ k, 228 < k → σ3 k = σ k := fun k hk => ho3 k (by simp only [List.mem_cons, List.not_mem_nil, or_false, not_or]; omega)
        unfold zb0_tries_58
        simp only [zcQ hh3]
        rw [ho3 13 (by decide), h13, if_pos ((nI_ltI (by omega) (by omega)).mpr (by omega))]
        have next : ∀ (B2 : B3) (σ4 : ST) (h4 : zH), Ch sa x ca Md b0 G pa rw σ4 h4 → offB σ4 σ → isBc σ4 B2 → B2 = (if (((used >>> (nI p &&& 31)) &&& 1 = 0 ∧ σ0 111 p = 0) ∧ ¬ (σ 225 0 = 1 ∧ smC G σ0 p i < σ0 8 i)) ∧ ((last = -1 ∨ htC G σ0 last.toNatClampNeg p (i - 1) = 0) ∧ ¬ (σ 225 0 = 2 ∧ σ0 7 0 < price + ct G σ0 p)) then skC (nP σ0) (smC G σ0) (ct G σ0) (htC G σ0) (σ0 8) (σ0 111) (σ 225 0) (σ0 7 0) d (i + 1) (nI p) (used ||| (1 <<< (nI p &&& 31))) (bright + smC G σ0 p i) (price + ct G σ0 p) (10 * digits + nI p + 1) B1 else B1) → zj0_tries_207 f (zgr0t f D) (zl0_tries_58 f (zgr0t f D) K g) K h4 (some x) (nI i) last used bright price digits (nI p) := by
          intro B2 σ4 h4 b1 b2 b3 b5
          unfold zj0_tries_207
          simp only [nm_eq, nI_1]
          refine ihj (p + 1) g B2 σ4 h4 (by omega) (by omega) b1 b2 b3 ?_
          rw [b5]
          exact kk
        have skip : ¬ ((((used >>> (nI p &&& 31)) &&& 1 = 0 ∧ σ0 111 p = 0) ∧ ¬ (σ 225 0 = 1 ∧ smC G σ0 p i < σ0 8 i)) ∧ ((last = -1 ∨ htC G σ0 last.toNatClampNeg p (i - 1) = 0))) → zj0_tries_124 f (zgr0t f D) (zl0_tries_58 f (zgr0t f D) K g) K h3 (some x) (nI i) last used bright price digits (nI p) := by
          intro c
          unfold zj0_tries_124 zj0_tries_125
          rw [if_pos rfl]
          exact next B1 σ3 h3 hh3 ho3 hB3 (by rw [if_neg (fun z => c ⟨z.1, z.2.1⟩)])
        by_cases cu : (used >>> (nI p &&& 31)) &&& 1 = 0
        · rw [if_pos cu]
          have hkc := kc6 hW3 (p := p) (by omega)
          simp only [C_pa hh3 (by omega) (show p < nP σ3 by omega), C_pI hh3 (show p < nP σ3 by omega) hkc (k := 4) rfl]
          rw [ho3 111 (by decide), e111]
          by_cases cz : σ0 111 p = 0
          · rw [if_pos cz]
            refine C_enough1 hh3 hi (by omega) ?_
            rw [ho3 225 (by decide), off3 (300 + p) (by omega), ho3 8 (by decide), e8, tb2 i hi]
            by_cases ce : σ 225 0 = 1 ∧ smC G σ0 p i < σ0 8 i
            · rw [if_pos ce, if_pos rfl]
              exact skip (fun z => z.1.2 ce)
            · rw [if_neg ce, if_neg (by decide)]
              have take : (last = -1 ∨ htC G σ0 last.toNatClampNeg p (i - 1) = 0) → zj0_tries_120 f (zgr0t f D) (zl0_tries_58 f (zgr0t f D) K g) K h3 (some x) (nI i) last used bright price digits (nI p) := by
                intro cl
                unfold zj0_tries_120 zj0_tries_125
                rw [if_neg (by decide)]
                simp only [zcQ hh3]
                rw [ho3 225 (by decide), nI_clamp (by omega), ho3 223 (by decide), tb1, ho3 7 (by decide), e7]
                have go : ¬ (σ 225 0 = 2 ∧ σ0 7 0 < price + ct G σ0 p) → zj0_tries_160 f (zgr0t f D) (zl0_tries_58 f (zgr0t f D) K g) K h3 (some x) (nI i) last used bright price digits (nI p) := by
                  intro cp
                  unfold zj0_tries_160
                  simp only [zcQ hh3, C_t22 hh3 (show p < 6 by omega), C_ld hh3 (cia300 p (by omega)) (show 220 < 300 + p by omega)]
                  rw [nI_clamp (by omega), nI_clamp (by omega), off3 (300 + p) (by omega), ho3 223 (by decide), tb1, tb2 i hi, e1]
                  refine ⟨vp_in_nI hi (by omega), vp_in_nI (by omega) (by omega), ?_⟩
                  exact ih D (i + 1) (nI p) _ _ _ _ B1 _ h3 _ (by omega) (by omega) (Or.inr ⟨p, hpn, rfl, by omega⟩) hh3 ho3 hB3 fun σ5 h5 c1 c2 c4 => next _ σ5 h5 c1 c2 c4 (by rw [if_pos ⟨⟨⟨cu, cz⟩, ce⟩, cl, cp⟩])
                by_cases c2 : σ 225 0 = 2
                · rw [if_pos c2]
                  refine ⟨vp_in_nI (by omega) (by omega), ?_⟩
                  by_cases c3 : σ0 7 0 < price + ct G σ0 p
                  · rw [if_pos c3]
                    exact next B1 σ3 h3 hh3 ho3 hB3 (by rw [if_neg (fun z => z.2.2 ⟨c2, c3⟩)])
                  · rw [if_neg c3]
                    exact go (fun z => c3 z.2)
                · rw [if_neg c2]
                  exact go (fun z => c2 z.1)
              by_cases cl : last = -1
              · rw [if_pos cl]
                exact take (Or.inl cl)
              · rw [if_neg cl]
                obtain ⟨q, hq, rfl, hi0⟩ := hl.resolve_left cl
                have em : nI i - 1 = nI (i - 1) := by
                  have : i = (i - 1) + 1 := by omega
                  rw [this, nI_pred]
                  rfl
                rw [em]
                simp only [zcQ hh3, C_t24 hh3 (show i - 1 < 4 by omega), C_t9 hh3 (show i - 1 < 4 by omega) (show q < 6 by omega), C_ld hh3 (cia310 (i - 1) (by omega) q (by omega)) (show 220 < 310 + (6 * (i - 1) + q) by omega)]
                rw [nI_clamp (by omega), off3 _ (by omega), (hT q hq).2.2 (i - 1) p (by omega) hpn]
                refine ⟨vp_in_nI (by omega) (by omega), ?_⟩
                rw [nI_clamp (by omega)] at take skip
                by_cases ch : htC G σ0 q p (i - 1) = 0
                · rw [if_pos ch]
                  exact take (Or.inr ch)
                · rw [if_neg ch]
                  exact skip (fun z => z.2.elim cl ch)
          · rw [if_neg cz]
            exact skip (fun z => cz z.1.1.2)
        · rw [if_neg cu]
          exact skip (fun z => cu z.1.1.1)
    simp only [zcQ hh]
    refine C_enough0 hh hi ?_
    rw [ho 225 (by decide), ho 8 (by decide), e8]
    unfold zj0_tries_55
    by_cases c : σ 225 0 = 1 ∧ 0 < σ0 8 i
    · rw [if_pos c, if_pos rfl]
      refine loop (nP σ0) 0 f B σ1 h (by omega) (by omega) hh ho hB ?_
      unfold skC at kk
      rw [if_pos c] at kk
      exact kk
    · rw [if_neg c, if_neg (by decide), e1]
      simp only [zcQ hh]
      refine ih D (i + 1) (-1) _ _ _ _ B _ h _ (by omega) (by omega) (Or.inl rfl) hh ho hB fun σ5 h5 c1 c2 c4 => ?_
      refine loop (nP σ0) 0 f _ σ5 h5 (by omega) (by omega) c1 c2 c4 ?_
      unfold skC at kk
      rw [if_neg c] at kk
      exact kk
end CS
