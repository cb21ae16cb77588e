/-! THE REFERENCE READS: its lexer -/
set_option maxRecDepth 100000
theorem q_az8 {f : Nat} {h : zH} {x : Int32} {K : Int32 → zH → Prop} : zf8_in f h x.toInt64 97 122 K = K (if 97 ≤ x.toInt ∧ x.toInt ≤ 122 then 1 else 0) h := q_inL 97 122 (by decide) (by decide)
theorem q_098 {f : Nat} {h : zH} {x : Int32} {K : Int32 → zH → Prop} : zf8_in f h x.toInt64 48 57 K = K (if 48 ≤ x.toInt ∧ x.toInt ≤ 57 then 1 else 0) h := q_inL 48 57 (by decide) (by decide)
/-- all but the reader's own fields -/
def MF (σ τ : Nat → Nat → Int32) : Prop := ∀ k, (k < 22 ∨ 28 < k) → τ k = σ k
/-- the text at hand -/
def TXT (σ : Nat → Nat → Int32) (n base : Nat) : Prop := σ 21 0 = nI n ∧ σ 20 0 = nI base ∧ base + n ≤ 960 ∧ n ≤ 160 ∧ ∀ i, i < n → 0 ≤ (σ 1 (base + i)).toInt
abbrev MB (σ : Nat → Nat → Int32) (base : Nat) : Nat → Int32 := fun i => σ 1 (base + i)
/-- the token in the reader's fields -/
def MT (b : Nat → Int32) (n : Nat) (t : Tok) (τ : Nat → Nat → Int32) (w : Int64) : Prop := τ 24 0 = nI t.2.2.1 ∧ t.2.2.1 ≤ t.2.2.2 ∧ t.2.2.2 ≤ n ∧
  ((t.1 = 0 ∧ τ 23 0 = 0) ∨
  (t.1 = 1 ∧ τ 23 0 = 1 ∧ τ 22 0 = nI t.2.2.2 ∧ (∀ j, t.2.2.1 ≤ j → j < t.2.2.2 → tk_isL (tk_b b n j)) ∧ tk_cd (tk_wd b n t.2.2.1 t.2.2.2) < 6 ∧ t.2.1 = nI (tk_cd (tk_wd b n t.2.2.1 t.2.2.2))) ∨
  (t.1 = 2 ∧ τ 23 0 = 1 ∧ τ 22 0 = nI t.2.2.2 ∧ (∀ j, t.2.2.1 ≤ j → j < t.2.2.2 → tk_isL (tk_b b n j)) ∧ 6 ≤ tk_cd (tk_wd b n t.2.2.1 t.2.2.2) ∧ tk_cd (tk_wd b n t.2.2.1 t.2.2.2) < 12 ∧ t.2.1 = nI (tk_cd (tk_wd b n t.2.2.1 t.2.2.2) - 6)) ∨
  (t.1 = 3 ∧ τ 23 0 = 2 ∧ τ 22 0 = nI t.2.2.2 ∧ ∃ a : Nat, w = lN a ∧ t.2.1 = nI a) ∨
  (t.1 = 4 ∧ τ 23 0 = 3 ∧ τ 22 0 = nI t.2.2.2 ∧ w = t.2.1.toInt64) ∨
  (t.1 = 5 ∧ (τ 23 0 = 4 ∨ (τ 23 0 = 1 ∧ τ 22 0 = nI t.2.2.2 ∧ (∀ j, t.2.2.1 ≤ j → j < t.2.2.2 → tk_isL (tk_b b n j)) ∧ 12 ≤ tk_cd (tk_wd b n t.2.2.1 t.2.2.2)))))
theorem mup_ne0 {τ : Nat → Nat → Int32} {k j : Nat} {v : Int32} (h : j ≠ k) : mup τ k 0 v j = τ j := if_neg h
theorem mup_s0 {τ : Nat → Nat → Int32} {k : Nat} {v : Int32} : mup τ k 0 v k 0 = v := by
  unfold mup
  rw [if_pos rfl]
  exact pk_us
theorem MF.up {σ τ : Nat → Nat → Int32} {k : Nat} {v : Int32} (h : MF σ τ) (hk : 22 ≤ k ∧ k ≤ 28) : MF σ (mup τ k 0 v) := fun j hj => by
  rw [mup_ne0 (by omega)]
  exact h j hj
/-- a digit -/
theorem dg_of {c : Int32} (h : tk_isD c) : ∃ g : Nat, g ≤ 9 ∧ c = nI (48 + g) ∧ (c.toInt - 48).toNat = g := by
  obtain ⟨j, h1, h2, h3, h4⟩ := nI_bt (x := c) (u := 57) ⟨by have := h.1; omega, h.2⟩
  have h5 := h.1
  refine ⟨j - 48, by omega, ?_, by omega⟩
  rw [h3]
  congr 1
  omega
section ML
variable {f : Nat} {m : Nat} {ad : Nat → Nat} {b0 : zH} {σ : Nat → Nat → Int32} {n base : Nat}
theorem M_byteAt (ok : mOk m ad) (hT : TXT σ n base) {τ : Nat → Nat → Int32} {w : Int64} (hF : MF σ τ) {i : Nat} (hi : i ≤ 1000) {K : Int32 → zH → Prop} : zf8_byteAt f (hM m ad τ w b0) (some m) (nI i) K = K (tk_b (MB σ base) n i) (hM m ad τ w b0) := by
  obtain ⟨h1, h2, h3, h4, -⟩ := hT
  unfold zf8_byteAt
  simp only [zmR ok]
  rw [hF 21 (Or.inl (by decide)), hF 20 (Or.inl (by decide)), hF 1 (Or.inl (by decide)), h1, h2, nI_add]
  by_cases h : i < n
  · rw [if_pos ((nI_ltI (by omega) (by omega)).mpr h), nI_clamp (by omega), tk_b_in h]
    exact propext ⟨fun z => z.2, fun z => ⟨vp_in_nI (by omega) (by omega), z⟩⟩
  · rw [if_neg (fun z => h ((nI_ltI (by omega) (by omega)).mp z)), tk_b_out (by omega)]
/-- blanks -/
theorem M_skip (ok : mOk m ad) (hT : TXT σ n base) {K : zH → Prop} : ∀ (d g i : Nat) (τ : Nat → Nat → Int32) (w : Int64), d ≤ g → n - i < d → i ≤ n → MF σ τ → τ 22 0 = nI i →
    (∀ τ' R, MF σ τ' → (∀ k, k ≠ 22 → τ' k = τ k) → τ' 22 0 = nI (tk_sp (MB σ base) n d i) → ¬ tk_isS (tk_b (MB σ base) n (tk_sp (MB σ base) n d i)) → zb8_next_0 f K R (hM m ad τ' w b0) (some m)) → zl8_next_0 f K g (hM m ad τ w b0) (some m) := by
  intro d
  induction d with
  | zero => intro g i τ w _ h; omega
  | succ d ih =>
    intro g i τ w hg hd hi hF hx k
    have hn := hT.2.2.2.1
    obtain ⟨g, rfl⟩ : ∃ g', g = g' + 1 := ⟨g - 1, by omega⟩
    show zb8_next_0 f K (zl8_next_0 f K g) (hM m ad τ w b0) (some m)
    by_cases c : tk_isS (tk_b (MB σ base) n i)
    · have e : tk_sp (MB σ base) n (d + 1) i = tk_sp (MB σ base) n d (i + 1) := by
        show (if tk_isS (tk_b (MB σ base) n i) then tk_sp (MB σ base) n d (i + 1) else i) = _
        rw [if_pos c]
      rw [e] at k
      have hin := tk_isS_lt c
      have go : zl8_next_0 f K g (hM m ad (mup τ 22 0 (nI (i + 1))) w b0) (some m) := by
        refine ih g (i + 1) _ w (by omega) (by omega) (by omega) (hF.up ⟨by omega, by omega⟩) mup_s0 fun τ' R a1 a2 a3 a4 => k τ' R a1 (fun j hj => ?_) a3 a4
        rw [a2 j hj, mup_ne0 hj]
      unfold zb8_next_0
      simp only [zmR ok, hx, M_byteAt ok hT hF (i := i) (by omega), zj8_next_26, nI_1]
      by_cases c1 : tk_b (MB σ base) n i = 32
      · rw [if_pos c1]
        exact go
      · rw [if_neg c1, if_pos (c.resolve_left c1)]
        exact go
    · have e : tk_sp (MB σ base) n (d + 1) i = i := by
        show (if tk_isS (tk_b (MB σ base) n i) then tk_sp (MB σ base) n d (i + 1) else i) = _
        rw [if_neg c]
      rw [e] at k
      exact k τ _ hF (fun _ _ => rfl) hx c
theorem M_word (ok : mOk m ad) (hT : TXT σ n base) {K : zH → Prop} : ∀ (d g i : Nat) (τ : Nat → Nat → Int32) (w : Int64), d ≤ g → n - i < d → i ≤ n → MF σ τ → τ 22 0 = nI i →
    (∀ τ', MF σ τ' → (∀ k, k ≠ 22 → τ' k = τ k) → τ' 22 0 = nI (tk_le (MB σ base) n d i) → K (hM m ad τ' w b0)) → zl8_next_100 f K g (hM m ad τ w b0) (some m) := by
  intro d
  induction d with
  | zero => intro g i τ w _ h; omega
  | succ d ih =>
    intro g i τ w hg hd hi hF hx k
    have hn := hT.2.2.2.1
    obtain ⟨g, rfl⟩ : ∃ g', g = g' + 1 := ⟨g - 1, by omega⟩
    show zb8_next_100 f K (zl8_next_100 f K g) (hM m ad τ w b0) (some m)
    unfold zb8_next_100
    simp only [zmR ok, hx, M_byteAt ok hT hF (i := i) (by omega), nI_1, q_az8, ite10]
    by_cases c : tk_isL (tk_b (MB σ base) n i)
    · have e : tk_le (MB σ base) n (d + 1) i = tk_le (MB σ base) n d (i + 1) := by
        show (if tk_isL (tk_b (MB σ base) n i) then tk_le (MB σ base) n d (i + 1) else i) = _
        rw [if_pos c]
      rw [e] at k
      have hin := tk_isL_lt c
      rw [if_neg (fun z => z c)]
      refine ih g (i + 1) _ w (by omega) (by omega) (by omega) (hF.up ⟨by omega, by omega⟩) mup_s0 fun τ' a1 a2 a3 => k τ' a1 (fun j hj => ?_) a3
      rw [a2 j hj, mup_ne0 hj]
    · have e : tk_le (MB σ base) n (d + 1) i = i := by
        show (if tk_isL (tk_b (MB σ base) n i) then tk_le (MB σ base) n d (i + 1) else i) = _
        rw [if_neg c]
      rw [e] at k
      rw [if_pos c]
      exact k τ hF (fun _ _ => rfl) hx
theorem M_num (ok : mOk m ad) (hT : TXT σ n base) {K : zH → Prop} (s : Nat) : ∀ (d g i a : Nat) (τ : Nat → Nat → Int32), d ≤ g → n - i < d → s ≤ i → i ≤ n → MF σ τ → τ 22 0 = nI i →
    (∀ τ', MF σ τ' → (∀ k, k ≠ 22 → k ≠ 23 → τ' k = τ k) → τ' 22 0 = nI (tk_nv (MB σ base) n d i (i - s) a).2 → τ' 23 0 = (if (tk_nv (MB σ base) n d i (i - s) a).2 - s ≤ 4 then 2 else 4) → K (hM m ad τ' (lN (tk_nv (MB σ base) n d i (i - s) a).1) b0)) → zl8_next_160 f K g (hM m ad τ (lN a) b0) (some m) (nI (i - s)) := by
  intro d
  induction d with
  | zero => intro g i a τ _ h; omega
  | succ d ih =>
    intro g i a τ hg hd hs hi hF hx k
    have hn := hT.2.2.2.1
    obtain ⟨g, rfl⟩ : ∃ g', g = g' + 1 := ⟨g - 1, by omega⟩
    show zb8_next_160 f K (zl8_next_160 f K g) (hM m ad τ (lN a) b0) (some m) (nI (i - s))
    unfold zb8_next_160
    simp only [zmR ok, hx, M_byteAt ok hT hF (i := i) (by omega), q_098, ite10]
    by_cases c : tk_isD (tk_b (MB σ base) n i)
    · have e : tk_nv (MB σ base) n (d + 1) i (i - s) a = tk_nv (MB σ base) n d (i + 1) (i + 1 - s) (if i - s < 4 then 10 * a + ((tk_b (MB σ base) n i).toInt - 48).toNat else a) := by
        show (if tk_isD (tk_b (MB σ base) n i) then tk_nv (MB σ base) n d (i + 1) (i - s + 1) (if i - s < 4 then 10 * a + ((tk_b (MB σ base) n i).toInt - 48).toNat else a) else (a, i)) = _
        rw [if_pos c]
        have : i - s + 1 = i + 1 - s := by omega
        rw [this]
      rw [e] at k
      have hin := tk_isD_lt c
      obtain ⟨dg, hd9, hc, hc2⟩ := dg_of c
      rw [if_neg (fun z => z c)]
      have go : ∀ a' : Nat, a' = (if i - s < 4 then 10 * a + ((tk_b (MB σ base) n i).toInt - 48).toNat else a) → zj8_next_216 f (zl8_next_160 f K g) K (hM m ad τ (lN a) b0) (some m) (nI (i - s)) (lN a') (some m) := by
        intro a' ha
        unfold zj8_next_216
        simp only [zmR ok, hx, nm_eq, nI_1]
        rw [← ha] at k
        have e2 : i - s + 1 = i + 1 - s := by omega
        rw [e2]
        refine ih g (i + 1) a' _ (by omega) (by omega) (by omega) (by omega) (hF.up ⟨by omega, by omega⟩) mup_s0 fun τ' a1 a2 a3 a4 => k τ' a1 (fun j hj hj2 => ?_) a3 a4
        rw [a2 j hj hj2, mup_ne0 hj]
      by_cases c4 : i - s < 4
      · rw [if_pos (show nI (i - s) < 4 from (nI_ltI (b := 4) (by omega) (by omega)).mpr c4)]
        have e3 : 10 * lN a + (tk_b (MB σ base) n i).toInt64 - 48 = lN (10 * a + dg) := by
          have e10 : (10 : Int64) = lN 10 := rfl
          have e48 : (48 : Int64) = lN 48 := rfl
          rw [hc, nI_l (by omega), e10, e48, lN_mul, lN_add, lN_sub (by omega)]
          congr 1
          omega
        rw [e3]
        exact go _ (by rw [if_pos c4, hc2])
      · rw [if_neg (show ¬ nI (i - s) < 4 from fun z => c4 ((nI_ltI (b := 4) (by omega) (by omega)).mp z))]
        exact go _ (by rw [if_neg c4])
    · have e : tk_nv (MB σ base) n (d + 1) i (i - s) a = (a, i) := by
        show (if tk_isD (tk_b (MB σ base) n i) then tk_nv (MB σ base) n d (i + 1) (i - s + 1) (if i - s < 4 then 10 * a + ((tk_b (MB σ base) n i).toInt - 48).toNat else a) else (a, i)) = _
        rw [if_neg c]
      rw [e] at k
      rw [if_pos c]
      by_cases c4 : 4 < i - s
      · rw [if_pos (show 4 < nI (i - s) from (nI_ltI (a := 4) (by omega) (by omega)).mpr c4)]
        unfold zj8_next_246
        simp only [zmR ok]
        refine k _ (hF.up ⟨by omega, by omega⟩) (fun j h1 h2 => mup_ne0 h2) ?_ ?_
        · rw [mup_ne0 (by decide)]; exact hx
        · rw [mup_s0, if_neg (by show ¬ i - s ≤ 4; omega)]
      · rw [if_neg (show ¬ 4 < nI (i - s) from fun z => c4 ((nI_ltI (a := 4) (by omega) (by omega)).mp z))]
        unfold zj8_next_246
        simp only [zmR ok]
        refine k _ (hF.up ⟨by omega, by omega⟩) (fun j h1 h2 => mup_ne0 h2) ?_ ?_
        · rw [mup_ne0 (by decide)]; exact hx
        · rw [mup_s0, if_pos (by show i - s ≤ 4; omega)]
/-- the next token -/
theorem M_next (ok : mOk m ad) (hT : TXT σ n base) (hf : 200 ≤ f) {K : zH → Prop} {τ : Nat → Nat → Int32} {w : Int64} (hF : MF σ τ) {i : Nat} (hx : τ 22 0 = nI i) (hi : i ≤ n)
    (k : ∀ τ' w', MF σ τ' → τ' 26 = τ 26 → τ' 27 = τ 27 → τ' 28 = τ 28 → MT (MB σ base) n (tk_lex (MB σ base) n i) τ' w' → K (hM m ad τ' w' b0)) : zf8_next f (hM m ad τ w b0) (some m) K := by
  have hn := hT.2.2.2.1
  have hlex := tk_lex_at (b := MB σ base) hi
  unfold zf8_next
  refine M_skip ok hT (n + 1) f i τ w (by omega) (by omega) hi hF hx fun τ1 R hF1 hk1 hx1 hns => ?_
  have hj := tk_sp_le (b := MB σ base) (n + 1) i hi
  unfold tk_lex at k hlex
  generalize tk_sp (MB σ base) n (n + 1) i = j at hx1 hns hj k hlex
  have n32 : ¬ tk_b (MB σ base) n j = 32 := fun z => hns (Or.inl z)
  have n10 : ¬ tk_b (MB σ base) n j = 10 := fun z => hns (Or.inr z)
  have hF2 : MF σ (mup τ1 24 0 (nI j)) := hF1.up ⟨by omega, by omega⟩
  have hx2 : mup τ1 24 0 (nI j) 22 0 = nI j := by rw [mup_ne0 (by decide)]; exact hx1
  have hF3 : MF σ (mup (mup τ1 24 0 (nI j)) 23 0 4) := hF2.up ⟨by omega, by omega⟩
  have hx3 : mup (mup τ1 24 0 (nI j)) 23 0 4 22 0 = nI j := by rw [mup_ne0 (by decide)]; exact hx2
  have hb3 : mup (mup τ1 24 0 (nI j)) 23 0 4 24 0 = nI j := by rw [mup_ne0 (by decide), mup_s0]
  have h23 : mup (mup τ1 24 0 (nI j)) 23 0 4 23 0 = 4 := mup_s0
  have q6 : ∀ k, k ≠ 22 → k ≠ 23 → k ≠ 24 → mup (mup τ1 24 0 (nI j)) 23 0 4 k = τ k := fun k h1 h2 h3 => by rw [mup_ne0 h2, mup_ne0 h3, hk1 k h1]
  unfold zb8_next_0
  simp only [zmR ok, hx1, hx2, M_byteAt ok hT hF1 (i := j) (by omega), M_byteAt ok hT hF2 (i := j) (by omega), if_neg n32, if_neg n10, q_az8, q_098, ite10]
  generalize mup (mup τ1 24 0 (nI j)) 23 0 4 = τ3 at hF3 hx3 hb3 q6 h23 ⊢
  have hneg : (tk_b (MB σ base) n j < 0) ↔ tk_b (MB σ base) n j = -1 := by
    constructor
    · intro z
      rcases Nat.lt_or_ge j n with y | y
      · rw [tk_b_in y, Int32.lt_iff_toInt_lt] at z
        have : 0 ≤ (MB σ base j).toInt := hT.2.2.2.2 j y
        have z0 : (0 : Int32).toInt = 0 := by decide
        rw [z0] at z
        omega
      · exact tk_b_out y
    · intro z; rw [z]; decide
  by_cases c0 : tk_b (MB σ base) n j = -1
  · rw [if_pos (hneg.mpr c0)]
    rw [if_pos c0] at k hlex
    have hjn : j = n := by
      rcases Nat.lt_or_ge j n with y | y
      · rw [tk_b_in y] at c0
        have : 0 ≤ (MB σ base j).toInt := hT.2.2.2.2 j y
        rw [c0] at this
        exact absurd this (by decide)
      · omega
    have h21 : mup τ3 23 0 0 21 0 = nI n := by rw [mup_ne0 (by decide), hF3 21 (Or.inl (by decide))]; exact hT.1
    rw [h21]
    refine k _ _ ((hF3.up ⟨by omega, by omega⟩).up ⟨by omega, by omega⟩) ?_ ?_ ?_ ⟨?_, Nat.le_refl _, hj.2, Or.inl ⟨rfl, ?_⟩⟩
    · rw [mup_ne0 (by decide), mup_ne0 (by decide)]; exact q6 26 (by decide) (by decide) (by decide)
    · rw [mup_ne0 (by decide), mup_ne0 (by decide)]; exact q6 27 (by decide) (by decide) (by decide)
    · rw [mup_ne0 (by decide), mup_ne0 (by decide)]; exact q6 28 (by decide) (by decide) (by decide)
    · rw [mup_s0, hjn]
    · rw [mup_ne0 (by decide), mup_s0]
  · rw [if_neg (fun z => c0 (hneg.mp z))]
    rw [if_neg c0] at k hlex
    by_cases c1 : tk_isL (tk_b (MB σ base) n j)
    · rw [if_neg (fun z => z c1)]
      rw [if_pos c1] at k hlex
      refine M_word ok hT (n + 1) f j _ w (by omega) (by omega) hj.2 (hF3.up ⟨by omega, by omega⟩) (by rw [mup_ne0 (by decide)]; exact hx3) fun τ4 hF4 hk4 hx4 => ?_
      have hl := tk_le_le (b := MB σ base) (n + 1) j hj.2
      have hall : ∀ p, j ≤ p → p < tk_le (MB σ base) n (n + 1) j → tk_isL (tk_b (MB σ base) n p) := tk_le_all (n + 1) j
      generalize tk_le (MB σ base) n (n + 1) j = e at hx4 hl hall k hlex
      have g24 : τ4 24 0 = nI j := by rw [hk4 24 (by decide), mup_ne0 (by decide)]; exact hb3
      have g23 : τ4 23 0 = 1 := by rw [hk4 23 (by decide), mup_s0]
      have g26 : τ4 26 = τ 26 := by rw [hk4 26 (by decide), mup_ne0 (by decide)]; exact q6 26 (by decide) (by decide) (by decide)
      have g27 : τ4 27 = τ 27 := by rw [hk4 27 (by decide), mup_ne0 (by decide)]; exact q6 27 (by decide) (by decide) (by decide)
      have g28 : τ4 28 = τ 28 := by rw [hk4 28 (by decide), mup_ne0 (by decide)]; exact q6 28 (by decide) (by decide) (by decide)
      refine k τ4 w hF4 g26 g27 g28 ?_
      by_cases c2 : tk_cd (tk_wd (MB σ base) n j e) < 6
      · rw [if_pos c2]
        exact ⟨g24, hl.1, hl.2, Or.inr (Or.inl ⟨rfl, g23, hx4, hall, c2, rfl⟩)⟩
      · rw [if_neg c2]
        by_cases c3 : tk_cd (tk_wd (MB σ base) n j e) < 12
        · rw [if_pos c3]
          exact ⟨g24, hl.1, hl.2, Or.inr (Or.inr (Or.inl ⟨rfl, g23, hx4, hall, by show 6 ≤ tk_cd (tk_wd (MB σ base) n j e); omega, c3, rfl⟩))⟩
        · rw [if_neg c3]
          exact ⟨g24, hl.1, hl.2, Or.inr (Or.inr (Or.inr (Or.inr (Or.inr ⟨rfl, Or.inr ⟨g23, hx4, hall, by show 12 ≤ tk_cd (tk_wd (MB σ base) n j e); omega⟩⟩))))⟩
    · rw [if_pos c1]
      rw [if_neg c1] at k hlex
      by_cases c2 : tk_isD (tk_b (MB σ base) n j)
      · rw [if_neg (fun z => z c2)]
        rw [if_pos c2] at k hlex
        have e0 : (0 : Int64) = lN 0 := rfl
        have e1 : (0 : Int32) = nI (j - j) := by rw [Nat.sub_self]; rfl
        rw [e0, e1]
        refine M_num ok hT j (n + 1) f j 0 _ (by omega) (by omega) (Nat.le_refl _) hj.2 (hF3.up ⟨by omega, by omega⟩) (by rw [mup_ne0 (by decide)]; exact hx3) fun τ4 hF4 hk4 hx4 ht4 => ?_
        have hl := tk_nv_le (b := MB σ base) (n + 1) j 0 0 hj.2
        rw [Nat.sub_self] at hx4 ht4 ⊢
        generalize tk_nv (MB σ base) n (n + 1) j 0 0 = v at hx4 ht4 hl k hlex ⊢
        have g24 : τ4 24 0 = nI j := by rw [hk4 24 (by decide) (by decide), mup_ne0 (by decide)]; exact hb3
        have g26 : τ4 26 = τ 26 := by rw [hk4 26 (by decide) (by decide), mup_ne0 (by decide)]; exact q6 26 (by decide) (by decide) (by decide)
        have g27 : τ4 27 = τ 27 := by rw [hk4 27 (by decide) (by decide), mup_ne0 (by decide)]; exact q6 27 (by decide) (by decide) (by decide)
        have g28 : τ4 28 = τ 28 := by rw [hk4 28 (by decide) (by decide), mup_ne0 (by decide)]; exact q6 28 (by decide) (by decide) (by decide)
        refine k τ4 _ hF4 g26 g27 g28 ?_
        by_cases c3 : v.2 - j ≤ 4
        · rw [if_pos c3]
          rw [if_pos c3] at ht4
          exact ⟨g24, hl.1, hl.2, Or.inr (Or.inr (Or.inr (Or.inl ⟨rfl, ht4, hx4, v.1, rfl, rfl⟩)))⟩
        · rw [if_neg c3]
          rw [if_neg c3] at ht4
          exact ⟨g24, hl.1, hl.2, Or.inr (Or.inr (Or.inr (Or.inr (Or.inr ⟨rfl, Or.inl ht4⟩))))⟩
      · rw [if_pos c2]
        rw [if_neg c2] at k hlex
        have hjn := tk_lt_of c0
        have go : tk_isG (tk_b (MB σ base) n j) → zj8_next_300 f K (hM m ad τ3 w b0) (some m) (tk_b (MB σ base) n j) := by
          intro c3
          rw [if_pos c3] at k
          have hx5 : mup τ3 23 0 3 22 0 = nI j := by rw [mup_ne0 (by decide)]; exact hx3
          unfold zj8_next_300
          simp only [zmR ok, hx5, nI_1]
          refine k _ _ ((hF3.up ⟨by omega, by omega⟩).up ⟨by omega, by omega⟩) ?_ ?_ ?_ ⟨?_, Nat.le_succ _, hjn, Or.inr (Or.inr (Or.inr (Or.inr (Or.inl ⟨rfl, ?_, ?_, rfl⟩))))⟩
          · rw [mup_ne0 (by decide), mup_ne0 (by decide)]; exact q6 26 (by decide) (by decide) (by decide)
          · rw [mup_ne0 (by decide), mup_ne0 (by decide)]; exact q6 27 (by decide) (by decide) (by decide)
          · rw [mup_ne0 (by decide), mup_ne0 (by decide)]; exact q6 28 (by decide) (by decide) (by decide)
          · rw [mup_ne0 (by decide), mup_ne0 (by decide)]; exact hb3
          · rw [mup_ne0 (by decide), mup_s0]
          · rw [mup_s0]
        by_cases d1 : tk_b (MB σ base) n j = 40
        · rw [if_pos d1]; exact go (Or.inl d1)
        rw [if_neg d1]
        by_cases d2 : tk_b (MB σ base) n j = 41
        · rw [if_pos d2]; exact go (Or.inr (Or.inl d2))
        rw [if_neg d2]
        by_cases d3 : tk_b (MB σ base) n j = 59
        · rw [if_pos d3]; exact go (Or.inr (Or.inr (Or.inl d3)))
        rw [if_neg d3]
        by_cases d4 : tk_b (MB σ base) n j = 43
        · rw [if_pos d4]; exact go (Or.inr (Or.inr (Or.inr (Or.inl d4))))
        rw [if_neg d4]
        by_cases d5 : tk_b (MB σ base) n j = 45
        · rw [if_pos d5]; exact go (Or.inr (Or.inr (Or.inr (Or.inr (Or.inl d5)))))
        rw [if_neg d5]
        by_cases d6 : tk_b (MB σ base) n j = 42
        · rw [if_pos d6]; exact go (Or.inr (Or.inr (Or.inr (Or.inr (Or.inr (Or.inl d6))))))
        rw [if_neg d6]
        by_cases d7 : tk_b (MB σ base) n j = 60
        · rw [if_pos d7]; exact go (Or.inr (Or.inr (Or.inr (Or.inr (Or.inr (Or.inr (Or.inl d7)))))))
        rw [if_neg d7]
        by_cases d8 : tk_b (MB σ base) n j = 61
        · rw [if_pos d8]; exact go (Or.inr (Or.inr (Or.inr (Or.inr (Or.inr (Or.inr (Or.inr d8)))))))
        rw [if_neg d8]
        have c3 : ¬ tk_isG (tk_b (MB σ base) n j) := by
          rintro (z | z | z | z | z | z | z | z)
          · exact d1 z
          · exact d2 z
          · exact d3 z
          · exact d4 z
          · exact d5 z
          · exact d6 z
          · exact d7 z
          · exact d8 z
        rw [if_neg c3] at k
        refine k τ3 w hF3 (q6 26 (by decide) (by decide) (by decide)) (q6 27 (by decide) (by decide) (by decide)) (q6 28 (by decide) (by decide) (by decide)) ⟨hb3, Nat.le_succ _, hjn, Or.inr (Or.inr (Or.inr (Or.inr (Or.inr ⟨rfl, Or.inl h23⟩))))⟩
end ML
