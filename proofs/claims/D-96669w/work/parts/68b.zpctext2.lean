/-! THE CLASS READS: the next token -/
set_option maxRecDepth 100000
theorem sgx : (∀ c : Int32, (match (zsb.getD 0 []).findIdx? (fun b => b == c) with
  | some k => Int32.ofNat k
  | none => -1) < 0 ↔ ¬ tk_isG c) := by
  intro c
  show (match ([40, 41, 59, 43, 45, 42, 60, 61] : List Int32).findIdx? (fun b => b == c) with
  | some k => Int32.ofNat k
  | none => -1) < 0 ↔ _
  by_cases h : tk_isG c
  · refine ⟨fun z => ?_, fun z => absurd h z⟩
    exfalso
    rcases h with rfl | rfl | rfl | rfl | rfl | rfl | rfl | rfl <;> exact absurd z (by decide)
  · refine ⟨fun _ => h, fun _ => ?_⟩
    have e : ([40, 41, 59, 43, 45, 42, 60, 61] : List Int32).findIdx? (fun b => b == c) = none := by
      rw [List.findIdx?_eq_none_iff]
      intro y hy
      have hy2 : y = 40 ∨ y = 41 ∨ y = 59 ∨ y = 43 ∨ y = 45 ∨ y = 42 ∨ y = 60 ∨ y = 61 := by
        simpa using hy
      cases hb : (y == c) with
      | false => rfl
      | true =>
        have e := beq_iff_eq.mp hb
        subst e
        exact absurd hy2 h
    rw [e]
    decide
theorem sgX {sa : Nat → Nat} {c : Int32} {P : Int32 → Prop} (h0 : 0 ≤ c) (h1 : c < 256) (kk : ∀ r : Int32, (r < 0 ↔ ¬ tk_isG c) → P r) : strX sa (some (sa 0)) c P := ⟨rfl, h0, h1, kk _ (sgx c)⟩
section RX2
variable {f : Nat} {sa : Nat → Nat} {x : Nat} {ca : Nat → Nat} {h : zH} {T : Nat → Int32} {b : Nat → Int32} {n : Nat}
theorem rd_word (hb : rdB sa x ca T h) (hT : rdT n b T) (hf : 200 ≤ f) {K X0 : zH → Prop} {s : Nat} : ∀ (d g i : Nat) (κ : ST), d ≤ g → n - i < d → i ≤ n → s ≤ i → κ 215 0 = nI n → κ 216 0 = nI i → κ 217 0 = nI s →
    (∀ κ' cd, cd = tk_cd (tk_wd b n s (tk_le b n d i)) → (∀ k, k ≠ 216 → k ≠ 218 → k ≠ 219 → κ' k = κ k) → κ' 216 0 = nI (tk_le b n d i) → 12 ≤ cd → X0 (hX x ca h κ')) →
    (∀ κ' cd, cd = tk_cd (tk_wd b n s (tk_le b n d i)) → (∀ k, k ≠ 216 → k ≠ 218 → k ≠ 219 → κ' k = κ k) → κ' 216 0 = nI (tk_le b n d i) → cd < 12 → κ' 218 0 = (if cd < 6 then 1 else 2) → κ' 219 0 = (if cd < 6 then nI cd else nI (cd - 6)) → K (hX x ca h κ')) → zl0_word_0 sa f K X0 g (hX x ca h κ) (some x) := by
  have h160 := hT.1
  intro d
  induction d with
  | zero => intro g i κ _ h; omega
  | succ d ih =>
    intro g i κ hg hd hi hs hn hx h217 kx kk
    obtain ⟨g, rfl⟩ : ∃ g', g = g' + 1 := ⟨g - 1, by omega⟩
    show zb0_word_0 sa f K X0 (zl0_word_0 sa f K X0 g) (hX x ca h κ) (some x)
    unfold zb0_word_0
    simp only [rdQ hb, hx, rd_byte hb hT hn (i := i) (by omega), nI_1, q_le0, ite10]
    by_cases c : tk_isL (tk_b b n i)
    · have e : tk_le b n (d + 1) i = tk_le b n d (i + 1) := by
        show (if tk_isL (tk_b b n i) then tk_le b n d (i + 1) else i) = _
        rw [if_pos c]
      rw [e] at kk kx
      have hin := tk_isL_lt c
      rw [if_neg (fun z => z c)]
      refine ih g (i + 1) _ (by omega) (by omega) (by omega) (by omega) (by rw [mup_ne0 (by decide)]; exact hn) mup_s0 (by rw [mup_ne0 (by decide)]; exact h217) (fun κ' cd a1 a2 a3 a4 => kx κ' cd a1 (fun j j1 j2 j3 => ?_) a3 a4) (fun κ' cd a1 a2 a3 a4 => kk κ' cd a1 (fun j j1 j2 j3 => ?_) a3 a4)
      · rw [a2 j j1 j2 j3, mup_ne0 j1]
      · rw [a2 j j1 j2 j3, mup_ne0 j1]
    · have e : tk_le b n (d + 1) i = i := by
        show (if tk_isL (tk_b b n i) then tk_le b n d (i + 1) else i) = _
        rw [if_neg c]
      rw [e] at kk kx
      rw [if_pos c]
      have fk := fi_cd (tk_wd b n s i) 0 (Or.inl rfl)
      have fn := fi_cd (tk_wd b n s i) 6 (Or.inr rfl)
      have ex : ∃ cd, cd = tk_cd (tk_wd b n s i) := ⟨_, rfl⟩
      obtain ⟨cd, ecd⟩ := ex
      rw [← ecd] at fk fn
      unfold zf0_placeIn
      refine rd_place hb hT hf (kk := 11) (Or.inl rfl) hn h217 hx hs hi 6 0 f (by omega) (by omega) ?_
      rw [if_pos rfl]
      by_cases c6 : cd < 6
      · rw [if_pos ⟨Nat.zero_le _, by omega⟩, Nat.sub_zero] at fk
        rw [fk, if_neg (show ¬ nI cd = -1 from nIn1 (by omega))]
        unfold zj0_word_47
        simp only [rdQ hb]
        rw [if_neg (show ¬ nI cd = -1 from nIn1 (by omega))]
        unfold zj0_word_68
        simp only [rdQ hb]
        rw [mup_s0, if_neg (show ¬ nI cd = -1 from nIn1 (by omega))]
        refine kk _ cd ecd (fun k k1 k2 k3 => ?_) ?_ (by omega) ?_ ?_
        · rw [mup_ne0 k3, mup_ne0 k2]
        · rw [mup_ne0 (by decide), mup_ne0 (by decide)]; exact hx
        · rw [mup_ne0 (by decide), mup_s0, if_pos c6]
        · rw [mup_s0, if_pos c6]
      · rw [if_neg (show ¬ (0 ≤ cd ∧ cd < 0 + 6) by omega)] at fk
        rw [fk, if_pos rfl]
        unfold zj0_word_47
        simp only [rdQ hb]
        rw [if_pos trivial]
        unfold zf0_placeIn
        refine rd_place hb hT hf (kk := 12) (Or.inr rfl) (κ := mup κ 218 0 2) (by rw [mup_ne0 (by decide)]; exact hn) (by rw [mup_ne0 (by decide)]; exact h217) (by rw [mup_ne0 (by decide)]; exact hx) hs hi 6 0 f (by omega) (by omega) ?_
        rw [if_neg (show ¬ (12 = 11) by decide)]
        unfold zj0_word_68
        simp only [rdQ hb]
        rw [mup_s0]
        by_cases c12 : cd < 12
        · rw [if_pos ⟨by omega, by omega⟩] at fn
          rw [fn, if_neg (show ¬ nI (cd - 6) = -1 from nIn1 (by omega))]
          refine kk _ cd ecd (fun k k1 k2 k3 => ?_) ?_ c12 ?_ ?_
          · rw [mup_ne0 k3, mup_ne0 k2]
          · rw [mup_ne0 (by decide), mup_ne0 (by decide)]; exact hx
          · rw [mup_ne0 (by decide), mup_s0, if_neg c6]
          · rw [mup_s0, if_neg c6]
        · rw [if_neg (show ¬ (6 ≤ cd ∧ cd < 6 + 6) by omega)] at fn
          rw [fn, if_pos rfl]
          refine kx _ cd ecd (fun k k1 k2 k3 => ?_) ?_ (by omega)
          · rw [mup_ne0 k3, mup_ne0 k2]
          · rw [mup_ne0 (by decide), mup_ne0 (by decide)]; exact hx
theorem rd_num (hb : rdB sa x ca T h) (hT : rdT n b T) {K X0 : zH → Prop} {s : Nat} : ∀ (d g i a : Nat) (κ : ST), d ≤ g → n - i < d → i ≤ n → s ≤ i → κ 215 0 = nI n → κ 216 0 = nI i → κ 217 0 = nI s → κ 219 0 = nI a →
    (∀ κ', (∀ k, k ≠ 216 → k ≠ 218 → k ≠ 219 → κ' k = κ k) → ¬ (tk_nv b n d i (i - s) a).2 - s ≤ 4 → X0 (hX x ca h κ')) →
    (∀ κ', (∀ k, k ≠ 216 → k ≠ 218 → k ≠ 219 → κ' k = κ k) → (tk_nv b n d i (i - s) a).2 - s ≤ 4 → κ' 216 0 = nI (tk_nv b n d i (i - s) a).2 → κ' 218 0 = 3 → κ' 219 0 = nI (tk_nv b n d i (i - s) a).1 → K (hX x ca h κ')) → zl0_digits_5 f K X0 g (hX x ca h κ) (some x) := by
  have h160 := hT.1
  intro d
  induction d with
  | zero => intro g i a κ _ h; omega
  | succ d ih =>
    intro g i a κ hg hd hi hs hn hx h217 h219 kx kk
    obtain ⟨g, rfl⟩ : ∃ g', g = g' + 1 := ⟨g - 1, by omega⟩
    show zb0_digits_5 f K X0 (zl0_digits_5 f K X0 g) (hX x ca h κ) (some x)
    unfold zb0_digits_5
    simp only [rdQ hb, hx, rd_byte hb hT hn (i := i) (by omega), q_di0, ite10]
    by_cases c : tk_isD (tk_b b n i)
    · have e : tk_nv b n (d + 1) i (i - s) a = tk_nv b n d (i + 1) (i + 1 - s) (if i - s < 4 then 10 * a + ((tk_b b n i).toInt - 48).toNat else a) := by
        show (if tk_isD (tk_b b n i) then tk_nv b n d (i + 1) (i - s + 1) (if i - s < 4 then 10 * a + ((tk_b b n i).toInt - 48).toNat else a) else (a, i)) = _
        rw [if_pos c]
        have : i - s + 1 = i + 1 - s := by omega
        rw [this]
      rw [e] at kk kx
      have hin := tk_isD_lt c
      obtain ⟨dg, hd9, hc, hc2⟩ := dg_of c
      rw [if_neg (fun z => z c), h217, pk_sub hs]
      have go : ∀ a' : Nat, a' = (if i - s < 4 then 10 * a + ((tk_b b n i).toInt - 48).toNat else a) → zj0_digits_59 f (zl0_digits_5 f K X0 g) K X0 (hX x ca h κ) (some x) (nI a') (some x) := by
        intro a' ha
        rw [← ha] at kk kx
        unfold zj0_digits_59
        simp only [rdQ hb]
        have e6 : mup κ 219 0 (nI a') 216 0 = nI i := by rw [mup_ne0 (by decide)]; exact hx
        rw [e6, nI_1]
        refine ih g (i + 1) a' _ (by omega) (by omega) (by omega) (by omega) ?_ mup_s0 ?_ ?_ (fun κ' a1 a2 => kx κ' (fun j j1 j2 j3 => ?_) a2) (fun κ' a1 a2 => kk κ' (fun j j1 j2 j3 => ?_) a2)
        · rw [mup_ne0 (by decide), mup_ne0 (by decide)]; exact hn
        · rw [mup_ne0 (by decide), mup_ne0 (by decide)]; exact h217
        · rw [mup_ne0 (by decide), mup_s0]
        · rw [a1 j j1 j2 j3, mup_ne0 j1, mup_ne0 j3]
        · rw [a1 j j1 j2 j3, mup_ne0 j1, mup_ne0 j3]
      by_cases c4 : i - s < 4
      · rw [if_pos (show nI (i - s) < 4 from (nI_ltI (b := 4) (by omega) (by omega)).mpr c4)]
        have e3 : 10 * κ 219 0 + tk_b b n i - 48 = nI (10 * a + dg) := by
          have e10 : (10 : Int32) = nI 10 := rfl
          have e48 : (48 : Int32) = nI 48 := rfl
          rw [h219, hc, e10, e48, pk_mul, nI_add, pk_sub (by omega)]
          congr 1
          omega
        rw [e3]
        exact go _ (by rw [if_pos c4, hc2])
      · rw [if_neg (show ¬ nI (i - s) < 4 from fun z => c4 ((nI_ltI (b := 4) (by omega) (by omega)).mp z)), h219]
        exact go _ (by rw [if_neg c4])
    · have e : tk_nv b n (d + 1) i (i - s) a = (a, i) := by
        show (if tk_isD (tk_b b n i) then tk_nv b n d (i + 1) (i - s + 1) (if i - s < 4 then 10 * a + ((tk_b b n i).toInt - 48).toNat else a) else (a, i)) = _
        rw [if_neg c]
      rw [e] at kk kx
      have e6 : mup κ 218 0 3 216 0 = nI i := by rw [mup_ne0 (by decide)]; exact hx
      have e7 : mup κ 218 0 3 217 0 = nI s := by rw [mup_ne0 (by decide)]; exact h217
      rw [if_pos c, e6, e7, pk_sub hs]
      by_cases c4 : 4 < i - s
      · rw [if_pos (show 4 < nI (i - s) from (nI_ltI (a := 4) (by omega) (by omega)).mpr c4)]
        exact kx _ (fun k k1 k2 k3 => mup_ne0 k2) (by show ¬ i - s ≤ 4; omega)
      · rw [if_neg (show ¬ 4 < nI (i - s) from fun z => c4 ((nI_ltI (a := 4) (by omega) (by omega)).mp z))]
        exact kk _ (fun k k1 k2 k3 => mup_ne0 k2) (by show i - s ≤ 4; omega) e6 mup_s0 (by rw [mup_ne0 (by decide)]; exact h219)
/-- the next token -/
theorem rd_next (hb : rdB sa x ca T h) (hT : rdT n b T) (hf : 200 ≤ f) {K X0 : zH → Prop} {κ : ST} {i op : Nat} (hn : κ 215 0 = nI n) (hx : κ 216 0 = nI i) (hop : κ 220 0 = nI op) (hi : i ≤ n)
    (k5 : (tk_lex b n i).1 = 5 → ∀ κ', KF κ κ' → κ' 217 0 = nI (tk_lex b n i).2.2.1 → X0 (hX x ca h κ'))
    (kk : (tk_lex b n i).1 ≠ 5 → ∀ κ', KF κ κ' → TK n (tk_lex b n i) op κ' → K (hX x ca h κ')) : zf0_next sa f (hX x ca h κ) (some x) K X0 := by
  have h160 := hT.1
  have hlex := tk_lex_at (b := b) hi
  unfold zf0_next
  refine rd_skip hb hT (n + 1) f i κ (by omega) (by omega) hi hn hx fun κ1 R hk1 hx1 hns => ?_
  have hj := tk_sp_le (b := b) (n + 1) i hi
  unfold tk_lex at kk k5 hlex
  generalize tk_sp b n (n + 1) i = j at hx1 hns hj kk k5 hlex
  have n32 : ¬ tk_b b n j = 32 := fun z => hns (Or.inl z)
  have n10 : ¬ tk_b b n j = 10 := fun z => hns (Or.inr z)
  have hF1 : KF κ κ1 := fun k hk => hk1 k (by omega)
  have hn1 : κ1 215 0 = nI n := by rw [hk1 215 (by decide)]; exact hn
  have hF2 : KF κ (mup κ1 217 0 (nI j)) := hF1.up ⟨by omega, by omega⟩
  have hx2 : mup κ1 217 0 (nI j) 216 0 = nI j := by rw [mup_ne0 (by decide)]; exact hx1
  have hn2 : mup κ1 217 0 (nI j) 215 0 = nI n := by rw [mup_ne0 (by decide)]; exact hn1
  have hb2 : mup κ1 217 0 (nI j) 217 0 = nI j := mup_s0
  have ho2 : mup κ1 217 0 (nI j) 220 0 = nI op := by rw [mup_ne0 (by decide), hk1 220 (by decide)]; exact hop
  unfold zb0_next_0
  simp only [rdQ hb, hx1, rd_byte hb hT hn1 (i := j) (by omega), if_neg n32, if_neg n10]
  generalize mup κ1 217 0 (nI j) = κ2 at hF2 hx2 hn2 hb2 ho2 ⊢
  simp only [rdQ hb, hx2, rd_byte hb hT hn2 (i := j) (by omega), q_le0, q_di0, ite10]
  by_cases c0 : tk_b b n j = -1
  · rw [if_pos c0] at kk k5 hlex ⊢
    refine kk (show (0 : Nat) ≠ 5 by decide) _ (hF2.up (k := 218) ⟨by omega, by omega⟩) ⟨?_, ?_, ?_, ?_, fun z => absurd rfl z, ?_, show (0 : Nat) < 5 by decide, hj.2, fun z => absurd z (show ¬ (0 : Nat) = 2 by decide)⟩
    · rw [mup_ne0 (by decide)]; exact hn2
    · rw [mup_ne0 (by decide)]; exact hx2
    · rw [mup_ne0 (by decide)]; exact hb2
    · exact mup_s0
    · rw [mup_ne0 (by decide)]; exact ho2
  · rw [if_neg c0] at kk k5 hlex ⊢
    by_cases c1 : tk_isL (tk_b b n j)
    · rw [if_pos c1] at kk k5 hlex
      rw [if_neg (fun z => z c1)]
      unfold zf0_word
      have hl := tk_le_le (b := b) (n + 1) j hj.2
      refine rd_word hb hT hf (s := j) (n + 1) f j κ2 (by omega) (by omega) hj.2 (Nat.le_refl _) hn2 hx2 hb2 (fun κ' cd e a1 a2 a3 => ?_) (fun κ' cd e a1 a2 a3 a4 a5 => ?_)
      · rw [← e, if_neg (by omega), if_neg (by omega)] at k5
        exact k5 rfl κ' (hF2.trans fun k hk => a1 k (by omega) (by omega) (by omega)) (by rw [a1 217 (by decide) (by decide) (by decide)]; exact hb2)
      · have g15 : κ' 215 0 = nI n := by rw [a1 215 (by decide) (by decide) (by decide)]; exact hn2
        have g17 : κ' 217 0 = nI j := by rw [a1 217 (by decide) (by decide) (by decide)]; exact hb2
        have g20 : κ' 220 0 = nI op := by rw [a1 220 (by decide) (by decide) (by decide)]; exact ho2
        have gF : KF κ κ' := hF2.trans fun k hk => a1 k (by omega) (by omega) (by omega)
        rw [← e] at kk
        by_cases c6 : cd < 6
        · rw [if_pos c6] at kk a4 a5
          exact kk (show (1 : Nat) ≠ 5 by decide) κ' gF ⟨g15, a2, g17, a4, fun _ => a5, g20, show (1 : Nat) < 5 by decide, hl.2, fun z => absurd z (show ¬ (1 : Nat) = 2 by decide)⟩
        · rw [if_neg c6, if_pos a3] at kk
          rw [if_neg c6] at a4 a5
          exact kk (show (2 : Nat) ≠ 5 by decide) κ' gF ⟨g15, a2, g17, a4, fun _ => a5, g20, show (2 : Nat) < 5 by decide, hl.2, fun _ => ⟨cd - 6, by omega, rfl⟩⟩
    · rw [if_neg c1] at kk k5 hlex
      rw [if_pos c1]
      by_cases c2 : tk_isD (tk_b b n j)
      · rw [if_pos c2] at kk k5 hlex
        rw [if_neg (fun z => z c2)]
        unfold zf0_digits
        simp only [rdQ hb]
        have hl := tk_nv_le (b := b) (n + 1) j 0 0 hj.2
        have e0 : mup κ2 219 0 0 219 0 = nI 0 := mup_s0
        refine rd_num hb hT (s := j) (n + 1) f j 0 (mup κ2 219 0 0) (by omega) (by omega) hj.2 (Nat.le_refl _) (by rw [mup_ne0 (by decide)]; exact hn2) (by rw [mup_ne0 (by decide)]; exact hx2) (by rw [mup_ne0 (by decide)]; exact hb2) e0 (fun κ' a1 a2 => ?_) (fun κ' a1 a2 a3 a4 a5 => ?_)
        · rw [Nat.sub_self] at a2
          rw [if_neg a2] at k5
          exact k5 rfl κ' ((hF2.up (k := 219) (v := 0) ⟨by omega, by omega⟩).trans fun k hk => a1 k (by omega) (by omega) (by omega)) (by rw [a1 217 (by decide) (by decide) (by decide), mup_ne0 (by decide)]; exact hb2)
        · rw [Nat.sub_self] at a2 a3 a5
          rw [if_pos a2] at kk
          refine kk (show (3 : Nat) ≠ 5 by decide) κ' ((hF2.up (k := 219) (v := 0) ⟨by omega, by omega⟩).trans fun k hk => a1 k (by omega) (by omega) (by omega)) ⟨?_, a3, ?_, a4, fun _ => a5, ?_, show (3 : Nat) < 5 by decide, hl.2, fun z => absurd z (show ¬ (3 : Nat) = 2 by decide)⟩
          · rw [a1 215 (by decide) (by decide) (by decide), mup_ne0 (by decide)]; exact hn2
          · rw [a1 217 (by decide) (by decide) (by decide), mup_ne0 (by decide)]; exact hb2
          · rw [a1 220 (by decide) (by decide) (by decide), mup_ne0 (by decide)]; exact ho2
      · rw [if_neg c2] at kk k5 hlex
        rw [if_pos c2]
        have hjn := tk_lt_of c0
        have hr := hT.2 j hjn
        have e6 : mup (mup κ2 218 0 4) 219 0 (tk_b b n j) 216 0 = nI j := by rw [mup_ne0 (by decide), mup_ne0 (by decide)]; exact hx2
        rw [e6, nI_1]
        have hc : tk_b b n j = b j := tk_b_in hjn
        have gF : KF κ (mup (mup (mup κ2 218 0 4) 219 0 (tk_b b n j)) 216 0 (nI (j + 1))) := ((hF2.up ⟨by omega, by omega⟩).up ⟨by omega, by omega⟩).up ⟨by omega, by omega⟩
        have g17 : mup (mup (mup κ2 218 0 4) 219 0 (tk_b b n j)) 216 0 (nI (j + 1)) 217 0 = nI j := by rw [mup_ne0 (by decide), mup_ne0 (by decide), mup_ne0 (by decide)]; exact hb2
        refine sgX ?_ ?_ fun r hr0 => ?_
        · rw [hc]; exact Int32.le_iff_toInt_le.mpr (by rw [show (0 : Int32).toInt = 0 from by decide]; exact hr.2.1)
        · rw [hc]; exact Int32.lt_iff_toInt_lt.mpr (by rw [show (256 : Int32).toInt = 256 from by decide]; omega)
        · by_cases c3 : tk_isG (tk_b b n j)
          · rw [if_pos c3] at kk
            rw [if_neg (fun z => hr0.mp z c3)]
            refine kk (show (4 : Nat) ≠ 5 by decide) _ gF ⟨?_, mup_s0, g17, ?_, fun _ => ?_, ?_, show (4 : Nat) < 5 by decide, hjn, fun z => absurd z (show ¬ (4 : Nat) = 2 by decide)⟩
            · rw [mup_ne0 (by decide), mup_ne0 (by decide), mup_ne0 (by decide)]; exact hn2
            · rw [mup_ne0 (by decide), mup_ne0 (by decide), mup_s0]; rfl
            · rw [mup_ne0 (by decide), mup_s0]
            · rw [mup_ne0 (by decide), mup_ne0 (by decide), mup_ne0 (by decide)]; exact ho2
          · rw [if_neg c3] at k5
            rw [if_pos (hr0.mpr c3)]
            exact k5 rfl _ gF g17
end RX2
