/-! THE REFERENCE READS: signs, faults, names, the grammar -/
set_option maxRecDepth 100000
/-- what a name says -/
def ev6 (a b c d e f : Int32) : Nat → Int32 := fun k => match k with
  | 0 => a
  | 1 => b
  | 2 => c
  | 3 => d
  | 4 => e
  | 5 => f
  | _ => 0
def tk_en (σ : Nat → Nat → Int32) : Nat → Int32 := ev6 (σ 14 0) (σ 15 0) (σ 16 0) (σ 17 0) (σ 18 0) (σ 19 0)
section MG
variable {f m : Nat} {ad : Nat → Nat} {b0 : zH} {σ : Nat → Nat → Int32} {n base : Nat} {h : zH} {t : Tok} {op e : Nat} {K : Int32 → zH → Prop}
theorem P_isSign (C : MC f m ad σ n base) (hh : POk m ad b0 σ n base t op h) (c : Int32) : zf8_isSign f h (some m) c K = K (if tk_sg c t then 1 else 0) h := by
  obtain ⟨τ, w, rfl, hF, h27, h26, h5, ht⟩ := hh
  obtain ⟨hs, hse, hen, hc⟩ := ht
  unfold zf8_isSign
  simp only [zmR C.1]
  rw [if_pos h27]
  have no : t.1 ≠ 4 → τ 23 0 ≠ 3 → (if τ 23 0 = 3 then (if lg_cmp w c.toInt64 = 0 then K 1 (hM m ad τ w b0) else K 0 (hM m ad τ w b0)) else K 0 (hM m ad τ w b0)) = K (if tk_sg c t then 1 else 0) (hM m ad τ w b0) := by
    intro h1 h2
    rw [if_neg h2, if_neg (fun z => h1 z.1)]
  rcases hc with ⟨z1, z2⟩ | ⟨z1, z2, -⟩ | ⟨z1, z2, -⟩ | ⟨z1, z2, -⟩ | ⟨z1, z2, z3, z4⟩ | ⟨z1, -⟩
  · exact no (by rw [z1]; decide) (by rw [z2]; decide)
  · exact no (by rw [z1]; decide) (by rw [z2]; decide)
  · exact no (by rw [z1]; decide) (by rw [z2]; decide)
  · exact no (by rw [z1]; decide) (by rw [z2]; decide)
  · rw [if_pos z2]
    by_cases c2 : t.2.1 = c
    · rw [if_pos ((lg_cmp_eq _ _).mpr (by rw [z4, c2])), if_pos ⟨z1, c2⟩]
    · rw [if_neg (fun y => c2 (i32_64.mp (by rw [← z4]; exact (lg_cmp_eq _ _).mp y))), if_neg (fun y => c2 y.2)]
  · exact absurd z1 h5
theorem P_isSignF (C : MC f m ad σ n base) (hh : PF m ad b0 σ n base e h) (c : Int32) : zf8_isSign f h (some m) c K = K 0 h := by
  unfold zf8_isSign
  rcases hh with ⟨τ, w, rfl, h2, h3, -⟩ | ⟨τ, w, t, rfl, hF, h27, h5, he, hs, hse, hen, hc⟩
  · simp only [zmR C.1]
    rw [if_neg (by rw [h3]; decide)]
  · simp only [zmR C.1]
    rw [if_pos h27]
    rcases hc with z | z | z | z | z | ⟨-, z⟩
    · rw [h5] at z; exact absurd z.1 (by decide)
    · rw [h5] at z; exact absurd z.1 (by decide)
    · rw [h5] at z; exact absurd z.1 (by decide)
    · rw [h5] at z; exact absurd z.1 (by decide)
    · rw [h5] at z; exact absurd z.1 (by decide)
    · rcases z with z | ⟨z, -⟩
      · rw [if_neg (by rw [z]; decide)]
      · rw [if_neg (by rw [z]; decide)]
theorem P_27 (C : MC f m ad σ n base) (hh : POk m ad b0 σ n base t op h) {P : Int32 → Prop} : gfI h (some m) [13] 27 P = P 0 := by
  obtain ⟨τ, w, rfl, hF, h27, -⟩ := hh
  simp only [zmR C.1, h27]
theorem P_23 (C : MC f m ad σ n base) (hh : POk m ad b0 σ n base t op h) {P : Int32 → Prop} : gfI h (some m) [13] 23 P = P (if t.1 = 0 then 0 else if t.1 = 3 then 2 else if t.1 = 4 then 3 else 1) := by
  obtain ⟨τ, w, rfl, hF, h27, h26, h5, ht⟩ := hh
  simp only [zmR C.1]
  rcases ht.2.2.2 with ⟨z1, z2⟩ | ⟨z1, z2, -⟩ | ⟨z1, z2, -⟩ | ⟨z1, z2, -⟩ | ⟨z1, z2, -⟩ | ⟨z1, -⟩
  · rw [z1, z2]; rfl
  · rw [z1, z2]; rfl
  · rw [z1, z2]; rfl
  · rw [z1, z2]; rfl
  · rw [z1, z2]; rfl
  · exact absurd z1 h5
theorem P_25n (C : MC f m ad σ n base) (hh : POk m ad b0 σ n base t op h) (h3 : t.1 = 3) {P : Int64 → Prop} (k : ∀ w : Int64, w.toInt32 = t.2.1 → P w) : gfJ h (some m) [13] 25 P := by
  obtain ⟨τ, w, rfl, hF, h27, h26, h5, ht⟩ := hh
  simp only [zmR C.1]
  rcases ht.2.2.2 with z | z | z | ⟨z1, z2, z3, a, z4, z5⟩ | z | z
  · rw [h3] at z; exact absurd z.1 (by decide)
  · rw [h3] at z; exact absurd z.1 (by decide)
  · rw [h3] at z; exact absurd z.1 (by decide)
  · exact k w (by rw [z4, z5, lN_i])
  · rw [h3] at z; exact absurd z.1 (by decide)
  · rw [h3] at z; exact absurd z.1 (by decide)
theorem P_25s (C : MC f m ad σ n base) (hh : POk m ad b0 σ n base t op h) (h4 : t.1 = 4) {P : Int64 → Prop} : gfJ h (some m) [13] 25 P = P t.2.1.toInt64 := by
  obtain ⟨τ, w, rfl, hF, h27, h26, h5, ht⟩ := hh
  simp only [zmR C.1]
  rcases ht.2.2.2 with z | z | z | z | ⟨z1, z2, z3, z4⟩ | z
  · rw [h4] at z; exact absurd z.1 (by decide)
  · rw [h4] at z; exact absurd z.1 (by decide)
  · rw [h4] at z; exact absurd z.1 (by decide)
  · rw [h4] at z; exact absurd z.1 (by decide)
  · rw [z4]
  · rw [h4] at z; exact absurd z.1 (by decide)
theorem P_fail (C : MC f m ad σ n base) (hh : POk m ad b0 σ n base t op h) {K : zH → Prop} (k : ∀ h', PF1 m ad b0 σ t.2.2.1 h' → K h') : zf8_fail f h (some m) K := by
  obtain ⟨τ, w, rfl, hF, h27, h26, h5, ht⟩ := hh
  unfold zf8_fail
  simp only [zmR C.1]
  rw [if_pos h27, mup_ne0 (by decide), ht.1]
  exact k _ ⟨_, w, rfl, (hF.up ⟨by omega, by omega⟩).up ⟨by omega, by omega⟩, by rw [mup_ne0 (by decide), mup_s0], mup_s0⟩
theorem P_failF (C : MC f m ad σ n base) (hh : PF m ad b0 σ n base e h) {K : zH → Prop} (k : ∀ h', PF1 m ad b0 σ e h' → K h') : zf8_fail f h (some m) K := by
  unfold zf8_fail
  rcases hh with ⟨τ, w, rfl, h2, h3, h4⟩ | ⟨τ, w, t, rfl, hF, h27, h5, he, hs, hse, hen, hc⟩
  · simp only [zmR C.1]
    rw [if_neg (by rw [h3]; decide)]
    exact k _ ⟨τ, w, rfl, h2, h3, h4⟩
  · simp only [zmR C.1]
    rw [if_pos h27, mup_ne0 (by decide), hs, he]
    exact k _ ⟨_, w, rfl, (hF.up ⟨by omega, by omega⟩).up ⟨by omega, by omega⟩, by rw [mup_ne0 (by decide), mup_s0], mup_s0⟩
theorem P_27F (C : MC f m ad σ n base) (hh : PF1 m ad b0 σ e h) {P : Int32 → Prop} : gfI h (some m) [13] 27 P = P 1 := by
  obtain ⟨τ, w, rfl, h2, h3, h4⟩ := hh
  simp only [zmR C.1, h3]
/-- the count of those open -/
theorem P_dn (C : MC f m ad σ n base) (hh : POk m ad b0 σ n base t (op + 1) h) {P : zH → Prop} (k : ∀ h', POk m ad b0 σ n base t op h' → P h') : gfI h (some m) [13] 26 fun x => pf h (some m) [13] 26 (.int (x - 1)) P := by
  obtain ⟨τ, w, rfl, hF, h27, h26, h5, ht⟩ := hh
  simp only [zmR C.1, h26, nI_pred]
  refine k _ ⟨_, w, rfl, hF.up ⟨by omega, by omega⟩, by rw [mup_ne0 (by decide)]; exact h27, mup_s0, h5, ?_⟩
  unfold MT at ht ⊢
  rw [mup_ne0 (by decide), mup_ne0 (by decide), mup_ne0 (by decide)]
  exact ht
theorem P_dnF (C : MC f m ad σ n base) (hh : PF m ad b0 σ n base e h) {P : zH → Prop} (k : ∀ h', PF m ad b0 σ n base e h' → P h') : gfI h (some m) [13] 26 fun x => pf h (some m) [13] 26 (.int (x - 1)) P := by
  rcases hh with ⟨τ, w, rfl, h2, h3, h4⟩ | ⟨τ, w, t, rfl, hF, h27, h5, he, ht⟩
  · simp only [zmR C.1]
    exact k _ (Or.inl ⟨_, w, rfl, h2.up ⟨by omega, by omega⟩, by rw [mup_ne0 (by decide)]; exact h3, by rw [mup_ne0 (by decide)]; exact h4⟩)
  · simp only [zmR C.1]
    refine k _ (Or.inr ⟨_, w, t, rfl, hF.up ⟨by omega, by omega⟩, by rw [mup_ne0 (by decide)]; exact h27, h5, he, ?_⟩)
    unfold MT at ht ⊢
    rw [mup_ne0 (by decide), mup_ne0 (by decide), mup_ne0 (by decide)]
    exact ht
theorem P_opens (C : MC f m ad σ n base) (hh : POk m ad b0 σ n base t op h) (h0 : t.1 ≠ 0) (ho : op ≤ 5)
    (kf : ¬ op < 5 → ∀ h', PF1 m ad b0 σ t.2.2.1 h' → K 0 h')
    (k5 : op < 5 → (tk_lex (MB σ base) n t.2.2.2).1 = 5 → ∀ h', PF m ad b0 σ n base (tk_lex (MB σ base) n t.2.2.2).2.2.1 h' → K 1 h')
    (k : op < 5 → (tk_lex (MB σ base) n t.2.2.2).1 ≠ 5 → ∀ h', POk m ad b0 σ n base (tk_lex (MB σ base) n t.2.2.2) (op + 1) h' → K 1 h') : zf8_opens f h (some m) K := by
  by_cases c : op < 5
  · obtain ⟨τ, w, rfl, hF, h27, h26, h5, ht⟩ := hh
    have hh2 : POk m ad b0 σ n base t (op + 1) (hM m ad (mup τ 26 0 (nI (op + 1))) w b0) := by
      refine ⟨_, w, rfl, hF.up ⟨by omega, by omega⟩, by rw [mup_ne0 (by decide)]; exact h27, mup_s0, h5, ?_⟩
      unfold MT at ht ⊢
      rw [mup_ne0 (by decide), mup_ne0 (by decide), mup_ne0 (by decide)]
      exact ht
    unfold zf8_opens
    simp only [zmR C.1, h26, nI_1]
    rw [if_neg (fun z => by have := (nI_eq (b := 5) (by omega) (by omega)).mp z; omega)]
    exact P_next C hh2 h0 (fun c5 h' hp => k5 c c5 h' hp) (fun c5 h' hp => k c c5 h' hp)
  · have e5 : op = 5 := by omega
    subst e5
    have hh2 := hh
    obtain ⟨τ, w, rfl, hF, h27, h26, h5, ht⟩ := hh
    unfold zf8_opens
    simp only [zmR C.1, h26]
    rw [if_pos (show nI 5 = 5 from rfl)]
    exact P_fail C hh2 fun h' hp => kf c h' hp
theorem P_14 (C : MC f m ad σ n base) (hh : POk m ad b0 σ n base t op h) {P : Int32 → Prop} : (gfI h (some m) [13] 14 P = P (σ 14 0)) ∧ (gfI h (some m) [13] 15 P = P (σ 15 0)) ∧ (gfI h (some m) [13] 16 P = P (σ 16 0)) ∧ (gfI h (some m) [13] 17 P = P (σ 17 0)) ∧ (gfI h (some m) [13] 18 P = P (σ 18 0)) ∧ (gfI h (some m) [13] 19 P = P (σ 19 0)) := by
  obtain ⟨τ, w, rfl, hF, -⟩ := hh
  simp only [zmR C.1, hF 14 (Or.inl (by decide)), hF 15 (Or.inl (by decide)), hF 16 (Or.inl (by decide)), hF 17 (Or.inl (by decide)), hF 18 (Or.inl (by decide)), hF 19 (Or.inl (by decide)), and_self]
theorem P_name (C : MC f m ad σ n base) (hh : POk m ad b0 σ n base t op h) (hv : t.1 = 2 → ∃ k : Nat, k < 6 ∧ t.2.1 = nI k) (k : t.1 = 2 → K (tk_en σ t.2.1.toNatClampNeg) h) (kf : t.1 ≠ 2 → ∀ h', PF1 m ad b0 σ t.2.2.1 h' → K 0 h') : zf8_name f h (some m) K := by
  have hm := hh.hm
  have w0 : ∀ K, zf8_isWord f h (some m) 104 111 117 114 0 0 0 0 K = K (if t.1 = 2 ∧ t.2.1 = nI 0 then 1 else 0) h := fun K => P_isWordN C hh 0 (by decide)
  have w1 : ∀ K, zf8_isWord f h (some m) 100 97 121 0 0 0 0 0 K = K (if t.1 = 2 ∧ t.2.1 = nI 1 then 1 else 0) h := fun K => P_isWordN C hh 1 (by decide)
  have w2 : ∀ K, zf8_isWord f h (some m) 119 101 116 0 0 0 0 0 K = K (if t.1 = 2 ∧ t.2.1 = nI 2 then 1 else 0) h := fun K => P_isWordN C hh 2 (by decide)
  have w3 : ∀ K, zf8_isWord f h (some m) 110 117 109 98 101 114 0 0 K = K (if t.1 = 2 ∧ t.2.1 = nI 3 then 1 else 0) h := fun K => P_isWordN C hh 3 (by decide)
  have w4 : ∀ K, zf8_isWord f h (some m) 111 112 101 110 105 110 103 0 K = K (if t.1 = 2 ∧ t.2.1 = nI 4 then 1 else 0) h := fun K => P_isWordN C hh 4 (by decide)
  have w5 : ∀ K, zf8_isWord f h (some m) 98 101 116 119 101 101 110 0 K = K (if t.1 = 2 ∧ t.2.1 = nI 5 then 1 else 0) h := fun K => P_isWordN C hh 5 (by decide)
  have g := fun P => P_14 C hh (P := P)
  unfold zf8_name
  simp only [P_rc hm, w0, w1, w2, w3, w4, w5, ite10, ifn, (g _).1, (g _).2.1, (g _).2.2.1, (g _).2.2.2.1, (g _).2.2.2.2.1, (g _).2.2.2.2.2]
  by_cases c : t.1 = 2
  · have k := k c
    obtain ⟨j, hj, hv⟩ := hv c
    have ne : ∀ i : Nat, i < 6 → i ≠ j → ¬ (t.1 = 2 ∧ t.2.1 = nI i) := fun i hi hij z => hij ((nI_eq (by omega) (by omega)).mp (z.2.symm.trans hv))
    rw [hv, nI_clamp (by omega)] at k
    have : j = 0 ∨ j = 1 ∨ j = 2 ∨ j = 3 ∨ j = 4 ∨ j = 5 := by omega
    rcases this with rfl | rfl | rfl | rfl | rfl | rfl
    · rw [if_pos ⟨c, hv⟩]; exact k
    · rw [if_neg (ne 0 (by decide) (by decide)), if_pos ⟨c, hv⟩]; exact k
    · rw [if_neg (ne 0 (by decide) (by decide)), if_neg (ne 1 (by decide) (by decide)), if_pos ⟨c, hv⟩]; exact k
    · rw [if_neg (ne 0 (by decide) (by decide)), if_neg (ne 1 (by decide) (by decide)), if_neg (ne 2 (by decide) (by decide)), if_pos ⟨c, hv⟩]; exact k
    · rw [if_neg (ne 0 (by decide) (by decide)), if_neg (ne 1 (by decide) (by decide)), if_neg (ne 2 (by decide) (by decide)), if_neg (ne 3 (by decide) (by decide)), if_pos ⟨c, hv⟩]; exact k
    · rw [if_neg (ne 0 (by decide) (by decide)), if_neg (ne 1 (by decide) (by decide)), if_neg (ne 2 (by decide) (by decide)), if_neg (ne 3 (by decide) (by decide)), if_neg (ne 4 (by decide) (by decide)), if_pos ⟨c, hv⟩]; exact k
  · have ne : ∀ i : Nat, ¬ (t.1 = 2 ∧ t.2.1 = nI i) := fun i z => c z.1
    rw [if_neg (ne 0), if_neg (ne 1), if_neg (ne 2), if_neg (ne 3), if_neg (ne 4), if_neg (ne 5)]
    exact P_fail C hh fun h' hp => kf c h' hp
theorem P_nameF (C : MC f m ad σ n base) (hh : PF m ad b0 σ n base e h) (k : ∀ h', PF1 m ad b0 σ e h' → K 0 h') : zf8_name f h (some m) K := by
  have hm := hh.hm
  have w0 : ∀ K, zf8_isWord f h (some m) 104 111 117 114 0 0 0 0 K = K 0 h := fun K => P_isWordF C hh 6 (by decide)
  have w1 : ∀ K, zf8_isWord f h (some m) 100 97 121 0 0 0 0 0 K = K 0 h := fun K => P_isWordF C hh 7 (by decide)
  have w2 : ∀ K, zf8_isWord f h (some m) 119 101 116 0 0 0 0 0 K = K 0 h := fun K => P_isWordF C hh 8 (by decide)
  have w3 : ∀ K, zf8_isWord f h (some m) 110 117 109 98 101 114 0 0 K = K 0 h := fun K => P_isWordF C hh 9 (by decide)
  have w4 : ∀ K, zf8_isWord f h (some m) 111 112 101 110 105 110 103 0 K = K 0 h := fun K => P_isWordF C hh 10 (by decide)
  have w5 : ∀ K, zf8_isWord f h (some m) 98 101 116 119 101 101 110 0 K = K 0 h := fun K => P_isWordF C hh 11 (by decide)
  unfold zf8_name
  simp only [P_rc hm, w0, w1, w2, w3, w4, w5, ite_true]
  exact P_failF C hh k
/-- a fault goes through every level -/
theorem G_F (C : MC f m ad σ n base) : ∀ (d l : Nat) (h : zH) (K : Int32 → zH → Prop), l ≤ 5 → 6 - l ≤ d → PF m ad b0 σ n base e h → (∀ v h', PF m ad b0 σ n base e h' → K v h') → zgr8 f d l h (some m) K := by
  intro d
  induction d with
  | zero => intro l h K h1 h2; omega
  | succ d ih =>
    intro l h K h1 h2 hh k
    obtain ⟨f', rfl⟩ : ∃ f', f = f' + 1 := ⟨f - 1, by have := C.2.1; omega⟩
    have : l = 0 ∨ l = 1 ∨ l = 2 ∨ l = 3 ∨ l = 4 ∨ l = 5 := by omega
    rcases this with rfl | rfl | rfl | rfl | rfl | rfl
    · show zf8_either (f' + 1) (zgr8 (f' + 1) d) h (some m) K
      unfold zf8_either
      rw [P_rc hh.hm]
      refine ih 1 h _ (by omega) (by omega) hh fun v h' hp => ?_
      show zb8_either_5 (f' + 1) (zgr8 (f' + 1) d) K (zl8_either_5 (f' + 1) (zgr8 (f' + 1) d) K f') h' (some m) v
      unfold zb8_either_5
      have w : ∀ K, zf8_isWord (f' + 1) h' (some m) 111 114 0 0 0 0 0 0 K = K 0 h' := fun K => P_isWordF C hp 3 (by decide)
      rw [P_rc hp.hm, w, if_pos rfl]
      exact k v h' hp
    · show zf8_both (f' + 1) (zgr8 (f' + 1) d) h (some m) K
      unfold zf8_both
      rw [P_rc hh.hm]
      refine ih 2 h _ (by omega) (by omega) hh fun v h' hp => ?_
      show zb8_both_5 (f' + 1) (zgr8 (f' + 1) d) K (zl8_both_5 (f' + 1) (zgr8 (f' + 1) d) K f') h' (some m) v
      unfold zb8_both_5
      have w : ∀ K, zf8_isWord (f' + 1) h' (some m) 97 110 100 0 0 0 0 0 K = K 0 h' := fun K => P_isWordF C hp 4 (by decide)
      rw [P_rc hp.hm, w, if_pos rfl]
      exact k v h' hp
    · show zf8_not (f' + 1) (zgr8 (f' + 1) d) h (some m) K
      unfold zf8_not
      have w : ∀ K, zf8_isWord (f' + 1) h (some m) 110 111 116 0 0 0 0 0 K = K 0 h := fun K => P_isWordF C hh 5 (by decide)
      rw [P_rc hh.hm, w, if_pos rfl, P_rc hh.hm]
      refine ih 3 h _ (by omega) (by omega) hh fun v h' hp => ?_
      rw [P_rc hp.hm, P_isSignF C hp, if_pos rfl, P_rc hp.hm, P_isSignF C hp, if_pos rfl]
      exact k v h' hp
    · show zf8_added (f' + 1) (zgr8 (f' + 1) d) h (some m) K
      unfold zf8_added
      rw [P_rc hh.hm]
      refine ih 4 h _ (by omega) (by omega) hh fun v h' hp => ?_
      show zb8_added_5 (f' + 1) (zgr8 (f' + 1) d) K (zl8_added_5 (f' + 1) (zgr8 (f' + 1) d) K f') h' (some m) v
      unfold zb8_added_5
      rw [P_rc hp.hm, P_isSignF C hp, if_pos rfl, P_rc hp.hm, P_isSignF C hp, if_pos rfl]
      exact k v h' hp
    · show zf8_term (f' + 1) (zgr8 (f' + 1) d) h (some m) K
      unfold zf8_term
      rw [P_rc hh.hm]
      refine ih 5 h _ (by omega) (by omega) hh fun v h' hp => ?_
      show zb8_term_5 (f' + 1) (zgr8 (f' + 1) d) K (zl8_term_5 (f' + 1) (zgr8 (f' + 1) d) K f') h' (some m) v
      unfold zb8_term_5
      rw [P_rc hp.hm, P_isSignF C hp, if_pos rfl]
      exact k v h' hp
    · show zf8_atom (f' + 1) (zgr8 (f' + 1) d) h (some m) K
      unfold zf8_atom
      rw [P_rc hh.hm, P_isSignF C hh, if_pos rfl, P_rc hh.hm, P_isSignF C hh, if_pos rfl]
      have g157 : zj8_atom_157 (f' + 1) (zgr8 (f' + 1) d) K h (some m) 0 := by
        unfold zj8_atom_157
        rw [P_rc hh.hm]
        exact P_failF C hh fun h' hp => k 0 h' (Or.inl hp)
      rcases hh with ⟨τ, w, rfl, h2, h3, h4⟩ | ⟨τ, w, t, rfl, hF, h27, h5, he, ht⟩
      · unfold zj8_atom_123
        simp only [zmR C.1]
        rw [if_neg (by rw [h3]; decide), if_neg (by rw [h3]; decide)]
        exact g157
      · have hh : PF m ad b0 σ n base e (hM m ad τ w b0) := Or.inr ⟨τ, w, t, rfl, hF, h27, h5, he, ht⟩
        unfold zj8_atom_123
        simp only [zmR C.1]
        have n2 : ¬ τ 23 0 = 2 := by
          rcases ht.2.2.2 with z | z | z | z | z | ⟨-, z⟩
          · rw [h5] at z; exact absurd z.1 (by decide)
          · rw [h5] at z; exact absurd z.1 (by decide)
          · rw [h5] at z; exact absurd z.1 (by decide)
          · rw [h5] at z; exact absurd z.1 (by decide)
          · rw [h5] at z; exact absurd z.1 (by decide)
          · rcases z with z | ⟨z, -⟩
            · rw [z]; decide
            · rw [z]; decide
        rw [if_pos h27, if_neg n2, if_pos h27]
        by_cases c1 : τ 23 0 = 1
        · rw [if_pos c1]
          refine P_nameF C hh fun h' hp => ?_
          rw [P_27F C hp, if_neg (by decide)]
          exact k 0 h' (Or.inl hp)
        · rw [if_neg c1]
          exact g157
end MG
