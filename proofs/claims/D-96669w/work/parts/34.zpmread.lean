/-! THE REFERENCE READS: its grammar, held against tk_ps -/
set_option maxRecDepth 100000
def MC (f m : Nat) (ad : Nat → Nat) (σ : Nat → Nat → Int32) (n base : Nat) : Prop := mOk m ad ∧ 200 ≤ f ∧ TXT σ n base
def POk (m : Nat) (ad : Nat → Nat) (b0 : zH) (σ : Nat → Nat → Int32) (n base : Nat) (t : Tok) (op : Nat) (h : zH) : Prop := ∃ (τ : Nat → Nat → Int32) (w : Int64), h = hM m ad τ w b0 ∧ MF σ τ ∧ τ 27 0 = 0 ∧ τ 26 0 = nI op ∧ t.1 ≠ 5 ∧ MT (MB σ base) n t τ w
/-- bad, with that fault; or at a wrong token there -/
def PF1 (m : Nat) (ad : Nat → Nat) (b0 : zH) (σ : Nat → Nat → Int32) (e : Nat) (h : zH) : Prop := ∃ (τ : Nat → Nat → Int32) (w : Int64), h = hM m ad τ w b0 ∧ MF σ τ ∧ τ 27 0 = 1 ∧ τ 28 0 = nI e
def PF0 (m : Nat) (ad : Nat → Nat) (b0 : zH) (σ : Nat → Nat → Int32) (n base : Nat) (e : Nat) (h : zH) : Prop := ∃ (τ : Nat → Nat → Int32) (w : Int64) (t : Tok), h = hM m ad τ w b0 ∧ MF σ τ ∧ τ 27 0 = 0 ∧ t.1 = 5 ∧ t.2.2.1 = e ∧ MT (MB σ base) n t τ w
def PF (m : Nat) (ad : Nat → Nat) (b0 : zH) (σ : Nat → Nat → Int32) (n base : Nat) (e : Nat) (h : zH) : Prop := PF1 m ad b0 σ e h ∨ PF0 m ad b0 σ n base e h
theorem i32_64 {x y : Int32} : x.toInt64 = y.toInt64 ↔ x = y := by
  constructor
  · intro h
    have h2 := congrArg Int64.toInt h
    rw [Int32.toInt_toInt64, Int32.toInt_toInt64] at h2
    exact Int32.toInt_inj.mp h2
  · intro h; rw [h]
theorem ifn {c : Prop} [Decidable c] {A B : Prop} : (if ¬ c then A else B) = (if c then B else A) := by
  by_cases h : c
  · rw [if_neg (fun z => z h), if_pos h]
  · rw [if_pos h, if_neg h]
theorem ifand {c d : Prop} [Decidable c] [Decidable d] {A B : Prop} : (if c then (if d then A else B) else B) = (if c ∧ d then A else B) := by
  by_cases h : c
  · by_cases h2 : d
    · rw [if_pos h, if_pos h2, if_pos ⟨h, h2⟩]
    · rw [if_pos h, if_neg h2, if_neg (fun z => h2 z.2)]
  · rw [if_neg h, if_neg (fun z => h z.1)]
/-- a letter of the word at hand, or 0 behind it -/
def lett (b : Nat → Int32) (n s e i : Nat) : Int32 := if s + i < e then tk_b b n (s + i) else 0
theorem eight {P : Nat → Prop} : (∀ i, i < 8 → P i) ↔ (P 0 ∧ P 1 ∧ P 2 ∧ P 3 ∧ P 4 ∧ P 5 ∧ P 6 ∧ P 7) := by
  constructor
  · intro h
    exact ⟨h 0 (by decide), h 1 (by decide), h 2 (by decide), h 3 (by decide), h 4 (by decide), h 5 (by decide), h 6 (by decide), h 7 (by decide)⟩
  · rintro ⟨h0, h1, h2, h3, h4, h5, h6, h7⟩ i hi
    have : i = 0 ∨ i = 1 ∨ i = 2 ∨ i = 3 ∨ i = 4 ∨ i = 5 ∨ i = 6 ∨ i = 7 := by omega
    rcases this with rfl | rfl | rfl | rfl | rfl | rfl | rfl | rfl <;> assumption
theorem wd_at {b : Nat → Int32} {n s e i : Nat} : (tk_wd b n s e).getD i 0 = lett b n s e i := by
  unfold tk_wd lett
  rw [List.getD_eq_getElem?_getD, List.getElem?_map]
  by_cases h : s + i < e
  · rw [if_pos h, List.getElem?_range (by omega)]
    rfl
  · rw [if_neg h, List.getElem?_eq_none (by rw [List.length_range]; omega)]
    rfl
theorem wd_iff {b : Nat → Int32} {n s e : Nat} {L : List Int32} (hl : ∀ j, s ≤ j → j < e → tk_isL (tk_b b n j)) (hse : s ≤ e) (h8 : L.length ≤ 8) (h0 : ∀ i, i < L.length → L.getD i 0 ≠ 0) : tk_wd b n s e = L ↔ (e ≤ s + 8 ∧ ∀ i, i < 8 → lett b n s e i = L.getD i 0) := by
  have hlen : (tk_wd b n s e).length = e - s := by unfold tk_wd; rw [List.length_map, List.length_range]
  constructor
  · intro h
    subst h
    rw [hlen] at h8
    exact ⟨by omega, fun i _ => wd_at.symm⟩
  · rintro ⟨h1, h2⟩
    have h3 : e - s = L.length := by
      rcases Nat.lt_trichotomy (e - s) L.length with z | z | z
      · have h4 := h2 (e - s) (by omega)
        unfold lett at h4
        rw [if_neg (by omega)] at h4
        exact absurd h4.symm (h0 _ z)
      · exact z
      · have h4 := h2 L.length (by omega)
        unfold lett at h4
        rw [if_pos (by omega)] at h4
        have h5 := hl (s + L.length) (by omega) (by omega)
        rw [h4, List.getD_eq_getElem?_getD, List.getElem?_eq_none (Nat.le_refl _)] at h5
        exact absurd h5 (by decide)
    refine List.ext_getElem (by rw [hlen, h3]) fun i i1 i2 => ?_
    have h6 := h2 i (by omega)
    rw [← wd_at, List.getD_eq_getElem?_getD, List.getD_eq_getElem?_getD, List.getElem?_eq_getElem i1, List.getElem?_eq_getElem i2] at h6
    exact h6
theorem ws_8 : ∀ k, k < 12 → (tk_ws.getD k []).length ≤ 8 ∧ ∀ i, i < (tk_ws.getD k []).length → (tk_ws.getD k []).getD i 0 ≠ 0 := by decide
section MR
variable {f m : Nat} {ad : Nat → Nat} {b0 : zH} {σ : Nat → Nat → Int32} {n base : Nat} {h : zH} {t : Tok} {op e : Nat} {K : Int32 → zH → Prop}
theorem POk.hm (hh : POk m ad b0 σ n base t op h) : ∃ τ w, h = hM m ad τ w b0 ∧ MF σ τ := by
  obtain ⟨τ, w, h1, h2, -⟩ := hh
  exact ⟨τ, w, h1, h2⟩
theorem PF.hm (hh : PF m ad b0 σ n base e h) : ∃ τ w, h = hM m ad τ w b0 ∧ MF σ τ := by
  rcases hh with ⟨τ, w, h1, h2, -⟩ | ⟨τ, w, t, h1, h2, -⟩
  · exact ⟨τ, w, h1, h2⟩
  · exact ⟨τ, w, h1, h2⟩
theorem P_rc (hh : ∃ τ w, h = hM m ad τ w b0 ∧ MF σ τ) {F : Prop} : zrc h (some m) 13 F = F := by
  obtain ⟨τ, w, rfl, -⟩ := hh
  exact mrc F
theorem MT.here {b : Nat → Int32} {τ : Nat → Nat → Int32} {w : Int64} (ht : MT b n t τ w) (h0 : t.1 ≠ 0) (h5 : t.1 ≠ 5) : τ 22 0 = nI t.2.2.2 := by
  rcases ht.2.2.2 with z | z | z | z | z | z
  · exact absurd z.1 h0
  · exact z.2.2.1
  · exact z.2.2.1
  · exact z.2.2.1
  · exact z.2.2.1
  · exact absurd z.1 h5
theorem P_next (C : MC f m ad σ n base) (hh : POk m ad b0 σ n base t op h) (h0 : t.1 ≠ 0) {K : zH → Prop}
    (k5 : (tk_lex (MB σ base) n t.2.2.2).1 = 5 → ∀ h', PF m ad b0 σ n base (tk_lex (MB σ base) n t.2.2.2).2.2.1 h' → K h')
    (k : (tk_lex (MB σ base) n t.2.2.2).1 ≠ 5 → ∀ h', POk m ad b0 σ n base (tk_lex (MB σ base) n t.2.2.2) op h' → K h') : zf8_next f h (some m) K := by
  obtain ⟨ok, hf, hT⟩ := C
  obtain ⟨τ, w, rfl, hF, h27, h26, h5, ht⟩ := hh
  refine M_next ok hT hf hF (ht.here h0 h5) ht.2.2.1 fun τ' w' a1 a2 a3 a4 a5 => ?_
  by_cases c : (tk_lex (MB σ base) n t.2.2.2).1 = 5
  · exact k5 c _ (Or.inr ⟨τ', w', _, rfl, a1, by rw [a3]; exact h27, c, rfl, a5⟩)
  · exact k c _ ⟨τ', w', rfl, a1, by rw [a3]; exact h27, by rw [a2]; exact h26, c, a5⟩
theorem M_isLetter (C : MC f m ad σ n base) {τ : Nat → Nat → Int32} {w : Int64} (hF : MF σ τ) {s e i : Nat} (hs : τ 24 0 = nI s) (he : τ 22 0 = nI e) (hse : s ≤ e) (hen : e ≤ n) (hi : i < 8) {c : Int32} : zf8_isLetter f (hM m ad τ w b0) (some m) (nI i) c K = K (if lett (MB σ base) n s e i = c then 1 else 0) (hM m ad τ w b0) := by
  obtain ⟨ok, hf, hT⟩ := C
  have hn := hT.2.2.2.1
  unfold zf8_isLetter lett
  simp only [zmR ok, hs, he, nI_add, M_byteAt ok hT hF (i := s + i) (by omega)]
  by_cases h1 : s + i < e
  · rw [if_pos ((nI_ltI (by omega) (by omega)).mpr h1), if_pos h1]
    by_cases h2 : tk_b (MB σ base) n (s + i) = c
    · rw [if_pos h2, if_pos h2]
    · rw [if_neg h2, if_neg h2]
  · rw [if_neg (fun z => h1 ((nI_ltI (by omega) (by omega)).mp z)), if_neg h1]
    by_cases h2 : c = 0
    · rw [if_pos h2, if_pos h2.symm]
    · rw [if_neg h2, if_neg (fun z => h2 z.symm)]
theorem M_isWord (C : MC f m ad σ n base) {τ : Nat → Nat → Int32} {w : Int64} (hF : MF σ τ) {s e : Nat} (h27 : τ 27 0 = 0) (h23 : τ 23 0 = 1) (hs : τ 24 0 = nI s) (he : τ 22 0 = nI e) (hse : s ≤ e) (hen : e ≤ n) (hl : ∀ j, s ≤ j → j < e → tk_isL (tk_b (MB σ base) n j)) {k : Nat} (hk : k < 12) : zf8_isWord f (hM m ad τ w b0) (some m) ((tk_ws.getD k []).getD 0 0) ((tk_ws.getD k []).getD 1 0) ((tk_ws.getD k []).getD 2 0) ((tk_ws.getD k []).getD 3 0) ((tk_ws.getD k []).getD 4 0) ((tk_ws.getD k []).getD 5 0) ((tk_ws.getD k []).getD 6 0) ((tk_ws.getD k []).getD 7 0) K = K (if tk_cd (tk_wd (MB σ base) n s e) = k then 1 else 0) (hM m ad τ w b0) := by
  have hn := C.2.2.2.2.2.1
  have hw := ws_8 k hk
  have key : tk_cd (tk_wd (MB σ base) n s e) = k ↔ (e ≤ s + 8 ∧ ∀ i, i < 8 → lett (MB σ base) n s e i = (tk_ws.getD k []).getD i 0) := by
    rw [tk_cd_eq hk]
    exact wd_iff hl hse hw.1 hw.2
  rw [eight] at key
  generalize (tk_ws.getD k []) = L at key ⊢
  have e0 : (0 : Int32) = nI 0 := rfl
  have e1 : (1 : Int32) = nI 1 := rfl
  have e2 : (2 : Int32) = nI 2 := rfl
  have e3 : (3 : Int32) = nI 3 := rfl
  have e4 : (4 : Int32) = nI 4 := rfl
  have e5 : (5 : Int32) = nI 5 := rfl
  have e6 : (6 : Int32) = nI 6 := rfl
  have e7 : (7 : Int32) = nI 7 := rfl
  have e8 : nI s + 8 = nI (s + 8) := nI_add s 8
  have L0 : ∀ c K, zf8_isLetter f (hM m ad τ w b0) (some m) 0 c K = K (if lett (MB σ base) n s e 0 = c then 1 else 0) (hM m ad τ w b0) := fun c K => M_isLetter C hF hs he hse hen (i := 0) (by omega)
  have L1 : ∀ c K, zf8_isLetter f (hM m ad τ w b0) (some m) 1 c K = K (if lett (MB σ base) n s e 1 = c then 1 else 0) (hM m ad τ w b0) := fun c K => M_isLetter C hF hs he hse hen (i := 1) (by omega)
  have L2 : ∀ c K, zf8_isLetter f (hM m ad τ w b0) (some m) 2 c K = K (if lett (MB σ base) n s e 2 = c then 1 else 0) (hM m ad τ w b0) := fun c K => M_isLetter C hF hs he hse hen (i := 2) (by omega)
  have L3 : ∀ c K, zf8_isLetter f (hM m ad τ w b0) (some m) 3 c K = K (if lett (MB σ base) n s e 3 = c then 1 else 0) (hM m ad τ w b0) := fun c K => M_isLetter C hF hs he hse hen (i := 3) (by omega)
  have L4 : ∀ c K, zf8_isLetter f (hM m ad τ w b0) (some m) 4 c K = K (if lett (MB σ base) n s e 4 = c then 1 else 0) (hM m ad τ w b0) := fun c K => M_isLetter C hF hs he hse hen (i := 4) (by omega)
  have L5 : ∀ c K, zf8_isLetter f (hM m ad τ w b0) (some m) 5 c K = K (if lett (MB σ base) n s e 5 = c then 1 else 0) (hM m ad τ w b0) := fun c K => M_isLetter C hF hs he hse hen (i := 5) (by omega)
  have L6 : ∀ c K, zf8_isLetter f (hM m ad τ w b0) (some m) 6 c K = K (if lett (MB σ base) n s e 6 = c then 1 else 0) (hM m ad τ w b0) := fun c K => M_isLetter C hF hs he hse hen (i := 6) (by omega)
  have L7 : ∀ c K, zf8_isLetter f (hM m ad τ w b0) (some m) 7 c K = K (if lett (MB σ base) n s e 7 = c then 1 else 0) (hM m ad τ w b0) := fun c K => M_isLetter C hF hs he hse hen (i := 7) (by omega)
  unfold zf8_isWord
  simp only [zmR C.1, h27, h23, hs, he, e8, L0, L1, L2, L3, L4, L5, L6, L7, ite10, ifn, ifand, ite_true]
  by_cases c : s + 8 < e
  · rw [if_pos ((nI_ltI (by omega) (by omega)).mpr c), if_neg (fun z => by have := key.mp z; omega)]
  · rw [if_neg (fun z => c ((nI_ltI (by omega) (by omega)).mp z))]
    by_cases c2 : tk_cd (tk_wd (MB σ base) n s e) = k
    · rw [if_pos c2, if_pos (key.mp c2).2]
    · rw [if_neg c2, if_neg (fun z => c2 (key.mpr ⟨by omega, z⟩))]
theorem M_noWord (C : MC f m ad σ n base) {τ : Nat → Nat → Int32} {w : Int64} (hx : τ 27 0 ≠ 0 ∨ τ 23 0 ≠ 1) {a1 a2 a3 a4 a5 a6 a7 a8 : Int32} : zf8_isWord f (hM m ad τ w b0) (some m) a1 a2 a3 a4 a5 a6 a7 a8 K = K 0 (hM m ad τ w b0) := by
  unfold zf8_isWord
  simp only [zmR C.1]
  by_cases c : τ 27 0 = 0
  · rw [if_pos c, if_neg (hx.resolve_left (fun z => z c))]
  · rw [if_neg c]
/-- a key's word -/
theorem P_isWordK (C : MC f m ad σ n base) (hh : POk m ad b0 σ n base t op h) (k : Nat) (hk : k < 6) : zf8_isWord f h (some m) ((tk_ws.getD k []).getD 0 0) ((tk_ws.getD k []).getD 1 0) ((tk_ws.getD k []).getD 2 0) ((tk_ws.getD k []).getD 3 0) ((tk_ws.getD k []).getD 4 0) ((tk_ws.getD k []).getD 5 0) ((tk_ws.getD k []).getD 6 0) ((tk_ws.getD k []).getD 7 0) K = K (if tk_key k t then 1 else 0) h := by
  obtain ⟨τ, w, rfl, hF, h27, h26, h5, ht⟩ := hh
  obtain ⟨hs, hse, hen, hc⟩ := ht
  have no : t.1 ≠ 1 → τ 23 0 ≠ 1 → zf8_isWord f (hM m ad τ w b0) (some m) ((tk_ws.getD k []).getD 0 0) ((tk_ws.getD k []).getD 1 0) ((tk_ws.getD k []).getD 2 0) ((tk_ws.getD k []).getD 3 0) ((tk_ws.getD k []).getD 4 0) ((tk_ws.getD k []).getD 5 0) ((tk_ws.getD k []).getD 6 0) ((tk_ws.getD k []).getD 7 0) K = K (if tk_key k t then 1 else 0) (hM m ad τ w b0) := by
    intro h1 h2
    rw [M_noWord C (Or.inr h2), if_neg (fun z => h1 z.1)]
  rcases hc with ⟨z1, z2⟩ | ⟨z1, z2, z3, z4, z5, z6⟩ | ⟨z1, z2, z3, z4, z5, z6, z7⟩ | ⟨z1, z2, -⟩ | ⟨z1, z2, -⟩ | ⟨z1, -⟩
  · exact no (by rw [z1]; decide) (by rw [z2]; decide)
  · rw [M_isWord C hF h27 z2 hs z3 hse hen z4 (by omega)]
    by_cases c : tk_cd (tk_wd (MB σ base) n t.2.2.1 t.2.2.2) = k
    · rw [if_pos c, if_pos ⟨z1, by rw [z6, c]⟩]
    · rw [if_neg c, if_neg (fun z => c ((nI_eq (by omega) (by omega)).mp (z6.symm.trans z.2)))]
  · rw [M_isWord C hF h27 z2 hs z3 hse hen z4 (by omega), if_neg (by omega), if_neg (fun z => by have z9 := z.1; rw [z1] at z9; exact absurd z9 (by decide))]
  · exact no (by rw [z1]; decide) (by rw [z2]; decide)
  · exact no (by rw [z1]; decide) (by rw [z2]; decide)
  · exact absurd z1 h5
theorem P_isWordN (C : MC f m ad σ n base) (hh : POk m ad b0 σ n base t op h) (k : Nat) (hk : k < 6) : zf8_isWord f h (some m) ((tk_ws.getD (6 + k) []).getD 0 0) ((tk_ws.getD (6 + k) []).getD 1 0) ((tk_ws.getD (6 + k) []).getD 2 0) ((tk_ws.getD (6 + k) []).getD 3 0) ((tk_ws.getD (6 + k) []).getD 4 0) ((tk_ws.getD (6 + k) []).getD 5 0) ((tk_ws.getD (6 + k) []).getD 6 0) ((tk_ws.getD (6 + k) []).getD 7 0) K = K (if t.1 = 2 ∧ t.2.1 = nI k then 1 else 0) h := by
  obtain ⟨τ, w, rfl, hF, h27, h26, h5, ht⟩ := hh
  obtain ⟨hs, hse, hen, hc⟩ := ht
  have no : t.1 ≠ 2 → τ 23 0 ≠ 1 → zf8_isWord f (hM m ad τ w b0) (some m) ((tk_ws.getD (6 + k) []).getD 0 0) ((tk_ws.getD (6 + k) []).getD 1 0) ((tk_ws.getD (6 + k) []).getD 2 0) ((tk_ws.getD (6 + k) []).getD 3 0) ((tk_ws.getD (6 + k) []).getD 4 0) ((tk_ws.getD (6 + k) []).getD 5 0) ((tk_ws.getD (6 + k) []).getD 6 0) ((tk_ws.getD (6 + k) []).getD 7 0) K = K (if t.1 = 2 ∧ t.2.1 = nI k then 1 else 0) (hM m ad τ w b0) := by
    intro h1 h2
    rw [M_noWord C (Or.inr h2), if_neg (fun z => h1 z.1)]
  rcases hc with ⟨z1, z2⟩ | ⟨z1, z2, z3, z4, z5, z6⟩ | ⟨z1, z2, z3, z4, z5, z6, z7⟩ | ⟨z1, z2, -⟩ | ⟨z1, z2, -⟩ | ⟨z1, -⟩
  · exact no (by rw [z1]; decide) (by rw [z2]; decide)
  · rw [M_isWord C hF h27 z2 hs z3 hse hen z4 (by omega), if_neg (by omega), if_neg (fun z => by have z9 := z.1; rw [z1] at z9; exact absurd z9 (by decide))]
  · rw [M_isWord C hF h27 z2 hs z3 hse hen z4 (by omega)]
    by_cases c : tk_cd (tk_wd (MB σ base) n t.2.2.1 t.2.2.2) = 6 + k
    · rw [if_pos c, if_pos ⟨z1, by rw [z7, c]; congr 1; omega⟩]
    · rw [if_neg c, if_neg (fun z => c (by have := (nI_eq (by omega) (by omega)).mp (z7.symm.trans z.2); omega))]
  · exact no (by rw [z1]; decide) (by rw [z2]; decide)
  · exact no (by rw [z1]; decide) (by rw [z2]; decide)
  · exact absurd z1 h5
theorem P_isWordF (C : MC f m ad σ n base) (hh : PF m ad b0 σ n base e h) (k : Nat) (hk : k < 12) : zf8_isWord f h (some m) ((tk_ws.getD k []).getD 0 0) ((tk_ws.getD k []).getD 1 0) ((tk_ws.getD k []).getD 2 0) ((tk_ws.getD k []).getD 3 0) ((tk_ws.getD k []).getD 4 0) ((tk_ws.getD k []).getD 5 0) ((tk_ws.getD k []).getD 6 0) ((tk_ws.getD k []).getD 7 0) K = K 0 h := by
  rcases hh with ⟨τ, w, rfl, h2, h3, -⟩ | ⟨τ, w, t, rfl, hF, h27, h5, he, hs, hse, hen, hc⟩
  · exact M_noWord C (Or.inl (by rw [h3]; decide))
  · rcases hc with z | z | z | z | z | ⟨-, z⟩
    · rw [h5] at z; exact absurd z.1 (by decide)
    · rw [h5] at z; exact absurd z.1 (by decide)
    · rw [h5] at z; exact absurd z.1 (by decide)
    · rw [h5] at z; exact absurd z.1 (by decide)
    · rw [h5] at z; exact absurd z.1 (by decide)
    · rcases z with z | ⟨z2, z3, z4, z5⟩
      · exact M_noWord C (Or.inr (by rw [z]; decide))
      · rw [M_isWord C hF h27 z2 hs z3 hse hen z4 hk, if_neg (by omega)]
end MR
