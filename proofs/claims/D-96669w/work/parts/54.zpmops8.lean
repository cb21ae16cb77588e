/-! THE REFERENCE's CALLS: copy, text; texts that agree on their bytes -/
set_option maxRecDepth 100000
section TC
variable {b b' : Nat → Int32} {n : Nat}
theorem tkb_of (h : ∀ i, i < n → b i = b' i) : tk_b b n = tk_b b' n := by
  funext i
  unfold tk_b
  by_cases c : i < n
  · rw [if_pos c, if_pos c, h i c]
  · rw [if_neg c, if_neg c]
theorem tksp_of (hb : tk_b b n = tk_b b' n) : tk_sp b n = tk_sp b' n := by
  funext d
  induction d with
  | zero => rfl
  | succ d ih => funext i; unfold tk_sp; rw [hb, ih]
theorem tkle_of (hb : tk_b b n = tk_b b' n) : tk_le b n = tk_le b' n := by
  funext d
  induction d with
  | zero => rfl
  | succ d ih => funext i; unfold tk_le; rw [hb, ih]
theorem tknv_of (hb : tk_b b n = tk_b b' n) : tk_nv b n = tk_nv b' n := by
  funext d
  induction d with
  | zero => rfl
  | succ d ih => funext i k a; unfold tk_nv; rw [hb, ih]
theorem tkwd_of (hb : tk_b b n = tk_b b' n) : tk_wd b n = tk_wd b' n := by
  funext i e
  unfold tk_wd
  rw [hb]
theorem tklex_of (hb : tk_b b n = tk_b b' n) : tk_lex b n = tk_lex b' n := by
  funext i
  unfold tk_lex
  rw [hb, tksp_of hb, tkle_of hb, tknv_of hb, tkwd_of hb]
theorem tknx_of (hl : tk_lex b n = tk_lex b' n) : tk_nx b n = tk_nx b' n := by
  funext t k
  unfold tk_nx
  rw [hl]
theorem tklp_of (hx : tk_nx b n = tk_nx b' n) (R : Tok → PR) (C : Tok → Bool) (F : Int32 → SEM → SEM → SEM) : tk_lp b n R C F = tk_lp b' n R C F := by
  funext d
  induction d with
  | zero => rfl
  | succ d ih => funext a t; unfold tk_lp; rw [hx, ih]
theorem tkps_of (hx : tk_nx b n = tk_nx b' n) : tk_ps b n = tk_ps b' n := by
  funext d
  induction d with
  | zero => rfl
  | succ d ih =>
    funext l op t
    match l with
    | 0 => rw [tk_ps0, tk_ps0, ih, tklp_of hx]
    | 1 => rw [tk_ps1, tk_ps1, ih, tklp_of hx]
    | 2 => rw [tk_ps2, tk_ps2, ih, hx]
    | 3 => rw [tk_ps3, tk_ps3, ih, tklp_of hx]
    | 4 => rw [tk_ps4, tk_ps4, ih, tklp_of hx]
    | l + 5 =>
      show tk_ps b n (d + 1) 5 op t = tk_ps b' n (d + 1) 5 op t
      rw [tk_ps5, tk_ps5, ih, hx]
theorem tktext_of (h : ∀ i, i < n → b i = b' i) : tk_text b n = tk_text b' n := by
  have hb := tkb_of h
  have hl := tklex_of hb
  have hx := tknx_of hl
  have hp := tkps_of hx
  unfold tk_text tk_part
  rw [hl, hx, hp]
end TC
/-- the tape is laid down as a text -/
def txS (σ : ST) (c k : Nat) : ST := mup (mup (fo (fun i (σ' : ST) => mup σ' 1 (160 * c + i) (σ' 5 i)) k 0 σ) 2 c (nI k)) 6 0 0
theorem tx_at (σ : ST) (c : Nat) : ∀ k, (∀ j, j ≠ 1 → fo (fun i (σ' : ST) => mup σ' 1 (160 * c + i) (σ' 5 i)) k 0 σ j = σ j) ∧ (∀ i, i < k → fo (fun i (σ' : ST) => mup σ' 1 (160 * c + i) (σ' 5 i)) k 0 σ 1 (160 * c + i) = σ 5 i) ∧ (∀ i, (i < 160 * c ∨ 160 * c + k ≤ i) → fo (fun i (σ' : ST) => mup σ' 1 (160 * c + i) (σ' 5 i)) k 0 σ 1 i = σ 1 i) := by
  intro k
  induction k with
  | zero => exact ⟨fun j _ => rfl, fun i hi => by omega, fun i _ => rfl⟩
  | succ k ih =>
    obtain ⟨i0, i1, i2⟩ := ih
    rw [fo_snoc]
    generalize fo (fun i (σ' : ST) => mup σ' 1 (160 * c + i) (σ' 5 i)) k 0 σ = a at i0 i1 i2 ⊢
    have e0 : 0 + k = k := Nat.zero_add k
    rw [e0]
    refine ⟨fun j hj => (mup_ne9 hj).trans (i0 j hj), fun i hi => ?_, fun i hi => ?_⟩
    · show mup a 1 (160 * c + k) (a 5 k) 1 (160 * c + i) = _
      unfold mup
      rw [if_pos rfl]
      unfold upd
      by_cases e : i = k
      · rw [if_pos (by omega), i0 5 (by decide), e]
      · rw [if_neg (by omega)]; exact i1 i (by omega)
    · show mup a 1 (160 * c + k) (a 5 k) 1 i = _
      unfold mup
      rw [if_pos rfl]
      unfold upd
      rw [if_neg (by omega)]
      exact i2 i (by omega)
/-- what copy lays -/
def cpS (σ : ST) (s i o j n : Nat) (up : Bool) : ST := fo (fun k (σ' : ST) => mup σ' 48 (40 * o + j + (if up then n - 1 - k else k)) (σ' 48 (40 * s + i + (if up then n - 1 - k else k)))) n 0 σ
section M8
variable {f : Nat} {m : Nat} {ad : Nat → Nat} {b : zH} {σ : ST} {h : zH} {K : Int32 → zH → Prop}
theorem O_text (ok : mOk m ad) (hf : 400 ≤ f) (hW : WS σ) (hh : Mh m ad b σ h) (k4 : σ 3 0 = 6 → K (-4) h) (kF : ∀ c k e : Nat, σ 3 0 = nI c → σ 6 0 = nI k → c < 6 → k ≤ 160 → tk_text (fun i => σ 5 i) k = .inl e → ∀ h', Mh m ad b (txS σ c k) h' → K (-100 - nI e) h') (kk : ∀ (c k : Nat) (g : SEM × SEM × SEM), σ 3 0 = nI c → σ 6 0 = nI k → c < 6 → k ≤ 160 → tk_text (fun i => σ 5 i) k = .inr g → ∀ h', Mh m ad b (mup (txS σ c k) 3 0 (nI (c + 1))) h' → K (nI c) h') : zf8_text f h (some m) K := by
  obtain ⟨-, ⟨c, r, hc, h3, -⟩, ⟨k, hk, h6⟩, -, h5, -⟩ := hW
  unfold zf8_text
  simp only [zmQ ok hh]
  by_cases c6 : σ 3 0 = 6
  · rw [if_pos c6]
    exact k4 c6
  rw [if_neg c6]
  have hc6 : c < 6 := by
    rcases Nat.lt_or_ge c 6 with z | z
    · exact z
    · exact absurd (by rw [h3, show c = 6 by omega]; rfl) c6
  have kF := fun e => kF c k e h3 h6 hc6 hk
  have kk := fun g => kk c k g h3 h6 hc6 hk
  have go : ∀ (j i g : Nat) (σ1 : ST) (h : zH), i + j = k → j < g → Mh m ad b σ1 h → (∀ j, j ≠ 1 → σ1 j = σ j) → (∀ h', Mh m ad b (fo (fun i (σ' : ST) => mup σ' 1 (160 * c + i) (σ' 5 i)) j i σ1) h' → zb8_text_14 f K (fun _ _ _ => False) h' (some m) (nI k)) → zl8_text_14 f K g h (some m) (nI i) := by
    intro j
    induction j with
    | zero =>
      intro i g σ1 h h1 h2 hh hk1 kk
      obtain ⟨g, rfl⟩ : ∃ g', g = g' + 1 := ⟨g - 1, by omega⟩
      show zb8_text_14 f K (zl8_text_14 f K g) h (some m) (nI i)
      have e : i = k := by omega
      subst e
      have := kk h hh
      unfold zb8_text_14 at this ⊢
      have hh : Mh m ad b σ1 h := hh
      simp only [zmQ ok hh] at this ⊢
      rw [hk1 6 (by decide), h6, if_neg (fun z => by have := (nI_ltI (by omega) (by omega)).mp z; omega)] at this ⊢
      exact this
    | succ j ih =>
      intro i g σ1 h h1 h2 hh hk1 kk
      obtain ⟨g, rfl⟩ : ∃ g', g = g' + 1 := ⟨g - 1, by omega⟩
      show zb8_text_14 f K (zl8_text_14 f K g) h (some m) (nI i)
      unfold zb8_text_14
      simp only [zmQ ok hh]
      have e160 : (160 : Int32) * nI c + nI i = nI (160 * c + i) := by
        have : (160 : Int32) * nI c = nI (160 * c) := pk_mul 160 c
        rw [this, nI_add]
      rw [hk1 6 (by decide), h6, if_pos ((nI_ltI (by omega) (by omega)).mpr (by omega)), hk1 3 (by decide), h3, e160, nI_clamp (by omega)]
      refine ⟨vp_in_nI (by omega) (by omega), Mst (n := 960) ok hh (by decide) (vp_in_nI (by omega) (by omega)) fun h3 hh3 => ?_⟩
      rw [nI_clamp (by omega)] at hh3
      simp only [nm_eq, nI_1]
      exact ih (i + 1) g _ h3 (by omega) (by omega) hh3 (fun j hj => (mup_ne9 hj).trans (hk1 j hj)) kk
  refine go k 0 f σ h (by omega) (by omega) hh (fun _ _ => rfl) fun h1 hh1 => ?_
  obtain ⟨t0, t1, t2⟩ := tx_at σ c k
  unfold txS at kF kk
  generalize fo (fun i (σ' : ST) => mup σ' 1 (160 * c + i) (σ' 5 i)) k 0 σ = σ1 at hh1 t0 t1 t2 kF kk
  unfold zb8_text_14
  simp only [zmQ ok hh1]
  rw [t0 6 (by decide), h6, if_neg (fun z => by have := (nI_ltI (by omega) (by omega)).mp z; omega), t0 3 (by decide), h3]
  refine Mst ok hh1 (by decide) (vp_in_nI hc6 (by omega)) fun h2 hh2 => ?_
  rw [nI_clamp (by omega)] at hh2
  refine Mpf hh2 (by decide) fun h4 hh4 => ?_
  simp only [zmQ ok hh4]
  have e3 : mup (mup σ1 2 c (nI k)) 6 0 0 3 0 = nI c := by rw [mup_ne9 (by decide), mup_ne9 (by decide), t0 3 (by decide)]; exact h3
  rw [e3]
  obtain ⟨τ, w, rfl, hv⟩ := hh4
  have v1 : ∀ i, i < k → τ 1 (160 * c + i) = σ 5 i := fun i hi => by
    rw [hv 1 (Or.inl (by decide)), mup_ne9 (by decide), mup_ne9 (by decide)]
    exact t1 i hi
  have et : tk_text (fun i => τ 1 (160 * c + i)) k = tk_text (fun i => σ 5 i) k := tktext_of v1
  refine M_read ok (by omega) (n := k) (j := 0) hc6 (by omega) hk ?_ (fun i hi => by rw [v1 i hi]; exact (h5 i (by omega)).1) fun τ' w' a1 => ?_
  · rw [hv 2 (Or.inl (by decide)), mup_ne9 (by decide)]
    show mup σ1 2 c (nI k) 2 c = _
    unfold mup
    rw [if_pos rfl]
    exact pk_us
  rw [et]
  have hM' : Mh m ad b (mup (mup σ1 2 c (nI k)) 6 0 0) (hM m ad τ' w' b) := ⟨τ', w', rfl, fun k hk => by rw [a1 k (by omega), hv k hk]⟩
  cases hx : tk_text (fun i => σ 5 i) k with
  | inl e =>
    intro a27 a28 v
    simp only [zmR ok]
    rw [if_neg (by rw [a27]; decide), a28]
    exact kF e hx _ hM'
  | inr g =>
    intro a27
    simp only [zmR ok]
    rw [if_pos a27]
    have b3 : τ' 3 0 = nI c := by rw [a1 3 (by omega), hv 3 (Or.inl (by decide))]; exact e3
    rw [b3, nI_1, mup_s0, nI_pred]
    refine kk g hx _ ⟨_, w', rfl, fun k hk => ?_⟩
    unfold mup
    by_cases ck : k = 3
    · subst ck
      rw [if_pos rfl, if_pos rfl, a1 3 (by omega), hv 3 (Or.inl (by decide))]
      rfl
    · rw [if_neg ck, if_neg ck, a1 k (by omega), hv k hk]
      rfl
end M8
