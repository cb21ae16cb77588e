/-! THE REFERENCE's CALLS: image, back, drawn, chance, swap, turnOut, house -/
set_option maxRecDepth 100000
/-- the same but for the kept days -/
def n37 (σ : ST) : ST := fun k => if k = 37 then (fun _ => 0) else σ k
theorem bri37 (G : TG) (σ : ST) : bri G σ = bri G (n37 σ) := rfl
theorem qst37 (G : TG) (σ : ST) : qst G σ = qst G (n37 σ) := rfl
theorem drF37 : ∀ (j i : Nat) (a b : ST × Int32), n37 a.1 = n37 b.1 → a.2 = b.2 → n37 (fo drF j i a).1 = n37 (fo drF j i b).1 := by
  intro j
  induction j with
  | zero => intro i a b h1 _; exact h1
  | succ j ih =>
    intro i a b h1 h2
    refine ih (i + 1) (drF i a) (drF i b) ?_ (by unfold drF; rw [h2])
    have e11 : a.1 11 = b.1 11 := congrFun h1 11
    have hk : ∀ k, k ≠ 37 → a.1 k = b.1 k := fun k hk => by
      have := congrFun h1 k
      unfold n37 at this
      rw [if_neg hk, if_neg hk] at this
      exact this
    funext k
    unfold n37 drF
    by_cases c : k = 37
    · rw [if_pos c, if_pos c]
    · rw [if_neg c, if_neg c]
      by_cases c2 : k = 11
      · subst c2
        funext j
        show mup (mup a.1 37 i _) 11 (3 * i + 1) _ 11 j = mup (mup b.1 37 i _) 11 (3 * i + 1) _ 11 j
        unfold mup
        rw [if_pos rfl, if_pos rfl, if_neg (by decide), if_neg (by decide), e11, h2]
      · show mup (mup a.1 37 i _) 11 (3 * i + 1) _ k = mup (mup b.1 37 i _) 11 (3 * i + 1) _ k
        unfold mup
        rw [if_neg c2, if_neg c2, if_neg c, if_neg c]
        exact hk k c
theorem fo_snoc {α : Type} {F : Nat → α → α} : ∀ (j i : Nat) (a : α), fo F (j + 1) i a = F (i + j) (fo F j i a) := by
  intro j
  induction j with
  | zero => intro i a; rfl
  | succ j ih =>
    intro i a
    show fo F (j + 1) (i + 1) (F i a) = F (i + (j + 1)) (fo F j (i + 1) (F i a))
    rw [ih, show i + 1 + j = i + (j + 1) by omega]
/-- the days as they were drawn, and kept -/
theorem drF_at (σ : ST) (s : Int32) : ∀ n, (∀ p, p < n → (fo drF n 0 (σ, s)).1 37 p = σ 11 (3 * p + 1)) ∧ (∀ i, (∀ p, p < n → i ≠ 3 * p + 1) → (fo drF n 0 (σ, s)).1 11 i = σ 11 i) := by
  intro n
  induction n with
  | zero => exact ⟨fun p hp => by omega, fun i _ => rfl⟩
  | succ n ih =>
    obtain ⟨i1, i2⟩ := ih
    rw [fo_snoc]
    generalize fo drF n 0 (σ, s) = a at i1 i2 ⊢
    have e0 : 0 + n = n := Nat.zero_add n
    rw [e0]
    refine ⟨fun p hp => ?_, fun i hi => ?_⟩
    · show mup (mup a.1 37 n (a.1 11 (3 * n + 1))) 11 (3 * n + 1) (dyz (a.2 * 1103515245 + 12345)) 37 p = _
      unfold mup
      rw [if_neg (by decide), if_pos rfl]
      unfold upd
      by_cases c : p = n
      · rw [if_pos c, c]
        exact i2 _ (fun q hq => by omega)
      · rw [if_neg c]
        exact i1 p (by omega)
    · show mup (mup a.1 37 n (a.1 11 (3 * n + 1))) 11 (3 * n + 1) (dyz (a.2 * 1103515245 + 12345)) 11 i = _
      unfold mup
      rw [if_pos rfl, if_neg (by decide)]
      unfold upd
      rw [if_neg (hi n (by omega))]
      exact i2 i (fun q hq => hi q (by omega))
theorem lbF_at (σ : ST) : ∀ n, (∀ i, fo (fun p (σ : ST) => mup σ 11 (3 * p + 1) (σ 37 p)) n 0 σ 37 i = σ 37 i) ∧ (∀ p, p < n → fo (fun p (σ : ST) => mup σ 11 (3 * p + 1) (σ 37 p)) n 0 σ 11 (3 * p + 1) = σ 37 p) ∧ (∀ i, (∀ p, p < n → i ≠ 3 * p + 1) → fo (fun p (σ : ST) => mup σ 11 (3 * p + 1) (σ 37 p)) n 0 σ 11 i = σ 11 i) := by
  intro n
  induction n with
  | zero => exact ⟨fun i => rfl, fun p hp => by omega, fun i _ => rfl⟩
  | succ n ih =>
    obtain ⟨i0, i1, i2⟩ := ih
    rw [fo_snoc]
    generalize fo (fun p (σ : ST) => mup σ 11 (3 * p + 1) (σ 37 p)) n 0 σ = a at i0 i1 i2 ⊢
    have e0 : 0 + n = n := Nat.zero_add n
    rw [e0]
    refine ⟨fun i => ?_, fun p hp => ?_, fun i hi => ?_⟩
    · show mup a 11 (3 * n + 1) (a 37 n) 37 i = _
      unfold mup
      rw [if_neg (by decide)]
      exact i0 i
    · show mup a 11 (3 * n + 1) (a 37 n) 11 (3 * p + 1) = _
      unfold mup
      rw [if_pos rfl]
      unfold upd
      by_cases c : p = n
      · rw [if_pos (by omega), c]
        exact i0 n
      · rw [if_neg (by omega)]
        exact i1 p (by omega)
    · show mup a 11 (3 * n + 1) (a 37 n) 11 i = _
      unfold mup
      rw [if_pos rfl]
      unfold upd
      rw [if_neg (hi n (by omega))]
      exact i2 i (fun q hq => hi q (by omega))
/-- laid back, all is as it was -/
theorem lb_dr (σ : ST) (s : Int32) : n37 (lbS (drS σ s)) = n37 σ := by
  have hn : nP (drS σ s) = nP σ := by unfold nP; rw [drS_k (by decide) (by decide)]
  funext k
  unfold n37
  by_cases c : k = 37
  · rw [if_pos c, if_pos c]
  · rw [if_neg c, if_neg c]
    by_cases c2 : k = 11
    · subst c2
      funext i
      have d := drF_at σ s (nP σ)
      have l := lbF_at (drS σ s) (nP σ)
      unfold lbS
      rw [hn]
      by_cases hi : ∃ p, p < nP σ ∧ i = 3 * p + 1
      · obtain ⟨p, hp, rfl⟩ := hi
        rw [l.2.1 p hp]
        exact d.1 p hp
      · have hi' : ∀ p, p < nP σ → i ≠ 3 * p + 1 := fun p hp z => hi ⟨p, hp, z⟩
        rw [l.2.2 i hi']
        exact d.2 i hi'
    · rw [lbS_k c2, drS_k c2 c]
section M3
variable {f : Nat} {m : Nat} {ad : Nat → Nat} {b : zH} {σ : ST} {h : zH} {K : Int32 → zH → Prop}
theorem O_image (ok : mOk m ad) (hf : 400 ≤ f) (hh : Mh m ad b σ h) (kk : ∀ h', Mh m ad b (imS σ) h' → K (σ 13 0) h') : zf8_image f h (some m) K := by
  unfold imS at kk
  unfold zf8_image
  have go2 : ∀ (j i g : Nat) (σ1 : ST) (h : zH), i + j = 4 → j < g → Mh m ad b σ1 h → (∀ k, k ∈ ([13, 7, 12, 4] : List Nat) → σ1 k = σ k) → (∀ h', Mh m ad b (mup (mup (mup (mup (fo (fun i σ => mup (mup σ 39 i (σ 8 i)) 40 i (σ 9 i)) j i σ1) 41 0 (σ 13 0)) 42 0 (σ 7 0)) 43 0 (σ 12 0)) 44 0 (σ 4 0)) h' → K (σ 13 0) h') → zl8_image_28 f K g h (some m) (nI i) := by
    intro j
    induction j with
    | zero =>
      intro i g σ1 h h1 h2 hh hk kk
      obtain ⟨g, rfl⟩ : ∃ g', g = g' + 1 := ⟨g - 1, by omega⟩
      show zb8_image_28 f K (zl8_image_28 f K g) h (some m) (nI i)
      unfold zb8_image_28
      have e : i = 4 := by omega
      subst e
      rw [if_neg (by decide)]
      simp only [zmQ ok hh]
      rw [hk 13 (by decide)]
      refine Mpf hh (by decide) fun h1 hh1 => ?_
      simp only [zmQ ok hh1, mup_ne0i]
      rw [hk 7 (by decide)]
      refine Mpf hh1 (by decide) fun h2 hh2 => ?_
      simp only [zmQ ok hh2, mup_ne0i]
      rw [hk 12 (by decide)]
      refine Mpf hh2 (by decide) fun h3 hh3 => ?_
      simp only [zmQ ok hh3, mup_ne0i]
      rw [hk 4 (by decide)]
      refine Mpf hh3 (by decide) fun h4 hh4 => ?_
      simp only [zmQ ok hh4, mup_ne0i]
      rw [hk 13 (by decide)]
      exact kk h4 hh4
    | succ j ih =>
      intro i g σ1 h h1 h2 hh hk kk
      obtain ⟨g, rfl⟩ : ∃ g', g = g' + 1 := ⟨g - 1, by omega⟩
      show zb8_image_28 f K (zl8_image_28 f K g) h (some m) (nI i)
      unfold zb8_image_28
      rw [if_pos (show nI i < 4 from (nI_ltI (b := 4) (by omega) (by omega)).mpr (by omega))]
      simp only [zmQ ok hh, nI_clamp (show i < 2 ^ 31 by omega)]
      refine ⟨vp_in_nI (by omega) (by omega), Mst ok hh (by decide) (vp_in_nI (show i < 4 by omega) (by omega)) fun h1 hh1 => ?_⟩
      rw [nI_clamp (by omega)] at hh1
      simp only [zmQ ok hh1, mup_ne0i, nI_clamp (show i < 2 ^ 31 by omega)]
      refine ⟨vp_in_nI (by omega) (by omega), Mst ok hh1 (by decide) (vp_in_nI (show i < 4 by omega) (by omega)) fun h2 hh2 => ?_⟩
      rw [nI_clamp (by omega)] at hh2
      simp only [nm_eq, nI_1]
      refine ih (i + 1) g _ h2 (by omega) (by omega) hh2 (fun k hk2 => ?_) kk
      rw [← hk k hk2]
      simp only [List.mem_cons, List.not_mem_nil, or_false] at hk2
      rcases hk2 with rfl | rfl | rfl | rfl <;> simp only [mup_ne0i]
  have go : ∀ (j i g : Nat) (σ1 : ST) (h : zH), i + j = 18 → j < g → Mh m ad b σ1 h → (∀ k, k ∈ ([13, 7, 12, 4, 8, 9, 11] : List Nat) → σ1 k = σ k) → (∀ σ2, (∀ k, k ∈ ([13, 7, 12, 4, 8, 9, 11] : List Nat) → σ2 k = σ k) → σ2 = fo (fun k σ => mup σ 38 k (σ 11 k)) j i σ1 → ∀ h', Mh m ad b σ2 h' → zl8_image_28 f K f h' (some m) 0) → zl8_image_2 f K g h (some m) (nI i) := by
    intro j
    induction j with
    | zero =>
      intro i g σ1 h h1 h2 hh hk kk
      obtain ⟨g, rfl⟩ : ∃ g', g = g' + 1 := ⟨g - 1, by omega⟩
      show zb8_image_2 f K (zl8_image_2 f K g) h (some m) (nI i)
      unfold zb8_image_2
      have e : i = 18 := by omega
      subst e
      rw [if_neg (by decide)]
      exact kk σ1 hk rfl h hh
    | succ j ih =>
      intro i g σ1 h h1 h2 hh hk kk
      obtain ⟨g, rfl⟩ : ∃ g', g = g' + 1 := ⟨g - 1, by omega⟩
      show zb8_image_2 f K (zl8_image_2 f K g) h (some m) (nI i)
      unfold zb8_image_2
      rw [if_pos (show nI i < 18 from (nI_ltI (b := 18) (by omega) (by omega)).mpr (by omega))]
      simp only [zmQ ok hh, nI_clamp (show i < 2 ^ 31 by omega)]
      refine ⟨vp_in_nI (by omega) (by omega), Mst ok hh (by decide) (vp_in_nI (show i < 18 by omega) (by omega)) fun h1 hh1 => ?_⟩
      rw [nI_clamp (by omega)] at hh1
      simp only [nm_eq, nI_1]
      refine ih (i + 1) g _ h1 (by omega) (by omega) hh1 (fun k hk2 => ?_) kk
      rw [← hk k hk2]
      simp only [List.mem_cons, List.not_mem_nil, or_false] at hk2
      rcases hk2 with rfl | rfl | rfl | rfl | rfl | rfl | rfl <;> simp only [mup_ne0i]
  refine go 18 0 f σ h rfl (by omega) hh (fun _ _ => rfl) fun σ2 hk e h' hh' => ?_
  refine go2 4 0 f σ2 h' rfl (by omega) hh' (fun k hk2 => hk k ?_) ?_
  · simp only [List.mem_cons, List.not_mem_nil, or_false] at hk2 ⊢
    omega
  · rw [e]
    exact kk
theorem O_back (ok : mOk m ad) (hf : 400 ≤ f) (hh : Mh m ad b σ h) (k3 : σ 41 0 = -1 → K (-3) h) (kk : σ 41 0 ≠ -1 → ∀ h', Mh m ad b (baS σ) h' → K (σ 41 0) h') : zf8_back f h (some m) K := by
  unfold zf8_back
  simp only [zmQ ok hh]
  by_cases c : σ 41 0 = -1
  · rw [if_pos c]
    exact k3 c
  · rw [if_neg c]
    have kk := kk c
    unfold baS at kk
    have go2 : ∀ (j i g : Nat) (σ1 : ST) (h : zH), i + j = 4 → j < g → Mh m ad b σ1 h → (∀ k, k ∈ ([41, 42, 43, 44] : List Nat) → σ1 k = σ k) → (∀ h', Mh m ad b (mup (mup (mup (mup (fo (fun i σ => mup (mup σ 8 i (σ 39 i)) 9 i (σ 40 i)) j i σ1) 13 0 (σ 41 0)) 7 0 (σ 42 0)) 12 0 (σ 43 0)) 4 0 (σ 44 0)) h' → K (σ 41 0) h') → zl8_back_39 f K g h (some m) (nI i) := by
      intro j
      induction j with
      | zero =>
        intro i g σ1 h h1 h2 hh hk kk
        obtain ⟨g, rfl⟩ : ∃ g', g = g' + 1 := ⟨g - 1, by omega⟩
        show zb8_back_39 f K (zl8_back_39 f K g) h (some m) (nI i)
        unfold zb8_back_39
        have e : i = 4 := by omega
        subst e
        rw [if_neg (by decide)]
        simp only [zmQ ok hh]
        rw [hk 41 (by decide)]
        refine Mpf hh (by decide) fun h1 hh1 => ?_
        simp only [zmQ ok hh1, mup_ne0i]
        rw [hk 42 (by decide)]
        refine Mpf hh1 (by decide) fun h2 hh2 => ?_
        simp only [zmQ ok hh2, mup_ne0i]
        rw [hk 43 (by decide)]
        refine Mpf hh2 (by decide) fun h3 hh3 => ?_
        simp only [zmQ ok hh3, mup_ne0i]
        rw [hk 44 (by decide)]
        refine Mpf hh3 (by decide) fun h4 hh4 => ?_
        simp only [zmQ ok hh4, mup_ne0i, mup_s0]
        exact kk h4 hh4
      | succ j ih =>
        intro i g σ1 h h1 h2 hh hk kk
        obtain ⟨g, rfl⟩ : ∃ g', g = g' + 1 := ⟨g - 1, by omega⟩
        show zb8_back_39 f K (zl8_back_39 f K g) h (some m) (nI i)
        unfold zb8_back_39
        rw [if_pos (show nI i < 4 from (nI_ltI (b := 4) (by omega) (by omega)).mpr (by omega))]
        simp only [zmQ ok hh, nI_clamp (show i < 2 ^ 31 by omega)]
        refine ⟨vp_in_nI (by omega) (by omega), Mst ok hh (by decide) (vp_in_nI (show i < 4 by omega) (by omega)) fun h1 hh1 => ?_⟩
        rw [nI_clamp (by omega)] at hh1
        simp only [zmQ ok hh1, mup_ne0i, nI_clamp (show i < 2 ^ 31 by omega)]
        refine ⟨vp_in_nI (by omega) (by omega), Mst ok hh1 (by decide) (vp_in_nI (show i < 4 by omega) (by omega)) fun h2 hh2 => ?_⟩
        rw [nI_clamp (by omega)] at hh2
        simp only [nm_eq, nI_1]
        refine ih (i + 1) g _ h2 (by omega) (by omega) hh2 (fun k hk2 => ?_) kk
        rw [← hk k hk2]
        simp only [List.mem_cons, List.not_mem_nil, or_false] at hk2
        rcases hk2 with rfl | rfl | rfl | rfl <;> simp only [mup_ne0i]
    have go : ∀ (j i g : Nat) (σ1 : ST) (h : zH), i + j = 18 → j < g → Mh m ad b σ1 h → (∀ k, k ∈ ([41, 42, 43, 44] : List Nat) → σ1 k = σ k) → (∀ σ2, (∀ k, k ∈ ([41, 42, 43, 44] : List Nat) → σ2 k = σ k) → σ2 = fo (fun k σ => mup σ 11 k (σ 38 k)) j i σ1 → ∀ h', Mh m ad b σ2 h' → zl8_back_39 f K f h' (some m) 0) → zl8_back_13 f K g h (some m) (nI i) := by
      intro j
      induction j with
      | zero =>
        intro i g σ1 h h1 h2 hh hk kk
        obtain ⟨g, rfl⟩ : ∃ g', g = g' + 1 := ⟨g - 1, by omega⟩
        show zb8_back_13 f K (zl8_back_13 f K g) h (some m) (nI i)
        unfold zb8_back_13
        have e : i = 18 := by omega
        subst e
        rw [if_neg (by decide)]
        exact kk σ1 hk rfl h hh
      | succ j ih =>
        intro i g σ1 h h1 h2 hh hk kk
        obtain ⟨g, rfl⟩ : ∃ g', g = g' + 1 := ⟨g - 1, by omega⟩
        show zb8_back_13 f K (zl8_back_13 f K g) h (some m) (nI i)
        unfold zb8_back_13
        rw [if_pos (show nI i < 18 from (nI_ltI (b := 18) (by omega) (by omega)).mpr (by omega))]
        simp only [zmQ ok hh, nI_clamp (show i < 2 ^ 31 by omega)]
        refine ⟨vp_in_nI (by omega) (by omega), Mst ok hh (by decide) (vp_in_nI (show i < 18 by omega) (by omega)) fun h1 hh1 => ?_⟩
        rw [nI_clamp (by omega)] at hh1
        simp only [nm_eq, nI_1]
        refine ih (i + 1) g _ h1 (by omega) (by omega) hh1 (fun k hk2 => ?_) kk
        rw [← hk k hk2]
        simp only [List.mem_cons, List.not_mem_nil, or_false] at hk2
        rcases hk2 with rfl | rfl | rfl | rfl <;> simp only [mup_ne0i]
    refine go 18 0 f σ h rfl (by omega) hh (fun _ _ => rfl) fun σ2 hk e h' hh' => ?_
    refine go2 4 0 f σ2 h' rfl (by omega) hh' hk ?_
    rw [e]
    exact kk
theorem L_draws (ok : mOk m ad) (hf : 400 ≤ f) (hW : WS σ) (hh : Mh m ad b σ h) {s : Int32} {K : zH → Prop} (kk : ∀ h', Mh m ad b (drS σ s) h' → K h') : zf8_draws f h (some m) s K := by
  obtain ⟨h13, hn⟩ := nP_eq hW
  unfold drS at kk
  have go : ∀ (j i g : Nat) (a : ST × Int32) (h : zH), i + j = nP σ → j < g → Mh m ad b a.1 h → a.1 13 = σ 13 → (∀ h', Mh m ad b (fo drF j i a).1 h' → K h') → zl8_draws_4 f K g h (some m) a.2 (nI i) := by
    intro j
    induction j with
    | zero =>
      intro i g a h h1 h2 hh e13 kk
      obtain ⟨g, rfl⟩ : ∃ g', g = g' + 1 := ⟨g - 1, by omega⟩
      show zb8_draws_4 f K (zl8_draws_4 f K g) h (some m) a.2 (nI i)
      unfold zb8_draws_4
      simp only [zmQ ok hh]
      rw [e13, h13, if_neg (fun z => by have := (nI_ltI (by omega) (by omega)).mp z; omega)]
      exact kk h hh
    | succ j ih =>
      intro i g a h h1 h2 hh e13 kk
      obtain ⟨g, rfl⟩ : ∃ g', g = g' + 1 := ⟨g - 1, by omega⟩
      show zb8_draws_4 f K (zl8_draws_4 f K g) h (some m) a.2 (nI i)
      unfold zb8_draws_4
      simp only [zmQ ok hh]
      rw [e13, h13, if_pos ((nI_ltI (by omega) (by omega)).mpr (by omega)), e3m1, nI_clamp (by omega)]
      refine ⟨vp_in_nI (by omega) (by omega), Mst (n := 6) ok hh (by decide) (vp_in_nI (by omega) (by omega)) fun h1 hh1 => ?_⟩
      rw [nI_clamp (by omega)] at hh1
      simp only [zmQ ok hh1, nm_eq, nI_1, e3m1]
      refine Mst (n := 18) ok hh1 (by decide) (vp_in_nI (by omega) (by omega)) fun h2 hh2 => ?_
      rw [nI_clamp (by omega)] at hh2
      exact ih (i + 1) g (drF i a) h2 (by omega) (by omega) hh2 (by unfold drF; simp only [mup_ne0i]; exact e13) kk
  exact go (nP σ) 0 f (σ, s) h (by omega) (by omega) hh rfl kk
theorem L_laysBack (ok : mOk m ad) (hf : 400 ≤ f) (hW : WS σ) (hh : Mh m ad b σ h) {K : zH → Prop} (kk : ∀ h', Mh m ad b (lbS σ) h' → K h') : zf8_laysBack f h (some m) K := by
  obtain ⟨h13, hn⟩ := nP_eq hW
  unfold lbS at kk
  have go : ∀ (j i g : Nat) (a : ST) (h : zH), i + j = nP σ → j < g → Mh m ad b a h → a 13 = σ 13 → (∀ h', Mh m ad b (fo (fun p σ => mup σ 11 (3 * p + 1) (σ 37 p)) j i a) h' → K h') → zl8_laysBack_2 f K g h (some m) (nI i) := by
    intro j
    induction j with
    | zero =>
      intro i g a h h1 h2 hh e13 kk
      obtain ⟨g, rfl⟩ : ∃ g', g = g' + 1 := ⟨g - 1, by omega⟩
      show zb8_laysBack_2 f K (zl8_laysBack_2 f K g) h (some m) (nI i)
      unfold zb8_laysBack_2
      simp only [zmQ ok hh]
      rw [e13, h13, if_neg (fun z => by have := (nI_ltI (by omega) (by omega)).mp z; omega)]
      exact kk h hh
    | succ j ih =>
      intro i g a h h1 h2 hh e13 kk
      obtain ⟨g, rfl⟩ : ∃ g', g = g' + 1 := ⟨g - 1, by omega⟩
      show zb8_laysBack_2 f K (zl8_laysBack_2 f K g) h (some m) (nI i)
      unfold zb8_laysBack_2
      simp only [zmQ ok hh]
      rw [e13, h13, if_pos ((nI_ltI (by omega) (by omega)).mpr (by omega)), e3m1, nI_clamp (by omega)]
      refine ⟨vp_in_nI (by omega) (by omega), Mst (n := 18) ok hh (by decide) (vp_in_nI (by omega) (by omega)) fun h1 hh1 => ?_⟩
      rw [nI_clamp (by omega)] at hh1
      simp only [nm_eq, nI_1]
      exact ih (i + 1) g _ h1 (by omega) (by omega) hh1 (by simp only [mup_ne0i]; exact e13) kk
  exact go (nP σ) 0 f σ h (by omega) (by omega) hh rfl kk
theorem WS_dr (hW : WS σ) (s : Int32) : WS (drS σ s) := WS_of hW fun k hk => drS_k (by intro z; rw [z] at hk; revert hk; decide) (by intro z; rw [z] at hk; revert hk; decide)
theorem WS_lb (hW : WS σ) : WS (lbS σ) := WS_of hW fun k hk => lbS_k (by intro z; rw [z] at hk; revert hk; decide)
theorem Gm_dr (s : Int32) : Gm (drS σ s) = Gm σ := Gm_of (drS_k (by decide) (by decide)) (drS_k (by decide) (by decide))
theorem Gm_lb : Gm (lbS σ) = Gm σ := Gm_of (lbS_k (by decide)) (lbS_k (by decide))
theorem O_drawn (ok : mOk m ad) (hf : 400 ≤ f) (hW : WS σ) (hh : Mh m ad b σ h) {s : Int32} (kk : ∀ h', Mh m ad b (lbS (drS σ s)) h' → K (bri (Gm σ) (drS σ s)) h') : zf8_drawn f h (some m) s K := by
  unfold zf8_drawn
  simp only [zmQ ok hh]
  refine L_draws ok hf hW hh fun h1 hh1 => ?_
  simp only [zmQ ok hh1]
  refine L_brightNow ok hf (WS_dr hW s) hh1 fun h2 hh2 => ?_
  rw [Gm_dr]
  simp only [zmQ ok hh2]
  exact L_laysBack ok hf (WS_dr hW s) hh2 kk
end M3
