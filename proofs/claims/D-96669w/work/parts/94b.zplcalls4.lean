/-! THE JOIN: call by call: image, back -/
set_option maxRecDepth 100000
theorem fo_cp {A B : Nat} (hAB : B ≠ A) : ∀ (j i : Nat) (a : ST) (q : Nat), fo (fun k (σ : ST) => mup σ A k (σ B k)) j i a A q = if i ≤ q ∧ q < i + j then a B q else a A q := by
  intro j
  induction j with
  | zero => intro i a q; rw [if_neg (by omega)]; rfl
  | succ j ih =>
    intro i a q
    show fo _ j (i + 1) (mup a A i (a B i)) A q = _
    rw [ih (i + 1) _ q, mup_k hAB, mup_kk]
    by_cases c : q = i
    · rw [if_neg (by omega), if_pos c, if_pos (by omega), c]
    · by_cases c2 : i + 1 ≤ q ∧ q < i + 1 + j
      · rw [if_pos c2, if_pos (by omega)]
      · rw [if_neg c2, if_neg c, if_neg (by omega)]
/-- what image and back lay, in the reference -/
theorem im_k {σ : ST} {j : Nat} (h : j ∉ ([38, 39, 40, 41, 42, 43, 44] : List Nat)) : imS σ j = σ j := by
  simp only [List.mem_cons, List.not_mem_nil, or_false, not_or] at h
  unfold imS
  rw [mup_k h.2.2.2.2.2.2, mup_k h.2.2.2.2.2.1, mup_k h.2.2.2.2.1, mup_k h.2.2.2.1, fo_key (fun i a => by rw [mup_k h.2.2.1, mup_k h.2.1]), fo_key (fun i a => mup_k h.1)]
theorem im_38 {σ : ST} {q : Nat} (hq : q < 18) : imS σ 38 q = σ 11 q := by
  unfold imS
  rw [mup_k (by decide), mup_k (by decide), mup_k (by decide), mup_k (by decide), fo_key (fun i a => by rw [mup_k (by decide), mup_k (by decide)]), fo_cp (by decide), if_pos (by omega)]
theorem im_39 {σ : ST} {q : Nat} (hq : q < 4) : imS σ 39 q = σ 8 q ∧ imS σ 40 q = σ 9 q := by
  have k8 : fo (fun k (σ : ST) => mup σ 38 k (σ 11 k)) 18 0 σ 8 = σ 8 := fo_key (fun i a => mup_k (by decide)) _ _ _
  have k9 : fo (fun k (σ : ST) => mup σ 38 k (σ 11 k)) 18 0 σ 9 = σ 9 := fo_key (fun i a => mup_k (by decide)) _ _ _
  unfold imS
  rw [mup_k (by decide), mup_k (by decide), mup_k (by decide), mup_k (by decide), mup_k (by decide), mup_k (by decide), mup_k (by decide), mup_k (by decide)]
  generalize fo (fun k (σ : ST) => mup σ 38 k (σ 11 k)) 18 0 σ = a at k8 k9 ⊢
  rw [← k8, ← k9]
  have : q = 0 ∨ q = 1 ∨ q = 2 ∨ q = 3 := by omega
  rcases this with rfl | rfl | rfl | rfl <;> exact ⟨rfl, rfl⟩
theorem im_sc {σ : ST} : imS σ 41 0 = σ 13 0 ∧ imS σ 42 0 = σ 7 0 ∧ imS σ 43 0 = σ 12 0 ∧ imS σ 44 0 = σ 4 0 := by
  unfold imS
  refine ⟨?_, ?_, ?_, ?_⟩
  · rw [mup_k (by decide), mup_k (by decide), mup_k (by decide), mup_s0]
  · rw [mup_k (by decide), mup_k (by decide), mup_s0]
  · rw [mup_k (by decide), mup_s0]
  · rw [mup_s0]
/-- .. and in the class -/
theorem imD_at : ∀ (j i : Nat) (a : ST) (q : Nat), i ≤ q → q < i + j → fo imD j i a 240 q = a 11 (3 * q) ∧ fo imD j i a 241 q = a 11 (3 * q + 1) ∧ fo imD j i a 242 q = a 11 (3 * q + 2) ∧ fo imD j i a 243 q = a 110 q ∧ fo imD j i a 244 q = (if a 111 q = 0 then 0 else 1) := by
  have miss : ∀ (j i : Nat) (a : ST) (q k : Nat), q < i → fo imD j i a k q = a k q := by
    intro j
    induction j with
    | zero => intro i a q k _; rfl
    | succ j ih =>
      intro i a q k hq
      show fo imD j (i + 1) (imD i a) k q = a k q
      rw [ih (i + 1) _ q k (by omega)]
      unfold imD
      have ne : ∀ (b : ST) (K : Nat) (v : Int32), mup b K i v k q = b k q := fun b K v => by
        by_cases c : k = K
        · rw [c, mup_kk, if_neg (by omega)]
        · rw [mup_k c]
      rw [ne, ne, ne, ne, ne]
  intro j
  induction j with
  | zero => intro i a q h1 h2; omega
  | succ j ih =>
    intro i a q h1 h2
    by_cases c : q = i
    · subst c
      have e : ∀ k, fo imD (j + 1) q a k q = imD q a k q := fun k => miss j (q + 1) (imD q a) q k (by omega)
      rw [e, e, e, e, e]
      unfold imD
      refine ⟨?_, ?_, ?_, ?_, ?_⟩
      · rw [mup_k (by decide), mup_k (by decide), mup_k (by decide), mup_k (by decide), mup_kk, if_pos rfl]
      · rw [mup_k (by decide), mup_k (by decide), mup_k (by decide), mup_kk, if_pos rfl]
      · rw [mup_k (by decide), mup_k (by decide), mup_kk, if_pos rfl]
      · rw [mup_k (by decide), mup_kk, if_pos rfl]
      · rw [mup_kk, if_pos rfl]
    · have := ih (i + 1) (imD i a) q (by omega) (by omega)
      rw [imD_k (Or.inl (by decide)), imD_k (Or.inl (by decide)), imD_k (Or.inl (by decide))] at this
      exact this
theorem imc_k {σ : ST} {j : Nat} (h : j < 230 ∨ j = 232 ∨ (233 < j ∧ j < 240) ∨ 244 < j) : imC2 σ j = σ j := by
  unfold imC2 imF imC1
  rw [mup_k (by omega), mup_k (by omega), mup_k (by omega), mup_k (by omega), fo_key (fun i a => imD_k (by omega)), imC0_k (by omega)]
theorem imc_231 {σ : ST} {q : Nat} (hq : q < 4) : imC2 σ 231 q = σ 8 q := by
  unfold imC2 imF imC1
  rw [mup_k (by decide), mup_k (by decide), mup_k (by decide), mup_k (by decide), fo_key (fun i a => imD_k (Or.inl (by decide)))]
  unfold imC0
  rw [fo_cp (by decide), if_pos (by omega)]
theorem imc_233 {σ : ST} : imC2 σ 233 0 = σ 13 0 ∧ imC2 σ 233 1 = σ 7 0 ∧ imC2 σ 233 2 = σ 4 0 ∧ imC2 σ 230 0 = 1 := by
  have e13 := imC1_k (σ := σ) (k := 13) (by decide)
  have e7 := imC1_k (σ := σ) (k := 7) (by decide)
  have e4 := imC1_k (σ := σ) (k := 4) (by decide)
  unfold imC2 imF
  refine ⟨?_, ?_, ?_, mup_s0⟩
  · rw [mup_k (by decide), mup_kk, if_neg (by decide), mup_kk, if_neg (by decide), mup_s0, e13]
  · rw [mup_k (by decide), mup_kk, if_neg (by decide), mup_kk, if_pos rfl, e7]
  · rw [mup_k (by decide), mup_kk, if_pos rfl, e4]
theorem imc_p {σ : ST} {p : Nat} (hp : p < nP σ) : imC2 σ 240 p = σ 11 (3 * p) ∧ imC2 σ 241 p = σ 11 (3 * p + 1) ∧ imC2 σ 242 p = σ 11 (3 * p + 2) ∧ imC2 σ 243 p = σ 110 p ∧ imC2 σ 244 p = (if σ 111 p = 0 then 0 else 1) := by
  have h := imD_at (nP σ) 0 (imC0 σ) p (Nat.zero_le _) (by omega)
  rw [imC0_k (k := 11) (by decide), imC0_k (k := 110) (by decide), imC0_k (k := 111) (by decide)] at h
  have e : ∀ k, 240 ≤ k → imC2 σ k = fo imD (nP σ) 0 (imC0 σ) k := fun k hk => by
    unfold imC2 imF imC1
    rw [mup_k (by omega), mup_k (by omega), mup_k (by omega), mup_k (by omega)]
  rw [e 240 (by decide), e 241 (by decide), e 242 (by decide), e 243 (by decide), e 244 (by decide)]
  exact h
theorem RR_im {σ : ST} (hR : RR σ) : RR (jn (imC2 σ) (imS σ)) := by
  have hW := hR.ws
  have hI := hR.2.2.2.1
  have hN := hR.2.2.2.2.2.2
  obtain ⟨e13, hn⟩ := nP_eq hW
  obtain ⟨j, hj, ej⟩ := hR.2.2.2.2.1
  obtain ⟨-, ⟨c, r, hc, e3, hr, e4⟩, -, -, -, -, w7, -⟩ := id hW
  have ek : ∀ k, k ∉ ([38, 39, 40, 41, 42, 43, 44] : List Nat) → (k < 230 ∨ k = 232 ∨ (233 < k ∧ k < 240) ∨ 244 < k) → jn (imC2 σ) (imS σ) k = σ k := fun k h1 h2 => by
    by_cases z : k = 110 ∨ k = 111 ∨ 200 < k
    · rw [jn_1 z]; exact imc_k h2
    · rw [jn_2 z]; exact im_k h1
  have q : ∀ k, k ∈ ([1, 2, 3, 4, 5, 6, 7, 8, 9, 10, 11, 12, 13, 45, 46, 47, 48, 110, 111] : List Nat) → jn (imC2 σ) (imS σ) k = σ k := fun k hk => by
    have w : ∀ k, k ∈ ([1, 2, 3, 4, 5, 6, 7, 8, 9, 10, 11, 12, 13, 45, 46, 47, 48, 110, 111] : List Nat) → k ∉ ([38, 39, 40, 41, 42, 43, 44] : List Nat) ∧ k < 230 := by decide
    exact ek k (w k hk).1 (Or.inl (w k hk).2)
  have en : nP (jn (imC2 σ) (imS σ)) = nP σ := by unfold nP; rw [q 13 (by decide)]
  refine ⟨WS_of hW fun k hk => q k ?_, WH_of hR.2.1 (q 45 (by decide)) (q 46 (by decide)) (q 47 (by decide)), ?_, Iv_of hI (q 9 (by decide)) (q 12 (by decide)) (q 13 (by decide)) (q 110 (by decide)) (q 111 (by decide)), ?_, ?_, ?_⟩
  · have w : ∀ k, k ∈ ([1, 2, 3, 4, 5, 6, 9, 10, 13] : List Nat) → k ∈ ([1, 2, 3, 4, 5, 6, 7, 8, 9, 10, 11, 12, 13, 45, 46, 47, 48, 110, 111] : List Nat) := by decide
    exact w k hk
  · have := hR.2.2.1
    unfold WF at this ⊢
    rw [q 45 (by decide), q 46 (by decide), q 47 (by decide), q 48 (by decide)]
    exact this
  · unfold Bt
    rw [en, q 12 (by decide)]
    exact ⟨j, hj, ej⟩
  · have j1 : ∀ k, (k = 230 ∨ k = 231 ∨ k = 233 ∨ (240 ≤ k ∧ k ≤ 244)) → jn (imC2 σ) (imS σ) k = imC2 σ k := fun k hk => jn_1 (by omega)
    have j2 : ∀ k, (38 ≤ k ∧ k ≤ 44) → jn (imC2 σ) (imS σ) k = imS σ k := fun k hk => jn_2 (by omega)
    unfold Im
    rw [en, q 3 (by decide), j1 230 (by decide), j1 233 (by decide), j1 231 (by decide), j1 240 (by decide), j1 241 (by decide), j1 242 (by decide), j1 243 (by decide), j1 244 (by decide), j2 38 (by decide), j2 39 (by decide), j2 40 (by decide), j2 41 (by decide), j2 42 (by decide), j2 43 (by decide), j2 44 (by decide)]
    obtain ⟨s1, s2, s3, s4⟩ := im_sc (σ := σ)
    obtain ⟨c1, c2, c3, c4⟩ := imc_233 (σ := σ)
    refine Or.inr ⟨by rw [c4]; decide, nP σ, j, r, Nat.le_refl _, by rw [s1]; exact e13, by rw [c1]; exact e13, by rw [s2, c2], by rw [s2]; exact hN.1, by rw [s4]; exact e4, by rw [c3]; exact e4, by rw [e3, nI_clamp (by omega)]; exact hr, hj, by rw [s3]; exact ej, fun i hi => ?_, fun p hp => ?_, fun o ho => ?_, fun o p ho hp => ?_, fun p hp => ?_, fun p hp => ?_⟩
    · obtain ⟨i1, i2⟩ := im_39 (σ := σ) hi
      rw [i1, imc_231 hi]
      exact ⟨rfl, hN.2.1 i hi⟩
    · obtain ⟨p1, p2, p3, p4, p5⟩ := imc_p hp
      rw [p1, p2, p3, im_38 (by omega), im_38 (by omega), im_38 (by omega)]
      exact ⟨rfl, rfl, rfl, hN.2.2 p hp⟩
    · rw [(im_39 ho).2]; exact w7 o ho
    · obtain ⟨p1, p2, p3, p4, p5⟩ := imc_p hp
      rw [(im_39 ho).2, p4]
      exact hI.1 o p ho hp
    · obtain ⟨p1, p2, p3, p4, p5⟩ := imc_p hp
      rw [p4]
      exact hI.2.1 p hp
    · obtain ⟨p1, p2, p3, p4, p5⟩ := imc_p hp
      rw [p5]
      have a1 := hI.2.2 p hp
      have a2 : ab σ (nI p) = (nI j >>> (nI p &&& 31)) &&& 1 := by unfold ab; rw [ej]
      rw [← a2, a1]
      rcases ab01 σ (nI p) with y | y
      · rw [y]; rfl
      · rw [y]; rfl
  · unfold Nn
    rw [en, q 7 (by decide), q 8 (by decide), q 11 (by decide)]
    exact hN
/-! back -/
theorem ba_k {σ : ST} {j : Nat} (h : j ∉ ([4, 7, 8, 9, 11, 12, 13] : List Nat)) : baS σ j = σ j := by
  simp only [List.mem_cons, List.not_mem_nil, or_false, not_or] at h
  unfold baS
  rw [mup_k h.1, mup_k h.2.2.2.2.2.1, mup_k h.2.1, mup_k h.2.2.2.2.2.2, fo_key (fun i a => by rw [mup_k h.2.2.2.1, mup_k h.2.2.1]), fo_key (fun i a => mup_k h.2.2.2.2.1)]
theorem ba_11 {σ : ST} {q : Nat} (hq : q < 18) : baS σ 11 q = σ 38 q := by
  unfold baS
  rw [mup_k (by decide), mup_k (by decide), mup_k (by decide), mup_k (by decide), fo_key (fun i a => by rw [mup_k (by decide), mup_k (by decide)]), fo_cp (by decide), if_pos (by omega)]
theorem ba_8 {σ : ST} (q : Nat) : baS σ 8 q = (if q < 4 then σ 39 q else σ 8 q) ∧ baS σ 9 q = (if q < 4 then σ 40 q else σ 9 q) := by
  have kk : ∀ k, k ≠ 11 → fo (fun k (σ : ST) => mup σ 11 k (σ 38 k)) 18 0 σ k = σ k := fun k hk => fo_key (fun i a => mup_k hk) _ _ _
  have k8 := kk 8 (by decide)
  have k9 := kk 9 (by decide)
  have k39 := kk 39 (by decide)
  have k40 := kk 40 (by decide)
  unfold baS
  rw [mup_k (by decide), mup_k (by decide), mup_k (by decide), mup_k (by decide), mup_k (by decide), mup_k (by decide), mup_k (by decide), mup_k (by decide)]
  generalize fo (fun k (σ : ST) => mup σ 11 k (σ 38 k)) 18 0 σ = a at k8 k9 k39 k40 ⊢
  rw [← k8, ← k9, ← k39, ← k40]
  have go : ∀ (j i : Nat) (a : ST), fo (fun i (σ : ST) => mup (mup σ 8 i (σ 39 i)) 9 i (σ 40 i)) j i a 8 q = (if i ≤ q ∧ q < i + j then a 39 q else a 8 q) ∧ fo (fun i (σ : ST) => mup (mup σ 8 i (σ 39 i)) 9 i (σ 40 i)) j i a 9 q = (if i ≤ q ∧ q < i + j then a 40 q else a 9 q) := by
    intro j
    induction j with
    | zero => intro i a; rw [if_neg (by omega), if_neg (by omega)]; exact ⟨rfl, rfl⟩
    | succ j ih =>
      intro i a
      obtain ⟨h1, h2⟩ := ih (i + 1) (mup (mup a 8 i (a 39 i)) 9 i (a 40 i))
      rw [mup_k (by decide), mup_k (by decide), mup_k (by decide), mup_kk] at h1
      rw [mup_k (by decide), mup_k (by decide), mup_kk, mup_k (by decide)] at h2
      refine ⟨h1.trans ?_, h2.trans ?_⟩
      · by_cases c : q = i
        · rw [if_neg (by omega), if_pos c, if_pos (by omega), c]
        · by_cases c2 : i + 1 ≤ q ∧ q < i + 1 + j
          · rw [if_pos c2, if_pos (by omega)]
          · rw [if_neg c2, if_neg c, if_neg (by omega)]
      · by_cases c : q = i
        · rw [if_neg (by omega), if_pos c, if_pos (by omega), c]
        · by_cases c2 : i + 1 ≤ q ∧ q < i + 1 + j
          · rw [if_pos c2, if_pos (by omega)]
          · rw [if_neg c2, if_neg c, if_neg (by omega)]
  obtain ⟨g1, g2⟩ := go 4 0 a
  by_cases c : q < 4
  · rw [if_pos (by omega)] at g1 g2
    rw [if_pos c, if_pos c]
    exact ⟨g1, g2⟩
  · rw [if_neg (by omega)] at g1 g2
    rw [if_neg c, if_neg c]
    exact ⟨g1, g2⟩
theorem ba_sc {σ : ST} : baS σ 13 = mup σ 13 0 (σ 41 0) 13 ∧ baS σ 7 = mup σ 7 0 (σ 42 0) 7 ∧ baS σ 12 = mup σ 12 0 (σ 43 0) 12 ∧ baS σ 4 = mup σ 4 0 (σ 44 0) 4 := by
  have kk : ∀ k, k ≠ 11 → k ≠ 8 → k ≠ 9 → fo (fun i (σ : ST) => mup (mup σ 8 i (σ 39 i)) 9 i (σ 40 i)) 4 0 (fo (fun k (σ : ST) => mup σ 11 k (σ 38 k)) 18 0 σ) k = σ k := fun k h1 h2 h3 => by
    rw [fo_key (fun i a => by rw [mup_k h3, mup_k h2]), fo_key (fun i a => mup_k h1)]
  unfold baS
  generalize fo (fun i (σ : ST) => mup (mup σ 8 i (σ 39 i)) 9 i (σ 40 i)) 4 0 (fo (fun k (σ : ST) => mup σ 11 k (σ 38 k)) 18 0 σ) = a at kk
  refine ⟨?_, ?_, ?_, ?_⟩
  · rw [mup_k (by decide), mup_k (by decide), mup_k (by decide), mup_self, mup_self, kk 13 (by decide) (by decide) (by decide)]
  · rw [mup_k (by decide), mup_k (by decide), mup_self, mup_self, mup_k (by decide), kk 7 (by decide) (by decide) (by decide)]
  · rw [mup_k (by decide), mup_self, mup_self, mup_k (by decide), mup_k (by decide), kk 12 (by decide) (by decide) (by decide)]
  · rw [mup_self, mup_self, mup_k (by decide), mup_k (by decide), mup_k (by decide), kk 4 (by decide) (by decide) (by decide)]
/-- .. in the class -/
theorem bkD_at : ∀ (j i : Nat) (a : ST) (q : Nat), i ≤ q → q < i + j → fo bkD j i a 11 (3 * q) = a 240 q ∧ fo bkD j i a 11 (3 * q + 1) = a 241 q ∧ fo bkD j i a 11 (3 * q + 2) = a 242 q ∧ fo bkD j i a 110 q = a 243 q ∧ fo bkD j i a 111 q = (if a 244 q = 1 then 1 else 0) := by
  have miss : ∀ (j i : Nat) (a : ST) (q : Nat), q < i → (∀ t, t < 3 → fo bkD j i a 11 (3 * q + t) = a 11 (3 * q + t)) ∧ fo bkD j i a 110 q = a 110 q ∧ fo bkD j i a 111 q = a 111 q := by
    intro j
    induction j with
    | zero => intro i a q _; exact ⟨fun _ _ => rfl, rfl, rfl⟩
    | succ j ih =>
      intro i a q hq
      obtain ⟨h1, h2, h3⟩ := ih (i + 1) (bkD i a) q (by omega)
      refine ⟨fun t ht => (h1 t ht).trans ?_, h2.trans ?_, h3.trans ?_⟩
      · unfold bkD
        rw [mup_k (by decide), mup_k (by decide), mup_kk, if_neg (by omega), mup_kk, if_neg (by omega), mup_kk, if_neg (by omega)]
      · unfold bkD
        rw [mup_k (by decide), mup_kk, if_neg (by omega), mup_k (by decide), mup_k (by decide), mup_k (by decide)]
      · unfold bkD
        rw [mup_kk, if_neg (by omega), mup_k (by decide), mup_k (by decide), mup_k (by decide), mup_k (by decide)]
  intro j
  induction j with
  | zero => intro i a q h1 h2; omega
  | succ j ih =>
    intro i a q h1 h2
    by_cases c : q = i
    · subst c
      obtain ⟨g1, g2, g3⟩ := miss j (q + 1) (bkD q a) q (by omega)
      have e0 : fo bkD (j + 1) q a 11 (3 * q) = bkD q a 11 (3 * q) := g1 0 (by decide)
      have e1 : fo bkD (j + 1) q a 11 (3 * q + 1) = bkD q a 11 (3 * q + 1) := g1 1 (by decide)
      have e2 : fo bkD (j + 1) q a 11 (3 * q + 2) = bkD q a 11 (3 * q + 2) := g1 2 (by decide)
      have e3 : fo bkD (j + 1) q a 110 q = bkD q a 110 q := g2
      have e4 : fo bkD (j + 1) q a 111 q = bkD q a 111 q := g3
      rw [e0, e1, e2, e3, e4]
      unfold bkD
      refine ⟨?_, ?_, ?_, ?_, ?_⟩
      · rw [mup_k (by decide), mup_k (by decide), mup_kk, if_neg (by omega), mup_kk, if_neg (by omega), mup_kk, if_pos (by omega)]
      · rw [mup_k (by decide), mup_k (by decide), mup_kk, if_neg (by omega), mup_kk, if_pos rfl]
      · rw [mup_k (by decide), mup_k (by decide), mup_kk, if_pos rfl]
      · rw [mup_k (by decide), mup_kk, if_pos rfl]
      · rw [mup_kk, if_pos rfl]
    · have := ih (i + 1) (bkD i a) q (by omega) (by omega)
      rw [bkD_k (k := 240) (by decide) (by decide) (by decide), bkD_k (k := 241) (by decide) (by decide) (by decide), bkD_k (k := 242) (by decide) (by decide) (by decide), bkD_k (k := 243) (by decide) (by decide) (by decide), bkD_k (k := 244) (by decide) (by decide) (by decide)] at this
      exact this
theorem bkc_k {σ : ST} {j : Nat} (h : j ∉ ([4, 7, 8, 9, 11, 13, 110, 111] : List Nat)) : bkC σ j = σ j := by
  simp only [List.mem_cons, List.not_mem_nil, or_false, not_or] at h
  unfold bkC
  rw [fo_key (fun i a => bkD_k h.2.2.2.2.1 h.2.2.2.2.2.2.1 h.2.2.2.2.2.2.2), bkH_k h.2.2.2.2.2.1 h.2.1 h.1, bk0_k h.2.2.1 h.2.2.2.1]
theorem bkc_sc {σ : ST} : bkC σ 13 = mup σ 13 0 (σ 233 0) 13 ∧ bkC σ 7 = mup σ 7 0 (σ 233 1) 7 ∧ bkC σ 4 = mup σ 4 0 (σ 233 2) 4 := by
  have e : ∀ k, k ≠ 11 → k ≠ 110 → k ≠ 111 → bkC σ k = bkH (bk0 σ) k := fun k h1 h2 h3 => by
    unfold bkC
    rw [fo_key (fun i a => bkD_k h1 h2 h3)]
  have k0 : ∀ k, k ≠ 8 → k ≠ 9 → bk0 σ k = σ k := fun k h1 h2 => bk0_k h1 h2
  refine ⟨?_, ?_, ?_⟩
  · rw [e 13 (by decide) (by decide) (by decide)]
    unfold bkH
    rw [mup_k (by decide), mup_k (by decide), mup_self, mup_self, k0 13 (by decide) (by decide), k0 233 (by decide) (by decide)]
  · rw [e 7 (by decide) (by decide) (by decide)]
    unfold bkH
    rw [mup_k (by decide), mup_self, mup_self, mup_k (by decide), k0 7 (by decide) (by decide), k0 233 (by decide) (by decide)]
  · rw [e 4 (by decide) (by decide) (by decide)]
    unfold bkH
    rw [mup_self, mup_self, mup_k (by decide), mup_k (by decide), k0 4 (by decide) (by decide), k0 233 (by decide) (by decide)]
theorem bkc_8 {σ : ST} (q : Nat) : bkC σ 8 q = if q < 4 then σ 231 q else σ 8 q := by
  have e : bkC σ 8 = bk0 σ 8 := by
    unfold bkC
    rw [fo_key (fun i a => bkD_k (by decide) (by decide) (by decide)), bkH_k (by decide) (by decide) (by decide)]
  rw [e]
  unfold bk0
  rw [fo_cp (by decide)]
  have e1 : n9 σ 231 = σ 231 := n9_k (by decide)
  have e2 : n9 σ 8 = σ 8 := n9_k (by decide)
  rw [e1, e2]
  by_cases c : q < 4
  · rw [if_pos (by omega), if_pos c]
  · rw [if_neg (by omega), if_neg c]
theorem bkc_p {σ : ST} {n p : Nat} (en : σ 233 0 = nI n) (hn : n ≤ 6) (hp : p < n) : bkC σ 11 (3 * p) = σ 240 p ∧ bkC σ 11 (3 * p + 1) = σ 241 p ∧ bkC σ 11 (3 * p + 2) = σ 242 p ∧ bkC σ 110 p = σ 243 p ∧ bkC σ 111 p = (if σ 244 p = 1 then 1 else 0) := by
  have k0 : ∀ k, k ≠ 13 → k ≠ 7 → k ≠ 4 → k ≠ 8 → k ≠ 9 → bkH (bk0 σ) k = σ k := fun k h1 h2 h3 h4 h5 => (bkH_k h1 h2 h3).trans (bk0_k h4 h5)
  have enp : nP (bkH (bk0 σ)) = n := by
    show (bk0 σ 233 0).toNatClampNeg = n
    rw [bk0_k (by decide) (by decide), en, nI_clamp (by omega)]
  have h := bkD_at n 0 (bkH (bk0 σ)) p (Nat.zero_le _) (by omega)
  rw [k0 240 (by decide) (by decide) (by decide) (by decide) (by decide), k0 241 (by decide) (by decide) (by decide) (by decide) (by decide), k0 242 (by decide) (by decide) (by decide) (by decide) (by decide), k0 243 (by decide) (by decide) (by decide) (by decide) (by decide), k0 244 (by decide) (by decide) (by decide) (by decide) (by decide)] at h
  unfold bkC
  rw [enp]
  exact h
/-- the class's state behind back, with the reference's rows -/
def bkJ (σ : ST) : ST := fun k => if k = 11 then baS σ 11 else bkC σ k
section J4
variable {f : Nat} {sa : Nat → Nat} {x : Nat} {ca : Nat → Nat} {σ : ST} {h : zH} {m : Nat} {ad : Nat → Nat} {K : Int32 → Int32 → zH → Prop}
theorem J_image (ok : mOk m ad) (hf : 400 ≤ f) (hJ : JJ sa x ca m ad σ h) (hR : RR σ) (kk : ∀ r h2, FIN sa x ca m ad h2 → K r r h2) : zf0_image f h (some x) fun r h1 => zf8_image f h1 (some m) fun r2 h2 => K r r2 h2 := by
  obtain ⟨pa, rw, hC, go⟩ := J_go ok hJ
  refine D_image hf hR.ws hC fun h1 hC1 => ?_
  obtain ⟨hM, fin⟩ := go _ _ _ _ _ hC1
  refine O_image ok hf hM fun h2 hM2 => ?_
  refine kk _ _ (fin _ _ hM2 (fun k hk => ?_) (fun t k _ _ => congrFun (congrFun (Gm_of (im_k (by decide)) (im_k (by decide))) t) k) (RR_im hR))
  have w : ∀ k, k ∈ shk → k ∉ ([38, 39, 40, 41, 42, 43, 44] : List Nat) ∧ k < 230 := by decide
  rw [im_k (w k hk).1, imc_k (Or.inl (w k hk).2)]
theorem J_back (ok : mOk m ad) (hf : 400 ≤ f) (hJ : JJ sa x ca m ad σ h) (hR : RR σ) (kk : ∀ r h2, FIN sa x ca m ad h2 → K r r h2) : zf0_back f h (some x) fun r h1 => zf8_back f h1 (some m) fun r2 h2 => K r r2 h2 := by
  obtain ⟨pa, rw, hC, go⟩ := J_go ok hJ
  have hW := hR.ws
  obtain ⟨e13, hn6⟩ := nP_eq hW
  rcases hR.2.2.2.2.2.1 with ⟨i0, i1⟩ | ⟨i0, n, j, r, hn, i1, i2, i3, i4, i5, i6, hr, hj, i7, i8, i9, i10, i11, i12, i13⟩
  · refine D_back hf hW hR.wi hC (fun _ => ?_) (fun z => absurd i0 z)
    obtain ⟨hM, -⟩ := go _ _ _ _ _ hC
    exact O_back ok hf hM (fun _ => kk _ _ (J_id ok hJ hR hC hM (fun _ _ => rfl) (fun _ _ => rfl))) (fun z => absurd i1 z)
  · refine D_back hf hW hR.wi hC (fun z => absurd z i0) (fun _ h1 hC1 => ?_)
    obtain ⟨s13, s7, s12, s4⟩ := ba_sc (σ := σ)
    obtain ⟨c13, c7, c4⟩ := bkc_sc (σ := σ)
    have enc : nP (bkC σ) = n := by
      unfold nP
      rw [c13, mup_s0, i2, nI_clamp (by omega)]
    have hC2 : Ch sa x ca (Mm m ad) h (Gm σ) pa rw (bkJ σ) h1 := by
      have nk : ∀ k, k ≠ 11 → bkJ σ k = bkC σ k := fun k hk => if_neg hk
      refine hC1.agree (fun κ a => ⟨fun k k1 => ?_, fun i hi => ?_, fun k k1 => ?_, fun i hi => ?_⟩) (by unfold nP; rw [nk 13 (by decide)]) (fun p hp => ?_) (fun s _ => ?_) (by rw [nk 3 (by decide)])
      · rw [nk k (fun z => by subst z; revert k1; decide)]; exact a.1 k k1
      · rw [nk 8 (by decide)]; exact a.2.1 i hi
      · rw [nk k (by omega)]; exact a.2.2.1 k k1
      · rw [nk 6 (by decide)] at hi
        rw [nk 5 (by decide)]
        exact a.2.2.2 i hi
      · rw [enc] at hp
        obtain ⟨p1, p2, p3, p4, p5⟩ := bkc_p (σ := σ) i2 (by omega) hp
        obtain ⟨q1, q2, q3, q4, q5⟩ := i9 p hp
        have e11 : ∀ i, bkJ σ 11 i = baS σ 11 i := fun i => rfl
        unfold pcl
        rw [nk 10 (by decide), nk 110 (by decide), nk 111 (by decide), e11, e11, e11, ba_11 (by omega), ba_11 (by omega), ba_11 (by omega), q1, q2, q3, p1, p2, p3]
      · rw [nk 45 (by decide), nk 46 (by decide), nk 47 (by decide), nk 48 (by decide)]
        exact ⟨rfl, fun _ => ⟨rfl, rfl, fun _ _ => rfl⟩⟩
    obtain ⟨hM, fin⟩ := go _ _ _ _ _ hC2
    refine O_back ok hf hM (fun z => ?_) (fun _ h2 hM2 => ?_)
    · rw [i1] at z; exact absurd z (nIn1 (by omega))
    · rw [i2, i1]
      refine kk _ _ (fin _ _ hM2 (fun k hk => ?_) (fun t k _ _ => congrFun (congrFun (Gm_of (ba_k (by decide)) (ba_k (by decide))) t) k) ?_)
      · show baS σ k = bkJ σ k
        unfold bkJ
        by_cases c11 : k = 11
        · rw [if_pos c11, c11]
        · rw [if_neg c11]
          have w : ∀ k, k ∈ shk → k = 4 ∨ k = 7 ∨ k = 8 ∨ k = 11 ∨ k = 13 ∨ (k ∉ ([4, 7, 8, 9, 11, 12, 13] : List Nat) ∧ k ∉ ([4, 7, 8, 9, 11, 13, 110, 111] : List Nat)) := by decide
          rcases w k hk with rfl | rfl | rfl | rfl | rfl | ⟨y1, y2⟩
          · rw [s4, c4, i5, i6]
          · rw [s7, c7, i3]
          · funext q
            rw [(ba_8 q).1, bkc_8 q]
            by_cases c : q < 4
            · rw [if_pos c, if_pos c]; exact (i8 q c).1
            · rw [if_neg c, if_neg c]
          · exact absurd rfl c11
          · rw [s13, c13, i1, i2]
          · rw [ba_k y1, bkc_k y2]
      · have b2 : ∀ k, ¬ (k = 110 ∨ k = 111 ∨ 200 < k) → jn (bkJ σ) (baS σ) k = baS σ k := fun k hk => jn_2 hk
        have b1 : ∀ k, (k = 110 ∨ k = 111 ∨ 200 < k) → jn (bkJ σ) (baS σ) k = bkC σ k := fun k hk => by
          rw [jn_1 hk]
          exact if_neg (by omega)
        have old : ∀ k, k ∈ ([1, 2, 3, 5, 6, 10, 38, 39, 40, 41, 42, 43, 44, 45, 46, 47, 48, 230, 231, 233, 240, 241, 242, 243, 244] : List Nat) → jn (bkJ σ) (baS σ) k = σ k := fun k hk => by
          have w : ∀ k, k ∈ ([1, 2, 3, 5, 6, 10, 38, 39, 40, 41, 42, 43, 44, 45, 46, 47, 48, 230, 231, 233, 240, 241, 242, 243, 244] : List Nat) → k ∉ ([4, 7, 8, 9, 11, 12, 13] : List Nat) ∧ k ∉ ([4, 7, 8, 9, 11, 13, 110, 111] : List Nat) := by decide
          by_cases c : k = 110 ∨ k = 111 ∨ 200 < k
          · rw [b1 k c]; exact bkc_k (w k hk).2
          · rw [b2 k c]; exact ba_k (w k hk).1
        have v13 : jn (bkJ σ) (baS σ) 13 0 = nI n := by rw [b2 13 (by decide), s13, mup_s0, i1]
        have v12 : jn (bkJ σ) (baS σ) 12 0 = nI j := by rw [b2 12 (by decide), s12, mup_s0, i7]
        have v4 : jn (bkJ σ) (baS σ) 4 0 = nI r := by rw [b2 4 (by decide), s4, mup_s0, i5]
        have v9 : ∀ o, o < 4 → jn (bkJ σ) (baS σ) 9 o = σ 40 o := fun o ho => by rw [b2 9 (by decide), (ba_8 o).2, if_pos ho]
        have v110 : ∀ p, p < n → jn (bkJ σ) (baS σ) 110 p = σ 243 p := fun p hp => by rw [b1 110 (by decide)]; exact (bkc_p i2 (by omega) hp).2.2.2.1
        have v111 : ∀ p, p < n → jn (bkJ σ) (baS σ) 111 p = (if σ 244 p = 1 then 1 else 0) := fun p hp => by rw [b1 111 (by decide)]; exact (bkc_p i2 (by omega) hp).2.2.2.2
        have en : nP (jn (bkJ σ) (baS σ)) = n := by unfold nP; rw [v13, nI_clamp (by omega)]
        obtain ⟨w1, ⟨c, r0, hc, e3, hr0, e4⟩, w3, w4, w5, w6, w7, w8⟩ := id hW
        have hrc : r < c := by rw [e3, nI_clamp (by omega)] at hr; exact hr
        have a01 : ∀ p, (nI j >>> (nI p &&& 31)) &&& 1 = 0 ∨ (nI j >>> (nI p &&& 31)) &&& 1 = 1 := fun p => by
          have := ab01 (fun _ _ => nI j) (nI p)
          exact this
        refine ⟨?_, WH_of hR.2.1 (old 45 (by decide)) (old 46 (by decide)) (old 47 (by decide)), ?_, ⟨fun o p ho hp => ?_, fun p hp => ?_, fun p hp => ?_⟩, ⟨j, by rw [en]; exact hj, v12⟩, ?_, ?_, fun i hi => ?_, fun p hp => ?_⟩
        · unfold WS
          rw [en, old 1 (by decide), old 2 (by decide), old 3 (by decide), old 5 (by decide), old 6 (by decide), old 10 (by decide)]
          refine ⟨⟨n, by omega, v13⟩, ⟨c, r, hc, e3, hrc, v4⟩, w3, w4, w5, w6, fun o ho => ?_, w8⟩
          rw [v9 o ho]
          exact i10 o ho
        · have := hR.2.2.1
          unfold WF at this ⊢
          rw [old 45 (by decide), old 46 (by decide), old 47 (by decide), old 48 (by decide)]
          exact this
        · rw [en] at hp
          rw [v9 o ho, v110 p hp]
          exact i11 o p ho hp
        · rw [en] at hp
          rw [v110 p hp]
          exact i12 p hp
        · rw [en] at hp
          unfold ab
          rw [v111 p hp, v12, i13 p hp]
          rcases a01 p with y | y
          · rw [y]; rfl
          · rw [y]; rfl
        · unfold Im
          rw [en, old 230 (by decide), old 41 (by decide), old 233 (by decide), old 42 (by decide), old 44 (by decide), old 3 (by decide), old 43 (by decide), old 39 (by decide), old 231 (by decide), old 38 (by decide), old 240 (by decide), old 241 (by decide), old 242 (by decide), old 40 (by decide), old 243 (by decide), old 244 (by decide)]
          exact Or.inr ⟨i0, n, j, r, Nat.le_refl _, i1, i2, i3, i4, i5, i6, hr, hj, i7, i8, i9, i10, i11, i12, i13⟩
        · rw [b2 7 (by decide), s7, mup_s0]
          exact i4
        · rw [b2 8 (by decide), (ba_8 i).1, if_pos hi]
          exact (i8 i hi).2
        · rw [en] at hp
          rw [b2 11 (by decide), ba_11 (by omega), (i9 p hp).2.2.1]
          exact (i9 p hp).2.2.2
end J4
