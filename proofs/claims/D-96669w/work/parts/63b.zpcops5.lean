/-! THE CLASS's CALLS: image -/
set_option maxRecDepth 100000
theorem hup_hup (h : zH) (a : Nat) (e e' : zE) : hup (hup h a e) a e' = hup h a e' := by
  funext q
  by_cases z : q = a
  · rw [z, hup_self, hup_self]
  · rw [hup_ne _ _ z, hup_ne _ _ z, hup_ne _ _ z]
theorem cp4 {h : zH} {a0 a1 : Nat} {g0 g1 : Nat → Int32} {P : zH → Prop} (h0 : h a0 = some (.inl (0, 4, .inl g0))) (h1 : h a1 = some (.inl (0, 4, .inl g1))) (z : astI h (some a1) 0 0 (g0 0) fun h => astI h (some a1) 0 1 (g0 1) fun h => astI h (some a1) 0 2 (g0 2) fun h => astI h (some a1) 0 3 (g0 3) P) : cpI h (some a0) 0 (some a1) 0 4 P := by
  refine ⟨a0, a1, 0, 4, 4, .int, g0, g1, rfl, rfl, rfl, rfl, h0, h1, by decide, by decide, by decide, by decide, by decide, fun i _ => rfl, ?_⟩
  have ast : ∀ {h : zH} {g : Nat → Int32} {i v : Int32} {P : zH → Prop}, h a1 = some (.inl (0, 4, .inl g)) → astI h (some a1) 0 i v P → P (hup h a1 (.inl (0, 4, .inl (upd g i.toNatClampNeg v)))) := by
    intro h g i v P ha z
    obtain ⟨a', n', g', e1, e2, e3, e4⟩ := z
    cases e1
    rw [ha] at e2
    cases e2
    exact e4
  have z := ast h1 z
  have z := ast (hup_self _ _ _) z
  rw [hup_hup] at z
  have z := ast (hup_self _ _ _) z
  rw [hup_hup] at z
  have z := ast (hup_self _ _ _) z
  rw [hup_hup] at z
  have e : va_cpy g0 g1 (0 : Int32).toNatClampNeg (0 : Int32).toNatClampNeg (4 : Int32).toNatClampNeg = upd (upd (upd (upd g1 (0 : Int32).toNatClampNeg (g0 0)) (1 : Int32).toNatClampNeg (g0 1)) (2 : Int32).toNatClampNeg (g0 2)) (3 : Int32).toNatClampNeg (g0 3) := by
    funext i
    show va_cpy g0 g1 0 0 4 i = upd (upd (upd (upd g1 0 (g0 0)) 1 (g0 1)) 2 (g0 2)) 3 (g0 3) i
    unfold va_cpy upd
    by_cases c : i < 4
    · have : i = 0 ∨ i = 1 ∨ i = 2 ∨ i = 3 := by omega
      rcases this with rfl | rfl | rfl | rfl <;> rfl
    · rw [if_neg (by omega), if_neg (by omega), if_neg (by omega), if_neg (by omega), if_neg (by omega)]
  rw [e]
  exact z
def imD : Nat → ST → ST := fun p σ => mup (mup (mup (mup (mup σ 240 p (σ 11 (3 * p))) 241 p (σ 11 (3 * p + 1))) 242 p (σ 11 (3 * p + 2))) 243 p (σ 110 p)) 244 p (if σ 111 p = 0 then 0 else 1)
def imC0 (σ : ST) : ST := fo (fun i σ => mup σ 231 i (σ 8 i)) 4 0 σ
def imC1 (σ : ST) : ST := fo imD (nP σ) 0 (imC0 σ)
def imF (σ : ST) : ST := mup (mup (mup (mup σ 233 0 (σ 13 0)) 233 1 (σ 7 0)) 233 2 (σ 4 0)) 230 0 1
def imC2 (σ : ST) : ST := imF (imC1 σ)
theorem imC0_k {σ : ST} {k : Nat} (hk : k ≠ 231) : imC0 σ k = σ k := by
  unfold imC0
  exact fo_key (fun i a => if_neg hk) _ _ _
theorem imD_k {σ : ST} {p k : Nat} (hk : k < 240 ∨ 244 < k) : imD p σ k = σ k := by
  unfold imD
  rw [mup_k (by omega), mup_k (by omega), mup_k (by omega), mup_k (by omega), mup_k (by omega)]
theorem imC1_k {σ : ST} {k : Nat} (hk : k < 231) : imC1 σ k = σ k := by
  unfold imC1
  rw [fo_key (fun i a => imD_k (Or.inl (by omega))), imC0_k (by omega)]
section D5
variable {f : Nat} {sa : Nat → Nat} {x : Nat} {ca : Nat → Nat} {Md : Nat → Prop} {b0 : zH} {G : TG} {pa : Nat → Nat} {rw : Nat → Option Nat} {σ : ST} {h : zH} {K : Int32 → zH → Prop}
theorem C_s2 (hh : Ch sa x ca Md b0 G pa rw σ h) {k n : Nat} (hk : (k, 0, n) ∈ cia) (h2 : 220 < k) {i : Nat} (hi : i < n) {v : Int32} {P : zH → Prop} (kk : ∀ h', Ch sa x ca Md b0 G pa rw (mup σ k i v) h' → P h') : astI h (some (ca k)) 0 (nI i) v P := by
  have hn : n ≤ 160 := by
    have : ∀ e ∈ cia, e.2.2 ≤ 160 := by decide
    exact this _ hk
  have e : (nI i).toNatClampNeg = i := nI_clamp (by omega)
  refine C_st (σ' := mup σ k i v) hh hk (vp_in_nI hi (by omega)) (fun κ a => ?_) (sameP_mup ?_) kk
  · rw [e]
    exact agr_mup a (by omega) (by omega) (by omega)
  · simp only [List.mem_cons, List.not_mem_nil, or_false, not_or]
    omega
theorem C_cp8 (hh : Ch sa x ca Md b0 G pa rw σ h) {P : zH → Prop} (kk : ∀ h', Ch sa x ca Md b0 G pa rw (imC0 σ) h' → P h') : cpI h (some (ca 8)) 0 (some (ca 231)) 0 4 P := by
  obtain ⟨κ, lab, a1, a2, a3, -⟩ := id hh
  refine cp4 (a3 (8, 0, 4) (by decide)).1 (a3 (231, 0, 4) (by decide)).1 ?_
  rw [a1.2.1 0 (by decide), a1.2.1 1 (by decide), a1.2.1 2 (by decide), a1.2.1 3 (by decide)]
  refine C_s2 (i := 0) hh (show (231, 0, 4) ∈ cia by decide) (by decide) (by decide) fun h1 hh1 => ?_
  refine C_s2 (i := 1) hh1 (show (231, 0, 4) ∈ cia by decide) (by decide) (by decide) fun h2 hh2 => ?_
  refine C_s2 (i := 2) hh2 (show (231, 0, 4) ∈ cia by decide) (by decide) (by decide) fun h3 hh3 => ?_
  refine C_s2 (i := 3) hh3 (show (231, 0, 4) ∈ cia by decide) (by decide) (by decide) fun h4 hh4 => ?_
  exact kk h4 hh4
theorem WS_imD (hW : WS σ) (p : Nat) : WS (imD p σ) := WS_ge hW fun k h1 h2 => imD_k (Or.inl (by omega))
theorem nP_imD (p : Nat) : nP (imD p σ) = nP σ := by
  unfold nP
  rw [imD_k (Or.inl (by omega))]
theorem C_im (hh : Ch sa x ca Md b0 G pa rw σ h) : (∀ P : Option Nat → Prop, aldR h (some (ca 32)) 8 0 P = P (some (ca 240))) ∧ (∀ P : Option Nat → Prop, aldR h (some (ca 32)) 8 1 P = P (some (ca 241))) ∧ (∀ P : Option Nat → Prop, aldR h (some (ca 32)) 8 2 P = P (some (ca 242))) ∧ (∀ P : Option Nat → Prop, aldR h (some (ca 32)) 8 3 P = P (some (ca 243))) ∧ (∀ P : Option Nat → Prop, aldR h (some (ca 32)) 8 4 P = P (some (ca 244))) := by
  have rd : ∀ (k : Nat), k < 5 → ∀ (P : Option Nat → Prop), aldR h (some (ca 32)) 8 (nI k) P = P (some (ca (240 + k))) := by
    intro k hk P
    rw [C_ldR hh (show (32, 8, 5) ∈ cra by decide) (by decide), nI_clamp (by omega)]
    have e : crf sa ca 32 k = some (ca (240 + k)) := rfl
    rw [e]
    exact propext ⟨fun z => z.2, fun z => ⟨vp_in_nI (by omega) (by omega), z⟩⟩
  exact ⟨rd 0 (by decide), rd 1 (by decide), rd 2 (by decide), rd 3 (by decide), rd 4 (by decide)⟩
theorem C_imD (hf : 400 ≤ f) {R : zH → Option Nat → Int32 → Prop} (hW : WS σ) (hh : Ch sa x ca Md b0 G pa rw σ h) {p : Nat} (hp : p < nP σ) (kk : ∀ h', Ch sa x ca Md b0 G pa rw (imD p σ) h' → R h' (some x) (nI (p + 1))) : zb0_image_16 f K R h (some x) (nI p) := by
  have hn := (nP_eq hW).2
  have e13 := (nP_eq hW).1
  unfold zb0_image_16
  have hkc := kc6 hW (p := p) (by omega)
  simp only [zcQ hh]
  rw [e13, if_pos ((nI_ltI (by omega) (by omega)).mpr hp)]
  simp only [C_im hh, C_pa hh hn hp, C_pI hh hp hkc (k := 0) rfl]
  refine C_s2 hh (show (240, 0, 6) ∈ cia by decide) (by decide) (by omega) fun h1 hh1 => ?_
  simp only [zcQ hh1, C_im hh1, C_pa hh1 hn hp, C_pI hh1 hp hkc (k := 1) rfl]
  refine C_s2 hh1 (show (241, 0, 6) ∈ cia by decide) (by decide) (by omega) fun h2 hh2 => ?_
  simp only [zcQ hh2, C_im hh2, C_pa hh2 hn hp, C_pI hh2 hp hkc (k := 2) rfl]
  refine C_s2 hh2 (show (242, 0, 6) ∈ cia by decide) (by decide) (by omega) fun h3 hh3 => ?_
  simp only [zcQ hh3, C_im hh3, C_pa hh3 hn hp, C_pI hh3 hp hkc (k := 3) rfl]
  refine C_s2 hh3 (show (243, 0, 6) ∈ cia by decide) (by decide) (by omega) fun h4 hh4 => ?_
  simp only [zcQ hh4, C_im hh4, C_pa hh4 hn hp, C_pI hh4 hp hkc (k := 4) rfl]
  have fin : ∀ v : Int32, v = (if σ 111 p = 0 then 0 else 1) → zj0_image_116 f R K h4 (some x) (nI p) v (nI p) (some (ca 244)) := by
    intro v hv
    unfold zj0_image_116
    refine C_s2 hh4 (show (244, 0, 6) ∈ cia by decide) (by decide) (by omega) fun h5 hh5 => ?_
    simp only [nm_eq, nI_1]
    rw [hv] at hh5
    exact kk h5 hh5
  by_cases c : σ 111 p = 0
  · refine (if_pos (show (σ 111 p) = 0 from c)).mpr ?_
    exact fin 0 (by rw [if_pos c])
  · exact (if_neg c).mpr (fin 1 (by rw [if_neg c]))
theorem D_image (hf : 400 ≤ f) (hW : WS σ) (hh : Ch sa x ca Md b0 G pa rw σ h) (kk : ∀ h', Ch sa x ca Md b0 G pa rw (imC2 σ) h' → K (σ 13 0) h') : zf0_image f h (some x) K := by
  unfold zf0_image
  simp only [zcQ hh]
  refine C_cp8 hh fun h1 hh1 => ?_
  have e13 := (nP_eq hW).1
  have hn := (nP_eq hW).2
  have go : ∀ (j p g : Nat) (σ1 : ST) (h : zH), p + j = nP σ → j < g → nP σ1 = nP σ → WS σ1 → Ch sa x ca Md b0 G pa rw σ1 h → (fo imD j p σ1 13 = σ 13) → (∀ h', Ch sa x ca Md b0 G pa rw (imF (fo imD j p σ1)) h' → K (σ 13 0) h') → zl0_image_16 f K g h (some x) (nI p) := by
    intro j
    induction j with
    | zero =>
      intro p g σ1 h h1 h2 h3 hW1 hh e kk
      obtain ⟨g, rfl⟩ : ∃ g', g = g' + 1 := ⟨g - 1, by omega⟩
      have e : σ1 13 = σ 13 := e
      have kk : ∀ h', Ch sa x ca Md b0 G pa rw (imF σ1) h' → K (σ 13 0) h' := kk
      show zb0_image_16 f K (zl0_image_16 f K g) h (some x) (nI p)
      unfold zb0_image_16
      simp only [zcQ hh]
      rw [if_neg (fun z => by rw [(nP_eq hW1).1] at z; have := (nI_ltI (by omega) (by omega)).mp z; omega)]
      refine C_s2 (i := 0) hh (show (233, 0, 3) ∈ cia by decide) (by decide) (by decide) fun h1 hh1 => ?_
      simp only [zcQ hh1]
      refine C_s2 (i := 1) hh1 (show (233, 0, 3) ∈ cia by decide) (by decide) (by decide) fun h2 hh2 => ?_
      simp only [zcQ hh2]
      refine C_s2 (i := 2) hh2 (show (233, 0, 3) ∈ cia by decide) (by decide) (by decide) fun h3 hh3 => ?_
      refine C_pf (q := 230) hh3 (by decide) (fun κ a => agr_mup a (by decide) (by decide) (by decide)) (sameP_mup (by decide)) fun h4 hh4 => ?_
      simp only [zcQ hh4]
      have := kk h4 hh4
      rw [← e] at this
      exact this
    | succ j ih =>
      intro p g σ1 h h1 h2 h3 hW1 hh e kk
      obtain ⟨g, rfl⟩ : ∃ g', g = g' + 1 := ⟨g - 1, by omega⟩
      show zb0_image_16 f K (zl0_image_16 f K g) h (some x) (nI p)
      exact C_imD hf hW1 hh (by omega) fun h' hh' => ih (p + 1) g (imD p σ1) h' (by omega) (by omega) ((nP_imD p).trans h3) (WS_imD hW1 p) hh' e kk
  exact go (nP σ) 0 f (imC0 σ) h1 (by omega) (by omega) (by unfold nP; rw [imC0_k (by decide)]) (WS_ge hW fun k h1 h2 => imC0_k (by omega)) hh1 (imC1_k (by decide)) kk
end D5
