/-! THE CLASS's CALLS: the search: its tables -/
set_option maxRecDepth 100000
def smC (G : TG) (σ : ST) (p o : Nat) : Int32 := if σ 111 p = 1 then 0 else sm G σ p (nI o)
def htC (G : TG) (σ : ST) (p q o : Nat) : Int32 := if p = q then 0 else qrC G σ (nI p) (nI q) (nI o)
def TBc (G : TG) (σ σ1 : ST) (p : Nat) : Prop := σ1 223 p = ct G σ p ∧ (∀ o, o < 4 → σ1 (300 + p) o = smC G σ p o) ∧ ∀ o q, o < 4 → q < nP σ → σ1 (310 + (6 * o + p)) q = htC G σ p q o
def offU (σ1 σ : ST) : Prop := ∀ k, k ≠ 223 → (k < 300 ∨ 333 < k) → σ1 k = σ k
theorem cra380 : ∀ o, o < 4 → (380 + o, 9, 6) ∈ cra := by decide
theorem cia310 : ∀ o, o < 4 → ∀ p, p < 6 → (310 + (6 * o + p), 3, 6) ∈ cia := by decide
theorem cia300 : ∀ p, p < 6 → (300 + p, 0, 4) ∈ cia := by decide
theorem qrC_of {G : TG} {σ σ' : ST} (h4 : σ' 4 = σ 4) (h11 : σ' 11 = σ 11) (h111 : σ' 111 = σ 111) (x y o : Int32) : qrC G σ' x y o = qrC G σ x y o := by
  unfold qrC qrX qv
  rw [asq_of h4 h11, h11, h111]
section CT
variable {f : Nat} {sa : Nat → Nat} {x : Nat} {ca : Nat → Nat} {Md : Nat → Prop} {b0 : zH} {G : TG} {pa : Nat → Nat} {rw : Nat → Option Nat} {σ : ST} {h : zH}
theorem C_s3 (hh : Ch sa x ca Md b0 G pa rw σ h) {k t n : Nat} (hk : (k, t, n) ∈ cia) (h2 : 220 < k) {i : Nat} (hi : i < n) {v : Int32} {P : zH → Prop} (kk : ∀ h', Ch sa x ca Md b0 G pa rw (mup σ k i v) h' → P h') : astI h (some (ca k)) t (nI i) v P := by
  have hn : n ≤ 160 := by
    have : ∀ e ∈ cia, e.2.2 ≤ 160 := by decide
    exact this _ hk
  have e : (nI i).toNatClampNeg = i := nI_clamp (by omega)
  refine C_st (σ' := mup σ k i v) hh hk (vp_in_nI hi (by omega)) (fun κ a => ?_) (sameP_mup ?_) kk
  · rw [e]
    exact agr_mup a (by omega) (by omega) (by omega)
  · simp only [List.mem_cons, List.not_mem_nil, or_false, not_or]
    omega
theorem C_t22 (hh : Ch sa x ca Md b0 G pa rw σ h) {p : Nat} (hp : p < 6) (P : Option Nat → Prop) : aldR h (some (ca 22)) 8 (nI p) P = P (some (ca (300 + p))) := by
  rw [C_ldR hh (show (22, 8, 6) ∈ cra by decide) (by decide), nI_clamp (by omega)]
  have e : crf sa ca 22 p = some (ca (300 + p)) := rfl
  rw [e]
  exact propext ⟨fun z => z.2, fun z => ⟨vp_in_nI (by omega) (by omega), z⟩⟩
theorem C_t24 (hh : Ch sa x ca Md b0 G pa rw σ h) {o : Nat} (ho : o < 4) (P : Option Nat → Prop) : aldR h (some (ca 24)) 10 (nI o) P = P (some (ca (380 + o))) := by
  rw [C_ldR hh (show (24, 10, 4) ∈ cra by decide) (by decide), nI_clamp (by omega)]
  have e : crf sa ca 24 o = some (ca (380 + o)) := rfl
  rw [e]
  exact propext ⟨fun z => z.2, fun z => ⟨vp_in_nI (by omega) (by omega), z⟩⟩
theorem C_t9 (hh : Ch sa x ca Md b0 G pa rw σ h) {o p : Nat} (ho : o < 4) (hp : p < 6) (P : Option Nat → Prop) : aldR h (some (ca (380 + o))) 9 (nI p) P = P (some (ca (310 + (6 * o + p)))) := by
  rw [C_ldR hh (cra380 o ho) (by decide), nI_clamp (by omega)]
  have e : crf sa ca (380 + o) p = some (ca (310 + (6 * o + p))) := by
    unfold crf
    rw [if_neg (by omega), if_neg (by omega), if_neg (by omega), if_neg (by omega), if_neg (by omega), if_neg (by omega), show 380 + o - 380 = o by omega]
  rw [e]
  exact propext ⟨fun z => z.2, fun z => ⟨vp_in_nI (by omega) (by omega), z⟩⟩
theorem C_tells (hf : 400 ≤ f) (hW : WS σ) (hB : WB σ) (hh : Ch sa x ca Md b0 G pa rw σ h) {K : zH → Prop} (kk : ∀ σ1 h', Ch sa x ca Md b0 G pa rw σ1 h' → offU σ1 σ → (∀ p, p < nP σ → TBc G σ σ1 p) → K h') : zf0_tellsAll f h (some x) K := by
  obtain ⟨h13, hn⟩ := nP_eq hW
  have facts : ∀ σ1, offU σ1 σ → WS σ1 ∧ WB σ1 ∧ σ1 4 = σ 4 ∧ σ1 10 = σ 10 ∧ σ1 11 = σ 11 ∧ σ1 111 = σ 111 ∧ σ1 13 = σ 13 := fun σ1 ho => ⟨WS_ge hW fun k h1 h2 => ho k (by omega) (by omega), WB_of hB (ho 13 (by decide) (by decide)) (ho 111 (by decide) (by decide)), ho 4 (by decide) (by decide), ho 10 (by decide) (by decide), ho 11 (by decide) (by decide), ho 111 (by decide) (by decide), ho 13 (by decide) (by decide)⟩
  have up : ∀ {σ1 k i v}, offU σ1 σ → (k = 223 ∨ (300 ≤ k ∧ k ≤ 333)) → offU (mup σ1 k i v) σ := fun ho hk j h1 h2 => by
    rw [mup_k (by omega)]
    exact ho j h1 h2
  have l44 : ∀ (R2 : zH → Option Nat → Int32 → Prop) (R23 : zH → Option Nat → Int32 → Int32 → Prop) (p o : Nat), p < nP σ → o < 4 → ∀ (j q g : Nat) (σ1 : ST) (h : zH), q + j = nP σ → j < g → Ch sa x ca Md b0 G pa rw σ1 h → offU σ1 σ → (∀ p', p' < p → TBc G σ σ1 p') → σ1 223 p = ct G σ p → (∀ o', o' < o + 1 → σ1 (300 + p) o' = smC G σ p o') → (∀ o' q', o' < o → q' < nP σ → σ1 (310 + (6 * o' + p)) q' = htC G σ p q' o') → (∀ q', q' < q → σ1 (310 + (6 * o + p)) q' = htC G σ p q' o) → (∀ σ2 h', Ch sa x ca Md b0 G pa rw σ2 h' → offU σ2 σ → (∀ p', p' < p → TBc G σ σ2 p') → σ2 223 p = ct G σ p → (∀ o', o' < o + 1 → σ2 (300 + p) o' = smC G σ p o') → (∀ o' q', o' < o + 1 → q' < nP σ → σ2 (310 + (6 * o' + p)) q' = htC G σ p q' o') → R23 h' (some x) (nI p) (nI (o + 1))) → zl0_tellsAll_44 f R2 R23 K g h (some x) (nI p) (nI o) (nI q) := by
    intro R2 R23 p o hp ho j
    induction j with
    | zero =>
      intro q g σ1 h h1 h2 hh hu t1 t2 t3 t4 t5 kk
      obtain ⟨g, rfl⟩ : ∃ g', g = g' + 1 := ⟨g - 1, by omega⟩
      show zb0_tellsAll_44 f R2 R23 K (zl0_tellsAll_44 f R2 R23 K g) h (some x) (nI p) (nI o) (nI q)
      unfold zb0_tellsAll_44
      simp only [zcQ hh]
      rw [(facts σ1 hu).2.2.2.2.2.2, h13, if_neg (fun z => by have := (nI_ltI (by omega) (by omega)).mp z; omega)]
      simp only [nm_eq, nI_1]
      refine kk σ1 h hh hu t1 t2 t3 fun o' q' a1 a2 => ?_
      by_cases c : o' = o
      · rw [c]; exact t5 q' (by omega)
      · exact t4 o' q' (by omega) a2
    | succ j ih =>
      intro q g σ1 h h1 h2 hh hu t1 t2 t3 t4 t5 kk
      obtain ⟨g, rfl⟩ : ∃ g', g = g' + 1 := ⟨g - 1, by omega⟩
      show zb0_tellsAll_44 f R2 R23 K (zl0_tellsAll_44 f R2 R23 K g) h (some x) (nI p) (nI o) (nI q)
      unfold zb0_tellsAll_44
      obtain ⟨w1, w2, w3, w4, w5, w6, w7⟩ := facts σ1 hu
      have en : nP σ1 = nP σ := by unfold nP; rw [w7]
      simp only [zcQ hh, C_t24 hh ho, C_t9 hh ho (show p < 6 by omega)]
      rw [w7, h13, if_pos ((nI_ltI (by omega) (by omega)).mpr (by omega))]
      have st : ∀ (v : Int32) h', v = 0 ∨ v = 1 → v = htC G σ p q o → Ch sa x ca Md b0 G pa rw σ1 h' → zj0_tellsAll_81 f R2 R23 (zl0_tellsAll_44 f R2 R23 K g) K h' (some x) (nI p) (nI o) (nI q) v (nI q) (some (ca (310 + (6 * o + p)))) := by
        intro v h' hv hv2 hh'
        unfold zj0_tellsAll_81
        rw [vpn01 hv]
        refine C_s3 hh' (cia310 o ho p (by omega)) (by omega) (by omega) fun h3 hh3 => ?_
        simp only [nm_eq, nI_1]
        have uk : ∀ k, k ≠ 310 + (6 * o + p) → mup σ1 (310 + (6 * o + p)) q v k = σ1 k := fun k hk => mup_k hk
        refine ih (q + 1) g _ h3 (by omega) (by omega) hh3 (up hu (by omega)) (fun p' hp' => ?_) (by rw [uk 223 (by omega)]; exact t2) (fun o' ho' => by rw [uk (300 + p) (by omega)]; exact t3 o' ho') (fun o' q' a1 a2 => by rw [uk _ (by omega)]; exact t4 o' q' a1 a2) (fun q' a1 => ?_) kk
        · obtain ⟨s1, s2, s3⟩ := t1 p' hp'
          refine ⟨by rw [uk 223 (by omega)]; exact s1, fun o' ho' => by rw [uk (300 + p') (by omega)]; exact s2 o' ho', fun o' q' a1 a2 => ?_⟩
          rw [uk _ (by omega)]
          exact s3 o' q' a1 a2
        · rw [mup_kk]
          by_cases c : q' = q
          · rw [if_pos c, c]; exact hv2
          · rw [if_neg c]; exact t5 q' (by omega)
      by_cases c : p = q
      · rw [if_pos (by rw [c])]
        unfold zj0_tellsAll_80
        exact st 0 h (Or.inl rfl) (by unfold htC; rw [if_pos c]) hh
      · rw [if_neg (fun z => c ((nI_eq (by omega) (by omega)).mp z))]
        refine C_doQuarrel w1 w2 hh (by omega) (by omega) fun h' hh' => ?_
        rw [qrC_of w3 w5 w6]
        rcases qrC01 G σ (nI p) (nI q) (nI o) with z | z
        · rw [if_pos z]
          unfold zj0_tellsAll_80
          exact st 0 h' (Or.inl rfl) (by unfold htC; rw [if_neg c, z]) hh'
        · rw [if_neg (by rw [z]; decide)]
          exact st 1 h' (Or.inr rfl) (by unfold htC; rw [if_neg c, z]) hh'
  have l23 : ∀ (R2 : zH → Option Nat → Int32 → Prop) (p : Nat), p < nP σ → ∀ (j o g : Nat) (σ1 : ST) (h : zH), o + j = 4 → j < g → Ch sa x ca Md b0 G pa rw σ1 h → offU σ1 σ → (∀ p', p' < p → TBc G σ σ1 p') → σ1 223 p = ct G σ p → (∀ o', o' < o → σ1 (300 + p) o' = smC G σ p o') → (∀ o' q', o' < o → q' < nP σ → σ1 (310 + (6 * o' + p)) q' = htC G σ p q' o') → (∀ σ2 h', Ch sa x ca Md b0 G pa rw σ2 h' → offU σ2 σ → (∀ p', p' < p + 1 → TBc G σ σ2 p') → R2 h' (some x) (nI (p + 1))) → zl0_tellsAll_23 f R2 K g h (some x) (nI p) (nI o) := by
    intro R2 p hp j
    induction j with
    | zero =>
      intro o g σ1 h h1 h2 hh hu t1 t2 t3 t4 kk
      obtain ⟨g, rfl⟩ : ∃ g', g = g' + 1 := ⟨g - 1, by omega⟩
      show zb0_tellsAll_23 f R2 K (zl0_tellsAll_23 f R2 K g) h (some x) (nI p) (nI o)
      unfold zb0_tellsAll_23
      have e : o = 4 := by omega
      subst e
      rw [if_neg (by decide)]
      simp only [nm_eq, nI_1]
      refine kk σ1 h hh hu fun p' hp' => ?_
      by_cases c : p' = p
      · rw [c]; exact ⟨t2, t3, t4⟩
      · exact t1 p' (by omega)
    | succ j ih =>
      intro o g σ1 h h1 h2 hh hu t1 t2 t3 t4 kk
      obtain ⟨g, rfl⟩ : ∃ g', g = g' + 1 := ⟨g - 1, by omega⟩
      show zb0_tellsAll_23 f R2 K (zl0_tellsAll_23 f R2 K g) h (some x) (nI p) (nI o)
      unfold zb0_tellsAll_23
      obtain ⟨w1, w2, w3, w4, w5, w6, w7⟩ := facts σ1 hu
      have en : nP σ1 = nP σ := by unfold nP; rw [w7]
      rw [if_pos (show nI o < 4 from (nI_ltI (b := 4) (by omega) (by omega)).mpr (by omega))]
      simp only [zcQ hh, C_t22 hh (show p < 6 by omega)]
      refine C_sumOf hf w1 w2 hh (by omega) fun h2 hh2 => ?_
      refine C_s3 hh2 (cia300 p (by omega)) (by omega) (by omega) fun h3 hh3 => ?_
      have uk : ∀ v k, k ≠ 300 + p → mup σ1 (300 + p) o v k = σ1 k := fun v k hk => mup_k hk
      have es : (if σ1 111 p = 1 then 0 else sm G σ1 p (nI o)) = smC G σ p o := by
        unfold smC
        rw [w6, sm_of w3 w4 w5]
      rw [es] at hh3
      refine l44 R2 _ p o hp (by omega) (nP σ) 0 f _ h3 (by omega) (by omega) hh3 (up hu (by omega)) (fun p' hp' => ?_) (by rw [uk _ 223 (by omega)]; exact t2) (fun o' ho' => ?_) (fun o' q' a1 a2 => by rw [uk _ _ (by omega)]; exact t4 o' q' a1 a2) (fun q' a1 => by omega) fun σ2 h' b1 b2 b3 b4 b5 b6 => ih (o + 1) g σ2 h' (by omega) (by omega) b1 b2 b3 b4 b5 b6 kk
      · obtain ⟨s1, s2, s3⟩ := t1 p' hp'
        refine ⟨by rw [uk _ 223 (by omega)]; exact s1, fun o' ho' => by rw [uk _ (300 + p') (by omega)]; exact s2 o' ho', fun o' q' a1 a2 => ?_⟩
        rw [uk _ _ (by omega)]
        exact s3 o' q' a1 a2
      · rw [mup_kk]
        by_cases c : o' = o
        · rw [if_pos c, c]
        · rw [if_neg c]; exact t3 o' (by omega)
  have l2 : ∀ (j p g : Nat) (σ1 : ST) (h : zH), p + j = nP σ → j < g → Ch sa x ca Md b0 G pa rw σ1 h → offU σ1 σ → (∀ p', p' < p → TBc G σ σ1 p') → zl0_tellsAll_2 f K g h (some x) (nI p) := by
    intro j
    induction j with
    | zero =>
      intro p g σ1 h h1 h2 hh hu t1
      obtain ⟨g, rfl⟩ : ∃ g', g = g' + 1 := ⟨g - 1, by omega⟩
      show zb0_tellsAll_2 f K (zl0_tellsAll_2 f K g) h (some x) (nI p)
      unfold zb0_tellsAll_2
      simp only [zcQ hh]
      rw [(facts σ1 hu).2.2.2.2.2.2, h13, if_neg (fun z => by have := (nI_ltI (by omega) (by omega)).mp z; omega)]
      exact kk σ1 h hh hu fun p' hp' => t1 p' (by omega)
    | succ j ih =>
      intro p g σ1 h h1 h2 hh hu t1
      obtain ⟨g, rfl⟩ : ∃ g', g = g' + 1 := ⟨g - 1, by omega⟩
      show zb0_tellsAll_2 f K (zl0_tellsAll_2 f K g) h (some x) (nI p)
      unfold zb0_tellsAll_2
      obtain ⟨w1, w2, w3, w4, w5, w6, w7⟩ := facts σ1 hu
      have en : nP σ1 = nP σ := by unfold nP; rw [w7]
      simp only [zcQ hh]
      rw [w7, h13, if_pos ((nI_ltI (by omega) (by omega)).mpr (by omega))]
      refine C_costsOf w1 hh (by omega) fun h2 hh2 => ?_
      refine C_s3 hh2 (show (223, 0, 6) ∈ cia by decide) (by decide) (by omega) fun h3 hh3 => ?_
      rw [ct_of w3 w4 w5] at hh3
      have uk : ∀ v k, k ≠ 223 → mup σ1 223 p v k = σ1 k := fun v k hk => mup_k hk
      refine l23 _ p (by omega) 4 0 f _ h3 (by omega) (by omega) hh3 (up hu (Or.inl rfl)) (fun p' hp' => ?_) (by rw [mup_kk, if_pos rfl]) (fun o' ho' => by omega) (fun o' q' a1 a2 => by omega) fun σ2 h' b1 b2 b3 => ih (p + 1) g σ2 h' (by omega) (by omega) b1 b2 b3
      obtain ⟨s1, s2, s3⟩ := t1 p' hp'
      refine ⟨?_, fun o' ho' => by rw [uk _ (300 + p') (by omega)]; exact s2 o' ho', fun o' q' a1 a2 => ?_⟩
      · rw [mup_kk, if_neg (by omega)]; exact s1
      · rw [uk _ _ (by omega)]
        exact s3 o' q' a1 a2
  unfold zf0_tellsAll
  exact l2 (nP σ) 0 f σ h (by omega) (by omega) hh (fun _ _ _ => rfl) (fun p' hp' => by omega)
end CT
