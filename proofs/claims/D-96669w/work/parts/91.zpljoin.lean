/-! THE JOIN: the relation that every call keeps; both heaps in one -/
set_option maxRecDepth 100000
/-- the two images -/
def Im (σ : ST) : Prop := (σ 230 0 = 0 ∧ σ 41 0 = -1) ∨ (σ 230 0 ≠ 0 ∧ ∃ n j r : Nat, n ≤ nP σ ∧ σ 41 0 = nI n ∧ σ 233 0 = nI n ∧ σ 42 0 = σ 233 1 ∧ 0 ≤ (σ 42 0).toInt ∧ σ 44 0 = nI r ∧ σ 233 2 = nI r ∧ r < (σ 3 0).toNatClampNeg ∧ j < 2 ^ n ∧ σ 43 0 = nI j ∧ (∀ i, i < 4 → σ 39 i = σ 231 i ∧ 0 ≤ (σ 39 i).toInt) ∧ (∀ p, p < n → σ 38 (3 * p) = σ 240 p ∧ σ 38 (3 * p + 1) = σ 241 p ∧ σ 38 (3 * p + 2) = σ 242 p ∧ 0 ≤ (σ 242 p).toInt ∧ (σ 242 p).toInt ≤ 9) ∧ (∀ o, o < 4 → σ 40 o = -1 ∨ ∃ p, p < n ∧ σ 40 o = nI p) ∧ (∀ o p, o < 4 → p < n → (σ 40 o = nI p ↔ σ 243 p = nI o)) ∧ (∀ p, p < n → σ 243 p = -1 ∨ ∃ o : Nat, o < 4 ∧ σ 243 p = nI o) ∧ (∀ p, p < n → σ 244 p = (nI j >>> (nI p &&& 31)) &&& 1))
/-- numbers that are never negative; how wet -/
def Nn (σ : ST) : Prop := 0 ≤ (σ 7 0).toInt ∧ (∀ i, i < 4 → 0 ≤ (σ 8 i).toInt) ∧ ∀ p, p < nP σ → 0 ≤ (σ 11 (3 * p + 2)).toInt ∧ (σ 11 (3 * p + 2)).toInt ≤ 9
/-- the relation -/
def RR (σ : ST) : Prop := WS σ ∧ WH σ ∧ WF σ ∧ Iv σ ∧ Bt σ ∧ Im σ ∧ Nn σ
theorem RR.ws {σ : ST} (h : RR σ) : WS σ := h.1
theorem RR.wb {σ : ST} (h : RR σ) : WB σ := fun p hp => by rw [h.2.2.2.1.2.2 p hp]; exact ab01 _ _
theorem RR.wi {σ : ST} (h : RR σ) : WI σ := by
  intro z
  rcases h.2.2.2.2.2.1 with y | ⟨-, n, j, r, h1, h2, h3, h4, h5, h6, h7, h8, -⟩
  · exact absurd y.1 z
  · exact ⟨⟨n, h1, h3⟩, r, h8, h7⟩
/-- the keys that it looks at -/
def rrk : List Nat := [1, 2, 3, 4, 5, 6, 7, 8, 9, 10, 11, 12, 13, 38, 39, 40, 41, 42, 43, 44, 45, 46, 47, 48, 110, 111, 230, 231, 233, 240, 241, 242, 243, 244]
theorem RR_of {σ σ' : ST} (h : RR σ) (hk : ∀ k, k ∈ rrk → σ' k = σ k) : RR σ' := by
  obtain ⟨h1, h2, h3, h4, h5, h6, h7⟩ := h
  have en : nP σ' = nP σ := by unfold nP; rw [hk 13 (by decide)]
  refine ⟨WS_of h1 fun k k1 => hk k ?_, WH_of h2 (hk 45 (by decide)) (hk 46 (by decide)) (hk 47 (by decide)), ?_, Iv_of h4 (hk 9 (by decide)) (hk 12 (by decide)) (hk 13 (by decide)) (hk 110 (by decide)) (hk 111 (by decide)), ?_, ?_, ?_⟩
  · simp only [List.mem_cons, List.not_mem_nil, or_false] at k1
    rcases k1 with rfl | rfl | rfl | rfl | rfl | rfl | rfl | rfl | rfl <;> decide
  · unfold WF at h3 ⊢
    rw [hk 45 (by decide), hk 46 (by decide), hk 47 (by decide), hk 48 (by decide)]
    exact h3
  · unfold Bt at h5 ⊢
    rw [en, hk 12 (by decide)]
    exact h5
  · unfold Im at h6 ⊢
    rw [en, hk 230 (by decide), hk 41 (by decide), hk 233 (by decide), hk 42 (by decide), hk 44 (by decide), hk 3 (by decide), hk 43 (by decide), hk 39 (by decide), hk 231 (by decide), hk 38 (by decide), hk 240 (by decide), hk 241 (by decide), hk 242 (by decide), hk 40 (by decide), hk 243 (by decide), hk 244 (by decide)]
    exact h6
  · unfold Nn at h7 ⊢
    rw [en, hk 7 (by decide), hk 8 (by decide), hk 11 (by decide)]
    exact h7
/-- Im looks at the images alone, and at how many panes and texts there are -/
theorem Im_of {σ σ' : ST} (h : Im σ) (hk : ∀ k, k ∈ ([38, 39, 40, 41, 42, 43, 44, 230, 231, 233, 240, 241, 242, 243, 244] : List Nat) → σ' k = σ k) (hn : nP σ ≤ nP σ') (h3 : (σ 3 0).toNatClampNeg ≤ (σ' 3 0).toNatClampNeg) : Im σ' := by
  unfold Im at h ⊢
  rw [hk 230 (by decide), hk 41 (by decide), hk 233 (by decide), hk 42 (by decide), hk 44 (by decide), hk 43 (by decide), hk 39 (by decide), hk 231 (by decide), hk 38 (by decide), hk 240 (by decide), hk 241 (by decide), hk 242 (by decide), hk 40 (by decide), hk 243 (by decide), hk 244 (by decide)]
  rcases h with h | ⟨h0, n, j, r, h1, h2⟩
  · exact Or.inl h
  · exact Or.inr ⟨h0, n, j, r, by omega, h2.1, h2.2.1, h2.2.2.1, h2.2.2.2.1, h2.2.2.2.2.1, h2.2.2.2.2.2.1, by have := h2.2.2.2.2.2.2.1; omega, h2.2.2.2.2.2.2.2⟩
/-- the class's own keys out of the one, all others out of the other -/
def jn (σ1 σ2 : ST) : ST := fun k => if k = 110 ∨ k = 111 ∨ 200 < k then σ1 k else σ2 k
theorem jn_1 {σ1 σ2 : ST} {k : Nat} (h : k = 110 ∨ k = 111 ∨ 200 < k) : jn σ1 σ2 k = σ1 k := if_pos h
theorem jn_2 {σ1 σ2 : ST} {k : Nat} (h : ¬ (k = 110 ∨ k = 111 ∨ 200 < k)) : jn σ1 σ2 k = σ2 k := if_neg h
/-- the keys that both bear -/
def shk : List Nat := [3, 4, 5, 6, 7, 8, 10, 11, 13, 45, 46, 47, 48]
/-- the reference's cells -/
def Mm (m : Nat) (ad : Nat → Nat) (q : Nat) : Prop := q = m ∨ ∃ e ∈ marr, q = ad e.1
theorem hM_out {m : Nat} {ad : Nat → Nat} {τ : ST} {w : Int64} {b : zH} {q : Nat} (h : ¬ Mm m ad q) : hM m ad τ w b q = b q := by
  unfold hM
  rw [if_neg (fun z => h (Or.inl z))]
  cases hx : marr.find? (fun x => ad x.1 == q) with
  | none => rfl
  | some y =>
    have h1 : ad y.1 = q := by simpa using List.find?_some hx
    exact absurd (Or.inr ⟨y, List.mem_of_find?_eq_some hx, h1.symm⟩) h
theorem hM_in {m : Nat} {ad : Nat → Nat} (ok : mOk m ad) {τ : ST} {w : Int64} {b : zH} {q : Nat} (h : Mm m ad q) : ∃ e, hM m ad τ w b q = some e ∧ ¬ isN e ∧ ∀ b', hM m ad τ w b' q = some e := by
  rcases h with rfl | ⟨e, he, rfl⟩
  · exact ⟨_, hM_m, isN_no (Or.inr (by decide)), fun b' => hM_m⟩
  · exact ⟨_, hM_at ok he, isN_noA, fun b' => hM_at ok he⟩
section JN
variable {sa : Nat → Nat} {x : Nat} {ca : Nat → Nat} {Md : Nat → Prop} {b0 : zH} {G : TG} {pa : Nat → Nat} {rw : Nat → Option Nat} {σ σ' : ST} {h h' : zH} {m : Nat} {ad : Nat → Nat} {b : zH}
theorem Ch.of (hh : Ch sa x ca Md b0 G pa rw σ h) (hk : ∀ k, (k ∈ shk ∨ k = 110 ∨ k = 111 ∨ 220 < k) → σ' k = σ k) : Ch sa x ca Md b0 G pa rw σ' h := by
  have k13 := hk 13 (Or.inl (by decide))
  have k3 := hk 3 (Or.inl (by decide))
  have k45 := hk 45 (Or.inl (by decide))
  have k46 := hk 46 (Or.inl (by decide))
  have k47 := hk 47 (Or.inl (by decide))
  have k48 := hk 48 (Or.inl (by decide))
  refine hh.agree (fun κ a => ⟨fun k k1 => ?_, fun i hi => ?_, fun k k1 => ?_, fun i hi => ?_⟩) (by unfold nP; rw [k13]) (fun p _ => ?_) (fun s _ => ?_) (by rw [k3])
  · rw [hk k (Or.inl (by
      simp only [List.mem_cons, List.not_mem_nil, or_false] at k1
      rcases k1 with rfl | rfl | rfl | rfl | rfl <;> decide))]
    exact a.1 k k1
  · rw [hk 8 (Or.inl (by decide))]; exact a.2.1 i hi
  · rw [hk k (Or.inr (Or.inr (Or.inr k1)))]; exact a.2.2.1 k k1
  · rw [hk 6 (Or.inl (by decide))] at hi
    rw [hk 5 (Or.inl (by decide))]
    exact a.2.2.2 i hi
  · unfold pcl
    rw [hk 10 (Or.inl (by decide)), hk 11 (Or.inl (by decide)), hk 110 (Or.inr (Or.inl rfl)), hk 111 (Or.inr (Or.inr (Or.inl rfl)))]
  · rw [k45, k46, k47, k48]
    exact ⟨rfl, fun _ => ⟨rfl, rfl, fun _ _ => rfl⟩⟩
theorem Ch.gg {G' : TG} (hh : Ch sa x ca Md b0 G pa rw σ h) (hG : ∀ t k, t < (σ 3 0).toNatClampNeg → k < 3 → G' t k = G t k) : Ch sa x ca Md b0 G' pa rw σ h := by
  obtain ⟨κ, lab, a1, a2, a3, a4, a5, a6, a7, ⟨tx, h1, h2⟩, a9, a10⟩ := hh
  refine ⟨κ, lab, a1, a2, a3, a4, a5, a6, a7, ⟨tx, h1, fun t ht => ?_⟩, a9, a10⟩
  obtain ⟨h3, f, h4, h5⟩ := h2 t ht
  refine ⟨h3, f, h4, fun k hk => ?_⟩
  obtain ⟨a, h6, h7⟩ := h5 k hk
  exact ⟨a, h6, by rw [hG t k ht hk]; exact h7⟩
/-- the rest may be seen as it stands -/
theorem Ch.rb (hh : Ch sa x ca Md b0 G pa rw σ h) : Ch sa x ca Md h G pa rw σ h := by
  obtain ⟨κ, lab, a1, a2, a3, a4, a5, a6, a7, a8, a9, a10⟩ := hh
  exact ⟨κ, lab, a1, a2, a3, a4, a5, a6, a7, a8, a9, fun q hq => ⟨rfl, by rw [(a10.1 q hq).1]; exact (a10.1 q hq).2.1, (a10.1 q hq).2.2⟩, a10.2⟩
theorem Ch.keep (hh : Ch sa x ca Md b0 G pa rw σ h) {q : Nat} (hq : Md q) : h q = b0 q := by
  obtain ⟨κ, lab, a1, a2, a3, a4, a5, a6, a7, a8, a9, a10⟩ := hh
  exact (a10.1 q hq).1
/-- the reference's cells may change -/
theorem Ch.mv (hh : Ch sa x ca Md b0 G pa rw σ h) (he : ∀ q, ¬ Md q → h' q = h q) (hM : ∀ q, Md q → ∃ e, h' q = some e ∧ ¬ isN e) (hM0 : ∀ q e, Md q → h q = some e → ¬ isN e) : Ch sa x ca Md h' G pa rw σ h' := by
  obtain ⟨κ, lab, a1, a2, a3, a4, a5, a6, a7, ⟨tx, h1, h2⟩, a9, a10⟩ := hh
  have k0 : ∀ q, lab q ≠ 0 → h' q = h q := fun q z => he q fun y => z (a10.1 q y).2.2
  have kN : ∀ q e, h q = some e → isN e → h' q = some e := fun q e hq hi => by
    rw [he q fun y => hM0 q e y hq hi]
    exact hq
  refine ⟨κ, lab, a1, ⟨by rw [k0 x (by rw [a2.2]; decide)]; exact a2.1, a2.2⟩, fun e he => ⟨by rw [k0 _ (by rw [(a3 e he).2]; omega)]; exact (a3 e he).1, (a3 e he).2⟩, fun e he => ⟨by rw [k0 _ (by rw [(a4 e he).2]; omega)]; exact (a4 e he).1, (a4 e he).2⟩, ⟨⟨by rw [k0 _ (by rw [a5.1.2]; decide)]; exact a5.1.1, a5.1.2⟩, fun p hp => ⟨by rw [k0 _ (by rw [(a5.2 p hp).2]; omega)]; exact (a5.2 p hp).1, (a5.2 p hp).2⟩⟩, fun s hs => ⟨by rw [k0 _ (by rw [(a6 s hs).2]; omega)]; exact (a6 s hs).1, (a6 s hs).2⟩, fun s hs => ⟨(a7 s hs).1, fun z => ?_⟩, ⟨tx, ⟨by rw [k0 _ (by rw [h1.2]; decide)]; exact h1.1, h1.2⟩, fun t ht => ?_⟩, ⟨by rw [k0 _ (by rw [a9.2]; decide)]; exact a9.1, a9.2⟩, fun q hq => ⟨rfl, ?_, (a10.1 q hq).2.2⟩, fun q hq => ?_, fun q e hq hi => ?_⟩
  · obtain ⟨q, g, c1, c2, c3, c4⟩ := (a7 s hs).2 z
    exact ⟨q, g, c1, by rw [k0 _ (by rw [c3]; omega)]; exact c2, c3, c4⟩
  · obtain ⟨h3, f, h4, h5⟩ := h2 t ht
    refine ⟨h3, f, by rw [k0 _ (by rw [h3]; decide)]; exact h4, fun k hk => ?_⟩
    obtain ⟨a, h6, h7⟩ := h5 k hk
    exact ⟨a, h6, nd_keep kN _ _ _ h7⟩
  · obtain ⟨e, z, -⟩ := hM q hq
    rw [z]
    exact fun y => by cases y
  · have : ¬ Md q := fun y => by
      obtain ⟨e, z, -⟩ := hM q y
      rw [z] at hq
      cases hq
    rw [he q this] at hq
    exact a10.2.1 q hq
  · have : ¬ Md q := fun y => by
      obtain ⟨e', z, w⟩ := hM q y
      rw [z] at hq
      cases hq
      exact w hi
    rw [he q this] at hq
    exact a10.2.2 q e hq hi
theorem Mh.of (hh : Mh m ad b σ h) (hk : ∀ k, (k < 14 ∨ (28 < k ∧ k < 49)) → σ' k = σ k) : Mh m ad b σ' h := by
  obtain ⟨τ, w, e, k⟩ := hh
  exact ⟨τ, w, e, fun j hj => (k j hj).trans (hk j hj).symm⟩
theorem Mh.mv (ok : mOk m ad) (hh : Mh m ad b σ h) (he : ∀ q, Mm m ad q → h' q = h q) : Mh m ad h' σ h' := by
  obtain ⟨τ, w, e, k⟩ := hh
  refine ⟨τ, w, ?_, k⟩
  funext q
  by_cases c : Mm m ad q
  · obtain ⟨e1, h1, -, h2⟩ := hM_in ok (τ := τ) (w := w) (b := b) c
    rw [h2 h', he q c, e, h1]
  · rw [hM_out c]
end JN
/-- both in one heap -/
def JJ (sa : Nat → Nat) (x : Nat) (ca : Nat → Nat) (m : Nat) (ad : Nat → Nat) (σ : ST) (h : zH) : Prop := ∃ pa rw b0 b, Ch sa x ca (Mm m ad) b0 (Gm σ) pa rw σ h ∧ Mh m ad b σ h
def FIN (sa : Nat → Nat) (x : Nat) (ca : Nat → Nat) (m : Nat) (ad : Nat → Nat) (h : zH) : Prop := ∃ σ, RR σ ∧ JJ sa x ca m ad σ h
section JG
variable {sa : Nat → Nat} {x : Nat} {ca : Nat → Nat} {σ : ST} {h : zH} {m : Nat} {ad : Nat → Nat}
/-- one call of each -/
theorem J_go (ok : mOk m ad) (hJ : JJ sa x ca m ad σ h) : ∃ pa rw, Ch sa x ca (Mm m ad) h (Gm σ) pa rw σ h ∧ ∀ (pa1 : Nat → Nat) (rw1 : Nat → Option Nat) (G1 : TG) (σ1 : ST) (h1 : zH), Ch sa x ca (Mm m ad) h G1 pa1 rw1 σ1 h1 → Mh m ad h1 σ h1 ∧ ∀ (σ2 : ST) (h2 : zH), Mh m ad h1 σ2 h2 → (∀ k, k ∈ shk → σ2 k = σ1 k) → (∀ t k, t < (σ2 3 0).toNatClampNeg → k < 3 → Gm σ2 t k = G1 t k) → RR (jn σ1 σ2) → FIN sa x ca m ad h2 := by
  obtain ⟨pa, rw, b0, b, hC, hM⟩ := hJ
  refine ⟨pa, rw, hC.rb, fun pa1 rw1 G1 σ1 h1 hC1 => ⟨hM.mv ok fun q hq => hC1.keep hq, fun σ2 h2 hM2 hs hG hR => ?_⟩⟩
  have hM1 : Mh m ad h1 σ h1 := hM.mv ok fun q hq => hC1.keep hq
  obtain ⟨τ1, w1, e1, -⟩ := hM1
  obtain ⟨τ2, w2, e2, k2⟩ := id hM2
  have eg : Gm (jn σ1 σ2) = Gm σ2 := Gm_of (jn_2 (by decide)) (jn_2 (by decide))
  have e3 : jn σ1 σ2 3 = σ2 3 := jn_2 (by decide)
  refine ⟨jn σ1 σ2, hR, pa1, rw1, h2, h1, ?_, hM2.of fun k hk => jn_2 (by omega)⟩
  have hC2 := hC1.mv (h' := h2) (fun q hq => by rw [e2]; exact hM_out hq) (fun q hq => by
    obtain ⟨e, z1, z2, -⟩ := hM_in ok (τ := τ2) (w := w2) (b := h1) hq
    exact ⟨e, by rw [e2]; exact z1, z2⟩) (fun q e hq he => by
    obtain ⟨e', z1, z2, -⟩ := hM_in ok (τ := τ1) (w := w1) (b := h1) hq
    rw [← e1, he] at z1
    cases z1
    exact z2)
  rw [eg]
  have hC3 := hC2.of (σ' := jn σ1 σ2) (fun k hk => by
    rcases hk with z | z | z | z
    · have : ¬ (k = 110 ∨ k = 111 ∨ 200 < k) := by
        unfold shk at z
        simp only [List.mem_cons, List.not_mem_nil, or_false] at z
        omega
      rw [jn_2 this]
      exact hs k z
    · exact jn_1 (Or.inl z)
    · exact jn_1 (Or.inr (Or.inl z))
    · exact jn_1 (Or.inr (Or.inr (by omega))))
  exact hC3.gg fun t k ht hk => hG t k (by rw [← e3]; exact ht) hk
/-- nothing was changed -/
theorem J_id (ok : mOk m ad) (hJ : JJ sa x ca m ad σ h) (hR : RR σ) {pa1 : Nat → Nat} {rw1 : Nat → Option Nat} {h1 h2 : zH} {σ1 σ2 : ST} (hC : Ch sa x ca (Mm m ad) h (Gm σ) pa1 rw1 σ1 h1) (hM : Mh m ad h1 σ2 h2) (e1 : ∀ k, (k ∈ shk ∨ k ∈ rrk) → σ1 k = σ k) (e2 : ∀ k, (k ∈ shk ∨ k ∈ rrk) → σ2 k = σ k) : FIN sa x ca m ad h2 := by
  obtain ⟨pa, rw, -, go⟩ := J_go ok hJ
  have eg : Gm σ2 = Gm σ := Gm_of (e2 1 (Or.inr (by decide))) (e2 2 (Or.inr (by decide)))
  refine (go _ _ _ _ _ hC).2 σ2 h2 hM (fun k hk => (e2 k (Or.inl hk)).trans (e1 k (Or.inl hk)).symm) (fun t k _ _ => by rw [eg]) (RR_of hR fun k hk => ?_)
  unfold jn
  by_cases c : k = 110 ∨ k = 111 ∨ 200 < k
  · rw [if_pos c]; exact e1 k (Or.inr hk)
  · rw [if_neg c]; exact e2 k (Or.inr hk)
end JG
