/-! THE CLASS's CALLS: feed, image -/
set_option maxRecDepth 100000
theorem astI_cell {h : zH} {a t n : Nat} {g : Nat → Int32} {i v : Int32} {P : zH → Prop} (ha : h a = some (.inl (t, n, .inl g))) (z : astI h (some a) t i v (fun h' => h' a = some (.inl (t, n, .inl (upd g i.toNatClampNeg v))) → P h')) : astI h (some a) t i v P := by
  obtain ⟨a', n', g', h1, h2, h3, h4⟩ := z
  cases h1
  rw [ha] at h2
  cases h2
  exact ⟨a, n, g, rfl, ha, h3, h4 (hup_self _ _ _)⟩
theorem nar_and : ∀ n, n < 256 → vp_nar .byte (nI n).toInt8.toInt32 &&& 255 = nI n := by decide
def fdC (σ : ST) (k : Nat) (a : Int32) : ST := mup (mup σ 5 k a) 6 0 (nI (k + 1))
theorem SameP.trans {a b c : ST} (h1 : SameP a b) (h2 : SameP b c) : SameP a c := by
  obtain ⟨p1, p2, p3, p4⟩ := h1
  obtain ⟨q1, q2, q3, q4⟩ := h2
  refine ⟨p1.trans q1, fun p hp => (p2 p (by omega)).trans (q2 p hp), fun s hs => ⟨(p3 s hs).1.trans (q3 s hs).1, fun z => ?_⟩, p4.trans q4⟩
  obtain ⟨d1, d2⟩ := q3 s hs
  obtain ⟨e1, e2⟩ := p3 s hs
  obtain ⟨d3, d4, d5⟩ := d2 z
  obtain ⟨e3, e4, e5⟩ := e2 (by rw [d1]; exact z)
  exact ⟨e3.trans d3, e4.trans d4, fun i hi => (e5 i (by rw [d4]; exact hi)).trans (d5 i hi)⟩
section D4
variable {f : Nat} {sa : Nat → Nat} {x : Nat} {ca : Nat → Nat} {Md : Nat → Prop} {b0 : zH} {G : TG} {pa : Nat → Nat} {rw : Nat → Option Nat} {σ : ST} {h : zH} {K : Int32 → zH → Prop}
theorem D_feed (hf : 400 ≤ f) (hW : WS σ) (hh : Ch sa x ca Md b0 G pa rw σ h) {a : Int32} (k0 : ¬ (0 ≤ a.toInt ∧ a.toInt ≤ 255) → K (-2) h) (k4 : (0 ≤ a.toInt ∧ a.toInt ≤ 255) → σ 6 0 = 160 → K (-4) h) (kk : ∀ k : Nat, k < 160 → σ 6 0 = nI k → (0 ≤ a.toInt ∧ a.toInt ≤ 255) → ∀ h', Ch sa x ca Md b0 G pa rw (fdC σ k a) h' → K (nI (k + 1)) h') : zf0_feed f h (some x) a K := by
  obtain ⟨-, -, ⟨k, hk, h6⟩, -⟩ := hW
  unfold zf0_feed
  rw [q_inC 0 255 (by decide) (by decide)]
  simp only [zcQ hh, ite10, ifn]
  by_cases c : 0 ≤ a.toInt ∧ a.toInt ≤ 255
  · rw [if_pos c]
    by_cases c160 : σ 6 0 = 160
    · rw [if_pos c160]
      exact k4 c c160
    · rw [if_neg c160, h6]
      have hk2 : k < 160 := by
        rcases Nat.lt_or_ge k 160 with z | z
        · exact z
        · exact absurd (by rw [h6, show k = 160 by omega]; rfl) c160
      have e6 : (σ 6 0).toNatClampNeg = k := by rw [h6, nI_clamp (by omega)]
      obtain ⟨κ, lab, a1, a2, a3, -⟩ := id hh
      refine astI_cell (a3 (213, 1, 160) (by decide)).1 ?_
      refine C_st (σ' := σ) (k := 213) (t := 1) (n := 160) hh (by decide) (vp_in_nI hk2 (by omega)) (fun κ ha => ?_) sameP_rfl fun h' hh' => ?_
      · rw [nI_clamp (by omega)]
        obtain ⟨b1, b2, b3, b4⟩ := ha
        refine ⟨fun j hj => ?_, fun j hj => ?_, fun j hj => ?_, fun j hj => ?_⟩
        · rw [mup_k (by intro e; subst e; revert hj; decide)]; exact b1 j hj
        · rw [mup_k (by decide)]; exact b2 j hj
        · rw [mup_k (by omega)]; exact b3 j hj
        · rw [mup_kk, if_neg (by omega)]; exact b4 j hj
      · intro hc
        rw [nI_clamp (by omega)] at hc
        simp only [zcQ hh']
        rw [h6, nI_1]
        refine C_pfX (σ' := fdC σ k a) hh' (k := 14) (q := 6) (by decide) (fun κ' ha hcs => ?_) ?_ fun h2 hh2 => ?_
        · have ec : κ' 213 = upd (κ 213) k (vp_nar .byte a.toInt8.toInt32) := by
            have := (hcs (213, 1, 160) (by decide)).symm.trans hc
            injection this with this
            injection this with this
            injection this with _ this
            injection this with _ this
            injection this
          obtain ⟨b1, b2, b3, b4⟩ := ha
          refine ⟨fun j hj => ?_, fun j hj => ?_, fun j hj => ?_, fun j hj => ?_⟩
          · by_cases z : j = 6
            · rw [z]; unfold fdC; rw [mup_kk, mup_kk]; rfl
            · unfold fdC
              rw [mup_k z, mup_k z, mup_k (by intro e; subst e; revert hj; decide)]; exact b1 j hj
          · unfold fdC
            rw [mup_k (by decide), mup_k (by decide), mup_k (by decide)]; exact b2 j hj
          · unfold fdC
            rw [mup_k (by omega), mup_k (by omega), mup_k (by omega)]; exact b3 j hj
          · have e1 : fdC σ k a 6 0 = nI (k + 1) := by unfold fdC; rw [mup_kk]; rfl
            rw [e1, nI_clamp (by omega)] at hj
            unfold fdC
            rw [mup_k (by decide), mup_k (by decide), mup_kk, ec]
            unfold upd
            by_cases z : j = k
            · rw [if_pos z, if_pos z]
              obtain ⟨n, hn, -, rfl, -⟩ := nI_bt c
              exact nar_and n (by omega)
            · rw [if_neg z, if_neg z]
              have := b4 j (by omega)
              rw [ec] at this
              unfold upd at this
              rw [if_neg z] at this
              exact this
        · exact SameP.trans (sameP_mup (by decide)) (sameP_mup (by decide))
        · simp only [zcQ hh2]
          exact kk k hk2 h6 c h2 hh2
  · rw [if_neg c]
    exact k0 c
end D4
