/-! THE LAWS: a stone -/
set_option maxRecDepth 100000
theorem st_bits : ∀ j, j < 64 → ∀ p, p < 6 → ∀ q, q < 6 → ((nI j ||| ((1 : Int32) <<< (nI p &&& 31))) >>> (nI q &&& 31)) &&& 1 = if q = p then 1 else (nI j >>> (nI q &&& 31)) &&& 1 := by decide +kernel
theorem st_bits2 : ∀ n, n < 7 → ∀ j, j < 2 ^ n → ∀ p, p < n → (nI j ||| ((1 : Int32) <<< (nI p &&& 31))).toNatClampNeg < 2 ^ n ∧ nI (nI j ||| ((1 : Int32) <<< (nI p &&& 31))).toNatClampNeg = nI j ||| ((1 : Int32) <<< (nI p &&& 31)) := by decide +kernel
def stT (σ : ST) (p : Nat) : ST := mup (mup σ 12 0 (σ 12 0 ||| (1 <<< (nI p &&& 31)))) 111 p 1
/-- the bits of the broken panes -/
def Bt (σ : ST) : Prop := ∃ j, j < 2 ^ nP σ ∧ σ 12 0 = nI j
section LST
variable {G : TG} {σ : ST}
theorem Iv_stT (hW : WS σ) (hI : Iv σ) (hb : Bt σ) {p : Nat} (hp : p < nP σ) : Iv (stT σ p) ∧ Bt (stT σ p) := by
  have hn := (nP_eq hW).2
  obtain ⟨j, hj, e⟩ := hb
  have hj6 : j < 64 := Nat.lt_of_lt_of_le hj (Nat.pow_le_pow_right (n := 2) (by decide) (show nP σ ≤ 6 from hn))
  have e12 : stT σ p 12 0 = nI j ||| (1 <<< (nI p &&& 31)) := by
    show mup σ 12 0 (σ 12 0 ||| (1 <<< (nI p &&& 31))) 12 0 = _
    rw [mup_kk, if_pos rfl, e]
  refine ⟨⟨hI.1, hI.2.1, fun q hq => ?_⟩, ?_⟩
  · have hq : q < nP σ := hq
    have e111 : stT σ p 111 q = if q = p then 1 else σ 111 q := by
      show mup (mup σ 12 0 (σ 12 0 ||| (1 <<< (nI p &&& 31)))) 111 p 1 111 q = _
      rw [mup_kk]
      rfl
    unfold ab
    rw [e111, e12, st_bits j hj6 p (by omega) q (by omega), hI.2.2 q hq]
    unfold ab
    rw [e]
  · have := st_bits2 (nP σ) (by omega) j hj p hp
    exact ⟨_, this.1, e12.trans this.2.symm⟩
theorem spill_one {p o : Nat} (ho : o < 4) (h : σ 110 p = nI o) (hS : ∃ s, s < 20 ∧ sp σ p = nI s) : spC σ p = spS σ (nI o) (sp σ p) := by
  obtain ⟨s, hs, es⟩ := hS
  unfold spC spS
  rw [h, es]
  exact fo_congr _ _ _ fun i a _ hi => by rw [sp_bits2 o ho i (by omega) s hs]
theorem nsp_nI {k w : Int32} (hk : 0 ≤ k.toInt ∧ k.toInt ≤ 5) (hw : 0 ≤ w.toInt ∧ w.toInt ≤ 9) : ∃ s, s < 20 ∧ nsp k w = nI s := by
  obtain ⟨a, ha, -, rfl, -⟩ := nI_bt (u := 5) hk
  obtain ⟨c, hc, -, rfl, -⟩ := nI_bt (u := 9) hw
  have key : ∀ a, a < 6 → ∀ c, c < 10 → (nsp (nI a) (nI c)).toNatClampNeg < 20 ∧ nsp (nI a) (nI c) = nI (nsp (nI a) (nI c)).toNatClampNeg := by decide +kernel
  have := key a (by omega) c (by omega)
  exact ⟨_, this.1, this.2⟩
end LST
