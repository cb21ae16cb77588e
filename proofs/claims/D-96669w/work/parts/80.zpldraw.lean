/-! THE LAWS: drawn and chance -/
set_option maxRecDepth 100000
section LD
variable {G : TG} {σ : ST}
theorem dr_11 (s : Int32) : drC σ s 11 = drS σ s 11 := by
  unfold drC drS
  refine (fo_rel (R := fun (a b : ST × Int32) => a.1 11 = b.1 11 ∧ a.2 = b.2) (n := nP σ) (fun p a b _ hab => ?_) (nP σ) 0 (σ, s) (σ, s) (by omega) ⟨rfl, rfl⟩).1
  obtain ⟨h1, h2⟩ := hab
  refine ⟨?_, ?_⟩
  · funext j
    show mup (mup a.1 229 p (a.1 11 (3 * p + 1))) 11 (3 * p + 1) (dyz (a.2 * 1103515245 + 12345)) 11 j = mup (mup b.1 37 p (b.1 11 (3 * p + 1))) 11 (3 * p + 1) (dyz (b.2 * 1103515245 + 12345)) 11 j
    rw [mup_kk, mup_kk, mup_k (by decide), mup_k (by decide), h1, h2]
  · show a.2 * 1103515245 + 12345 = b.2 * 1103515245 + 12345
    rw [h2]
theorem Iv_drC (hI : Iv σ) (s : Int32) : Iv (drC σ s) := Iv_of hI (drC_k (by decide) (by decide)) (drC_k (by decide) (by decide)) (drC_k (by decide) (by decide)) (drC_k (by decide) (by decide)) (drC_k (by decide) (by decide))
theorem qdr_law (hW : WS σ) (hI : Iv σ) (s : Int32) : qstC G (drC σ s) = qst G (drS σ s) := by
  rw [qst_law (WS_drC hW s) (Iv_drC hI s)]
  exact qst_of ((drC_k (by decide) (by decide)).trans (drS_k (by decide) (by decide)).symm) ((drC_k (by decide) (by decide)).trans (drS_k (by decide) (by decide)).symm) (dr_11 s) ((drC_k (by decide) (by decide)).trans (drS_k (by decide) (by decide)).symm)
theorem drawn_law (hW : WS σ) (hI : Iv σ) (s : Int32) : briC G (drC σ s) = bri G (drS σ s) := by
  rw [bri_law (WS_drC hW s) (Iv_drC hI s)]
  exact bri_of ((drC_k (by decide) (by decide)).trans (drS_k (by decide) (by decide)).symm) ((drC_k (by decide) (by decide)).trans (drS_k (by decide) (by decide)).symm) ((drC_k (by decide) (by decide)).trans (drS_k (by decide) (by decide)).symm) (dr_11 s) ((drC_k (by decide) (by decide)).trans (drS_k (by decide) (by decide)).symm)
theorem chance_law (hW : WS σ) (hI : Iv σ) (s : Int32) (m : Nat) (part : Int32) : ciS G σ s m part = chS G σ s m part := by
  have e : soC G σ s m = soN G σ s m := by
    unfold soC soN
    exact fo_congr _ _ _ fun t a _ _ => by rw [qdr_law hW hI]
  unfold ciS chS
  rw [e]
end LD
