/-! THE Z-KIT's RULES: a field of an object, or NullPointerException -/
set_option maxRecDepth 100000
def gfIX (h : zH) (mc ms : Nat) (v : Option Nat) (cs : List Nat) (k : Nat) (P : Int32 → Prop) (X : Prop) : Prop := (v = none ∧ zbx mc ms X) ∨ gfI h v cs k P
section ZX
variable {sa : Nat → Nat} {G : zG} {cc : ByteArray} {nL : Nat} {own nm : String} {ret : Option FieldType} {nf nl : Nat} {K : Option zV → zH → Prop} {pc : Nat} {h : zH} {mc ms : Nat} {L : zL} {st : List zV}
theorem r_gfIX (hG : zOk sa G cc nL own nm ret nf nl K) {ix k : Nat} {cs : List Nat} {v : Option Nat} {P : Int32 → Prop} {X : Prop} (hr : 8 ≤ nf ∧ zlen st + 10240 ≤ nl) {c0 : Nat} (hc0 : c0 ∈ cs) (hf : ∀ ci ∈ cs, zFld own ix ci k) (hd : decode cc pc = .ok (.getfield ix, 3)) (hF : gfIX h mc ms v cs k P X) (kx : X → zThr G pc h (mc - 8) (ms - 2000) L st "java/lang/NullPointerException") (kk : ∀ n, P n → zW G (pc + 3) h mc ms L (I_ n :: st)) : zW G pc h mc ms L (R_ v :: st) := by
  rcases hF with ⟨rfl, h8, h2, hX⟩ | hF
  · have hN := z_npe hG hr ⟨h8, h2⟩ (kx hX)
    obtain ⟨⟨p, l, e, R, s, m, args, below, meth, c⟩, D, A, Q, MC, MS⟩ := G
    intro H locs cells slots ls hP hS hc hs hl
    obtain ⟨ref, C, T, N, hcl, hin, hkN, hlk, hsame⟩ := hf c0 hc0
    have hts := hG.2.2.2.2.2.2.2.1
    exact vx_getfN hG.1 hG.2.1 hts hin hG.2.2.2.2.2.2.1 hG.2.2.2.2.2.2.2.2.1.1 hcl k hkN (hts _ hlk) (z_same hts hsame) hd (hN H locs cells slots ls hP hS hc hs hl)
  · exact r_gfI hG hf hd hF kk
end ZX
