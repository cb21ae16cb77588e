/-! THE CLASS READS: its lexer. All states of the reader are hX h κ: the heap h but for the object's own fields -/
set_option maxRecDepth 100000
theorem mup_id (σ : ST) (k i : Nat) (v : Int32) (h : σ k i = v) : mup σ k i v = σ := by
  rw [← h]
  funext j o
  unfold mup
  by_cases ck : j = k
  · subst ck
    rw [if_pos rfl]
    unfold upd
    by_cases co : o = i
    · rw [if_pos co, co]
    · rw [if_neg co]
  · rw [if_neg ck]
theorem mup_mup (σ : ST) (k i : Nat) (v w : Int32) : mup (mup σ k i v) k i w = mup σ k i w := by
  funext j o
  unfold mup
  by_cases ck : j = k
  · subst ck
    rw [if_pos rfl, if_pos rfl, if_pos rfl]
    unfold upd
    by_cases co : o = i
    · rw [if_pos co, if_pos co]
    · rw [if_neg co, if_neg co, if_neg co]
  · rw [if_neg ck, if_neg ck, if_neg ck]
theorem mup_comm (σ : ST) (k i j : Nat) (v w : Int32) (h : i ≠ j) : mup (mup σ k i v) k j w = mup (mup σ k j w) k i v := by
  funext q o
  unfold mup
  by_cases ck : q = k
  · subst ck
    rw [if_pos rfl, if_pos rfl, if_pos rfl, if_pos rfl]
    unfold upd
    by_cases c1 : o = i
    · rw [if_neg (by omega), if_pos c1, if_pos c1]
    · by_cases c2 : o = j
      · rw [if_pos c2, if_neg c1, if_pos c2]
      · rw [if_neg c2, if_neg c1, if_neg c1, if_neg c2]
  · rw [if_neg ck, if_neg ck, if_neg ck, if_neg ck]
def hX (x : Nat) (ca : Nat → Nat) (h : zH) (κ : ST) : zH := hup h x (.inr (0, cfs ca κ))
/-- what the reader reads and never writes -/
def rdB (sa : Nat → Nat) (x : Nat) (ca : Nat → Nat) (T : Nat → Int32) (h : zH) : Prop := (h (ca 213) = some (.inl (1, 160, .inl T)) ∧ ca 213 ≠ x) ∧ ((∃ fs, h (ca 4) = some (.inr (12, fs))) ∧ ca 4 ≠ x) ∧ (∀ k, (k = 11 ∨ k = 12) → (∃ f, h (ca k) = some (.inl (7, 6, pav f)) ∧ ∀ i, i < 6 → f i = crf sa ca k i) ∧ ca k ≠ x)
/-- all but the reader's own fields -/
def KF (κ κ' : ST) : Prop := ∀ k, (k < 215 ∨ 220 < k) → κ' k = κ k
theorem KF.rfl' {κ : ST} : KF κ κ := fun _ _ => rfl
theorem KF.up {κ κ' : ST} {k : Nat} {v : Int32} (h : KF κ κ') (hk : 215 ≤ k ∧ k ≤ 220) : KF κ (mup κ' k 0 v) := fun j hj => by
  rw [mup_ne0 (by omega)]
  exact h j hj
theorem KF.trans {a b c : ST} (h1 : KF a b) (h2 : KF b c) : KF a c := fun k hk => (h2 k hk).trans (h1 k hk)
/-- the token in the reader's fields -/
def TK (n : Nat) (t : Tok) (op : Nat) (κ : ST) : Prop := κ 215 0 = nI n ∧ κ 216 0 = nI t.2.2.2 ∧ κ 217 0 = nI t.2.2.1 ∧ κ 218 0 = nI t.1 ∧ (t.1 ≠ 0 → κ 219 0 = t.2.1) ∧ κ 220 0 = nI op ∧ t.1 < 5 ∧ t.2.2.2 ≤ n ∧ (t.1 = 2 → ∃ k, k < 6 ∧ t.2.1 = nI k)
theorem hX_x {x : Nat} {ca : Nat → Nat} {h : zH} {κ : ST} : hX x ca h κ x = some (.inr (0, cfs ca κ)) := hup_self _ _ _
theorem hX_ne {x : Nat} {ca : Nat → Nat} {h : zH} {κ : ST} {q : Nat} (n : q ≠ x) : hX x ca h κ q = h q := hup_ne _ _ n
theorem fi_at {P : Nat → Bool} {k : Nat} (hk : P k = true) (hl : ∀ j, j < k → P j = false) : ∀ j i, i ≤ k → k < i + j → fi P j i = nI k := by
  intro j
  induction j with
  | zero => intro i h1 h2; omega
  | succ j ih =>
    intro i h1 h2
    unfold fi
    by_cases c : i = k
    · rw [c, if_pos hk]
    · rw [if_neg (by rw [hl i (by omega)]; decide)]
      exact ih (i + 1) (by omega) (by omega)
theorem fi_no {P : Nat → Bool} : ∀ j i, (∀ k, i ≤ k → k < i + j → P k = false) → fi P j i = -1 := by
  intro j
  induction j with
  | zero => intro i h; rfl
  | succ j ih =>
    intro i h
    unfold fi
    rw [if_neg (by rw [h i (by omega) (by omega)]; decide)]
    exact ih (i + 1) fun k h1 h2 => h k (by omega) (by omega)
/-- a word's place among the keys, or among the names -/
theorem fi_cd (w : List Int32) (off : Nat) (ho : off = 0 ∨ off = 6) : fi (fun k => decide (tk_ws.getD (off + k) [] = w)) 6 0 = if off ≤ tk_cd w ∧ tk_cd w < off + 6 then nI (tk_cd w - off) else -1 := by
  have key : ∀ k, k < 6 → (decide (tk_ws.getD (off + k) [] = w) = true ↔ tk_cd w = off + k) := fun k hk => by
    rw [tk_cd_eq (show off + k < 12 by omega), decide_eq_true_iff]
    exact ⟨fun z => z.symm, fun z => z.symm⟩
  by_cases c : off ≤ tk_cd w ∧ tk_cd w < off + 6
  · rw [if_pos c]
    refine fi_at ((key (tk_cd w - off) (by omega)).mpr (by omega)) (fun j hj => ?_) 6 0 (by omega) (by omega)
    cases z : decide (tk_ws.getD (off + j) [] = w) with
    | false => rfl
    | true => have := (key j (by omega)).mp z; omega
  · rw [if_neg c]
    refine fi_no 6 0 fun k h1 h2 => ?_
    cases z : decide (tk_ws.getD (off + k) [] = w) with
    | false => rfl
    | true => have := (key k (by omega)).mp z; omega
theorem tk_zs : ∀ k, k < 12 → zsb.getD (1 + k) [] = tk_ws.getD k [] ∧ zsl.getD (1 + k) 0 = (tk_ws.getD k []).length ∧ (tk_ws.getD k []).length < 9 := by decide
theorem wd_len {b : Nat → Int32} {n s e : Nat} : (tk_wd b n s e).length = e - s := by unfold tk_wd; rw [List.length_map, List.length_range]
theorem wd_ext {b : Nat → Int32} {n s e : Nat} {L : List Int32} (h1 : L.length = e - s) : L = tk_wd b n s e ↔ ∀ i, i < e - s → L.getD i 0 = tk_b b n (s + i) := by
  constructor
  · intro z i hi
    rw [z, wd_at]
    unfold lett
    rw [if_pos (by omega)]
  · intro z
    refine List.ext_getElem (by rw [wd_len, h1]) fun i i1 i2 => ?_
    have h7 : L.getD i 0 = (tk_wd b n s e).getD i 0 := by
      rw [z i (by omega), wd_at]
      unfold lett
      rw [if_pos (by omega)]
    rw [List.getD_eq_getElem?_getD, List.getD_eq_getElem?_getD, List.getElem?_eq_getElem i1, List.getElem?_eq_getElem i2] at h7
    exact h7
section RX
variable {f : Nat} {sa : Nat → Nat} {x : Nat} {ca : Nat → Nat} {h : zH} {T : Nat → Int32}
theorem rd_pf {κ : ST} {k q : Nat} (hkq : (k, q) ∈ csc) (v : Int32) (P : zH → Prop) : pf (hX x ca h κ) (some x) [0] k (.int v) P = P (hX x ca h (mup κ q 0 v)) := by
  obtain ⟨e1, e2⟩ := cfs_set (ca := ca) (κ := κ) hkq v
  have e3 : hup (hX x ca h κ) x (.inr (0, (cfs ca κ).set k (.int v))) = hX x ca h (mup κ q 0 v) := by
    rw [e1]
    exact hup_hup _ _ _ _
  refine propext ⟨fun z => ?_, fun z => ⟨x, 0, _, rfl, hX_x, by simp, e2, by rw [e3]; exact z⟩⟩
  obtain ⟨a, ci, fs, h1, h2, h3, h4, h5⟩ := z
  cases h1
  rw [hX_x] at h2
  cases h2
  rw [e3] at h5
  exact h5
/-- the reader's readings and writes -/
theorem rdQ (hb : rdB sa x ca T h) : (∀ (κ : ST) (P : Int32 → Prop), gfI (hX x ca h κ) (some x) [0] 15 P = P (κ 215 0)) ∧ (∀ (κ : ST) (P : Int32 → Prop), gfI (hX x ca h κ) (some x) [0] 16 P = P (κ 216 0)) ∧ (∀ (κ : ST) (P : Int32 → Prop), gfI (hX x ca h κ) (some x) [0] 17 P = P (κ 217 0)) ∧ (∀ (κ : ST) (P : Int32 → Prop), gfI (hX x ca h κ) (some x) [0] 18 P = P (κ 218 0)) ∧ (∀ (κ : ST) (P : Int32 → Prop), gfI (hX x ca h κ) (some x) [0] 19 P = P (κ 219 0)) ∧ (∀ (κ : ST) (P : Int32 → Prop), gfI (hX x ca h κ) (some x) [0] 20 P = P (κ 220 0)) ∧
    (∀ (κ : ST) (P : Option Nat → Prop), gfR (hX x ca h κ) (some x) [0] 4 P = P (some (ca 4))) ∧ (∀ (κ : ST) (P : Option Nat → Prop), gfR (hX x ca h κ) (some x) [0] 11 P = P (some (ca 11))) ∧ (∀ (κ : ST) (P : Option Nat → Prop), gfR (hX x ca h κ) (some x) [0] 12 P = P (some (ca 12))) ∧ (∀ (κ : ST) (P : Option Nat → Prop), gfR (hX x ca h κ) (some x) [0] 13 P = P (some (ca 213))) ∧
    (∀ (κ : ST) (i : Int32) (P : Int32 → Prop), aldI (hX x ca h κ) (some (ca 213)) 1 i P = (vp_in i 160 ∧ P (T i.toNatClampNeg))) ∧
    (∀ (κ : ST) (F : Prop), zrc (hX x ca h κ) (some x) 0 F = F) ∧ (∀ (κ : ST) (F : Prop), zrc (hX x ca h κ) (some (ca 4)) 12 F = F) ∧
    (∀ (κ : ST) (v : Int32) (P : zH → Prop), pf (hX x ca h κ) (some x) [0] 15 (.int v) P = P (hX x ca h (mup κ 215 0 v))) ∧ (∀ (κ : ST) (v : Int32) (P : zH → Prop), pf (hX x ca h κ) (some x) [0] 16 (.int v) P = P (hX x ca h (mup κ 216 0 v))) ∧ (∀ (κ : ST) (v : Int32) (P : zH → Prop), pf (hX x ca h κ) (some x) [0] 17 (.int v) P = P (hX x ca h (mup κ 217 0 v))) ∧ (∀ (κ : ST) (v : Int32) (P : zH → Prop), pf (hX x ca h κ) (some x) [0] 18 (.int v) P = P (hX x ca h (mup κ 218 0 v))) ∧ (∀ (κ : ST) (v : Int32) (P : zH → Prop), pf (hX x ca h κ) (some x) [0] 19 (.int v) P = P (hX x ca h (mup κ 219 0 v))) ∧ (∀ (κ : ST) (v : Int32) (P : zH → Prop), pf (hX x ca h κ) (some x) [0] 20 (.int v) P = P (hX x ca h (mup κ 220 0 v))) :=
  ⟨fun _ P => cgI hX_x rfl P, fun _ P => cgI hX_x rfl P, fun _ P => cgI hX_x rfl P, fun _ P => cgI hX_x rfl P, fun _ P => cgI hX_x rfl P, fun _ P => cgI hX_x rfl P,
   fun _ P => cgR hX_x rfl P, fun _ P => cgR hX_x rfl P, fun _ P => cgR hX_x rfl P, fun _ P => cgR hX_x rfl P,
   fun _ i P => cld (by rw [hX_ne hb.1.2]; exact hb.1.1) i P,
   fun _ F => crc hX_x F, fun _ F => by
     obtain ⟨fs, hf⟩ := hb.2.1.1
     exact crc (by rw [hX_ne hb.2.1.2]; exact hf) F,
   fun _ v P => rd_pf (by decide) v P, fun _ v P => rd_pf (by decide) v P, fun _ v P => rd_pf (by decide) v P, fun _ v P => rd_pf (by decide) v P, fun _ v P => rd_pf (by decide) v P, fun _ v P => rd_pf (by decide) v P⟩
theorem rd_row (hb : rdB sa x ca T h) {kk : Nat} (hk : kk = 11 ∨ kk = 12) (κ : ST) : (∀ P : Int32 → Prop, aln (hX x ca h κ) (some (ca kk)) P = P 6) ∧ (∀ (i : Nat) (P : Option Nat → Prop), i < 6 → aldR (hX x ca h κ) (some (ca kk)) 7 (nI i) P = P (some (sa (1 + (if kk = 11 then i else 6 + i))))) := by
  obtain ⟨⟨g, h1, h2⟩, h3⟩ := hb.2.2 kk hk
  have e : hX x ca h κ (ca kk) = some (.inl (7, 6, pav g)) := by rw [hX_ne h3]; exact h1
  refine ⟨fun P => propext ⟨fun z => ?_, fun z => ⟨ca kk, 7, _, _, rfl, e, rfl, z⟩⟩, fun i P hi => ?_⟩
  · obtain ⟨a, t, ty, y, z1, z2, z3, z4⟩ := z
    cases z1
    rw [e] at z2
    cases z2
    exact z4
  · rw [cldR e, nI_clamp (by omega), h2 i hi]
    have e2 : crf sa ca kk i = some (sa (1 + (if kk = 11 then i else 6 + i))) := by
      rcases hk with rfl | rfl
      · rfl
      · show some (sa (7 + i)) = some (sa (1 + (6 + i)))
        congr 2
        omega
    rw [e2]
    exact propext ⟨fun z => z.2, fun z => ⟨vp_in_nI hi (by omega), z⟩⟩
variable {b : Nat → Int32} {n : Nat}
/-- the tape's first bytes -/
def rdT (n : Nat) (b T : Nat → Int32) : Prop := n ≤ 160 ∧ ∀ i, i < n → T i &&& 255 = b i ∧ 0 ≤ (b i).toInt ∧ (b i).toInt ≤ 255
theorem rd_byte (hb : rdB sa x ca T h) (hT : rdT n b T) {κ : ST} (hn : κ 215 0 = nI n) {i : Nat} (hi : i ≤ 1000) {K : Int32 → zH → Prop} : zf0_byteAt f (hX x ca h κ) (some x) (nI i) K = K (tk_b b n i) (hX x ca h κ) := by
  have h160 := hT.1
  unfold zf0_byteAt
  simp only [rdQ hb]
  rw [hn]
  by_cases c : i < n
  · rw [if_pos ((nI_ltI (by omega) (by omega)).mpr c), nI_clamp (by omega), tk_b_in c, (hT.2 i c).1]
    exact propext ⟨fun z => z.2, fun z => ⟨vp_in_nI (by omega) (by omega), z⟩⟩
  · rw [if_neg (fun z => c ((nI_ltI (by omega) (by omega)).mp z)), tk_b_out (by omega)]
theorem rd_skip (hb : rdB sa x ca T h) (hT : rdT n b T) {K X0 : zH → Prop} : ∀ (d g i : Nat) (κ : ST), d ≤ g → n - i < d → i ≤ n → κ 215 0 = nI n → κ 216 0 = nI i →
    (∀ κ' R, (∀ k, k ≠ 216 → κ' k = κ k) → κ' 216 0 = nI (tk_sp b n d i) → ¬ tk_isS (tk_b b n (tk_sp b n d i)) → zb0_next_0 sa f K X0 R (hX x ca h κ') (some x)) → zl0_next_0 sa f K X0 g (hX x ca h κ) (some x) := by
  intro d
  induction d with
  | zero => intro g i κ _ h; omega
  | succ d ih =>
    intro g i κ hg hd hi hn hx k
    have h160 := hT.1
    obtain ⟨g, rfl⟩ : ∃ g', g = g' + 1 := ⟨g - 1, by omega⟩
    show zb0_next_0 sa f K X0 (zl0_next_0 sa f K X0 g) (hX x ca h κ) (some x)
    by_cases c : tk_isS (tk_b b n i)
    · have e : tk_sp b n (d + 1) i = tk_sp b n d (i + 1) := by
        show (if tk_isS (tk_b b n i) then tk_sp b n d (i + 1) else i) = _
        rw [if_pos c]
      rw [e] at k
      have hin := tk_isS_lt c
      have go : zl0_next_0 sa f K X0 g (hX x ca h (mup κ 216 0 (nI (i + 1)))) (some x) := by
        refine ih g (i + 1) _ (by omega) (by omega) (by omega) (by rw [mup_ne0 (by decide)]; exact hn) mup_s0 fun κ' R a2 a3 a4 => k κ' R (fun j hj => ?_) a3 a4
        rw [a2 j hj, mup_ne0 hj]
      unfold zb0_next_0
      simp only [rdQ hb, hx, rd_byte hb hT hn (i := i) (by omega), zj0_next_26, nI_1]
      by_cases c1 : tk_b b n i = 32
      · rw [if_pos c1]
        exact go
      · rw [if_neg c1, if_pos (c.resolve_left c1)]
        exact go
    · have e : tk_sp b n (d + 1) i = i := by
        show (if tk_isS (tk_b b n i) then tk_sp b n d (i + 1) else i) = _
        rw [if_neg c]
      rw [e] at k
      exact k κ _ (fun _ _ => rfl) hx c
/-- one row's word against the word at hand -/
theorem rd_eq (hb : rdB sa x ca T h) (hT : rdT n b T) {kk : Nat} (hkk : kk = 11 ∨ kk = 12) {κ : ST} (hn : κ 215 0 = nI n) {s e : Nat} (h217 : κ 217 0 = nI s) (h216 : κ 216 0 = nI e) (hse : s ≤ e) (hen : e ≤ n) {R2 : zH → Option Nat → Option Nat → Int32 → Prop} {K : Int32 → zH → Prop} {k : Nat} (hk : k < 6) {w : List Int32} (hw : w = tk_ws.getD (if kk = 11 then k else 6 + k) []) (hl : w.length = e - s) : ∀ (j i g : Nat), i + j = e - s → j < g → (∀ i', i' < i → w.getD i' 0 = tk_b b n (s + i')) →
    ((∀ i', i' < e - s → w.getD i' 0 = tk_b b n (s + i')) → zj0_placeIn_87 sa f R2 K (hX x ca h κ) (some x) (some (ca kk)) (nI k) 1) → (¬ (∀ i', i' < e - s → w.getD i' 0 = tk_b b n (s + i')) → zj0_placeIn_87 sa f R2 K (hX x ca h κ) (some x) (some (ca kk)) (nI k) 0) → zl0_placeIn_35 sa f R2 K g (hX x ca h κ) (some x) (some (ca kk)) (nI k) 1 (nI i) := by
  have h160 := hT.1
  have ho12 : (if kk = 11 then k else 6 + k) < 12 := by
    by_cases c : kk = 11
    · rw [if_pos c]; omega
    · rw [if_neg c]; omega
  have hz := tk_zs (if kk = 11 then k else 6 + k) ho12
  have hj14 : 1 + (if kk = 11 then k else 6 + k) < 14 := by
    by_cases c : kk = 11
    · rw [if_pos c]; omega
    · rw [if_neg c]; omega
  have hr := rd_row hb hkk κ
  intro j
  induction j with
  | zero =>
    intro i g h1 h2 hp k1 k0
    obtain ⟨g, rfl⟩ : ∃ g', g = g' + 1 := ⟨g - 1, by omega⟩
    show zb0_placeIn_35 sa f R2 K (zl0_placeIn_35 sa f R2 K g) (hX x ca h κ) (some x) (some (ca kk)) (nI k) 1 (nI i)
    unfold zb0_placeIn_35
    rw [if_neg (by decide)]
    simp only [rdQ hb]
    rw [h216, h217, pk_sub hse, if_neg (fun z => by have := (nI_ltI (by omega) (by omega)).mp z; omega)]
    exact k1 fun i' hi' => hp i' (by omega)
  | succ j ih =>
    intro i g h1 h2 hp k1 k0
    obtain ⟨g, rfl⟩ : ∃ g', g = g' + 1 := ⟨g - 1, by omega⟩
    show zb0_placeIn_35 sa f R2 K (zl0_placeIn_35 sa f R2 K g) (hX x ca h κ) (some x) (some (ca kk)) (nI k) 1 (nI i)
    unfold zb0_placeIn_35
    rw [if_neg (by decide)]
    simp only [rdQ hb]
    rw [h216, h217, pk_sub hse, if_pos ((nI_ltI (by omega) (by omega)).mpr (by omega)), hr.2 k _ hk]
    refine ⟨_, hj14, rfl, ?_, ?_⟩
    · rw [hz.2.1, ← hw, hl]
      exact vp_in_nI (by omega) (by omega)
    · rw [nI_clamp (by omega), hz.1, ← hw, nI_add]
      dsimp only
      rw [rd_byte hb hT hn (by omega)]
      by_cases c : w.getD i 0 = tk_b b n (s + i)
      · rw [if_pos c]
        unfold zj0_placeIn_80
        simp only [nm_eq, nI_1]
        refine ih (i + 1) g (by omega) (by omega) (fun i' hi' => ?_) k1 k0
        by_cases z : i' = i
        · rw [z]; exact c
        · exact hp i' (by omega)
      · rw [if_neg c]
        unfold zj0_placeIn_80
        simp only [nm_eq, nI_1]
        obtain ⟨g, rfl⟩ : ∃ g', g = g' + 1 := ⟨g - 1, by omega⟩
        show zb0_placeIn_35 sa f R2 K (zl0_placeIn_35 sa f R2 K g) (hX x ca h κ) (some x) (some (ca kk)) (nI k) 0 (nI (i + 1))
        unfold zb0_placeIn_35
        rw [if_pos rfl]
        exact k0 fun z => c (z i (by omega))
theorem rd_place (hb : rdB sa x ca T h) (hT : rdT n b T) (hf : 200 ≤ f) {kk : Nat} (hkk : kk = 11 ∨ kk = 12) {κ : ST} (hn : κ 215 0 = nI n) {s e : Nat} (h217 : κ 217 0 = nI s) (h216 : κ 216 0 = nI e) (hse : s ≤ e) (hen : e ≤ n) {K : Int32 → zH → Prop} : ∀ (j k g : Nat), k + j = 6 → j < g → K (fi (fun k => decide (tk_ws.getD ((if kk = 11 then 0 else 6) + k) [] = tk_wd b n s e)) j k) (hX x ca h κ) → zl0_placeIn_2 sa f K g (hX x ca h κ) (some x) (some (ca kk)) (nI k) := by
  have h160 := hT.1
  have hr := rd_row hb hkk κ
  intro j
  induction j with
  | zero =>
    intro k g h1 h2 kq
    obtain ⟨g, rfl⟩ : ∃ g', g = g' + 1 := ⟨g - 1, by omega⟩
    show zb0_placeIn_2 sa f K (zl0_placeIn_2 sa f K g) (hX x ca h κ) (some x) (some (ca kk)) (nI k)
    unfold zb0_placeIn_2
    rw [hr.1, if_neg (fun z => by have := (nI_ltI (b := 6) (by omega) (by omega)).mp z; omega)]
    exact kq
  | succ j ih =>
    intro k g h1 h2 kq
    obtain ⟨g, rfl⟩ : ∃ g', g = g' + 1 := ⟨g - 1, by omega⟩
    have hk : k < 6 := by omega
    have ho : (if kk = 11 then k else 6 + k) = (if kk = 11 then 0 else 6) + k := by
      by_cases c : kk = 11
      · rw [if_pos c, if_pos c]; omega
      · rw [if_neg c, if_neg c]
    have ho12 : (if kk = 11 then k else 6 + k) < 12 := by
      by_cases c : kk = 11
      · rw [if_pos c]; omega
      · rw [if_neg c]; omega
    have hz := tk_zs (if kk = 11 then k else 6 + k) ho12
    have hw : ∃ w, w = tk_ws.getD (if kk = 11 then k else 6 + k) [] := ⟨_, rfl⟩
    obtain ⟨w, hw⟩ := hw
    unfold fi at kq
    rw [← ho, ← hw] at kq
    show zb0_placeIn_2 sa f K (zl0_placeIn_2 sa f K g) (hX x ca h κ) (some x) (some (ca kk)) (nI k)
    unfold zb0_placeIn_2
    rw [hr.1, if_pos (show nI _ < 6 from (nI_ltI (b := 6) (by omega) (by omega)).mpr hk), hr.2 k _ hk]
    refine ⟨_, by omega, rfl, ?_⟩
    simp only [rdQ hb]
    rw [h216, h217, pk_sub hse, hz.2.1, ← hw]
    have hwl : w.length < 9 := by rw [hw]; exact hz.2.2
    have no : ¬ w = tk_wd b n s e → zj0_placeIn_87 sa f (zl0_placeIn_2 sa f K g) K (hX x ca h κ) (some x) (some (ca kk)) (nI k) 0 := by
      intro c
      rw [if_neg (by rw [decide_eq_true_iff]; exact c)] at kq
      unfold zj0_placeIn_87
      rw [if_pos rfl]
      simp only [nm_eq, nI_1]
      exact ih (k + 1) g (by omega) (by omega) kq
    by_cases cl : w.length = e - s
    · rw [if_pos (show Int32.ofNat w.length = nI (e - s) by rw [cl]; rfl)]
      unfold zj0_placeIn_31
      refine rd_eq hb hT hkk hn h217 h216 hse hen hk hw cl (e - s) 0 f (by omega) (by omega) (fun _ z => absurd z (by omega)) (fun z => ?_) (fun z => no fun y => z ((wd_ext cl).mp y))
      rw [if_pos (by rw [decide_eq_true_iff]; exact (wd_ext cl).mpr z)] at kq
      unfold zj0_placeIn_87
      rw [if_neg (by decide)]
      exact kq
    · rw [if_neg (show ¬ Int32.ofNat w.length = nI (e - s) from fun z => cl ((nI_eq (a := w.length) (by omega) (by omega)).mp z))]
      unfold zj0_placeIn_31
      obtain ⟨f', rfl⟩ : ∃ f', f = f' + 1 := ⟨f - 1, by omega⟩
      show zb0_placeIn_35 sa (f' + 1) (zl0_placeIn_2 sa (f' + 1) K g) K (zl0_placeIn_35 sa (f' + 1) (zl0_placeIn_2 sa (f' + 1) K g) K f') (hX x ca h κ) (some x) (some (ca kk)) (nI k) 0 0
      unfold zb0_placeIn_35
      rw [if_pos rfl]
      refine no fun z => cl ?_
      rw [z, wd_len]
end RX
