/-! THE REFERENCE's HEAP: a function of its numbers tau (field or array k, place i) and of the long field w, over a heap b -/
set_option maxRecDepth 100000
def mup (τ : Nat → Nat → Int32) (k i : Nat) (v : Int32) : Nat → Nat → Int32 := fun j => if j = k then upd (τ k) i v else τ j
def marr : List (Nat × Nat × Nat) := [(1, 0, 960), (2, 0, 6), (5, 0, 160), (8, 0, 4), (9, 0, 4), (10, 0, 6), (11, 0, 18), (29, 0, 24), (30, 0, 6), (31, 3, 108), (32, 0, 4), (37, 0, 6), (38, 0, 18), (39, 0, 4), (40, 0, 4), (45, 3, 4), (46, 0, 4), (47, 0, 4), (48, 0, 160)]
def msc : List Nat := [0, 3, 4, 6, 7, 12, 13, 14, 15, 16, 17, 18, 19, 20, 21, 22, 23, 24, 26, 27, 28, 33, 34, 35, 36, 41, 42, 43, 44]
def mfs (ad : Nat → Nat) (τ : Nat → Nat → Int32) (w : Int64) : List Value := [.int (τ 0 0), va_rf (some (ad 1)), va_rf (some (ad 2)), .int (τ 3 0), .int (τ 4 0), va_rf (some (ad 5)), .int (τ 6 0), .int (τ 7 0), va_rf (some (ad 8)), va_rf (some (ad 9)), va_rf (some (ad 10)), va_rf (some (ad 11)), .int (τ 12 0), .int (τ 13 0), .int (τ 14 0), .int (τ 15 0), .int (τ 16 0), .int (τ 17 0), .int (τ 18 0), .int (τ 19 0), .int (τ 20 0), .int (τ 21 0), .int (τ 22 0), .int (τ 23 0), .int (τ 24 0), .long w, .int (τ 26 0), .int (τ 27 0), .int (τ 28 0), va_rf (some (ad 29)), va_rf (some (ad 30)), va_rf (some (ad 31)), va_rf (some (ad 32)), .int (τ 33 0), .int (τ 34 0), .int (τ 35 0), .int (τ 36 0), va_rf (some (ad 37)), va_rf (some (ad 38)), va_rf (some (ad 39)), va_rf (some (ad 40)), .int (τ 41 0), .int (τ 42 0), .int (τ 43 0), .int (τ 44 0), va_rf (some (ad 45)), va_rf (some (ad 46)), va_rf (some (ad 47)), va_rf (some (ad 48))]
def hM (m : Nat) (ad : Nat → Nat) (τ : Nat → Nat → Int32) (w : Int64) (b : zH) : zH := fun q => if q = m then some (.inr (13, mfs ad τ w)) else match marr.find? (fun x => ad x.1 == q) with
  | some x => some (.inl (x.2.1, x.2.2, .inl (τ x.1)))
  | none => b q
def mOk (m : Nat) (ad : Nat → Nat) : Prop := (∀ x ∈ marr, ad x.1 ≠ m) ∧ ∀ x ∈ marr, ∀ y ∈ marr, ad x.1 = ad y.1 → x = y
section MP
variable {m : Nat} {ad : Nat → Nat} {τ : Nat → Nat → Int32} {w : Int64} {b : zH}
theorem mup_self {k i : Nat} {v : Int32} : mup τ k i v k = upd (τ k) i v := if_pos rfl
theorem mup_ne {k j i : Nat} {v : Int32} (h : j ≠ k) : mup τ k i v j = τ j := if_neg h
theorem hM_m : hM m ad τ w b m = some (.inr (13, mfs ad τ w)) := if_pos rfl
theorem hM_at (ok : mOk m ad) {k t n : Nat} (hk : (k, t, n) ∈ marr) : hM m ad τ w b (ad k) = some (.inl (t, n, .inl (τ k))) := by
  unfold hM
  rw [if_neg (ok.1 _ hk)]
  have hf : marr.find? (fun x => ad x.1 == ad k) = some (k, t, n) := by
    cases hx : marr.find? (fun x => ad x.1 == ad k) with
    | none =>
      have := List.find?_eq_none.mp hx _ hk
      simp at this
    | some y =>
      have h1 := List.find?_some hx
      have h2 := List.mem_of_find?_eq_some hx
      rw [ok.2 y h2 _ hk (by simpa using h1)]
  rw [hf]
theorem hM_fs (k : Nat) (hk : k ∈ marr.map (·.1)) (i : Nat) (v : Int32) : mfs ad (mup τ k i v) w = mfs ad τ w := by
  have hk : k ∈ [1, 2, 5, 8, 9, 10, 11, 29, 30, 31, 32, 37, 38, 39, 40, 45, 46, 47, 48] := hk
  simp only [List.mem_cons, List.not_mem_nil, or_false] at hk
  rcases hk with rfl | rfl | rfl | rfl | rfl | rfl | rfl | rfl | rfl | rfl | rfl | rfl | rfl | rfl | rfl | rfl | rfl | rfl | rfl <;> rfl
theorem hM_sc (k : Nat) (hk : k ∈ msc) (v : Int32) : (mfs ad τ w).set k (.int v) = mfs ad (mup τ k 0 v) w := by
  have hk : k ∈ [0, 3, 4, 6, 7, 12, 13, 14, 15, 16, 17, 18, 19, 20, 21, 22, 23, 24, 26, 27, 28, 33, 34, 35, 36, 41, 42, 43, 44] := hk
  simp only [List.mem_cons, List.not_mem_nil, or_false] at hk
  rcases hk with rfl | rfl | rfl | rfl | rfl | rfl | rfl | rfl | rfl | rfl | rfl | rfl | rfl | rfl | rfl | rfl | rfl | rfl | rfl | rfl | rfl | rfl | rfl | rfl | rfl | rfl | rfl | rfl | rfl <;> simp [mfs, mup, upd]
theorem hM_ast (ok : mOk m ad) {k t n : Nat} (hk : (k, t, n) ∈ marr) (i : Nat) (v : Int32) : hup (hM m ad τ w b) (ad k) (.inl (t, n, .inl (upd (τ k) i v))) = hM m ad (mup τ k i v) w b := by
  funext q
  by_cases hq : q = ad k
  · subst hq
    rw [hup_self, hM_at ok hk, mup_self]
  · rw [hup_ne _ _ hq]
    unfold hM
    by_cases hm : q = m
    · rw [if_pos hm, if_pos hm, hM_fs k (List.mem_map.mpr ⟨_, hk, rfl⟩)]
    · rw [if_neg hm, if_neg hm]
      cases hx : marr.find? (fun x => ad x.1 == q) with
      | none => rfl
      | some y =>
        have h1 : ad y.1 = q := by simpa using List.find?_some hx
        have h2 : y.1 ≠ k := fun z => hq (by rw [← h1, z])
        simp only [mup_ne h2]
theorem hM_pf {k : Nat} (hk : k ∈ msc) (v : Int32) : hup (hM m ad τ w b) m (.inr (13, (mfs ad τ w).set k (.int v))) = hM m ad (mup τ k 0 v) w b := by
  funext q
  by_cases hq : q = m
  · subst hq
    rw [hup_self, hM_m, hM_sc k hk]
  · rw [hup_ne _ _ hq]
    unfold hM
    rw [if_neg hq, if_neg hq]
    cases hx : marr.find? (fun x => ad x.1 == q) with
    | none => rfl
    | some y =>
      have h2 : y.1 ≠ k := by
        intro z
        have h3 : y.1 ∈ marr.map (·.1) := List.mem_map.mpr ⟨y, List.mem_of_find?_eq_some hx, rfl⟩
        rw [z] at h3
        revert h3 hk
        show k ∈ [0, 3, 4, 6, 7, 12, 13, 14, 15, 16, 17, 18, 19, 20, 21, 22, 23, 24, 26, 27, 28, 33, 34, 35, 36, 41, 42, 43, 44] → k ∈ [1, 2, 5, 8, 9, 10, 11, 29, 30, 31, 32, 37, 38, 39, 40, 45, 46, 47, 48] → False
        intro hk h3
        simp only [List.mem_cons, List.not_mem_nil, or_false] at hk h3
        omega
      simp only [mup_ne h2]
theorem hM_pl (v : Int64) : hup (hM m ad τ w b) m (.inr (13, (mfs ad τ w).set 25 (.long v))) = hM m ad τ v b := by
  funext q
  by_cases hq : q = m
  · subst hq
    rw [hup_self, hM_m]
    rfl
  · rw [hup_ne _ _ hq]
    unfold hM
    rw [if_neg hq, if_neg hq]
theorem mgI {k : Nat} {n : Int32} (hk : (mfs ad τ w)[k]? = some (.int n)) (P : Int32 → Prop) : gfI (hM m ad τ w b) (some m) [13] k P = P n := by
  refine propext ⟨fun h => ?_, fun h => ⟨m, 13, _, n, rfl, hM_m, by simp, hk, h⟩⟩
  obtain ⟨a, ci, fs, n', h1, h2, h3, h4, h5⟩ := h
  cases h1
  rw [hM_m] at h2
  cases h2
  rw [hk] at h4
  cases h4
  exact h5
theorem mgJ (P : Int64 → Prop) : gfJ (hM m ad τ w b) (some m) [13] 25 P = P w := by
  refine propext ⟨fun h => ?_, fun h => ⟨m, 13, _, w, rfl, hM_m, by simp, rfl, h⟩⟩
  obtain ⟨a, ci, fs, n', h1, h2, h3, h4, h5⟩ := h
  cases h1
  rw [hM_m] at h2
  cases h2
  cases h4
  exact h5
theorem mgR {k : Nat} (hk : (mfs ad τ w)[k]? = some (va_rf (some (ad k)))) (P : Option Nat → Prop) : gfR (hM m ad τ w b) (some m) [13] k P = P (some (ad k)) := by
  refine propext ⟨fun h => ?_, fun h => ⟨m, 13, _, some (ad k), rfl, hM_m, by simp, hk, h⟩⟩
  obtain ⟨a, ci, fs, n', h1, h2, h3, h4, h5⟩ := h
  cases h1
  rw [hM_m] at h2
  cases h2
  rw [hk] at h4
  cases n' with
  | none => cases h4
  | some z => cases h4; exact h5
theorem mpf {k : Nat} (hk : k ∈ msc) (v : Int32) (P : zH → Prop) : pf (hM m ad τ w b) (some m) [13] k (.int v) P = P (hM m ad (mup τ k 0 v) w b) := by
  have hl : k < (mfs ad τ w).length := by
    have hk : k ∈ [0, 3, 4, 6, 7, 12, 13, 14, 15, 16, 17, 18, 19, 20, 21, 22, 23, 24, 26, 27, 28, 33, 34, 35, 36, 41, 42, 43, 44] := hk
    simp only [List.mem_cons, List.not_mem_nil, or_false] at hk
    show k < 49
    omega
  refine propext ⟨fun h => ?_, fun h => ⟨m, 13, _, rfl, hM_m, by simp, hl, by rw [hM_pf hk]; exact h⟩⟩
  obtain ⟨a, ci, fs, h1, h2, h3, h4, h5⟩ := h
  cases h1
  rw [hM_m] at h2
  cases h2
  rw [hM_pf hk] at h5
  exact h5
theorem mpl (v : Int64) (P : zH → Prop) : pf (hM m ad τ w b) (some m) [13] 25 (.long v) P = P (hM m ad τ v b) := by
  refine propext ⟨fun h => ?_, fun h => ⟨m, 13, _, rfl, hM_m, by simp, (Nat.le_of_ble_eq_true rfl : 26 ≤ 49), by rw [hM_pl]; exact h⟩⟩
  obtain ⟨a, ci, fs, h1, h2, h3, h4, h5⟩ := h
  cases h1
  rw [hM_m] at h2
  cases h2
  rw [hM_pl] at h5
  exact h5
theorem mld (ok : mOk m ad) {k t n : Nat} (hk : (k, t, n) ∈ marr) (i : Int32) (P : Int32 → Prop) : aldI (hM m ad τ w b) (some (ad k)) t i P = (vp_in i n ∧ P (τ k i.toNatClampNeg)) := by
  refine propext ⟨fun h => ?_, fun h => ⟨ad k, n, _, rfl, hM_at ok hk, h.1, h.2⟩⟩
  obtain ⟨a, n', f, h1, h2, h3, h4⟩ := h
  cases h1
  rw [hM_at ok hk] at h2
  cases h2
  exact ⟨h3, h4⟩
theorem mst (ok : mOk m ad) {k t n : Nat} (hk : (k, t, n) ∈ marr) (i v : Int32) (P : zH → Prop) : astI (hM m ad τ w b) (some (ad k)) t i v P = (vp_in i n ∧ P (hM m ad (mup τ k i.toNatClampNeg v) w b)) := by
  refine propext ⟨fun h => ?_, fun h => ⟨ad k, n, _, rfl, hM_at ok hk, h.1, by rw [hM_ast ok hk]; exact h.2⟩⟩
  obtain ⟨a, n', f, h1, h2, h3, h4⟩ := h
  cases h1
  rw [hM_at ok hk] at h2
  cases h2
  rw [hM_ast ok hk] at h4
  exact ⟨h3, h4⟩
theorem mrc (F : Prop) : zrc (hM m ad τ w b) (some m) 13 F = F := by
  refine propext ⟨fun h => ?_, fun h => ⟨m, _, rfl, hM_m, h⟩⟩
  obtain ⟨a, fs, -, -, h⟩ := h
  exact h
end MP
/-- all reads and writes of the reference's heap, as rewritings -/
theorem zmR {m : Nat} {ad : Nat → Nat} {b : zH} (ok : mOk m ad) : (∀ (τ : Nat → Nat → Int32) (w : Int64) (P : Int32 → Prop), gfI (hM m ad τ w b) (some m) [13] 0 P = P (τ 0 0)) ∧ (∀ (τ : Nat → Nat → Int32) (w : Int64) (P : Int32 → Prop), gfI (hM m ad τ w b) (some m) [13] 3 P = P (τ 3 0)) ∧ (∀ (τ : Nat → Nat → Int32) (w : Int64) (P : Int32 → Prop), gfI (hM m ad τ w b) (some m) [13] 4 P = P (τ 4 0)) ∧ (∀ (τ : Nat → Nat → Int32) (w : Int64) (P : Int32 → Prop), gfI (hM m ad τ w b) (some m) [13] 6 P = P (τ 6 0)) ∧ (∀ (τ : Nat → Nat → Int32) (w : Int64) (P : Int32 → Prop), gfI (hM m ad τ w b) (some m) [13] 7 P = P (τ 7 0)) ∧ (∀ (τ : Nat → Nat → Int32) (w : Int64) (P : Int32 → Prop), gfI (hM m ad τ w b) (some m) [13] 12 P = P (τ 12 0)) ∧ (∀ (τ : Nat → Nat → Int32) (w : Int64) (P : Int32 → Prop), gfI (hM m ad τ w b) (some m) [13] 13 P = P (τ 13 0)) ∧ (∀ (τ : Nat → Nat → Int32) (w : Int64) (P : Int32 → Prop), gfI (hM m ad τ w b) (some m) [13] 14 P = P (τ 14 0)) ∧ (∀ (τ : Nat → Nat → Int32) (w : Int64) (P : Int32 → Prop), gfI (hM m ad τ w b) (some m) [13] 15 P = P (τ 15 0)) ∧ (∀ (τ : Nat → Nat → Int32) (w : Int64) (P : Int32 → Prop), gfI (hM m ad τ w b) (some m) [13] 16 P = P (τ 16 0)) ∧ (∀ (τ : Nat → Nat → Int32) (w : Int64) (P : Int32 → Prop), gfI (hM m ad τ w b) (some m) [13] 17 P = P (τ 17 0)) ∧ (∀ (τ : Nat → Nat → Int32) (w : Int64) (P : Int32 → Prop), gfI (hM m ad τ w b) (some m) [13] 18 P = P (τ 18 0)) ∧ (∀ (τ : Nat → Nat → Int32) (w : Int64) (P : Int32 → Prop), gfI (hM m ad τ w b) (some m) [13] 19 P = P (τ 19 0)) ∧ (∀ (τ : Nat → Nat → Int32) (w : Int64) (P : Int32 → Prop), gfI (hM m ad τ w b) (some m) [13] 20 P = P (τ 20 0)) ∧ (∀ (τ : Nat → Nat → Int32) (w : Int64) (P : Int32 → Prop), gfI (hM m ad τ w b) (some m) [13] 21 P = P (τ 21 0)) ∧ (∀ (τ : Nat → Nat → Int32) (w : Int64) (P : Int32 → Prop), gfI (hM m ad τ w b) (some m) [13] 22 P = P (τ 22 0)) ∧ (∀ (τ : Nat → Nat → Int32) (w : Int64) (P : Int32 → Prop), gfI (hM m ad τ w b) (some m) [13] 23 P = P (τ 23 0)) ∧ (∀ (τ : Nat → Nat → Int32) (w : Int64) (P : Int32 → Prop), gfI (hM m ad τ w b) (some m) [13] 24 P = P (τ 24 0)) ∧ (∀ (τ : Nat → Nat → Int32) (w : Int64) (P : Int32 → Prop), gfI (hM m ad τ w b) (some m) [13] 26 P = P (τ 26 0)) ∧ (∀ (τ : Nat → Nat → Int32) (w : Int64) (P : Int32 → Prop), gfI (hM m ad τ w b) (some m) [13] 27 P = P (τ 27 0)) ∧ (∀ (τ : Nat → Nat → Int32) (w : Int64) (P : Int32 → Prop), gfI (hM m ad τ w b) (some m) [13] 28 P = P (τ 28 0)) ∧ (∀ (τ : Nat → Nat → Int32) (w : Int64) (P : Int32 → Prop), gfI (hM m ad τ w b) (some m) [13] 33 P = P (τ 33 0)) ∧ (∀ (τ : Nat → Nat → Int32) (w : Int64) (P : Int32 → Prop), gfI (hM m ad τ w b) (some m) [13] 34 P = P (τ 34 0)) ∧ (∀ (τ : Nat → Nat → Int32) (w : Int64) (P : Int32 → Prop), gfI (hM m ad τ w b) (some m) [13] 35 P = P (τ 35 0)) ∧ (∀ (τ : Nat → Nat → Int32) (w : Int64) (P : Int32 → Prop), gfI (hM m ad τ w b) (some m) [13] 36 P = P (τ 36 0)) ∧ (∀ (τ : Nat → Nat → Int32) (w : Int64) (P : Int32 → Prop), gfI (hM m ad τ w b) (some m) [13] 41 P = P (τ 41 0)) ∧ (∀ (τ : Nat → Nat → Int32) (w : Int64) (P : Int32 → Prop), gfI (hM m ad τ w b) (some m) [13] 42 P = P (τ 42 0)) ∧ (∀ (τ : Nat → Nat → Int32) (w : Int64) (P : Int32 → Prop), gfI (hM m ad τ w b) (some m) [13] 43 P = P (τ 43 0)) ∧ (∀ (τ : Nat → Nat → Int32) (w : Int64) (P : Int32 → Prop), gfI (hM m ad τ w b) (some m) [13] 44 P = P (τ 44 0)) ∧ (∀ (τ : Nat → Nat → Int32) (w : Int64) (P : Option Nat → Prop), gfR (hM m ad τ w b) (some m) [13] 1 P = P (some (ad 1))) ∧ (∀ (τ : Nat → Nat → Int32) (w : Int64) (P : Option Nat → Prop), gfR (hM m ad τ w b) (some m) [13] 2 P = P (some (ad 2))) ∧ (∀ (τ : Nat → Nat → Int32) (w : Int64) (P : Option Nat → Prop), gfR (hM m ad τ w b) (some m) [13] 5 P = P (some (ad 5))) ∧ (∀ (τ : Nat → Nat → Int32) (w : Int64) (P : Option Nat → Prop), gfR (hM m ad τ w b) (some m) [13] 8 P = P (some (ad 8))) ∧ (∀ (τ : Nat → Nat → Int32) (w : Int64) (P : Option Nat → Prop), gfR (hM m ad τ w b) (some m) [13] 9 P = P (some (ad 9))) ∧ (∀ (τ : Nat → Nat → Int32) (w : Int64) (P : Option Nat → Prop), gfR (hM m ad τ w b) (some m) [13] 10 P = P (some (ad 10))) ∧ (∀ (τ : Nat → Nat → Int32) (w : Int64) (P : Option Nat → Prop), gfR (hM m ad τ w b) (some m) [13] 11 P = P (some (ad 11))) ∧ (∀ (τ : Nat → Nat → Int32) (w : Int64) (P : Option Nat → Prop), gfR (hM m ad τ w b) (some m) [13] 29 P = P (some (ad 29))) ∧ (∀ (τ : Nat → Nat → Int32) (w : Int64) (P : Option Nat → Prop), gfR (hM m ad τ w b) (some m) [13] 30 P = P (some (ad 30))) ∧ (∀ (τ : Nat → Nat → Int32) (w : Int64) (P : Option Nat → Prop), gfR (hM m ad τ w b) (some m) [13] 31 P = P (some (ad 31))) ∧ (∀ (τ : Nat → Nat → Int32) (w : Int64) (P : Option Nat → Prop), gfR (hM m ad τ w b) (some m) [13] 32 P = P (some (ad 32))) ∧ (∀ (τ : Nat → Nat → Int32) (w : Int64) (P : Option Nat → Prop), gfR (hM m ad τ w b) (some m) [13] 37 P = P (some (ad 37))) ∧ (∀ (τ : Nat → Nat → Int32) (w : Int64) (P : Option Nat → Prop), gfR (hM m ad τ w b) (some m) [13] 38 P = P (some (ad 38))) ∧ (∀ (τ : Nat → Nat → Int32) (w : Int64) (P : Option Nat → Prop), gfR (hM m ad τ w b) (some m) [13] 39 P = P (some (ad 39))) ∧ (∀ (τ : Nat → Nat → Int32) (w : Int64) (P : Option Nat → Prop), gfR (hM m ad τ w b) (some m) [13] 40 P = P (some (ad 40))) ∧ (∀ (τ : Nat → Nat → Int32) (w : Int64) (P : Option Nat → Prop), gfR (hM m ad τ w b) (some m) [13] 45 P = P (some (ad 45))) ∧ (∀ (τ : Nat → Nat → Int32) (w : Int64) (P : Option Nat → Prop), gfR (hM m ad τ w b) (some m) [13] 46 P = P (some (ad 46))) ∧ (∀ (τ : Nat → Nat → Int32) (w : Int64) (P : Option Nat → Prop), gfR (hM m ad τ w b) (some m) [13] 47 P = P (some (ad 47))) ∧ (∀ (τ : Nat → Nat → Int32) (w : Int64) (P : Option Nat → Prop), gfR (hM m ad τ w b) (some m) [13] 48 P = P (some (ad 48))) ∧ (∀ (τ : Nat → Nat → Int32) (w : Int64) (v : Int32) (P : zH → Prop), pf (hM m ad τ w b) (some m) [13] 0 (.int v) P = P (hM m ad (mup τ 0 0 v) w b)) ∧ (∀ (τ : Nat → Nat → Int32) (w : Int64) (v : Int32) (P : zH → Prop), pf (hM m ad τ w b) (some m) [13] 3 (.int v) P = P (hM m ad (mup τ 3 0 v) w b)) ∧ (∀ (τ : Nat → Nat → Int32) (w : Int64) (v : Int32) (P : zH → Prop), pf (hM m ad τ w b) (some m) [13] 4 (.int v) P = P (hM m ad (mup τ 4 0 v) w b)) ∧ (∀ (τ : Nat → Nat → Int32) (w : Int64) (v : Int32) (P : zH → Prop), pf (hM m ad τ w b) (some m) [13] 6 (.int v) P = P (hM m ad (mup τ 6 0 v) w b)) ∧ (∀ (τ : Nat → Nat → Int32) (w : Int64) (v : Int32) (P : zH → Prop), pf (hM m ad τ w b) (some m) [13] 7 (.int v) P = P (hM m ad (mup τ 7 0 v) w b)) ∧ (∀ (τ : Nat → Nat → Int32) (w : Int64) (v : Int32) (P : zH → Prop), pf (hM m ad τ w b) (some m) [13] 12 (.int v) P = P (hM m ad (mup τ 12 0 v) w b)) ∧ (∀ (τ : Nat → Nat → Int32) (w : Int64) (v : Int32) (P : zH → Prop), pf (hM m ad τ w b) (some m) [13] 13 (.int v) P = P (hM m ad (mup τ 13 0 v) w b)) ∧ (∀ (τ : Nat → Nat → Int32) (w : Int64) (v : Int32) (P : zH → Prop), pf (hM m ad τ w b) (some m) [13] 14 (.int v) P = P (hM m ad (mup τ 14 0 v) w b)) ∧ (∀ (τ : Nat → Nat → Int32) (w : Int64) (v : Int32) (P : zH → Prop), pf (hM m ad τ w b) (some m) [13] 15 (.int v) P = P (hM m ad (mup τ 15 0 v) w b)) ∧ (∀ (τ : Nat → Nat → Int32) (w : Int64) (v : Int32) (P : zH → Prop), pf (hM m ad τ w b) (some m) [13] 16 (.int v) P = P (hM m ad (mup τ 16 0 v) w b)) ∧ (∀ (τ : Nat → Nat → Int32) (w : Int64) (v : Int32) (P : zH → Prop), pf (hM m ad τ w b) (some m) [13] 17 (.int v) P = P (hM m ad (mup τ 17 0 v) w b)) ∧ (∀ (τ : Nat → Nat → Int32) (w : Int64) (v : Int32) (P : zH → Prop), pf (hM m ad τ w b) (some m) [13] 18 (.int v) P = P (hM m ad (mup τ 18 0 v) w b)) ∧ (∀ (τ : Nat → Nat → Int32) (w : Int64) (v : Int32) (P : zH → Prop), pf (hM m ad τ w b) (some m) [13] 19 (.int v) P = P (hM m ad (mup τ 19 0 v) w b)) ∧ (∀ (τ : Nat → Nat → Int32) (w : Int64) (v : Int32) (P : zH → Prop), pf (hM m ad τ w b) (some m) [13] 20 (.int v) P = P (hM m ad (mup τ 20 0 v) w b)) ∧ (∀ (τ : Nat → Nat → Int32) (w : Int64) (v : Int32) (P : zH → Prop), pf (hM m ad τ w b) (some m) [13] 21 (.int v) P = P (hM m ad (mup τ 21 0 v) w b)) ∧ (∀ (τ : Nat → Nat → Int32) (w : Int64) (v : Int32) (P : zH → Prop), pf (hM m ad τ w b) (some m) [13] 22 (.int v) P = P (hM m ad (mup τ 22 0 v) w b)) ∧ (∀ (τ : Nat → Nat → Int32) (w : Int64) (v : Int32) (P : zH → Prop), pf (hM m ad τ w b) (some m) [13] 23 (.int v) P = P (hM m ad (mup τ 23 0 v) w b)) ∧ (∀ (τ : Nat → Nat → Int32) (w : Int64) (v : Int32) (P : zH → Prop), pf (hM m ad τ w b) (some m) [13] 24 (.int v) P = P (hM m ad (mup τ 24 0 v) w b)) ∧ (∀ (τ : Nat → Nat → Int32) (w : Int64) (v : Int32) (P : zH → Prop), pf (hM m ad τ w b) (some m) [13] 26 (.int v) P = P (hM m ad (mup τ 26 0 v) w b)) ∧ (∀ (τ : Nat → Nat → Int32) (w : Int64) (v : Int32) (P : zH → Prop), pf (hM m ad τ w b) (some m) [13] 27 (.int v) P = P (hM m ad (mup τ 27 0 v) w b)) ∧ (∀ (τ : Nat → Nat → Int32) (w : Int64) (v : Int32) (P : zH → Prop), pf (hM m ad τ w b) (some m) [13] 28 (.int v) P = P (hM m ad (mup τ 28 0 v) w b)) ∧ (∀ (τ : Nat → Nat → Int32) (w : Int64) (v : Int32) (P : zH → Prop), pf (hM m ad τ w b) (some m) [13] 33 (.int v) P = P (hM m ad (mup τ 33 0 v) w b)) ∧ (∀ (τ : Nat → Nat → Int32) (w : Int64) (v : Int32) (P : zH → Prop), pf (hM m ad τ w b) (some m) [13] 34 (.int v) P = P (hM m ad (mup τ 34 0 v) w b)) ∧ (∀ (τ : Nat → Nat → Int32) (w : Int64) (v : Int32) (P : zH → Prop), pf (hM m ad τ w b) (some m) [13] 35 (.int v) P = P (hM m ad (mup τ 35 0 v) w b)) ∧ (∀ (τ : Nat → Nat → Int32) (w : Int64) (v : Int32) (P : zH → Prop), pf (hM m ad τ w b) (some m) [13] 36 (.int v) P = P (hM m ad (mup τ 36 0 v) w b)) ∧ (∀ (τ : Nat → Nat → Int32) (w : Int64) (v : Int32) (P : zH → Prop), pf (hM m ad τ w b) (some m) [13] 41 (.int v) P = P (hM m ad (mup τ 41 0 v) w b)) ∧ (∀ (τ : Nat → Nat → Int32) (w : Int64) (v : Int32) (P : zH → Prop), pf (hM m ad τ w b) (some m) [13] 42 (.int v) P = P (hM m ad (mup τ 42 0 v) w b)) ∧ (∀ (τ : Nat → Nat → Int32) (w : Int64) (v : Int32) (P : zH → Prop), pf (hM m ad τ w b) (some m) [13] 43 (.int v) P = P (hM m ad (mup τ 43 0 v) w b)) ∧ (∀ (τ : Nat → Nat → Int32) (w : Int64) (v : Int32) (P : zH → Prop), pf (hM m ad τ w b) (some m) [13] 44 (.int v) P = P (hM m ad (mup τ 44 0 v) w b)) ∧ (∀ (τ : Nat → Nat → Int32) (w : Int64) (i : Int32) (P : Int32 → Prop), aldI (hM m ad τ w b) (some (ad 1)) 0 i P = (vp_in i 960 ∧ P (τ 1 i.toNatClampNeg))) ∧ (∀ (τ : Nat → Nat → Int32) (w : Int64) (i : Int32) (P : Int32 → Prop), aldI (hM m ad τ w b) (some (ad 2)) 0 i P = (vp_in i 6 ∧ P (τ 2 i.toNatClampNeg))) ∧ (∀ (τ : Nat → Nat → Int32) (w : Int64) (i : Int32) (P : Int32 → Prop), aldI (hM m ad τ w b) (some (ad 5)) 0 i P = (vp_in i 160 ∧ P (τ 5 i.toNatClampNeg))) ∧ (∀ (τ : Nat → Nat → Int32) (w : Int64) (i : Int32) (P : Int32 → Prop), aldI (hM m ad τ w b) (some (ad 8)) 0 i P = (vp_in i 4 ∧ P (τ 8 i.toNatClampNeg))) ∧ (∀ (τ : Nat → Nat → Int32) (w : Int64) (i : Int32) (P : Int32 → Prop), aldI (hM m ad τ w b) (some (ad 9)) 0 i P = (vp_in i 4 ∧ P (τ 9 i.toNatClampNeg))) ∧ (∀ (τ : Nat → Nat → Int32) (w : Int64) (i : Int32) (P : Int32 → Prop), aldI (hM m ad τ w b) (some (ad 10)) 0 i P = (vp_in i 6 ∧ P (τ 10 i.toNatClampNeg))) ∧ (∀ (τ : Nat → Nat → Int32) (w : Int64) (i : Int32) (P : Int32 → Prop), aldI (hM m ad τ w b) (some (ad 11)) 0 i P = (vp_in i 18 ∧ P (τ 11 i.toNatClampNeg))) ∧ (∀ (τ : Nat → Nat → Int32) (w : Int64) (i : Int32) (P : Int32 → Prop), aldI (hM m ad τ w b) (some (ad 29)) 0 i P = (vp_in i 24 ∧ P (τ 29 i.toNatClampNeg))) ∧ (∀ (τ : Nat → Nat → Int32) (w : Int64) (i : Int32) (P : Int32 → Prop), aldI (hM m ad τ w b) (some (ad 30)) 0 i P = (vp_in i 6 ∧ P (τ 30 i.toNatClampNeg))) ∧ (∀ (τ : Nat → Nat → Int32) (w : Int64) (i : Int32) (P : Int32 → Prop), aldI (hM m ad τ w b) (some (ad 31)) 3 i P = (vp_in i 108 ∧ P (τ 31 i.toNatClampNeg))) ∧ (∀ (τ : Nat → Nat → Int32) (w : Int64) (i : Int32) (P : Int32 → Prop), aldI (hM m ad τ w b) (some (ad 32)) 0 i P = (vp_in i 4 ∧ P (τ 32 i.toNatClampNeg))) ∧ (∀ (τ : Nat → Nat → Int32) (w : Int64) (i : Int32) (P : Int32 → Prop), aldI (hM m ad τ w b) (some (ad 37)) 0 i P = (vp_in i 6 ∧ P (τ 37 i.toNatClampNeg))) ∧ (∀ (τ : Nat → Nat → Int32) (w : Int64) (i : Int32) (P : Int32 → Prop), aldI (hM m ad τ w b) (some (ad 38)) 0 i P = (vp_in i 18 ∧ P (τ 38 i.toNatClampNeg))) ∧ (∀ (τ : Nat → Nat → Int32) (w : Int64) (i : Int32) (P : Int32 → Prop), aldI (hM m ad τ w b) (some (ad 39)) 0 i P = (vp_in i 4 ∧ P (τ 39 i.toNatClampNeg))) ∧ (∀ (τ : Nat → Nat → Int32) (w : Int64) (i : Int32) (P : Int32 → Prop), aldI (hM m ad τ w b) (some (ad 40)) 0 i P = (vp_in i 4 ∧ P (τ 40 i.toNatClampNeg))) ∧ (∀ (τ : Nat → Nat → Int32) (w : Int64) (i : Int32) (P : Int32 → Prop), aldI (hM m ad τ w b) (some (ad 45)) 3 i P = (vp_in i 4 ∧ P (τ 45 i.toNatClampNeg))) ∧ (∀ (τ : Nat → Nat → Int32) (w : Int64) (i : Int32) (P : Int32 → Prop), aldI (hM m ad τ w b) (some (ad 46)) 0 i P = (vp_in i 4 ∧ P (τ 46 i.toNatClampNeg))) ∧ (∀ (τ : Nat → Nat → Int32) (w : Int64) (i : Int32) (P : Int32 → Prop), aldI (hM m ad τ w b) (some (ad 47)) 0 i P = (vp_in i 4 ∧ P (τ 47 i.toNatClampNeg))) ∧ (∀ (τ : Nat → Nat → Int32) (w : Int64) (i : Int32) (P : Int32 → Prop), aldI (hM m ad τ w b) (some (ad 48)) 0 i P = (vp_in i 160 ∧ P (τ 48 i.toNatClampNeg))) ∧ (∀ (τ : Nat → Nat → Int32) (w : Int64) (i v : Int32) (P : zH → Prop), astI (hM m ad τ w b) (some (ad 1)) 0 i v P = (vp_in i 960 ∧ P (hM m ad (mup τ 1 i.toNatClampNeg v) w b))) ∧ (∀ (τ : Nat → Nat → Int32) (w : Int64) (i v : Int32) (P : zH → Prop), astI (hM m ad τ w b) (some (ad 2)) 0 i v P = (vp_in i 6 ∧ P (hM m ad (mup τ 2 i.toNatClampNeg v) w b))) ∧ (∀ (τ : Nat → Nat → Int32) (w : Int64) (i v : Int32) (P : zH → Prop), astI (hM m ad τ w b) (some (ad 5)) 0 i v P = (vp_in i 160 ∧ P (hM m ad (mup τ 5 i.toNatClampNeg v) w b))) ∧ (∀ (τ : Nat → Nat → Int32) (w : Int64) (i v : Int32) (P : zH → Prop), astI (hM m ad τ w b) (some (ad 8)) 0 i v P = (vp_in i 4 ∧ P (hM m ad (mup τ 8 i.toNatClampNeg v) w b))) ∧ (∀ (τ : Nat → Nat → Int32) (w : Int64) (i v : Int32) (P : zH → Prop), astI (hM m ad τ w b) (some (ad 9)) 0 i v P = (vp_in i 4 ∧ P (hM m ad (mup τ 9 i.toNatClampNeg v) w b))) ∧ (∀ (τ : Nat → Nat → Int32) (w : Int64) (i v : Int32) (P : zH → Prop), astI (hM m ad τ w b) (some (ad 10)) 0 i v P = (vp_in i 6 ∧ P (hM m ad (mup τ 10 i.toNatClampNeg v) w b))) ∧ (∀ (τ : Nat → Nat → Int32) (w : Int64) (i v : Int32) (P : zH → Prop), astI (hM m ad τ w b) (some (ad 11)) 0 i v P = (vp_in i 18 ∧ P (hM m ad (mup τ 11 i.toNatClampNeg v) w b))) ∧ (∀ (τ : Nat → Nat → Int32) (w : Int64) (i v : Int32) (P : zH → Prop), astI (hM m ad τ w b) (some (ad 29)) 0 i v P = (vp_in i 24 ∧ P (hM m ad (mup τ 29 i.toNatClampNeg v) w b))) ∧ (∀ (τ : Nat → Nat → Int32) (w : Int64) (i v : Int32) (P : zH → Prop), astI (hM m ad τ w b) (some (ad 30)) 0 i v P = (vp_in i 6 ∧ P (hM m ad (mup τ 30 i.toNatClampNeg v) w b))) ∧ (∀ (τ : Nat → Nat → Int32) (w : Int64) (i v : Int32) (P : zH → Prop), astI (hM m ad τ w b) (some (ad 31)) 3 i v P = (vp_in i 108 ∧ P (hM m ad (mup τ 31 i.toNatClampNeg v) w b))) ∧ (∀ (τ : Nat → Nat → Int32) (w : Int64) (i v : Int32) (P : zH → Prop), astI (hM m ad τ w b) (some (ad 32)) 0 i v P = (vp_in i 4 ∧ P (hM m ad (mup τ 32 i.toNatClampNeg v) w b))) ∧ (∀ (τ : Nat → Nat → Int32) (w : Int64) (i v : Int32) (P : zH → Prop), astI (hM m ad τ w b) (some (ad 37)) 0 i v P = (vp_in i 6 ∧ P (hM m ad (mup τ 37 i.toNatClampNeg v) w b))) ∧ (∀ (τ : Nat → Nat → Int32) (w : Int64) (i v : Int32) (P : zH → Prop), astI (hM m ad τ w b) (some (ad 38)) 0 i v P = (vp_in i 18 ∧ P (hM m ad (mup τ 38 i.toNatClampNeg v) w b))) ∧ (∀ (τ : Nat → Nat → Int32) (w : Int64) (i v : Int32) (P : zH → Prop), astI (hM m ad τ w b) (some (ad 39)) 0 i v P = (vp_in i 4 ∧ P (hM m ad (mup τ 39 i.toNatClampNeg v) w b))) ∧ (∀ (τ : Nat → Nat → Int32) (w : Int64) (i v : Int32) (P : zH → Prop), astI (hM m ad τ w b) (some (ad 40)) 0 i v P = (vp_in i 4 ∧ P (hM m ad (mup τ 40 i.toNatClampNeg v) w b))) ∧ (∀ (τ : Nat → Nat → Int32) (w : Int64) (i v : Int32) (P : zH → Prop), astI (hM m ad τ w b) (some (ad 45)) 3 i v P = (vp_in i 4 ∧ P (hM m ad (mup τ 45 i.toNatClampNeg v) w b))) ∧ (∀ (τ : Nat → Nat → Int32) (w : Int64) (i v : Int32) (P : zH → Prop), astI (hM m ad τ w b) (some (ad 46)) 0 i v P = (vp_in i 4 ∧ P (hM m ad (mup τ 46 i.toNatClampNeg v) w b))) ∧ (∀ (τ : Nat → Nat → Int32) (w : Int64) (i v : Int32) (P : zH → Prop), astI (hM m ad τ w b) (some (ad 47)) 0 i v P = (vp_in i 4 ∧ P (hM m ad (mup τ 47 i.toNatClampNeg v) w b))) ∧ (∀ (τ : Nat → Nat → Int32) (w : Int64) (i v : Int32) (P : zH → Prop), astI (hM m ad τ w b) (some (ad 48)) 0 i v P = (vp_in i 160 ∧ P (hM m ad (mup τ 48 i.toNatClampNeg v) w b))) ∧ (∀ (τ : Nat → Nat → Int32) (w : Int64) (P : Int64 → Prop), gfJ (hM m ad τ w b) (some m) [13] 25 P = P w) ∧ (∀ (τ : Nat → Nat → Int32) (w v : Int64) (P : zH → Prop), pf (hM m ad τ w b) (some m) [13] 25 (.long v) P = P (hM m ad τ v b)) ∧ (∀ (τ : Nat → Nat → Int32) (w : Int64) (F : Prop), zrc (hM m ad τ w b) (some m) 13 F = F) := ⟨fun _ _ _ => mgI rfl _, fun _ _ _ => mgI rfl _, fun _ _ _ => mgI rfl _, fun _ _ _ => mgI rfl _, fun _ _ _ => mgI rfl _, fun _ _ _ => mgI rfl _, fun _ _ _ => mgI rfl _, fun _ _ _ => mgI rfl _, fun _ _ _ => mgI rfl _, fun _ _ _ => mgI rfl _, fun _ _ _ => mgI rfl _, fun _ _ _ => mgI rfl _, fun _ _ _ => mgI rfl _, fun _ _ _ => mgI rfl _, fun _ _ _ => mgI rfl _, fun _ _ _ => mgI rfl _, fun _ _ _ => mgI rfl _, fun _ _ _ => mgI rfl _, fun _ _ _ => mgI rfl _, fun _ _ _ => mgI rfl _, fun _ _ _ => mgI rfl _, fun _ _ _ => mgI rfl _, fun _ _ _ => mgI rfl _, fun _ _ _ => mgI rfl _, fun _ _ _ => mgI rfl _, fun _ _ _ => mgI rfl _, fun _ _ _ => mgI rfl _, fun _ _ _ => mgI rfl _, fun _ _ _ => mgI rfl _, fun _ _ _ => mgR rfl _, fun _ _ _ => mgR rfl _, fun _ _ _ => mgR rfl _, fun _ _ _ => mgR rfl _, fun _ _ _ => mgR rfl _, fun _ _ _ => mgR rfl _, fun _ _ _ => mgR rfl _, fun _ _ _ => mgR rfl _, fun _ _ _ => mgR rfl _, fun _ _ _ => mgR rfl _, fun _ _ _ => mgR rfl _, fun _ _ _ => mgR rfl _, fun _ _ _ => mgR rfl _, fun _ _ _ => mgR rfl _, fun _ _ _ => mgR rfl _, fun _ _ _ => mgR rfl _, fun _ _ _ => mgR rfl _, fun _ _ _ => mgR rfl _, fun _ _ _ => mgR rfl _, fun _ _ _ _ => mpf (by decide) _ _, fun _ _ _ _ => mpf (by decide) _ _, fun _ _ _ _ => mpf (by decide) _ _, fun _ _ _ _ => mpf (by decide) _ _, fun _ _ _ _ => mpf (by decide) _ _, fun _ _ _ _ => mpf (by decide) _ _, fun _ _ _ _ => mpf (by decide) _ _, fun _ _ _ _ => mpf (by decide) _ _, fun _ _ _ _ => mpf (by decide) _ _, fun _ _ _ _ => mpf (by decide) _ _, fun _ _ _ _ => mpf (by decide) _ _, fun _ _ _ _ => mpf (by decide) _ _, fun _ _ _ _ => mpf (by decide) _ _, fun _ _ _ _ => mpf (by decide) _ _, fun _ _ _ _ => mpf (by decide) _ _, fun _ _ _ _ => mpf (by decide) _ _, fun _ _ _ _ => mpf (by decide) _ _, fun _ _ _ _ => mpf (by decide) _ _, fun _ _ _ _ => mpf (by decide) _ _, fun _ _ _ _ => mpf (by decide) _ _, fun _ _ _ _ => mpf (by decide) _ _, fun _ _ _ _ => mpf (by decide) _ _, fun _ _ _ _ => mpf (by decide) _ _, fun _ _ _ _ => mpf (by decide) _ _, fun _ _ _ _ => mpf (by decide) _ _, fun _ _ _ _ => mpf (by decide) _ _, fun _ _ _ _ => mpf (by decide) _ _, fun _ _ _ _ => mpf (by decide) _ _, fun _ _ _ _ => mpf (by decide) _ _, fun _ _ _ _ => mld ok (by decide) _ _, fun _ _ _ _ => mld ok (by decide) _ _, fun _ _ _ _ => mld ok (by decide) _ _, fun _ _ _ _ => mld ok (by decide) _ _, fun _ _ _ _ => mld ok (by decide) _ _, fun _ _ _ _ => mld ok (by decide) _ _, fun _ _ _ _ => mld ok (by decide) _ _, fun _ _ _ _ => mld ok (by decide) _ _, fun _ _ _ _ => mld ok (by decide) _ _, fun _ _ _ _ => mld ok (by decide) _ _, fun _ _ _ _ => mld ok (by decide) _ _, fun _ _ _ _ => mld ok (by decide) _ _, fun _ _ _ _ => mld ok (by decide) _ _, fun _ _ _ _ => mld ok (by decide) _ _, fun _ _ _ _ => mld ok (by decide) _ _, fun _ _ _ _ => mld ok (by decide) _ _, fun _ _ _ _ => mld ok (by decide) _ _, fun _ _ _ _ => mld ok (by decide) _ _, fun _ _ _ _ => mld ok (by decide) _ _, fun _ _ _ _ _ => mst ok (by decide) _ _ _, fun _ _ _ _ _ => mst ok (by decide) _ _ _, fun _ _ _ _ _ => mst ok (by decide) _ _ _, fun _ _ _ _ _ => mst ok (by decide) _ _ _, fun _ _ _ _ _ => mst ok (by decide) _ _ _, fun _ _ _ _ _ => mst ok (by decide) _ _ _, fun _ _ _ _ _ => mst ok (by decide) _ _ _, fun _ _ _ _ _ => mst ok (by decide) _ _ _, fun _ _ _ _ _ => mst ok (by decide) _ _ _, fun _ _ _ _ _ => mst ok (by decide) _ _ _, fun _ _ _ _ _ => mst ok (by decide) _ _ _, fun _ _ _ _ _ => mst ok (by decide) _ _ _, fun _ _ _ _ _ => mst ok (by decide) _ _ _, fun _ _ _ _ _ => mst ok (by decide) _ _ _, fun _ _ _ _ _ => mst ok (by decide) _ _ _, fun _ _ _ _ _ => mst ok (by decide) _ _ _, fun _ _ _ _ _ => mst ok (by decide) _ _ _, fun _ _ _ _ _ => mst ok (by decide) _ _ _, fun _ _ _ _ _ => mst ok (by decide) _ _ _, fun _ _ _ => mgJ _, fun _ _ _ _ => mpl _ _, fun _ _ _ => mrc _⟩
