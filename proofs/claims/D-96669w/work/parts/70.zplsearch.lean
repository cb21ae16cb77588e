/-! THE LAWS: the class's search answers as the reference's -/
set_option maxRecDepth 100000
theorem fo_rel {α β : Type} {R : α → β → Prop} {F : Nat → α → α} {G : Nat → β → β} {n : Nat} (hs : ∀ i a b, i < n → R a b → R (F i a) (G i b)) : ∀ j i a b, i + j ≤ n → R a b → R (fo F j i a) (fo G j i b) := by
  intro j
  induction j with
  | zero => intro i a b _ h; exact h
  | succ j ih => intro i a b h1 h; exact ih (i + 1) (F i a) (G i b) (by omega) (hs i a b (by omega) h)
section LS
variable {n : Nat} {S : Nat → Nat → Int32} {C : Nat → Int32} {H : Nat → Nat → Nat → Int32} {W Z : Nat → Int32} {purse : Int32}
theorem sk_met0 : ∀ (d i : Nat) (last used bright price digits : Int32) (B : B3), sk n S C H W Z 1 purse d i last used bright price digits 0 B = B := by
  intro d
  induction d with
  | zero =>
    intro i last used bright price digits B
    show lk 1 purse bright price digits 0 B = B
    unfold lk
    rw [if_pos ⟨rfl, rfl⟩]
  | succ d ih =>
    intro i last used bright price digits B
    unfold sk
    refine fo_inv (P := fun B' => B' = B) (n := n) (fun p B' _ hB => ?_) n 0 _ (by omega) ?_
    · rw [if_pos (show (0 : Int32) = 0 from rfl), ih, hB]
      exact ite_self _
    · rw [if_pos (show (0 : Int32) = 0 from rfl), ih]
theorem sk_over (hC : ∀ p, p < n → ∃ c, c ≤ 999 ∧ C p = nI c) : ∀ (d i : Nat) (last used bright digits met : Int32) (P : Nat) (B : B3), P + 999 * d < 2 ^ 30 → purse < nI P → sk n S C H W Z 2 purse d i last used bright (nI P) digits met B = B := by
  intro d
  induction d with
  | zero =>
    intro i last used bright digits met P B h1 h2
    show lk 2 purse bright (nI P) digits met B = B
    unfold lk
    rw [if_neg (fun z => absurd z.1 (by decide)), if_pos ⟨rfl, h2⟩]
  | succ d ih =>
    intro i last used bright digits met P B h1 h2
    unfold sk
    refine fo_inv (P := fun B' => B' = B) (n := n) (fun p B' hp hB => ?_) n 0 _ (by omega) ?_
    · obtain ⟨c, hc, ec⟩ := hC p hp
      rw [ec, nI_add, ih _ _ _ _ _ _ (P + c) _ (by omega) ?_, hB]
      · exact ite_self _
      · rw [Int32.lt_iff_toInt_lt, nI_toInt (by omega)] at h2 ⊢
        omega
    · exact ih _ _ _ _ _ _ P _ (by omega) h2
def RB (a b : B3) : Prop := (a.1 ≠ 0 ∧ a = b) ∨ (a.1 = 0 ∧ b = (0, -1, 1))
theorem sk_law {Z' : Nat → Int32} (hZ : ∀ p, p < n → Z' p = Z p) {S' : Nat → Nat → Int32} {H' : Nat → Nat → Nat → Int32} {goal : Int32} (hg : goal = 0 ∨ goal = 1 ∨ goal = 2) (hC : ∀ p, p < n → ∃ c, c ≤ 999 ∧ C p = nI c) (hS : ∀ p i, p < n → Z p = 0 → S' p i = S p i) (hH : ∀ q p i, q < n → p < n → i < 3 → H' q p i = H q p i) (hW : ∀ i, i < 4 → 0 ≤ (W i).toInt) (hn : n ≤ 6) : ∀ (d i : Nat) (last used bright digits met : Int32) (P : Nat) (B' B : B3), i + d = 4 → P + 999 * d < 2 ^ 30 → (goal = 2 → ¬ purse < nI P) → (goal = 1 → met ≠ 0) → (last = -1 ∨ ∃ q : Nat, q < n ∧ last = nI q ∧ 0 < i) → RB B' B → RB (skC n S' C H' W Z' goal purse d i last used bright (nI P) digits B') (sk n S C H W Z goal purse d i last used bright (nI P) digits met B) := by
  intro d
  induction d with
  | zero =>
    intro i last used bright digits met P B' B _ _ h2 h1 _ hB
    show RB (lkC goal bright (nI P) digits B') (lk goal purse bright (nI P) digits met B)
    unfold lkC lk
    rw [if_neg (show ¬ (goal = 1 ∧ met = 0) from fun z => h1 z.1 z.2), if_neg (show ¬ (goal = 2 ∧ purse < nI P) from fun z => h2 z.1 z.2)]
    rcases hB with ⟨b1, b2⟩ | ⟨b1, b2⟩
    · rw [← b2]
      by_cases c0 : B'.1 = 0 ∨ B'.2.2 < (if goal = 1 then -nI P else bright)
      · rw [if_pos c0]
        exact Or.inl ⟨(by decide : (1 : Int32) ≠ 0), rfl⟩
      · rw [if_neg c0]
        exact Or.inl ⟨b1, rfl⟩
    · rw [if_pos (Or.inl b1), b2, if_pos (Or.inl rfl)]
      exact Or.inl ⟨(by decide : (1 : Int32) ≠ 0), rfl⟩
  | succ d ih =>
    intro i last used bright digits met P B' B hi hP h2 h1 hl hB
    unfold skC sk
    refine fo_rel (R := RB) (n := n) (fun p a b hp hab => ?_) n 0 _ _ (by omega) ?_
    · rw [hZ p hp]
      by_cases cu : (used >>> (nI p &&& 31)) &&& 1 = 0 ∧ Z p = 0
      · obtain ⟨c, hc, ec⟩ := hC p hp
        rw [hS p i hp cu.2]
        have el : (last = -1 ∨ H' last.toNatClampNeg p (i - 1) = 0) ↔ (i = 0 ∨ last = -1 ∨ H last.toNatClampNeg p (i - 1) = 0) := by
          rcases hl with z | ⟨q, hq, eq, hi0⟩
          · exact ⟨fun _ => Or.inr (Or.inl z), fun _ => Or.inl z⟩
          · rw [eq, nI_clamp (by omega), hH q p (i - 1) hq hp (by omega)]
            exact ⟨fun y => Or.inr y, fun y => y.elim (fun w => by omega) id⟩
        by_cases cl : (i = 0 ∨ last = -1 ∨ H last.toNatClampNeg p (i - 1) = 0)
        · rw [if_pos (show ((used >>> (nI p &&& 31)) &&& 1 = 0 ∧ Z p = 0) ∧ (i = 0 ∨ last = -1 ∨ H last.toNatClampNeg p (i - 1) = 0) from ⟨cu, cl⟩), ec, nI_add]
          by_cases c1 : goal = 1 ∧ S p i < W i
          · rw [if_neg (fun z => z.1.2 c1)]
            have : (if met = 0 then (0 : Int32) else if S p i < W i then 0 else 1) = 0 := by
              rw [if_pos c1.2]
              exact ite_self _
            rw [this, c1.1, sk_met0]
            exact hab
          · by_cases c2 : goal = 2 ∧ purse < nI (P + c)
            · rw [if_neg (fun z => z.2.2 c2), c2.1, sk_over hC _ _ _ _ _ _ _ (P + c) _ (by omega) c2.2]
              exact hab
            · rw [if_pos ⟨⟨cu, c1⟩, el.mpr cl, c2⟩]
              refine ih (i + 1) _ _ _ _ _ (P + c) a b (by omega) (by omega) (fun z y => c2 ⟨z, y⟩) (fun z => ?_) (Or.inr ⟨p, hp, rfl, by omega⟩) hab
              rw [if_neg (h1 z), if_neg (fun y => c1 ⟨z, y⟩)]
              decide
        · rw [if_neg (fun z => cl (el.mp z.2.1)), if_neg (fun z => cl z.2)]
          exact hab
      · rw [if_neg (fun z => cu z.1.1), if_neg (fun z => cu z.1)]
        exact hab
    · have w0 : (0 < W i) ↔ ¬ W i = 0 := by
        have := hW i (by omega)
        rw [Int32.lt_iff_toInt_lt]
        have e0 : (0 : Int32).toInt = 0 := rfl
        rw [e0]
        refine ⟨fun z y => by rw [y, e0] at z; omega, fun z => ?_⟩
        have : (W i).toInt ≠ 0 := fun y => z (Int32.toInt_inj.mp (by rw [y]; rfl))
        omega
      by_cases c : goal = 1 ∧ 0 < W i
      · rw [if_pos c]
        have : (if met = 0 then (0 : Int32) else if W i = 0 then 1 else 0) = 0 := by
          rw [if_neg (w0.mp c.2)]
          exact ite_self _
        rw [this, c.1, sk_met0]
        exact hB
      · rw [if_neg c]
        refine ih (i + 1) _ _ _ _ _ P B' B (by omega) (by omega) h2 (fun z => ?_) (Or.inl rfl) hB
        rw [if_neg (h1 z), if_pos (Decidable.byContradiction fun y => c ⟨z, w0.mpr y⟩)]
        decide
theorem skC_ne {goal : Int32} : ∀ (d i : Nat) (last used bright price digits : Int32) (B : B3), B.1 ≠ 0 → (skC n S C H W Z goal purse d i last used bright price digits B).1 ≠ 0 := by
  intro d
  induction d with
  | zero =>
    intro i last used bright price digits B hB
    show (lkC goal bright price digits B).1 ≠ 0
    unfold lkC
    by_cases c : B.1 = 0 ∨ B.2.2 < (if goal = 1 then -price else bright)
    · rw [if_pos c]; exact (by decide : (1 : Int32) ≠ 0)
    · rw [if_neg c]; exact hB
  | succ d ih =>
    intro i last used bright price digits B hB
    unfold skC
    refine fo_inv (P := fun B' : B3 => B'.1 ≠ 0) (n := n) (fun p B' _ hB' => ?_) n 0 _ (by omega) ?_
    · by_cases c : (((used >>> (nI p &&& 31)) &&& 1 = 0 ∧ Z p = 0) ∧ ¬ (goal = 1 ∧ S p i < W i)) ∧ ((last = -1 ∨ H last.toNatClampNeg p (i - 1) = 0) ∧ ¬ (goal = 2 ∧ purse < price + C p))
      · rw [if_pos c]; exact ih _ _ _ _ _ _ _ hB'
      · rw [if_neg c]; exact hB'
    · by_cases c : goal = 1 ∧ 0 < W i
      · rw [if_pos c]; exact hB
      · rw [if_neg c]; exact ih _ _ _ _ _ _ _ hB
theorem skC_found {goal : Int32} (hg : goal ≠ 1) : ∀ (d i : Nat) (last used bright price digits : Int32) (B : B3), (skC n S C H W Z goal purse d i last used bright price digits B).1 ≠ 0 := by
  intro d
  induction d with
  | zero =>
    intro i last used bright price digits B
    show (lkC goal bright price digits B).1 ≠ 0
    unfold lkC
    by_cases c : B.1 = 0 ∨ B.2.2 < (if goal = 1 then -price else bright)
    · rw [if_pos c]; exact (by decide : (1 : Int32) ≠ 0)
    · rw [if_neg c]; exact fun z => c (Or.inl z)
  | succ d ih =>
    intro i last used bright price digits B
    unfold skC
    refine fo_inv (P := fun B' : B3 => B'.1 ≠ 0) (n := n) (fun p B' _ hB' => ?_) n 0 _ (by omega) ?_
    · by_cases c : (((used >>> (nI p &&& 31)) &&& 1 = 0 ∧ Z p = 0) ∧ ¬ (goal = 1 ∧ S p i < W i)) ∧ ((last = -1 ∨ H last.toNatClampNeg p (i - 1) = 0) ∧ ¬ (goal = 2 ∧ purse < price + C p))
      · rw [if_pos c]; exact skC_ne _ _ _ _ _ _ _ _ hB'
      · rw [if_neg c]; exact hB'
    · rw [if_neg (fun z => hg z.1)]
      exact ih _ _ _ _ _ _ _
end LS
