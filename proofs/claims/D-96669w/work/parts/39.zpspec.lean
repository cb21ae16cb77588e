/-! THE SHARED SPEC: what both sides answer, of a state σ (the reference's own fields) and of the texts' meanings G; the reference's heap as a predicate -/
set_option maxRecDepth 100000
/-- a loop from i, j turns -/
def fo {α : Type} (F : Nat → α → α) : Nat → Nat → α → α
  | 0, _, a => a
  | j + 1, i, a => fo F j (i + 1) (F i a)
theorem fo_congr {α : Type} {F F' : Nat → α → α} : ∀ (j i : Nat) (a : α), (∀ k a, i ≤ k → k < i + j → F k a = F' k a) → fo F j i a = fo F' j i a := by
  intro j
  induction j with
  | zero => intro i a _; rfl
  | succ j ih =>
    intro i a h
    show fo F j (i + 1) (F i a) = fo F' j (i + 1) (F' i a)
    rw [h i a (Nat.le_refl _) (by omega)]
    exact ih (i + 1) _ fun k a h1 h2 => h k a (by omega) (by omega)
/-- the first place where P holds, or -1 -/
def fi (P : Nat → Bool) : Nat → Nat → Int32
  | 0, _ => -1
  | j + 1, i => if P i = true then nI i else fi P j (i + 1)
theorem fi_congr {P P' : Nat → Bool} : ∀ (j i : Nat), (∀ k, i ≤ k → k < i + j → P k = P' k) → fi P j i = fi P' j i := by
  intro j
  induction j with
  | zero => intro i _; rfl
  | succ j ih =>
    intro i h
    show (if P i = true then nI i else fi P j (i + 1)) = (if P' i = true then nI i else fi P' j (i + 1))
    rw [h i (Nat.le_refl _) (by omega), ih (i + 1) fun k h1 h2 => h k (by omega) (by omega)]
abbrev ST : Type := Nat → Nat → Int32
abbrev TG : Type := Nat → Nat → SEM
/-- the state's own texts -/
def Gm (σ : ST) : TG := fun t k => match tk_text (fun i => σ 1 (160 * t + i)) (σ 2 t).toNatClampNeg with
  | .inl _ => fun _ => 0
  | .inr g => sel3 k g.1 g.2.1 g.2.2
def asq (G : TG) (σ : ST) (k p : Nat) (o hr bt : Int32) : Int32 := if k = 2 then G (σ 4 0).toNatClampNeg k (ev6 hr (σ 11 (3 * p + 1)) (σ 11 (3 * p + 2)) (σ 11 (3 * p)) o bt) else cl0 99 (G (σ 4 0).toNatClampNeg k (ev6 hr (σ 11 (3 * p + 1)) (σ 11 (3 * p + 2)) (σ 11 (3 * p)) o bt))
def noo (hr v : Int32) : Int32 := if 3 ≤ hr.toInt ∧ hr.toInt ≤ 5 then 2 * v else v
/-- light, costs, spilling by kind -/
def nlt (k n d hr v : Int32) : Int32 := if k = 1 then v / 2 else if k = 3 then v / 2 + 3 * n else if k = 2 then noo hr v else if k = 4 then (if d - d / 7 * 7 = n - n / 7 * 7 then noo hr v + 10 else noo hr v) else if k = 5 then (if hr < 6 then 0 else v) else v
def nct (k n v : Int32) : Int32 := if k = 1 then v / 2 else if k = 3 then v / 2 - 1 else if k = 2 then v + n else if k = 4 then 2 * (v + n) else v
def nsp (k w : Int32) : Int32 := if k = 1 then 1 + w / 3 else if k = 3 then 1 + w / 3 + 1 else if k = 5 then 1 else 0
def lt (G : TG) (σ : ST) (p : Nat) (o hr : Int32) : Int32 := cl0 999 (nlt (σ 10 p) (σ 11 (3 * p)) (σ 11 (3 * p + 1)) hr (asq G σ 0 p o hr 0))
def ct (G : TG) (σ : ST) (p : Nat) : Int32 := cl0 999 (nct (σ 10 p) (σ 11 (3 * p)) (asq G σ 1 p 4 0 0))
def sp (σ : ST) (p : Nat) : Int32 := nsp (σ 10 p) (σ 11 (3 * p + 2))
def sm (G : TG) (σ : ST) (p : Nat) (o : Int32) : Int32 := fo (fun h a => a + lt G σ p o (nI h)) 8 0 0
/-- broken: by the reference's bits -/
def ab (σ : ST) (x : Int32) : Int32 := (σ 12 0 >>> (x &&& 31)) &&& 1
/-- an opening's sum: who is there, is it broken -/
def siX (G : TG) (σ : ST) (x bx : Int32) (o : Int32) : Int32 := if x = -1 then 0 else if bx = 1 then 0 else sm G σ x.toNatClampNeg o
def aabs (d : Int32) : Int32 := if d < 0 then -d else d
def qv (G : TG) (σ : ST) (a b : Nat) (o : Int32) : Int32 := asq G σ 2 a o 4 (aabs (σ 11 (3 * a + 1) - σ 11 (3 * b + 1)))
def qrX (G : TG) (σ : ST) (x y bx by_ : Int32) (o : Int32) : Int32 := if x = -1 then 0 else if y = -1 then 0 else if bx = 1 then 0 else if by_ = 1 then 0 else if qv G σ x.toNatClampNeg y.toNatClampNeg o = 0 then 0 else 1
def qr (G : TG) (σ : ST) (x y o : Int32) : Int32 := qrX G σ x y (ab σ x) (ab σ y) o
def si (G : TG) (σ : ST) (o : Nat) : Int32 := siX G σ (σ 9 o) (ab σ (σ 9 o)) (nI o)
def bri (G : TG) (σ : ST) : Int32 := fo (fun o a => a + si G σ o) 4 0 0
def qst (G : TG) (σ : ST) : Int32 := fo (fun o a => a ||| (qr G σ (σ 9 o) (σ 9 (o + 1)) (nI o) <<< (nI o &&& 31))) 3 0 0
/-- how many panes -/
def nP (σ : ST) : Nat := (σ 13 0).toNatClampNeg
/-- the standing facts of a state -/
def WS (σ : ST) : Prop := (∃ n : Nat, n ≤ 6 ∧ σ 13 0 = nI n) ∧ (∃ c r : Nat, c ≤ 6 ∧ σ 3 0 = nI c ∧ r < c ∧ σ 4 0 = nI r) ∧ (∃ k : Nat, k ≤ 160 ∧ σ 6 0 = nI k) ∧
  (∀ i, i < 960 → 0 ≤ (σ 1 i).toInt ∧ (σ 1 i).toInt ≤ 255) ∧ (∀ i, i < 160 → 0 ≤ (σ 5 i).toInt ∧ (σ 5 i).toInt ≤ 255) ∧
  (∀ t, t < (σ 3 0).toNatClampNeg → ∃ n : Nat, n ≤ 160 ∧ σ 2 t = nI n ∧ ∃ g, tk_text (fun i => σ 1 (160 * t + i)) n = .inr g) ∧
  (∀ o, o < 4 → σ 9 o = -1 ∨ ∃ p : Nat, p < nP σ ∧ σ 9 o = nI p) ∧ (∀ p, p < 6 → 0 ≤ (σ 10 p).toInt ∧ (σ 10 p).toInt ≤ 5)
def Mh (m : Nat) (ad : Nat → Nat) (b : zH) (σ : ST) (h : zH) : Prop := ∃ (τ : ST) (w : Int64), h = hM m ad τ w b ∧ ∀ k, (k < 14 ∨ (28 < k ∧ k < 49)) → τ k = σ k
theorem nP_eq {σ : ST} (hW : WS σ) : σ 13 0 = nI (nP σ) ∧ nP σ ≤ 6 := by
  obtain ⟨⟨n, h1, h2⟩, -⟩ := hW
  have : nP σ = n := by unfold nP; rw [h2, nI_clamp (by omega)]
  rw [this]
  exact ⟨h2, h1⟩
theorem Mpf {m : Nat} {ad : Nat → Nat} {b : zH} {σ : ST} {h : zH} (hh : Mh m ad b σ h) {k : Nat} (hk : k ∈ msc) {v : Int32} {P : zH → Prop} (kk : ∀ h', Mh m ad b (mup σ k 0 v) h' → P h') : pf h (some m) [13] k (.int v) P := by
  obtain ⟨τ, w, rfl, hv⟩ := hh
  rw [mpf hk]
  refine kk _ ⟨_, w, rfl, fun j hj => ?_⟩
  unfold mup
  by_cases e : j = k
  · rw [if_pos e, if_pos e, ← e, hv j hj]
  · rw [if_neg e, if_neg e]; exact hv j hj
theorem Mst {m : Nat} {ad : Nat → Nat} {b : zH} (ok : mOk m ad) {σ : ST} {h : zH} (hh : Mh m ad b σ h) {k t n : Nat} (hk : (k, t, n) ∈ marr) {i v : Int32} {P : zH → Prop} (hi : vp_in i n) (kk : ∀ h', Mh m ad b (mup σ k i.toNatClampNeg v) h' → P h') : astI h (some (ad k)) t i v P := by
  obtain ⟨τ, w, rfl, hv⟩ := hh
  rw [mst ok hk]
  refine ⟨hi, kk _ ⟨_, w, rfl, fun j hj => ?_⟩⟩
  unfold mup
  by_cases e : j = k
  · rw [if_pos e, if_pos e, ← e, hv j hj]
  · rw [if_neg e, if_neg e]; exact hv j hj
/-- the reference's readings -/
theorem zmQ {m : Nat} {ad : Nat → Nat} {b : zH} (ok : mOk m ad) {σ : Nat → Nat → Int32} {h : zH} (hh : Mh m ad b σ h) : (∀ P : Int32 → Prop, gfI h (some m) [13] 3 P = P (σ 3 0)) ∧ (∀ P : Int32 → Prop, gfI h (some m) [13] 4 P = P (σ 4 0)) ∧ (∀ P : Int32 → Prop, gfI h (some m) [13] 6 P = P (σ 6 0)) ∧ (∀ P : Int32 → Prop, gfI h (some m) [13] 7 P = P (σ 7 0)) ∧ (∀ P : Int32 → Prop, gfI h (some m) [13] 12 P = P (σ 12 0)) ∧ (∀ P : Int32 → Prop, gfI h (some m) [13] 13 P = P (σ 13 0)) ∧ (∀ P : Int32 → Prop, gfI h (some m) [13] 33 P = P (σ 33 0)) ∧ (∀ P : Int32 → Prop, gfI h (some m) [13] 34 P = P (σ 34 0)) ∧ (∀ P : Int32 → Prop, gfI h (some m) [13] 35 P = P (σ 35 0)) ∧ (∀ P : Int32 → Prop, gfI h (some m) [13] 36 P = P (σ 36 0)) ∧ (∀ P : Int32 → Prop, gfI h (some m) [13] 41 P = P (σ 41 0)) ∧ (∀ P : Int32 → Prop, gfI h (some m) [13] 42 P = P (σ 42 0)) ∧ (∀ P : Int32 → Prop, gfI h (some m) [13] 43 P = P (σ 43 0)) ∧ (∀ P : Int32 → Prop, gfI h (some m) [13] 44 P = P (σ 44 0)) ∧ (∀ P : Option Nat → Prop, gfR h (some m) [13] 1 P = P (some (ad 1))) ∧ (∀ P : Option Nat → Prop, gfR h (some m) [13] 2 P = P (some (ad 2))) ∧ (∀ P : Option Nat → Prop, gfR h (some m) [13] 5 P = P (some (ad 5))) ∧ (∀ P : Option Nat → Prop, gfR h (some m) [13] 8 P = P (some (ad 8))) ∧ (∀ P : Option Nat → Prop, gfR h (some m) [13] 9 P = P (some (ad 9))) ∧ (∀ P : Option Nat → Prop, gfR h (some m) [13] 10 P = P (some (ad 10))) ∧ (∀ P : Option Nat → Prop, gfR h (some m) [13] 11 P = P (some (ad 11))) ∧ (∀ P : Option Nat → Prop, gfR h (some m) [13] 29 P = P (some (ad 29))) ∧ (∀ P : Option Nat → Prop, gfR h (some m) [13] 30 P = P (some (ad 30))) ∧ (∀ P : Option Nat → Prop, gfR h (some m) [13] 31 P = P (some (ad 31))) ∧ (∀ P : Option Nat → Prop, gfR h (some m) [13] 32 P = P (some (ad 32))) ∧ (∀ P : Option Nat → Prop, gfR h (some m) [13] 37 P = P (some (ad 37))) ∧ (∀ P : Option Nat → Prop, gfR h (some m) [13] 38 P = P (some (ad 38))) ∧ (∀ P : Option Nat → Prop, gfR h (some m) [13] 39 P = P (some (ad 39))) ∧ (∀ P : Option Nat → Prop, gfR h (some m) [13] 40 P = P (some (ad 40))) ∧ (∀ P : Option Nat → Prop, gfR h (some m) [13] 45 P = P (some (ad 45))) ∧ (∀ P : Option Nat → Prop, gfR h (some m) [13] 46 P = P (some (ad 46))) ∧ (∀ P : Option Nat → Prop, gfR h (some m) [13] 47 P = P (some (ad 47))) ∧ (∀ P : Option Nat → Prop, gfR h (some m) [13] 48 P = P (some (ad 48))) ∧ (∀ (i : Int32) (P : Int32 → Prop), aldI h (some (ad 1)) 0 i P = (vp_in i 960 ∧ P (σ 1 i.toNatClampNeg))) ∧ (∀ (i : Int32) (P : Int32 → Prop), aldI h (some (ad 2)) 0 i P = (vp_in i 6 ∧ P (σ 2 i.toNatClampNeg))) ∧ (∀ (i : Int32) (P : Int32 → Prop), aldI h (some (ad 5)) 0 i P = (vp_in i 160 ∧ P (σ 5 i.toNatClampNeg))) ∧ (∀ (i : Int32) (P : Int32 → Prop), aldI h (some (ad 8)) 0 i P = (vp_in i 4 ∧ P (σ 8 i.toNatClampNeg))) ∧ (∀ (i : Int32) (P : Int32 → Prop), aldI h (some (ad 9)) 0 i P = (vp_in i 4 ∧ P (σ 9 i.toNatClampNeg))) ∧ (∀ (i : Int32) (P : Int32 → Prop), aldI h (some (ad 10)) 0 i P = (vp_in i 6 ∧ P (σ 10 i.toNatClampNeg))) ∧ (∀ (i : Int32) (P : Int32 → Prop), aldI h (some (ad 11)) 0 i P = (vp_in i 18 ∧ P (σ 11 i.toNatClampNeg))) ∧ (∀ (i : Int32) (P : Int32 → Prop), aldI h (some (ad 29)) 0 i P = (vp_in i 24 ∧ P (σ 29 i.toNatClampNeg))) ∧ (∀ (i : Int32) (P : Int32 → Prop), aldI h (some (ad 30)) 0 i P = (vp_in i 6 ∧ P (σ 30 i.toNatClampNeg))) ∧ (∀ (i : Int32) (P : Int32 → Prop), aldI h (some (ad 31)) 3 i P = (vp_in i 108 ∧ P (σ 31 i.toNatClampNeg))) ∧ (∀ (i : Int32) (P : Int32 → Prop), aldI h (some (ad 32)) 0 i P = (vp_in i 4 ∧ P (σ 32 i.toNatClampNeg))) ∧ (∀ (i : Int32) (P : Int32 → Prop), aldI h (some (ad 37)) 0 i P = (vp_in i 6 ∧ P (σ 37 i.toNatClampNeg))) ∧ (∀ (i : Int32) (P : Int32 → Prop), aldI h (some (ad 38)) 0 i P = (vp_in i 18 ∧ P (σ 38 i.toNatClampNeg))) ∧ (∀ (i : Int32) (P : Int32 → Prop), aldI h (some (ad 39)) 0 i P = (vp_in i 4 ∧ P (σ 39 i.toNatClampNeg))) ∧ (∀ (i : Int32) (P : Int32 → Prop), aldI h (some (ad 40)) 0 i P = (vp_in i 4 ∧ P (σ 40 i.toNatClampNeg))) ∧ (∀ (i : Int32) (P : Int32 → Prop), aldI h (some (ad 45)) 3 i P = (vp_in i 4 ∧ P (σ 45 i.toNatClampNeg))) ∧ (∀ (i : Int32) (P : Int32 → Prop), aldI h (some (ad 46)) 0 i P = (vp_in i 4 ∧ P (σ 46 i.toNatClampNeg))) ∧ (∀ (i : Int32) (P : Int32 → Prop), aldI h (some (ad 47)) 0 i P = (vp_in i 4 ∧ P (σ 47 i.toNatClampNeg))) ∧ (∀ (i : Int32) (P : Int32 → Prop), aldI h (some (ad 48)) 0 i P = (vp_in i 160 ∧ P (σ 48 i.toNatClampNeg))) ∧ (∀ F : Prop, zrc h (some m) 13 F = F) := by
  obtain ⟨τ, w, rfl, hk⟩ := hh
  exact ⟨fun P => (mgI rfl P).trans (congrArg (fun g : Nat → Int32 => P (g 0)) (hk 3 (Or.inl (by decide)))), fun P => (mgI rfl P).trans (congrArg (fun g : Nat → Int32 => P (g 0)) (hk 4 (Or.inl (by decide)))), fun P => (mgI rfl P).trans (congrArg (fun g : Nat → Int32 => P (g 0)) (hk 6 (Or.inl (by decide)))), fun P => (mgI rfl P).trans (congrArg (fun g : Nat → Int32 => P (g 0)) (hk 7 (Or.inl (by decide)))), fun P => (mgI rfl P).trans (congrArg (fun g : Nat → Int32 => P (g 0)) (hk 12 (Or.inl (by decide)))), fun P => (mgI rfl P).trans (congrArg (fun g : Nat → Int32 => P (g 0)) (hk 13 (Or.inl (by decide)))), fun P => (mgI rfl P).trans (congrArg (fun g : Nat → Int32 => P (g 0)) (hk 33 (Or.inr (by decide)))), fun P => (mgI rfl P).trans (congrArg (fun g : Nat → Int32 => P (g 0)) (hk 34 (Or.inr (by decide)))), fun P => (mgI rfl P).trans (congrArg (fun g : Nat → Int32 => P (g 0)) (hk 35 (Or.inr (by decide)))), fun P => (mgI rfl P).trans (congrArg (fun g : Nat → Int32 => P (g 0)) (hk 36 (Or.inr (by decide)))), fun P => (mgI rfl P).trans (congrArg (fun g : Nat → Int32 => P (g 0)) (hk 41 (Or.inr (by decide)))), fun P => (mgI rfl P).trans (congrArg (fun g : Nat → Int32 => P (g 0)) (hk 42 (Or.inr (by decide)))), fun P => (mgI rfl P).trans (congrArg (fun g : Nat → Int32 => P (g 0)) (hk 43 (Or.inr (by decide)))), fun P => (mgI rfl P).trans (congrArg (fun g : Nat → Int32 => P (g 0)) (hk 44 (Or.inr (by decide)))), fun P => mgR rfl P, fun P => mgR rfl P, fun P => mgR rfl P, fun P => mgR rfl P, fun P => mgR rfl P, fun P => mgR rfl P, fun P => mgR rfl P, fun P => mgR rfl P, fun P => mgR rfl P, fun P => mgR rfl P, fun P => mgR rfl P, fun P => mgR rfl P, fun P => mgR rfl P, fun P => mgR rfl P, fun P => mgR rfl P, fun P => mgR rfl P, fun P => mgR rfl P, fun P => mgR rfl P, fun P => mgR rfl P, fun i P => (mld ok (by decide) i P).trans (congrArg (fun g : Nat → Int32 => (vp_in i 960 ∧ P (g i.toNatClampNeg))) (hk 1 (Or.inl (by decide)))), fun i P => (mld ok (by decide) i P).trans (congrArg (fun g : Nat → Int32 => (vp_in i 6 ∧ P (g i.toNatClampNeg))) (hk 2 (Or.inl (by decide)))), fun i P => (mld ok (by decide) i P).trans (congrArg (fun g : Nat → Int32 => (vp_in i 160 ∧ P (g i.toNatClampNeg))) (hk 5 (Or.inl (by decide)))), fun i P => (mld ok (by decide) i P).trans (congrArg (fun g : Nat → Int32 => (vp_in i 4 ∧ P (g i.toNatClampNeg))) (hk 8 (Or.inl (by decide)))), fun i P => (mld ok (by decide) i P).trans (congrArg (fun g : Nat → Int32 => (vp_in i 4 ∧ P (g i.toNatClampNeg))) (hk 9 (Or.inl (by decide)))), fun i P => (mld ok (by decide) i P).trans (congrArg (fun g : Nat → Int32 => (vp_in i 6 ∧ P (g i.toNatClampNeg))) (hk 10 (Or.inl (by decide)))), fun i P => (mld ok (by decide) i P).trans (congrArg (fun g : Nat → Int32 => (vp_in i 18 ∧ P (g i.toNatClampNeg))) (hk 11 (Or.inl (by decide)))), fun i P => (mld ok (by decide) i P).trans (congrArg (fun g : Nat → Int32 => (vp_in i 24 ∧ P (g i.toNatClampNeg))) (hk 29 (Or.inr (by decide)))), fun i P => (mld ok (by decide) i P).trans (congrArg (fun g : Nat → Int32 => (vp_in i 6 ∧ P (g i.toNatClampNeg))) (hk 30 (Or.inr (by decide)))), fun i P => (mld ok (by decide) i P).trans (congrArg (fun g : Nat → Int32 => (vp_in i 108 ∧ P (g i.toNatClampNeg))) (hk 31 (Or.inr (by decide)))), fun i P => (mld ok (by decide) i P).trans (congrArg (fun g : Nat → Int32 => (vp_in i 4 ∧ P (g i.toNatClampNeg))) (hk 32 (Or.inr (by decide)))), fun i P => (mld ok (by decide) i P).trans (congrArg (fun g : Nat → Int32 => (vp_in i 6 ∧ P (g i.toNatClampNeg))) (hk 37 (Or.inr (by decide)))), fun i P => (mld ok (by decide) i P).trans (congrArg (fun g : Nat → Int32 => (vp_in i 18 ∧ P (g i.toNatClampNeg))) (hk 38 (Or.inr (by decide)))), fun i P => (mld ok (by decide) i P).trans (congrArg (fun g : Nat → Int32 => (vp_in i 4 ∧ P (g i.toNatClampNeg))) (hk 39 (Or.inr (by decide)))), fun i P => (mld ok (by decide) i P).trans (congrArg (fun g : Nat → Int32 => (vp_in i 4 ∧ P (g i.toNatClampNeg))) (hk 40 (Or.inr (by decide)))), fun i P => (mld ok (by decide) i P).trans (congrArg (fun g : Nat → Int32 => (vp_in i 4 ∧ P (g i.toNatClampNeg))) (hk 45 (Or.inr (by decide)))), fun i P => (mld ok (by decide) i P).trans (congrArg (fun g : Nat → Int32 => (vp_in i 4 ∧ P (g i.toNatClampNeg))) (hk 46 (Or.inr (by decide)))), fun i P => (mld ok (by decide) i P).trans (congrArg (fun g : Nat → Int32 => (vp_in i 4 ∧ P (g i.toNatClampNeg))) (hk 47 (Or.inr (by decide)))), fun i P => (mld ok (by decide) i P).trans (congrArg (fun g : Nat → Int32 => (vp_in i 160 ∧ P (g i.toNatClampNeg))) (hk 48 (Or.inr (by decide)))), fun F => mrc F⟩
