/-! THE Z-KIT: an abstract heap (a function from addresses to typed cells), a judgement zW over it, a rule an instruction; contracts zMet. What a method computes is a predicate in continuation style ('F .. K'); a walk shows that F at the start gives zW at the entry. -/
set_option maxRecDepth 100000
abbrev zE : Type := (Nat × vp_A) ⊕ (Nat × List Value)
abbrev zH : Type := Nat → Option zE
/-- the classes' numbers, their slots; the array classes; the addresses of the text constants and of their bytes -/
abbrev zD : Type := va_G × (Nat → ClassId) × (Nat → Nat) × (Nat → Nat)
def zcl : List vw_C := [(RX0, TX0, 35), (RX9, TX9, 5), (RX10, TX10, 5), (RX11, TX11, 5), (RX12, TX12, 5), (RX13, TX13, 5), (RX14, TX14, 5), (RX5, TX5, 1), (RX6, TX6, 2), (RX4, TX4, 2), (RX7, TX7, 3), (RX2, TX2, 1), (RX1, TX1, 6), (RX8, TX8, 49)]
def ztys : List FieldType := [.int, .byte, .short, .boolean, .object "PaneKeepsWeather$Pane", .object "PaneKeepsWeather$Node", .array (.object "PaneKeepsWeather$Node"), .object "java/lang/String", .array .int, .array .boolean, .array (.array .boolean), .object "PaneKeepsWeather$Sheet"]
def zTys (D : zD) : List (ClassId × FieldType) := ztys.zipIdx.map fun q => (D.2.1 q.2, q.1)
def zcv (D : zD) (e : zE) : va_E := match e with
  | .inl q => .inl (D.2.1 q.1, q.2)
  | .inr o => .inr o
def zws (D : zD) (ws : List (Nat × zE)) : va_W := ws.map fun q => (q.1, zcv D q.2)
def zP (D : zD) (A : Nat → Prop) (h : zH) (H : Heap) : Prop := ∃ ws : List (Nat × zE), (∀ a e, h a = some e ↔ (a, e) ∈ ws) ∧ va_P D.1 zcl (zws D ws) H ∧ va_D A (zws D ws)
def zA (h : zH) (sz : Nat) : Nat → Prop := fun q => h q ≠ none ∨ sz ≤ q
def hup (h : zH) (a : Nat) (e : zE) : zH := fun q => if q = a then some e else h q
theorem hup_self (h : zH) (a : Nat) (e : zE) : hup h a e a = some e := by simp [hup]
theorem hup_ne (h : zH) {a q : Nat} (e : zE) (n : q ≠ a) : hup h a e q = h q := by simp [hup, n]
theorem zws_at {D : zD} {ws : List (Nat × zE)} {i : Nat} {a : Nat} {e : zE} (h : ws[i]? = some (a, e)) : (zws D ws)[i]? = some (a, zcv D e) := by
  unfold zws
  rw [List.getElem?_map, h]
  rfl
theorem zws_get {D : zD} {ws : List (Nat × zE)} {i : Nat} {p : Nat × va_E} (h : (zws D ws)[i]? = some p) : ∃ e, ws[i]? = some (p.1, e) ∧ p.2 = zcv D e := by
  unfold zws at h
  rw [List.getElem?_map] at h
  cases hw : ws[i]? with
  | none => rw [hw] at h; cases h
  | some q =>
    rw [hw] at h
    cases h
    exact ⟨q.2, rfl, rfl⟩
theorem zws_set {D : zD} {ws : List (Nat × zE)} {i : Nat} {a : Nat} {e : zE} : (zws D ws).set i (a, zcv D e) = zws D (ws.set i (a, e)) := by
  unfold zws
  rw [List.map_set]
theorem zws_push {D : zD} {ws : List (Nat × zE)} {a : Nat} {e : zE} : zws D ws ++ [(a, zcv D e)] = zws D (ws ++ [(a, e)]) := by
  unfold zws
  rw [List.map_append]
  rfl
/-- the addresses of the list are apart -/
theorem zws_inj {D : zD} {A : Nat → Prop} {ws : List (Nat × zE)} (hD : va_D A (zws D ws)) {i j : Nat} {a : Nat} {e e' : zE} (hi : ws[i]? = some (a, e)) (hj : ws[j]? = some (a, e')) : i = j := hD.1 i j _ _ (zws_at hi) (zws_at hj) rfl
theorem zP.in {D : zD} {A : Nat → Prop} {h : zH} {H : Heap} (hP : zP D A h H) {q : Nat} (hq : h q ≠ none) : A q := by
  obtain ⟨ws, hv, hp, hd⟩ := hP
  cases he : h q with
  | none => exact absurd he hq
  | some e =>
    obtain ⟨i, hi⟩ := List.getElem?_of_mem ((hv q e).mp he)
    exact hd.2 i _ (zws_at hi)
theorem zP.lt {D : zD} {A : Nat → Prop} {h : zH} {H : Heap} (hP : zP D A h H) {q : Nat} (hq : h q ≠ none) : q < H.size := by
  obtain ⟨ws, hv, hp, hd⟩ := hP
  cases he : h q with
  | none => exact absurd he hq
  | some e =>
    obtain ⟨i, hi⟩ := List.getElem?_of_mem ((hv q e).mp he)
    exact (hp i _ (zws_at hi)).lt
theorem zP.weaken {D : zD} {A B : Nat → Prop} {h : zH} {H : Heap} (hP : zP D A h H) (hAB : ∀ q, h q ≠ none → A q → B q) : zP D B h H := by
  obtain ⟨ws, hv, hp, hd⟩ := hP
  refine ⟨ws, hv, hp, hd.weaken fun k q hk hA => ?_⟩
  obtain ⟨e, he, -⟩ := zws_get hk
  exact hAB q.1 (by rw [(hv q.1 e).mpr (List.mem_of_getElem? he)]; exact fun z => by cases z) hA
/-- a cell's place in the list -/
theorem zP.at {D : zD} {A : Nat → Prop} {h : zH} {H : Heap} (hP : zP D A h H) {a : Nat} {e : zE} (he : h a = some e) : ∃ (ws : List (Nat × zE)) (i : Nat), (∀ a e, h a = some e ↔ (a, e) ∈ ws) ∧ va_P D.1 zcl (zws D ws) H ∧ va_D A (zws D ws) ∧ ws[i]? = some (a, e) := by
  obtain ⟨ws, hv, hp, hd⟩ := hP
  obtain ⟨i, hi⟩ := List.getElem?_of_mem ((hv a e).mp he)
  exact ⟨ws, i, hv, hp, hd, hi⟩
theorem zv_set {D : zD} {A : Nat → Prop} {h : zH} {ws : List (Nat × zE)} {i a : Nat} {e e' : zE} (hv : ∀ a e, h a = some e ↔ (a, e) ∈ ws) (hD : va_D A (zws D ws)) (hi : ws[i]? = some (a, e)) : ∀ b e2, hup h a e' b = some e2 ↔ (b, e2) ∈ ws.set i (a, e') := by
  intro b e2
  have hl := (List.getElem?_eq_some_iff.mp hi).1
  by_cases hb : b = a
  · subst hb
    rw [hup_self]
    constructor
    · intro h1
      cases h1
      exact List.mem_of_getElem? (List.getElem?_set_self hl)
    · intro h1
      obtain ⟨j, hj⟩ := List.getElem?_of_mem h1
      by_cases hji : j = i
      · subst hji
        rw [List.getElem?_set_self hl] at hj
        cases hj
        rfl
      · rw [List.getElem?_set_ne (Ne.symm hji)] at hj
        exact absurd (zws_inj hD hj hi) hji
  · rw [hup_ne _ _ hb, hv b e2]
    constructor
    · intro h1
      obtain ⟨j, hj⟩ := List.getElem?_of_mem h1
      have hji : j ≠ i := by
        intro z
        subst z
        rw [hi] at hj
        cases hj
        exact hb rfl
      refine List.mem_of_getElem? (i := j) ?_
      rw [List.getElem?_set_ne (Ne.symm hji)]
      exact hj
    · intro h1
      obtain ⟨j, hj⟩ := List.getElem?_of_mem h1
      by_cases hji : j = i
      · subst hji
        rw [List.getElem?_set_self hl] at hj
        cases hj
        exact absurd rfl hb
      · rw [List.getElem?_set_ne (Ne.symm hji)] at hj
        exact List.mem_of_getElem? hj
theorem zv_push {D : zD} {A : Nat → Prop} {h : zH} {ws : List (Nat × zE)} {a : Nat} {e : zE} (hv : ∀ a e, h a = some e ↔ (a, e) ∈ ws) (hD : va_D A (zws D (ws ++ [(a, e)]))) : h a = none ∧ ∀ b e2, hup h a e b = some e2 ↔ (b, e2) ∈ ws ++ [(a, e)] := by
  have hn : h a = none := by
    cases hx : h a with
    | none => rfl
    | some e0 =>
      obtain ⟨j, hj⟩ := List.getElem?_of_mem ((hv a e0).mp hx)
      have hl := (List.getElem?_eq_some_iff.mp hj).1
      have h1 : (ws ++ [(a, e)])[j]? = some (a, e0) := by rw [List.getElem?_append_left hl]; exact hj
      have h2 : (ws ++ [(a, e)])[ws.length]? = some (a, e) := by rw [List.getElem?_append_right (Nat.le_refl _), Nat.sub_self]; rfl
      have := zws_inj hD h1 h2
      omega
  refine ⟨hn, fun b e2 => ?_⟩
  by_cases hb : b = a
  · subst hb
    rw [hup_self, List.mem_append]
    constructor
    · intro z; cases z; exact Or.inr List.mem_cons_self
    · rintro (z | z)
      · rw [(hv b e2).mpr z] at hn; cases hn
      · rcases List.mem_cons.mp z with z | z
        · cases z; rfl
        · cases z
  · rw [hup_ne _ _ hb, hv b e2, List.mem_append]
    constructor
    · exact Or.inl
    · rintro (z | z)
      · exact z
      · rcases List.mem_cons.mp z with z | z
        · cases z; exact absurd rfl hb
        · cases z
theorem zty {D : zD} {t : Nat} {ty : FieldType} (h : ztys[t]? = some ty) : (zTys D)[t]? = some (D.2.1 t, ty) := by
  unfold zTys
  rw [List.getElem?_map, List.getElem?_zipIdx, h]
  simp
/-! the world's standing facts: the classes, words that don't ride in the lists, statics and texts of the JDK's side -/
def zCs : List (String × String) := [("java/lang/IndexOutOfBoundsException", "java/lang/IndexOutOfBoundsException"), ("java/lang/NegativeArraySizeException", "java/lang/NegativeArraySizeException"), ("java/lang/NullPointerException", "java/lang/NullPointerException"), ("java/lang/ArrayIndexOutOfBoundsException", "java/lang/ArrayIndexOutOfBoundsException"), ("java/lang/ArrayIndexOutOfBoundsException", "java/lang/IndexOutOfBoundsException"), ("java/lang/ClassCastException", "java/lang/ClassCastException"), ("java/lang/RuntimeException", "java/lang/Throwable"), ("PaneKeepsWeather$Faulty", "PaneKeepsWeather$Faulty"), ("PaneKeepsWeather$Storm", "PaneKeepsWeather$Pane"), ("PaneKeepsWeather$Noon", "PaneKeepsWeather$Pane"), ("PaneKeepsWeather$Snow", "PaneKeepsWeather$Storm"), ("PaneKeepsWeather$Snow", "PaneKeepsWeather$Pane"), ("PaneKeepsWeather$Sunday", "PaneKeepsWeather$Noon"), ("PaneKeepsWeather$Sunday", "PaneKeepsWeather$Pane"), ("PaneKeepsWeather$Dusk", "PaneKeepsWeather$Pane"), ("PaneKeepsWeather$Turned", "PaneKeepsWeather$Node"), ("PaneKeepsWeather$Number", "PaneKeepsWeather$Node"), ("PaneKeepsWeather$Name", "PaneKeepsWeather$Node"), ("PaneKeepsWeather$Two", "PaneKeepsWeather$Node")]
def zMn : List (String × Nat × MethodName × String) := [("PaneKeepsWeather", 331, ⟨"PaneKeepsWeather$Sheet", "<init>", "()V"⟩, "PaneKeepsWeather"), ("PaneKeepsWeather$Noon", 15, ⟨"PaneKeepsWeather", "in", "(JJJ)Z"⟩, "PaneKeepsWeather"), ("PaneKeepsWeather$Turned", 1, ⟨"PaneKeepsWeather$Node", "<init>", "()V"⟩, "PaneKeepsWeather"), ("PaneKeepsWeather$Number", 1, ⟨"PaneKeepsWeather$Node", "<init>", "()V"⟩, "PaneKeepsWeather"), ("PaneKeepsWeather$Name", 7, ⟨"PaneKeepsWeather$Node", "<init>", "()V"⟩, "PaneKeepsWeather"), ("PaneKeepsWeather$Two", 1, ⟨"PaneKeepsWeather$Node", "<init>", "()V"⟩, "PaneKeepsWeather")]
def zFn : List (String × Nat × String × String × String × String) := [("PaneKeepsWeather", 492, "PaneKeepsWeather$Sheet", "row", "Ljava/lang/Object;", "PaneKeepsWeather"), ("PaneKeepsWeather$Name", 22, "PaneKeepsWeather", "panes", "[LPaneKeepsWeather$Pane;", "PaneKeepsWeather"), ("PaneKeepsWeather$Name", 26, "PaneKeepsWeather", "forPane", "I", "PaneKeepsWeather"), ("PaneKeepsWeather$Name", 17, "PaneKeepsWeather", "forHour", "I", "PaneKeepsWeather"), ("PaneKeepsWeather$Name", 40, "PaneKeepsWeather", "forOpening", "I", "PaneKeepsWeather"), ("PaneKeepsWeather$Name", 43, "PaneKeepsWeather", "forBetween", "I", "PaneKeepsWeather")]
def zNc : List (String × String) := [("[I", "[B"), ("[I", "[S"), ("[S", "[B"), ("[S", "[I"), ("[B", "[S"), ("[B", "[I"), ("java/lang/IndexOutOfBoundsException", "java/lang/NullPointerException"), ("java/lang/NullPointerException", "java/lang/ClassCastException"), ("java/lang/IndexOutOfBoundsException", "java/lang/ClassCastException"), ("java/lang/ClassCastException", "java/lang/NullPointerException"), ("PaneKeepsWeather$Pane", "PaneKeepsWeather$Storm"), ("PaneKeepsWeather$Pane", "PaneKeepsWeather$Noon"), ("PaneKeepsWeather$Pane", "PaneKeepsWeather$Snow"), ("PaneKeepsWeather$Pane", "PaneKeepsWeather$Sunday"), ("PaneKeepsWeather$Pane", "PaneKeepsWeather$Dusk"), ("PaneKeepsWeather$Storm", "PaneKeepsWeather$Noon"), ("PaneKeepsWeather$Storm", "PaneKeepsWeather$Snow"), ("PaneKeepsWeather$Storm", "PaneKeepsWeather$Sunday"), ("PaneKeepsWeather$Storm", "PaneKeepsWeather$Dusk"), ("PaneKeepsWeather$Noon", "PaneKeepsWeather$Storm"), ("PaneKeepsWeather$Noon", "PaneKeepsWeather$Snow"), ("PaneKeepsWeather$Noon", "PaneKeepsWeather$Sunday"), ("PaneKeepsWeather$Noon", "PaneKeepsWeather$Dusk"), ("PaneKeepsWeather$Snow", "PaneKeepsWeather$Noon"), ("PaneKeepsWeather$Snow", "PaneKeepsWeather$Sunday"), ("PaneKeepsWeather$Snow", "PaneKeepsWeather$Dusk"), ("PaneKeepsWeather$Sunday", "PaneKeepsWeather$Storm"), ("PaneKeepsWeather$Sunday", "PaneKeepsWeather$Snow"), ("PaneKeepsWeather$Sunday", "PaneKeepsWeather$Dusk"), ("PaneKeepsWeather$Dusk", "PaneKeepsWeather$Storm"), ("PaneKeepsWeather$Dusk", "PaneKeepsWeather$Noon"), ("PaneKeepsWeather$Dusk", "PaneKeepsWeather$Snow"), ("PaneKeepsWeather$Dusk", "PaneKeepsWeather$Sunday")]
def zAoO : List String := ["PaneKeepsWeather$Node", "PaneKeepsWeather$Pane", "java/lang/String", "PaneKeepsWeather$Sheet"]
def zAoA : List FieldType := [(.object "PaneKeepsWeather$Node"), .int, (.array .boolean), .boolean]
/-- the text constants: their places in the class's pool, their lengths, their bytes -/
def zsx : List (Nat × String) := [(173, "();+-*<="), (285, "lights"), (287, "costs"), (289, "quarrels"), (291, "or"), (293, "and"), (295, "not"), (296, "hour"), (298, "day"), (299, "wet"), (300, "number"), (301, "opening"), (302, "between"), (336, "lights 20 + hour ; costs 10 ; quarrels between < 3 ;")]
def zsl : List Nat := [8, 6, 5, 8, 2, 3, 3, 4, 3, 3, 6, 7, 7, 52]
def zsb : List (List Int32) := [[40, 41, 59, 43, 45, 42, 60, 61], [108, 105, 103, 104, 116, 115], [99, 111, 115, 116, 115], [113, 117, 97, 114, 114, 101, 108, 115], [111, 114], [97, 110, 100], [110, 111, 116], [104, 111, 117, 114], [100, 97, 121], [119, 101, 116], [110, 117, 109, 98, 101, 114], [111, 112, 101, 110, 105, 110, 103], [98, 101, 116, 119, 101, 101, 110], [108, 105, 103, 104, 116, 115, 32, 50, 48, 32, 43, 32, 104, 111, 117, 114, 32, 59, 32, 99, 111, 115, 116, 115, 32, 49, 48, 32, 59, 32, 113, 117, 97, 114, 114, 101, 108, 115, 32, 98, 101, 116, 119, 101, 101, 110, 32, 60, 32, 51, 32, 59]]
def zDc : List MethodName := [⟨"PaneKeepsWeather$Node", "worth", "()I"⟩, ⟨"java/lang/Throwable", "<init>", "()V"⟩, ⟨"java/lang/Throwable", "<init>", "(Ljava/lang/String;)V"⟩, ⟨"java/lang/Throwable", "fillInStackTrace", "()Ljava/lang/Throwable;"⟩, ⟨"java/lang/Exception", "<init>", "()V"⟩, ⟨"java/lang/Exception", "<init>", "(Ljava/lang/String;)V"⟩, ⟨"java/lang/IndexOutOfBoundsException", "<init>", "()V"⟩, ⟨"java/lang/IndexOutOfBoundsException", "<init>", "(Ljava/lang/String;)V"⟩, ⟨"java/lang/RuntimeException", "<init>", "()V"⟩, ⟨"java/lang/RuntimeException", "<init>", "(Ljava/lang/String;)V"⟩]
def zWd (D : zD) (A : Nat → Prop) (U : State) : Prop := va_K D.1 zcl (zTys D) U ∧ (∀ q ∈ zCs, va_Nw (.castable q.1 q.2) U) ∧ (∀ q ∈ zMn, va_Nw (.methodLinkNest q.1 q.2.1 q.2.2.1 q.2.2.2) U) ∧ (∀ q ∈ zFn, va_Nw (.fieldLinkNest q.1 q.2.1 q.2.2.1 q.2.2.2.1 q.2.2.2.2.1 q.2.2.2.2.2) U) ∧ (∀ q ∈ zDc, va_Nw (.declares q) U) ∧ (∀ q ∈ zNc, va_Nc q.1 q.2 U) ∧ (∀ C ∈ zAoO, va_AO C U) ∧ (∀ t ∈ zAoA, (Cond.arrayOver (.array t)).before #[] U = true) ∧ vx_Zq Bundle.tN "UNASSIGNED_STACK" Bundle.steD A U U.heap ∧ vx_Zq Bundle.tN "SUPPRESSED_SENTINEL" Bundle.listD A U U.heap ∧ va_Z "java/lang/String" "COMPACT_STRINGS" "Z" (.int 1) A U U.heap ∧ va_Zq "jdk/internal/util/Preconditions" "SIOOBE_FORMATTER" "Ljava/util/function/BiFunction;" A U U.heap ∧ vk_S 14 zsl zsb D.2.2.1 (fun i => D.2.2.1 (i + 14)) A U U.heap ∧ (∀ i : Nat, i < 14 → vk_R "PaneKeepsWeather" (zsx.getD i (0, "")).1 (zsx.getD i (0, "")).2 (D.2.2.1 i) U) ∧ modulesRight_1 U = true
theorem zWd.step {D : zD} {A A1 : Nat → Prop} {s U : State} {H : Heap} {locs : List Loc} (h : zWd D A s) (hW : s.WarmedH U.vm) (hU : U.heap = H) (hS : va_S A s.heap H locs) (hA : ∀ q, A1 q → A q) : zWd D A1 U := by
  have hvm := hW.alike
  have hk : ∀ a : Nat, a < s.heap.size → ¬ A a → U.heap[a]? = s.heap[a]? := fun a h1 h2 => by rw [hU]; exact hS.2.1 a h1 h2
  obtain ⟨h1, h2, h3, h4, h5, h6, h7a, h7, h8, h9, h10, h11, h12, h13, h14⟩ := h
  refine ⟨va_K.moved hvm h1, fun q hq => va_Nw.warmC hW (h2 q hq), fun q hq => va_Nw.warmM hW (h3 q hq), fun q hq => va_Nw.warmF hW (h4 q hq), fun q hq => va_Nw.warmD hW (h5 q hq), fun q hq => va_Nc.moved hvm (h6 q hq), fun C hC => va_AO.moved hvm (h7a C hC), fun t ht => over_moved hvm (h7 t ht), ?_, ?_, ?_, ?_, ?_, fun i hi => vk_R.warm hW (h13 i hi), ?_⟩
  · exact vx_Zq.moved hvm ((h8.kept hk).narrow hA)
  · exact vx_Zq.moved hvm ((h9.kept hk).narrow hA)
  · exact va_Z.moved hvm ((h10.kept hk).narrow hA)
  · exact va_Zq.moved hvm ((h11.kept hk).narrow hA)
  · exact vk_S.moved hvm ((h12.kept hk).narrow hA)
  · rw [← h14]
    unfold modulesRight_1
    have e := hvm.1
    rw [e]
theorem zWd.same {D : zD} {A : Nat → Prop} {s U : State} (h : zWd D A s) (hv : s.vm = U.vm) (hh : U.heap = s.heap) : zWd D A U := by
  have hvm : s.vm.Alike U.vm := by rw [hv]; exact Vm.Alike.refl _
  obtain ⟨h1, h2, h3, h4, h5, h6, h7a, h7, h8, h9, h10, h11, h12, h13, h14⟩ := h
  refine ⟨va_K.moved hvm h1, fun q hq => va_Nw.same rfl hv (h2 q hq), fun q hq => va_Nw.same rfl hv (h3 q hq), fun q hq => va_Nw.same rfl hv (h4 q hq), fun q hq => va_Nw.same rfl hv (h5 q hq), fun q hq => va_Nc.moved hvm (h6 q hq), fun C hC => va_AO.moved hvm (h7a C hC), fun t ht => over_moved hvm (h7 t ht), ?_, ?_, ?_, ?_, ?_, fun i hi => vk_R.same hv.symm (h13 i hi), ?_⟩
  · rw [hh]; exact vx_Zq.moved hvm h8
  · rw [hh]; exact vx_Zq.moved hvm h9
  · rw [hh]; exact va_Z.moved hvm h10
  · rw [hh]; exact va_Zq.moved hvm h11
  · rw [hh]; exact vk_S.moved hvm h12
  · rw [← h14]
    unfold modulesRight_1
    rw [hv]
/-! values by kind: ints, longs, references (or none) -/
abbrev zV : Type := Int32 ⊕ Int64 ⊕ Option Nat
abbrev I_ (x : Int32) : zV := .inl x
abbrev J_ (x : Int64) : zV := .inr (.inl x)
abbrev R_ (o : Option Nat) : zV := .inr (.inr o)
def zval (v : zV) : Value := match v with
  | .inl x => .int x
  | .inr (.inl x) => .long x
  | .inr (.inr o) => va_rf o
def zcat (v : zV) : Nat := match v with
  | .inr (.inl _) => 2
  | _ => 1
theorem va_rf_cat (o : Option Nat) : (va_rf o).category = 1 := by cases o <;> rfl
theorem zcat_eq (v : zV) : (zval v).category = zcat v := by
  rcases v with x | x | o
  · rfl
  · rfl
  · exact va_rf_cat o
theorem zrf_or (o : Option Nat) : va_rf o = .null ∨ ∃ a, va_rf o = .ref a := by
  cases o with
  | none => exact Or.inl rfl
  | some a => exact Or.inr ⟨a, rfl⟩
abbrev zL : Type := List (Nat × zV)
def zlm (L : zL) : List (Nat × Value) := L.map fun q => (q.1, zval q.2)
/-- the locals behind a store -/
def zst (i : Nat) (v : zV) (L : zL) : zL := (i, v) :: L.filter fun q => !(q.1 == i) && !(q.1 + 1 == i && zcat q.2 == 2)
def zst2 (i : Nat) (v : zV) (L : zL) : zL := (i, v) :: L.filter fun q => !(q.1 == i) && (!(q.1 == i + 1) && !(q.1 + 1 == i && zcat q.2 == 2))
theorem zst_map (i : Nat) (v : zV) (L : zL) : (i, zval v) :: (zlm L).filter (fun q => !(q.1 == i) && !(q.1 + 1 == i && q.2.category == 2)) = zlm (zst i v L) := by
  unfold zlm zst
  rw [List.filter_map]
  simp only [List.map_cons, Function.comp_def, zcat_eq]
theorem zst2_map (i : Nat) (v : zV) (L : zL) : (i, zval v) :: (zlm L).filter (fun q => !(q.1 == i) && (!(q.1 == i + 1) && !(q.1 + 1 == i && q.2.category == 2))) = zlm (zst2 i v L) := by
  unfold zlm zst2
  rw [List.filter_map]
  simp only [List.map_cons, Function.comp_def, zcat_eq]
theorem zlm_at {L : zL} {k i : Nat} {v : zV} (h : L[k]? = some (i, v)) : (zlm L)[k]? = some (i, zval v) := by
  unfold zlm
  rw [List.getElem?_map, h]
  rfl
/-- fewer locals, by their places -/
def zpick (L : zL) (ks : List Nat) : zL := ks.filterMap fun k => L[k]?
theorem zlm_pick (L : zL) (ks : List Nat) : lv_pick (zlm L) ks = zlm (zpick L ks) := by
  unfold lv_pick zlm zpick
  rw [List.map_filterMap]
  congr 1
  funext k
  rw [List.getElem?_map]
def zargs : Nat → List zV → zL
  | _, [] => []
  | i, v :: vs => (i, v) :: zargs (if zcat v = 2 then i + 2 else i + 1) vs
theorem zargs_eq : ∀ (i : Nat) (vs : List zV), lv_args i (vs.map zval) = zlm (zargs i vs)
  | _, [] => rfl
  | i, v :: vs => by
    show (i, zval v) :: lv_args (if (zval v).category = 2 then i + 2 else i + 1) (vs.map zval) = (i, zval v) :: zlm (zargs (if zcat v = 2 then i + 2 else i + 1) vs)
    rw [zcat_eq, zargs_eq]
def zlen : List zV → Nat
  | [] => 0
  | v :: vs => zcat v + zlen vs
theorem zlen_eq : ∀ vs : List zV, (lg_sl (vs.map zval)).length = zlen vs
  | [] => rfl
  | v :: vs => by
    have h := zlen_eq vs
    unfold lg_sl at h ⊢
    rw [List.map_cons, List.flatMap_cons, List.length_append, h]
    show _ = zcat v + zlen vs
    rw [zcat_eq]
    rcases v with x | x | o <;> rfl
theorem zsum_eq : ∀ vs : List zV, ((vs.map zval).map fun v => v.category).sum = zlen vs
  | [] => rfl
  | v :: vs => by
    rw [List.map_cons, List.map_cons, List.sum_cons, zsum_eq vs, zcat_eq]
    rfl
/-! the judgement -/
abbrev zG : Type := (Program × Launch × Env × Room × State × MethodId × Array Value × List Frame × Method × Code) × zD × (Nat → Prop) × (State → Prop) × Nat × Nat
def zW (G : zG) (pc : Nat) (h : zH) (mc ms : Nat) (L : zL) (st : List zV) : Prop := match G with
  | ⟨⟨p, l, e, R, s, m, args, below, meth, c⟩, D, A, Q, MC, MS⟩ => ∀ (H : Heap) (locs : List Loc) (cells slots : Nat) (ls : Array Slot), zP D A h H → va_S A s.heap H locs → cells + mc ≤ MC → slots + ms ≤ MS → lv_has ls c.maxLocals (zlm L) → W p l e R s m args below meth c H locs cells slots Q (F0 m pc ls (st.map zval))
/-- a method's answer: the outcome's value and the heap behind -/
def zQ (D : zD) (K : Option zV → zH → Prop) (A : Nat → Prop) : Array Value → State → Outcome → State → Prop := fun _ st oc t => (∃ (v : Option zV) (h' : zH), oc = .returned (v.map zval) ∧ K v h' ∧ zP D A h' t.heap) ∧ va_F A st t
def zOk (sa : Nat → Nat) (G : zG) (cc : ByteArray) (nL : Nat) (own nm : String) (ret : Option FieldType) (nf nl : Nat) (K : Option zV → zH → Prop) : Prop := match G with
  | ⟨⟨p, l, e, R, s, m, args, below, meth, c⟩, D, A, Q, MC, MS⟩ => p.tables.exec = Jvm.exec ∧ c.code = cc ∧ c.maxLocals = nL ∧ meth.sig.returnType = ret ∧ meth.locks = false ∧ meth.name = nm ∧ s.vm.findClass own = some m.cls ∧ (∀ w ∈ lw_all, w.before args s = true) ∧ zWd D A s ∧ (∀ q, s.heap.size ≤ q → A q) ∧ R.cells = MC ∧ R.slots = MS ∧ nf ≤ R.frames ∧ nl ≤ R.locals ∧ l.flags = flags0 ∧ D.2.2.1 = sa ∧ ∀ (H : Heap) (locs : List Loc) (g : JFrame), W p l e R s m args below meth c H locs MC MS (MQ below (zQ D K A) args s MC MS A) g → W p l e R s m args below meth c H locs MC MS Q g
def zPre (D : zD) (sz : Nat) (h : zH) (As : List zV) (F : Prop) : Array Value → State → Prop := va_Pc (As.map zval) fun U => U.heap.size = sz ∧ zP D (fun _ => True) h U.heap ∧ zWd D (zA h sz) U ∧ F
def zMet (l : Launch) (y : MethodName) (ws : List Cond) (nf nl : Nat) (D : zD) (h : zH) (mc ms sz : Nat) (As : List zV) (F : Prop) (K : Option zV → zH → Prop) : Prop := Met l y ws { frames := nf, cells := mc, slots := ms, locals := nl } (zPre D sz h As F) (zQ D K (zA h sz)) mc ms (zA h sz)
theorem zPre_blind {D : zD} {sz : Nat} {h : zH} {As : List zV} {F : Prop} : FrameBlind (zPre D sz h As F) := by
  intro a U g mk q
  obtain ⟨q0, q1, qP, qW, qF⟩ := q
  exact ⟨q0, q1, qP, zWd.same qW rfl rfl, qF⟩
/-- a contract out of a walk from its entry -/
theorem zMet_of {l : Launch} {y : MethodName} {cc : ByteArray} {nL : Nat} {ret : Option FieldType} {nf nl : Nat} {D : zD} {h : zH} {mc ms sz : Nat} {As : List zV} {F : Prop} {K : Option zV → zH → Prop} {L : zL} {sa : Nat → Nat} (hfl : l.flags = flags0) (hsa : D.2.2.1 = sa) (hy : plainName y.cls = true) (hL : zargs 0 As = L) (hn : zlen As ≤ nL) (body : ∀ G : zG, zOk sa G cc nL y.cls y.name ret nf nl K → F → zW G 0 h mc ms L []) : zMet l y (ws_ y cc nL ret) nf nl D h mc ms sz As F K := by
  refine Met.ofW (cc := cc) (maxL := nL) (ret := ret) hy rfl ?_
  intro p e s m args below meth c s₁ B hml hv
  obtain ⟨rfl, hsz, hP, hWd, hF⟩ := hv
  have hts := atoms_spec (ws := ws_ y cc nL ret) B.pre
  have hts : ∀ w ∈ lw_all, w.before _ s = true := fun w h => hts w (List.mem_cons_of_mem _ h)
  have hown : s.vm.findClass y.cls = some m.cls := findClass_of_methodNamed B.named
  subst hsz
  have hl := lv_entry (As.map zval) (n := nL) (by rw [zlen_eq]; exact hn)
  rw [lg_entry_eq]
  rw [zargs_eq, hL] at hl
  have hb := body ⟨⟨p, l, e, ({ frames := nf, cells := mc, slots := ms, locals := nl } : Room), s, m, (As.map zval).toArray, below, meth, c⟩, D, zA h s.heap.size, MQ below (zQ D K (zA h s.heap.size)) (As.map zval).toArray s mc ms (zA h s.heap.size), mc, ms⟩ ⟨B.exec, B.bytes, hml, B.returns, B.notSynchronized, (name_of_methodNamed B.named B.method).1, hown, hts, hWd, fun q z => Or.inr z, rfl, rfl, Nat.le_refl _, Nat.le_refl _, hfl, hsa, fun H locs g k => k⟩ hF
  exact hb s.heap [] 0 0 _ (hP.weaken fun q z _ => Or.inl z) va_S.rf (by omega) (by omega) (by rw [hml]; exact hl)
/-! answers by kind -/
def zKi (K : Int32 → zH → Prop) : Option zV → zH → Prop := fun v h => ∃ r : Int32, v = some (I_ r) ∧ K r h
def zKl (K : Int64 → zH → Prop) : Option zV → zH → Prop := fun v h => ∃ r : Int64, v = some (J_ r) ∧ K r h
def zKv (K : zH → Prop) : Option zV → zH → Prop := fun v h => v = none ∧ K h
def zKr (K : Option Nat → zH → Prop) : Option zV → zH → Prop := fun v h => ∃ r : Option Nat, v = some (R_ r) ∧ K r h
