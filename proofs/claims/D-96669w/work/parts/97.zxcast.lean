/-! THE Z-KIT for the class: casts that fail -/
set_option maxRecDepth 100000
theorem z_fc {vm : Vm} {name : String} {c : ClassId} (h : vm.findClass name = some c) {k : Class} (hk : vm.classes[c]? = some k) : k.name = name ∧ k.hidden = none ∧ k.loader = none := by
  obtain ⟨hlt, hp, -⟩ := Array.findIdx?_eq_some_iff_getElem.mp h
  have e : vm.classes[c] = k := by
    rw [Array.getElem?_eq_getElem hlt] at hk
    exact Option.some.inj hk
  rw [e] at hp
  simp only [Bool.and_eq_true, beq_iff_eq, Option.isNone_iff_eq_none] at hp
  exact ⟨hp.1.1.1, hp.1.1.2, hp.2⟩
theorem z_home {vm : Vm} {k : Class} (hm : (vm.modules.all fun m => m.loader.isSome || m.name == "java.base" || !(castPackages_1.any fun p => m.packages.contains p)) = true) (hl : k.loader = none) (hp : packageOf k.name ∈ castPackages_1) : vm.home k = "module java.base of loader 'bootstrap'" ∨ vm.home k = "unnamed module of loader 'bootstrap'" := by
  have key : ∀ m : ModuleInfo, vm.moduleOf k = some m → m.name = "java.base" := by
    intro m h
    unfold Vm.moduleOf at h
    by_cases q : k.ofPrimitives = true
    · rw [if_pos q] at h
      have := List.find?_some h
      exact beq_iff_eq.mp this
    · rw [if_neg q] at h
      have h1 := List.find?_some h
      have h2 := List.mem_of_find?_eq_some h
      have h3 := List.all_eq_true.mp hm m h2
      simp only [Bool.and_eq_true, beq_iff_eq] at h1
      rw [hl] at h1
      rw [h1.1] at h3
      have h4 : (castPackages_1.any fun p => m.packages.contains p) = true := List.any_eq_true.mpr ⟨_, hp, h1.2⟩
      rw [h4] at h3
      simpa using h3
  unfold Vm.home
  rw [hl]
  cases hmo : vm.moduleOf k with
  | none => exact Or.inr rfl
  | some m =>
    left
    show ("module " ++ m.name) ++ " of loader " ++ vm.loaderName none = _
    rw [key m hmo]
    rfl
section ZCF
variable {p : Program} {l : Launch} {e : Env} {R : Room} {s : State} {m : MethodId} {args : Array Value} {below : List Frame} {meth : Method} {c : Code} {T : State} {locs : List Loc} {cells slots : Nat}
/-- a cast that fails: the machine's note, its text -/
theorem z_castFail (X : Stand p l e R s m args below meth c T locs cells slots) (hexec : p.tables.exec = Jvm.exec) {own name : String} {index : Nat} (hown : s.vm.findClass own = some m.cls) (hlink : (Cond.classLink own index name).before args s = true)
    {a : Addr} {cell : Cell} {cT : ClassId} {ks : Class} (hcell : T.heap[a]? = some cell) (hobj : ∀ k, cell.vm ≠ .statics k) (hks : s.vm.classes[cell.cls]? = some ks) (hcT : s.vm.findClass name = some cT) (hasg : s.vm.assignable cell.cls cT = false)
    {g : JFrame} (hg : g.method = m) {rest : List Value} (hstack : g.stack = .ref a :: rest) (hdg : decode c.code g.pc = .ok (.checkcast index, 3)) :
    ∃ (vm' : Vm) (ks' kt' : Class), s.vm.Alike vm' ∧ vm'.classes[cell.cls]? = some ks' ∧ vm'.classes[cT]? = some kt' ∧ Stand p l e R s m args below meth c (T.setVm vm') locs cells slots ∧
      ∀ target, Steps p.tables e below (((T.setVm vm').setTop g).pushFrame (.throwNew "java/lang/ClassCastException" (some (Op.checkcast.message vm' ks' kt')) none)) target → Steps p.tables e below (T.setTop g) target := by
  have hpl : e.platform.magicAccessors = ({} : Platform).magicAccessors := by rw [X.admits.platform]
  obtain ⟨c', hc', hcl⟩ := Cond.classLink_spec hown hlink e.platform hpl
  cases hcT.symm.trans hc'
  obtain ⟨dk, _, _, kt, hd, _, _, _, _, hkt, _, hopen⟩ := hcl.here
  have hcl₀ := X.warmed.classLinks hcl
  have hW' : s.WarmedH (T.vm.noted m.cls index (.cls cT)) := X.warmed.noted hd hopen (State.rightAt_cls hcl)
  obtain ⟨ks', hks', -⟩ := hW'.alike.2.2 _ _ hks
  obtain ⟨kt', hkt', -⟩ := hW'.alike.2.2 _ _ hkt
  refine ⟨_, ks', kt', hW'.alike, hks', hkt', X.noted hW', fun target hrest => ?_⟩
  subst hg
  jvm_step X.here [hexec, hdg, checkcast.wp_cold (e := e) (s := T) (f := g) X.here.top hstack (resolveClass_links e.toSetting hcl₀) hcl₀.ready,
    checkcast.wp_ready (e := e) (s := T.setVm (T.vm.noted g.method.cls index (.cls cT))) (f := g) X.here.top hcl₀.ready hstack]
  refine ⟨cell, hcell, hobj, ks', hks', kt', hkt', ?_⟩
  rw [if_neg (by rw [hW'.alike.assignable, hasg]; exact Bool.false_ne_true)]
  exact hrest
end ZCF
def zan (t : Nat) : String := if t = 0 then "[I" else if t = 1 then "[B" else "[S"
theorem z_arrC {D : zD} {A : Nat → Prop} {s : State} {h : zH} {H : Heap} (hWd : zWd D A s) (hP : zP D A h H) {a t : Nat} {y : vp_A} (ha : h a = some (.inl (t, y))) (ht : t < 3) : ∃ cell : Cell, H[a]? = some cell ∧ cell.vm.isStatics = false ∧ s.vm.findClass (zan t) = some cell.cls := by
  obtain ⟨ws, i, hv, hPp, hD, hi⟩ := hP.at ha
  have hc : H[a]? = some (vp_cell (D.2.1 t) y) := hPp i _ (zws_at hi)
  refine ⟨_, hc, by rw [(vp_cls _ _).2]; rfl, ?_⟩
  rw [(vp_cls _ _).1]
  match t, ht with
  | 0, _ => exact (hWd.1.2 0 _ (zty rfl)).2
  | 1, _ => exact (hWd.1.2 1 _ (zty rfl)).2
  | 2, _ => exact (hWd.1.2 2 _ (zty rfl)).2
theorem zan_home : ∀ t : Nat, t < 3 → packageOf (zan t) ∈ castPackages_1 := by decide +kernel
/-- the text of a failed cast between classes of names u and v, by the two homes and whether they are one -/
def zct (u v h1 h2 : String) (one : Bool) : String := "class " ++ dotted u ++ " cannot be cast to class " ++ dotted v ++ " (" ++ (if one then dotted u ++ " and " ++ dotted v ++ " are in " ++ h1 else dotted u ++ " is in " ++ h1 ++ "; " ++ dotted v ++ " is in " ++ h2) ++ ")"
def zhm : List String := ["module java.base of loader 'bootstrap'", "unnamed module of loader 'bootstrap'"]
def zct_ok (u v : String) : Prop := ∀ h1 ∈ zhm, ∀ h2 ∈ zhm, ∀ one : Bool, (zct u v h1 h2 one == notModelled) = false ∧ (stringBytes (stringToUtf16 (zct u v h1 h2 one))).size ≤ 1000
theorem z_msg {vm : Vm} {ks kt : Class} {u v : String} (hm : (vm.modules.all fun m => m.loader.isSome || m.name == "java.base" || !(castPackages_1.any fun p => m.packages.contains p)) = true) (h1 : ks.name = u ∧ ks.hidden = none ∧ ks.loader = none) (h2 : kt.name = v ∧ kt.hidden = none ∧ kt.loader = none) (p1 : packageOf u ∈ castPackages_1) (p2 : packageOf v ∈ castPackages_1) (hok : zct_ok u v) : (Op.checkcast.message vm ks kt == notModelled) = false ∧ (stringBytes (stringToUtf16 (Op.checkcast.message vm ks kt))).size ≤ 1000 := by
  have s1 : ks.shown = dotted u := by
    unfold Class.shown
    rw [h1.2.1, h1.1]
  have s2 : kt.shown = dotted v := by
    unfold Class.shown
    rw [h2.2.1, h2.1]
  have g1 : vm.home ks ∈ zhm := by
    rcases z_home hm h1.2.2 (by rw [h1.1]; exact p1) with e | e
    · rw [e]; exact List.mem_cons_self
    · rw [e]; exact List.mem_cons_of_mem _ List.mem_cons_self
  have g2 : vm.home kt ∈ zhm := by
    rcases z_home hm h2.2.2 (by rw [h2.1]; exact p2) with e | e
    · rw [e]; exact List.mem_cons_self
    · rw [e]; exact List.mem_cons_of_mem _ List.mem_cons_self
  have e : Op.checkcast.message vm ks kt = zct u v (vm.home ks) (vm.home kt) (vm.sameModule ks kt) := by
    unfold Op.checkcast.message Vm.homes zct
    rw [s1, s2]
    cases vm.sameModule ks kt <;> simp [toString, String.append_assoc]
  rw [e]
  exact hok _ g1 _ g2 _
theorem zct_list (u v h1 h2 : String) (one : Bool) : (zct u v h1 h2 one).toList = "class ".toList ++ (dotted u).toList ++ " cannot be cast to class ".toList ++ (dotted v).toList ++ " (".toList ++ (if one then dotted u ++ " and " ++ dotted v ++ " are in " ++ h1 else dotted u ++ " is in " ++ h1 ++ "; " ++ dotted v ++ " is in " ++ h2).toList ++ ")".toList := by
  unfold zct
  simp only [String.toList_append]
theorem zct_gen {u v : String} (hu : (dotted u).toList.length ≤ 24) (hv : (dotted v).toList.length ≤ 24) : zct_ok u v := by
  intro h1 m1 h2 m2 one
  have l1 : h1.toList.length ≤ 38 := by
    have : ∀ h ∈ zhm, h.toList.length ≤ 38 := by decide
    exact this h1 m1
  have l2 : h2.toList.length ≤ 38 := by
    have : ∀ h ∈ zhm, h.toList.length ≤ 38 := by decide
    exact this h2 m2
  have e := zct_list u v h1 h2 one
  constructor
  · rw [beq_eq_false_iff_ne]
    intro h
    have h3 := congrArg String.toList h
    have h4 : notModelled.toList = '\u0000' :: " a message that is not modelled".toList := by decide
    have h5 : "class ".toList = 'c' :: "lass ".toList := by decide
    rw [e, h4, h5] at h3
    simp at h3
  · have b1 := stringBytes_size_le (stringToUtf16 (zct u v h1 h2 one))
    have b2 := utf16_size_le (zct u v h1 h2 one)
    have c1 : "class ".toList.length = 6 := by decide
    have c2 : " cannot be cast to class ".toList.length = 25 := by decide
    have c3 : " (".toList.length = 2 := by decide
    have c4 : ")".toList.length = 1 := by decide
    have c5 : " and ".toList.length = 5 := by decide
    have c6 : " are in ".toList.length = 8 := by decide
    have c7 : " is in ".toList.length = 7 := by decide
    have c8 : "; ".toList.length = 2 := by decide
    have b3 : (zct u v h1 h2 one).toList.length ≤ 250 := by
      rw [e]
      cases one with
      | true =>
        rw [if_pos rfl]
        simp only [String.toList_append, List.length_append, c1, c2, c3, c4, c5, c6]
        omega
      | false =>
        rw [if_neg Bool.false_ne_true]
        simp only [String.toList_append, List.length_append, c1, c2, c3, c4, c7, c8]
        omega
    omega
theorem zan_len : ∀ t : Nat, t < 3 → (dotted (zan t)).toList.length ≤ 24 := by decide +kernel
theorem zct_arr : ∀ t1 : Nat, t1 < 3 → ∀ t : Nat, t < 3 → zct_ok (zan t1) (zan t) := fun t1 h1 t h2 => zct_gen (zan_len t1 h1) (zan_len t h2)
section ZCR
variable {sa : Nat → Nat} {G : zG} {cc : ByteArray} {nL : Nat} {own nm : String} {ret : Option FieldType} {nf nl : Nat} {K : Option zV → zH → Prop} {KX : String → zH → Prop} {hh : List (Nat × Nat × Nat × Nat)} {pc : Nat} {h : zH} {mc ms : Nat} {L : zL} {st : List zV} {E : String}
/-- is it an array of the kind t (rows are none, or arrays of the kinds 0, 1, 2) -/
def zinA (h : zH) (v : Option Nat) (t : Nat) (P : Int32 → Prop) : Prop := (v = none ∧ P 0) ∨ ∃ (a t1 : Nat) (y : vp_A), v = some a ∧ h a = some (.inl (t1, y)) ∧ t1 < 3 ∧ (t1 = t → P 1) ∧ (t1 ≠ t → P 0)
/-- a cast to an array of the kind t -/
def zckA (h : zH) (mc ms : Nat) (v : Option Nat) (t : Nat) (P X : Prop) : Prop := (v = none ∧ P) ∨ ∃ (a t1 : Nat) (y : vp_A), v = some a ∧ h a = some (.inl (t1, y)) ∧ t1 < 3 ∧ (t1 = t → P) ∧ (t1 ≠ t → zbx mc ms X)
theorem zan_no (t1 : Nat) (h1 : t1 < 3) (t : Nat) (h2 : t < 3) (n : t1 ≠ t) : (zan t1, zan t) ∈ zNc := by
  have a1 : t1 = 0 ∨ t1 = 1 ∨ t1 = 2 := by omega
  have a2 : t = 0 ∨ t = 1 ∨ t = 2 := by omega
  rcases a1 with rfl | rfl | rfl <;> rcases a2 with rfl | rfl | rfl <;> first | exact absurd rfl n | (unfold zNc zan; simp)
theorem r_ckA (hG : zOk sa G cc nL own nm ret nf nl K) {ix t : Nat} {v : Option Nat} {P X : Prop} (ht : t < 3) (hr : 8 ≤ nf ∧ zlen st + 10241 ≤ nl) (hw : Cond.classLink own ix (zan t) ∈ lw_all) (hd : decode cc pc = .ok (.checkcast ix, 3)) (hF : zckA h mc ms v t P X) (kx : X → zThr G pc h (mc - 8) (ms - 2000) L (R_ v :: st) "java/lang/ClassCastException") (kk : P → zW G (pc + 3) h mc ms L (R_ v :: st)) : zW G pc h mc ms L (R_ v :: st) := by
  rcases hF with ⟨rfl, hp⟩ | ⟨a, t1, y, rfl, ha, ht1, hyes, hno⟩
  · have hk := kk hp
    obtain ⟨⟨p, l, e, R, s, m, args, below, meth, c⟩, D, A, Q, MC, MS⟩ := G
    intro H locs cells slots ls hP hS hc hs hl T hT X1
    obtain ⟨t2, a1, b1⟩ := hk H locs cells slots ls hP hS hc hs hl T hT X1
    exact ⟨t2, X1.checkcastNull hG.1 (g := F0 m pc ls (.null :: st.map zval)) rfl rfl (by rw [hG.2.1]; exact hd) t2 a1, b1⟩
  · by_cases q : t1 = t
    · have hk := kk (hyes q)
      subst q
      obtain ⟨⟨p, l, e, R, s, m, args, below, meth, c⟩, D, A, Q, MC, MS⟩ := G
      obtain ⟨hx, hb, hml, hrt, hlk, hnm, hown, hts, hWd, hA, hRc, hRs, hnf, hnl, hfl, hsa, hQ⟩ := hG
      intro H locs cells slots ls hP hS hc hs hl
      exact va_castE hx hb hown (hts _ hw) (z_arrC hWd hP ha ht1) hd (hk H locs cells slots ls hP hS hc hs hl)
    · obtain ⟨h8, h2, hX⟩ := hno q
      have hN : ∀ tx : String, (tx == notModelled) = false → (stringBytes (stringToUtf16 tx)).size ≤ 1000 → zNote G pc h mc ms L (R_ (some a) :: st) "java/lang/ClassCastException" tx := fun tx e1 e2 => z_vm hG ⟨hr.1, by show 1 + zlen st + 10240 ≤ nl; omega⟩ ⟨h8, h2⟩ (Or.inr rfl) e1 e2 (kx hX)
      obtain ⟨⟨p, l, e, R, s, m, args, below, meth, c⟩, D, A, Q, MC, MS⟩ := G
      obtain ⟨hx, hb, hml, hrt, hlk, hnm, hown, hts, hWd, hA, hRc, hRs, hnf, hnl, hfl, hsa, hQ⟩ := hG
      intro H locs cells slots ls hP hS hc hs hl T hT X1
      obtain ⟨cell, g1, g2, g3⟩ := z_arrC hWd hP ha ht1
      obtain ⟨c1, c2, n1, n2, n3⟩ := hWd.2.2.2.2.2.1 _ (zan_no t1 ht1 t ht q)
      cases Option.some.inj (n1.symm.trans g3)
      obtain ⟨ks, hks, -⟩ := Vm.findClass_spec g3
      obtain ⟨vm', ks', kt', hal, k1, k2, X2, step⟩ := z_castFail X1 hx hown (hts _ hw) (by rw [hT]; exact g1) (VmData.noStatics_of g2) hks n2 n3 (g := F0 m pc ls (.ref a :: st.map zval)) rfl rfl (by rw [hb]; exact hd)
      have hmod : (vm'.modules.all fun m => m.loader.isSome || m.name == "java.base" || !(castPackages_1.any fun p => m.packages.contains p)) = true := by
        have z := hWd.2.2.2.2.2.2.2.2.2.2.2.2.2.2
        unfold modulesRight_1 at z
        have e1 : vm'.modules = s.vm.modules := by rw [hal.1]
        rw [e1]
        exact z
      have f1 := z_fc (by rw [hal.findClass]; exact g3) k1
      have f2 := z_fc (by rw [hal.findClass]; exact n2) k2
      obtain ⟨w1, w2⟩ := z_msg hmod f1 f2 (zan_home t1 ht1) (zan_home t ht) (zct_arr t1 ht1 t ht)
      obtain ⟨t2, a1, b1⟩ := hN _ w1 w2 H locs cells slots ls hP hS hc hs hl (T.setVm vm') hT X2
      exact ⟨t2, step t2 a1, b1⟩
end ZCR
