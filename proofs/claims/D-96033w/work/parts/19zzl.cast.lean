set_option maxRecDepth 100000
set_option maxHeartbeats 1000000
/-! the text of a cast that fails -/
def sl (s : String) : Nat := s.toList.length
theorem sl_app (a b : String) : sl (a ++ b) = sl a + sl b := by unfold sl; rw [String.toList_append, List.length_append]
theorem sl_dotted (n : String) : sl (dotted n) = sl n := by unfold sl dotted turned; rw [String.toList_ofList, List.length_map]
theorem fc_plain {vm : Vm} {name : String} {c : ClassId} (h : vm.findClass name = some c) : ∃ k, vm.classes[c]? = some k ∧ k.name = name ∧ k.hidden = none ∧ k.loader = none := by
  obtain ⟨hlt, hp, _⟩ := Array.findIdx?_eq_some_iff_getElem.mp h
  refine ⟨vm.classes[c], by simp [hlt], ?_⟩
  simp only [Bool.and_eq_true, beq_iff_eq, Option.isNone_iff_eq_none] at hp
  exact ⟨hp.1.1.1, hp.1.1.2, hp.2⟩
def MR (vm : Vm) : Prop := ∀ m ∈ vm.modules, m.loader.isSome = true ∨ m.name = "java.base" ∨ m.packages.contains "" = false
theorem MR.of {S0 : State} (h : modulesRight_1 S0 = true) : MR S0.vm := by
  intro m hm
  have h1 := (List.all_eq_true.mp h) m hm
  simp only [Bool.or_eq_true, beq_iff_eq, Bool.not_eq_true'] at h1
  rcases h1 with (a | a) | a
  · exact Or.inl a
  · exact Or.inr (Or.inl a)
  · refine Or.inr (Or.inr ?_)
    simp only [castPackages_1, List.any_cons, Bool.or_eq_false_iff] at a
    exact a.1
theorem home_len {vm : Vm} (hM : MR vm) {k : Class} (hl : k.loader = none) (hp : packageOf k.name = "") : sl (vm.home k) ≤ 60 := by
  unfold Vm.home
  rw [hl]
  have hm : ∀ m, vm.moduleOf k = some m → m.name = "java.base" := by
    intro m h
    unfold Vm.moduleOf at h
    split at h
    · have := List.find?_some h
      exact eq_of_beq this
    · have h2 := List.find?_some h
      have h3 := List.mem_of_find?_eq_some h
      simp only [Bool.and_eq_true, beq_iff_eq] at h2
      rw [hl, hp] at h2
      rcases hM m h3 with a | a | a
      · rw [h2.1] at a; cases a
      · exact a
      · rw [h2.2] at a; cases a
  have e3 : sl (vm.loaderName none) = 11 := by show sl "'bootstrap'" = 11; decide
  cases h : vm.moduleOf k with
  | none =>
    show sl ("unnamed module" ++ " of loader " ++ vm.loaderName none) ≤ 60
    rw [sl_app, sl_app, e3]
    decide
  | some m =>
    show sl ("module " ++ m.name ++ " of loader " ++ vm.loaderName none) ≤ 60
    rw [hm m h, sl_app, sl_app, sl_app, e3]
    decide
theorem cast_len {vm : Vm} (hM : MR vm) {a b : Class} (ha : a.loader = none ∧ a.hidden = none ∧ packageOf a.name = "" ∧ sl a.name ≤ 30) (hb : b.loader = none ∧ b.hidden = none ∧ packageOf b.name = "" ∧ sl b.name ≤ 30) : sl (checkcast.message vm a b) ≤ 400 := by
  have hsa : a.shown = dotted a.name := by unfold Class.shown; rw [ha.2.1]
  have hsb : b.shown = dotted b.name := by unfold Class.shown; rw [hb.2.1]
  have h1 := home_len hM ha.1 ha.2.2.1
  have h2 := home_len hM hb.1 hb.2.2.1
  have g1 : sl a.shown ≤ 30 := by rw [hsa, sl_dotted]; exact ha.2.2.2
  have g2 : sl b.shown ≤ 30 := by rw [hsb, sl_dotted]; exact hb.2.2.2
  have h3 : sl (vm.homes a b) ≤ 250 := by
    unfold Vm.homes
    split
    · show sl (toString a.shown ++ toString " and " ++ toString b.shown ++ toString " are in " ++ toString (vm.home a)) ≤ 250
      rw [sl_app, sl_app, sl_app, sl_app]
      have e1 : sl (toString " and ") = 5 := by decide
      have e2 : sl (toString " are in ") = 8 := by decide
      have e3 : ∀ s : String, toString s = s := fun _ => rfl
      rw [e1, e2, e3, e3, e3]
      omega
    · show sl (toString a.shown ++ toString " is in " ++ toString (vm.home a) ++ toString "; " ++ toString b.shown ++ toString " is in " ++ toString (vm.home b)) ≤ 250
      rw [sl_app, sl_app, sl_app, sl_app, sl_app, sl_app]
      have e1 : sl (toString " is in ") = 7 := by decide
      have e2 : sl (toString "; ") = 2 := by decide
      have e3 : ∀ s : String, toString s = s := fun _ => rfl
      rw [e1, e2, e3, e3, e3, e3]
      omega
  show sl (toString "class " ++ toString a.shown ++ toString " cannot be cast to class " ++ toString b.shown ++ toString " (" ++ toString (vm.homes a b) ++ toString ")") ≤ 400
  rw [sl_app, sl_app, sl_app, sl_app, sl_app, sl_app]
  have e1 : sl (toString "class ") = 6 := by decide
  have e2 : sl (toString " cannot be cast to class ") = 25 := by decide
  have e4 : sl (toString " (") = 2 := by decide
  have e5 : sl (toString ")") = 1 := by decide
  have e3 : ∀ s : String, toString s = s := fun _ => rfl
  rw [e1, e2, e4, e5, e3, e3, e3]
  omega
theorem cast_bytes {t : String} (h : sl t ≤ 400) : (stringBytes (stringToUtf16 t)).size ≤ 1600 := by
  have b1 := stringBytes_size_le (stringToUtf16 t)
  have b2 := utf16_size_le t
  unfold sl at h
  omega
theorem cast_mod {vm : Vm} {a b : Class} : (checkcast.message vm a b == notModelled) = false := by
  rw [beq_eq_false_iff_ne]
  intro h
  have h2 := congrArg String.toList h
  have h3 : ∃ r, (checkcast.message vm a b).toList = 'c' :: r := by
    refine ⟨("lass ").toList ++ (a.shown.toList ++ (" cannot be cast to class ".toList ++ (b.shown.toList ++ (" (".toList ++ ((vm.homes a b).toList ++ ")".toList))))), ?_⟩
    show (toString "class " ++ toString a.shown ++ toString " cannot be cast to class " ++ toString b.shown ++ toString " (" ++ toString (vm.homes a b) ++ toString ")").toList = _
    simp only [String.toList_append, List.append_assoc]
    rfl
  obtain ⟨r, h3⟩ := h3
  rw [h3] at h2
  have h4 : notModelled.toList = '\u0000' :: " a message that is not modelled".toList := by decide
  rw [h4] at h2
  simp at h2
section CX
variable {p : Program} {l : Launch} {e : Env} {R : Room} {s : State} {m : MethodId} {args : Array Value} {below : List Frame} {meth : Method} {c : Code} {T : State} {locs : List Loc} {cells slots : Nat}
theorem th_castX (X : Stand p l e R s m args below meth c T locs cells slots) (hexec : p.tables.exec = Jvm.exec)
    {own name : String} {index : Nat} (hown : s.vm.findClass own = some m.cls) (hlink : (Cond.classLink own index name).before args s = true)
    {a : Addr} {cell : Cell} {cT : ClassId} {ks kt : Class} (hcell : T.heap[a]? = some cell) (hobj : ∀ k, cell.vm ≠ .statics k) (hks : s.vm.classes[cell.cls]? = some ks) (hkt : s.vm.classes[cT]? = some kt)
    (hcT : s.vm.findClass name = some cT) (hasg : s.vm.assignable cell.cls cT = false)
    {g : JFrame} (hg : g.method = m) {rest : List Value} (hstack : g.stack = .ref a :: rest) (hdg : decode c.code g.pc = .ok (.checkcast index, 3)) :
    ∃ vm' ks' kt', s.WarmedH vm' ∧ vm'.classes[cell.cls]? = some ks' ∧ vm'.classes[cT]? = some kt' ∧ Stand p l e R s m args below meth c (T.setVm vm') locs cells slots ∧
      ∀ target, Steps p.tables e below (((T.setVm vm').setTop g).pushFrame (.throwNew "java/lang/ClassCastException" (some (checkcast.message vm' ks' kt')) none)) target → Steps p.tables e below (T.setTop g) target := by
  have hpl : e.platform.magicAccessors = ({} : Platform).magicAccessors := by rw [X.admits.platform]
  obtain ⟨c', hc', hcl⟩ := Cond.classLink_spec hown hlink e.platform hpl
  cases hcT.symm.trans hc'
  obtain ⟨dk, _, _, kt0, hd, _, _, _, _, hkt0, _, hopen⟩ := hcl.here
  have hcl₀ := X.warmed.classLinks hcl
  have hW' : s.WarmedH (T.vm.noted m.cls index (.cls cT)) := X.warmed.noted hd hopen (State.rightAt_cls hcl)
  obtain ⟨ks', hks', -⟩ := hW'.alike.2.2 _ _ hks
  obtain ⟨kt', hkt', -⟩ := hW'.alike.2.2 _ _ hkt
  refine ⟨_, ks', kt', hW', hks', hkt', X.noted hW', fun target hrest => ?_⟩
  subst hg
  jvm_step X.here [hexec, hdg, checkcast.wp_cold (e := e) (s := T) (f := g) X.here.top hstack (resolveClass_links e.toSetting hcl₀) hcl₀.ready,
    checkcast.wp_ready (e := e) (s := T.setVm (T.vm.noted g.method.cls index (.cls cT))) (f := g) X.here.top hcl₀.ready hstack]
  refine ⟨cell, hcell, hobj, ks', hks', kt', hkt', ?_⟩
  rw [if_neg (by rw [hW'.alike.assignable]; rw [hasg]; decide)]
  exact hrest
end CX
section GY
variable {X : Cx} {cc : ByteArray} {own host : String} {ret : Option FieldType} {y0 : MethodName} {nL F Lo : Nat} {Pst : Option Value → (Nat → Nat → Nat) → St → Prop} {ad : Nat → Nat → Nat} {χ : St} {pc : Nat} {lv lv2 : List (Nat × Value)} {st st0 : List Value}
variable {c i k ci index t : Nat} {ft : List (Nat × Nat)} {C : String} {T : u_T} {N : Nat} {K e d L : Nat} {j : Int32}
theorem g_castX (h : Ok X cc own ret y0 nL F Lo Pst) (th : Th X) {E : String} (q1 : Cond.classLink own index E ∈ lw_all) (hi : i < cn χ c) (hf : fam c (tg χ c i) = (1, ci, ft)) (hc : vcl[ci]? = some (C, T, N)) (hno : (C, E) ∈ ncl) (hC : packageOf C = "" ∧ sl C ≤ 30) (hE : packageOf E = "" ∧ sl E ≤ 30)
    (hF : 8 ≤ F ∧ 10248 ≤ Lo) (hu : uC χ + 3 ≤ 603072) (hs : uS χ + 1610 ≤ 7262314) (hst : (st.map fun v => v.category).sum ≤ 7) (hd : decode cc pc = .ok (.checkcast index, 3)) (kk : ∀ n, n ≤ 1610 → GT X ad (brn χ 3 n) pc lv nCC) : G X ad χ pc lv (.ref (ad c i) :: st) := by
  intro ls H locs cells slots hl hI T' hT S
  subst hT
  have hts := h.2.2.2.2.2.2.1
  have hK := h.2.2.2.2.2.2.2.1
  have hat := hI.at hi
  rw [cE_o hf] at hat
  obtain ⟨cellB, hcB, hoB, hclB⟩ := va_recv hK.1 (P1 hat) hc (q0 := 0) rfl
  have hpl : X.e.platform.magicAccessors = ({} : Platform).magicAccessors := by rw [S.admits.platform]
  obtain ⟨cT, hcT, -⟩ := Cond.classLink_spec h.2.2.2.2.2.1 (hts _ q1) X.e.platform hpl
  obtain ⟨S0, h1, h2, h3, -, -, h6, h7⟩ := hK.2.2.2.2
  have hasg := os_not h1 (h6 _ hno) _ _ hclB hcT
  obtain ⟨ks, hks, n1, n2, n3⟩ := fc_plain hclB
  obtain ⟨kt, hkt, m1, m2, m3⟩ := fc_plain hcT
  obtain ⟨vm', ks', kt', hW', hks', hkt', S', stp⟩ := th_castX S h.1 h.2.2.2.2.2.1 (hts _ q1) hcB (fun k e => by rw [e] at hoB; cases hoB) hks hkt hcT hasg (g := F0 X.m pc ls (.ref (ad c i) :: st)) rfl (rest := st) rfl (by rw [h.2.1]; exact hd)
  obtain ⟨ks2, e1, e2⟩ := hW'.alike.2.2 _ _ hks
  obtain ⟨kt2, e3, e4⟩ := hW'.alike.2.2 _ _ hkt
  rw [hks'] at e1; cases e1
  rw [hkt'] at e3; cases e3
  have hMR : MR vm' := by
    have hm : vm'.modules = S0.vm.modules := by
      have z1 : X.s.vm.modules = S0.vm.modules := by rw [h1.1]
      have z2 : vm'.modules = X.s.vm.modules := by rw [hW'.alike.1]
      exact z2.trans z1
    intro m hm'
    rw [hm] at hm'
    exact MR.of h7 m hm'
  have hlen := cast_len hMR (a := ks') (b := kt') ⟨by rw [e2]; exact n3, by rw [e2]; exact n2, by rw [e2]; show packageOf ks.name = ""; rw [n1]; exact hC.1, by rw [e2]; show sl ks.name ≤ 30; rw [n1]; exact hC.2⟩ ⟨by rw [e4]; exact m3, by rw [e4]; exact m2, by rw [e4]; show packageOf kt.name = ""; rw [m1]; exact hE.1, by rw [e4]; show sl kt.name ≤ 30; rw [m1]; exact hE.2⟩
  obtain ⟨t2, a1, b1⟩ := gn_msg h th (text := checkcast.message vm' ks' kt') (names := nmR) (B := 1600) (by decide +kernel) (by decide +kernel) (by decide +kernel) (by decide +kernel) wa_CC (by decide) cast_mod (cast_bytes hlen) (by decide) ⟨by show 2 + 4 < F; omega, hF.2⟩ hu hs kk ls (.ref (ad c i) :: st) (T'.setVm vm') locs cells slots hl hI (by show 1 + (st.map fun v => v.category).sum ≤ 8; omega) S'
  exact ⟨t2, stp t2 a1, b1⟩
end GY
