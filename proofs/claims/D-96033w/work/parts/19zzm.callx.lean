set_option maxRecDepth 100000
set_option maxHeartbeats 1000000
section MXS
variable {l : Launch}
theorem MtX.ofW {y : MethodName} {ws ws' : List Cond} {rm : Room} {Pc : Array Value → State → Prop} {Qc : Array Value → State → Addr → State → Nat → Nat → Prop} {free : Addr → Prop} {cc : ByteArray} {maxL : Nat} {ret : Option FieldType}
    (hy : plainName y.cls = true) (hw : ws = Cond.code y cc maxL ret :: ws')
    (body : ∀ p e s m args below meth c s₁, BodyLoose p l y (headSpec ws rm) cc maxL ret e s m args below meth c s₁ → c.maxLocals = maxL → c.exceptionTable.toList = [] → Pc args s →
      W p l e (headSpec ws rm).room s m args below meth c s.heap [] 0 0 (MQt below Qc args s free) (entryFrame m args maxL)) : MtX l y ws rm Pc Qc free := by
  refine MetFree.of_bodyS (code := cc) (maxLocals := maxL) (ret := ret) hy ?_ ?_
  · intro args s m h hn
    obtain ⟨meth, c, h1, h2, h3, h4, h5, h6, -, -⟩ := Cond.code_spec hn (atoms_spec (ws := ws) h _ (by rw [hw]; exact List.mem_cons_self))
    exact ⟨meth, c, h1, h2, h3, h4, h5, h6⟩
  · intro p e s m args below meth c s₁ B hml hP _
    have hh0 : s₁.heap = s.heap := by rw [B.state]; rfl
    have S := Stand.of_body B
    obtain ⟨meth', c', h1, h2, h3, h4, h5, h6, h7, -⟩ := Cond.code_spec B.named (atoms_spec (ws := ws) B.pre _ (by rw [hw]; exact List.mem_cons_self))
    have e1 : meth' = meth := Option.some.inj (h1.symm.trans B.method)
    subst e1
    have e2 : c' = c := Option.some.inj (h2.symm.trans S.code)
    subst e2
    obtain ⟨t, a1, x, b1, b2, b3⟩ := body p e s m args below meth' c' s₁ B hml (by rw [Array.isEmpty_iff] at h7; rw [h7]) hP s₁ hh0 S
    exact ⟨t, .threw x, a1, b1, b2, x, rfl, b3⟩
theorem MtX.start {y : MethodName} {cc : ByteArray} {maxL : Nat} {ret : Option FieldType} {F Lo : Nat} {Γ : Gh} {na : Bool} {ad : Nat → Nat → Nat} {χ : St} {av : List Value} {Wp : Prop} {cls : String} {Pst : (Nat → Nat → Nat) → St → Prop} (hst : l.stackTraces = false) (hy : plainName y.cls = true) (own : String) (ho : y.cls = own) (hL : (lg_sl av).length ≤ maxL)
    (k : ∀ X : Cx, Ok X cc own ret y maxL F Lo (fun _ _ _ => False) → Th X → (∀ {ad' χ' pc lv}, Pst ad' χ' → GT X ad' χ' pc lv cls) → X.Γ = Γ → X.χ0 = χ → X.ad0 = ad → X.na = na → X.l = l → Wp → G X ad χ 0 (lv_args 0 av) []) :
    MtX l y (ws_ y cc maxL ret) (rmO F Lo χ) (Pm Γ ad χ av Wp) (Qx Γ na ad χ cls Pst) (frB Γ) := by
  refine MtX.ofW (cc := cc) (maxL := maxL) (ret := ret) hy rfl ?_
  intro p e s m args below meth c s₁ B hml htb hv
  obtain ⟨rfl, hH, hK, hw⟩ := hv
  have hts := atoms_spec (ws := ws_ y cc maxL ret) B.pre
  have hts : ∀ w ∈ lw_all, w.before _ s = true := fun w h => hts w (List.mem_cons_of_mem _ h)
  have hown : s.vm.findClass own = some m.cls := by rw [← ho]; exact findClass_of_methodNamed B.named
  have hin : meth.name = y.name := (name_of_methodNamed B.named B.method).1
  have hl := lv_entry av (n := maxL) hL
  rw [lg_entry_eq]
  exact k (p, l, e, (headSpec (ws_ y cc maxL ret) (rmO F Lo χ)).room, s, m, av.toArray, below, meth, c, MQt below (Qx Γ na ad χ cls Pst) av.toArray s (frB Γ), Γ, maxL, χ, ad, na)
    ⟨B.exec, B.bytes, B.returns, B.notSynchronized, ⟨hml, rfl⟩, hown, hts, hK, rfl, hin, fun _ h => by obtain ⟨o, h1, h2, L, k, n, ⟨v, ad', χ', h3, h4, h5⟩, h6⟩ := h; exact h4.elim⟩ ⟨hH.2.2.1, hst⟩
    (fun {ad' χ' pc lv} hP => g_thrOut (Pst := Pst) (fun _ h => h) B.notSynchronized hP (by rw [htb]; intro x hx; cases hx)) rfl rfl rfl rfl rfl hw _ _ _ _ _ hl ⟨hH, Ext.rf, fun _ => rfl, (fun _ h => by cases h), rfl, rfl⟩
/-! methods with handlers -/
abbrev wsW (y : MethodName) (b : ByteArray) (L : Nat) (r : Option FieldType) (hh : List (Nat × Nat × Nat × Nat)) : List Cond := Cond.codeWith y b L r hh :: lw_all
def hTab (hh : List (Nat × Nat × Nat × Nat)) : List ExceptionTableEntry := hh.map fun q => ⟨q.1, q.2.1, q.2.2.1, q.2.2.2⟩
theorem hTab_of {tbl : List ExceptionTableEntry} {hh : List (Nat × Nat × Nat × Nat)} (h : tbl.map (fun h => (h.startPc, h.endPc, h.handlerPc, h.catchType)) = hh) : tbl = hTab hh := by
  subst h
  unfold hTab
  rw [List.map_map]
  have : ((fun q : Nat × Nat × Nat × Nat => (⟨q.1, q.2.1, q.2.2.1, q.2.2.2⟩ : ExceptionTableEntry)) ∘ fun h : ExceptionTableEntry => (h.startPc, h.endPc, h.handlerPc, h.catchType)) = id := rfl
  rw [this, List.map_id]
theorem Mt.startW {y : MethodName} {cc : ByteArray} {maxL : Nat} {ret : Option FieldType} {hh : List (Nat × Nat × Nat × Nat)} {F Lo : Nat} {Γ : Gh} {na : Bool} {ad : Nat → Nat → Nat} {χ : St} {av : List Value} {Wp : Prop} {Pst : Option Value → (Nat → Nat → Nat) → St → Prop} (hst : l.stackTraces = false) (hy : plainName y.cls = true) (own : String) (ho : y.cls = own) (hL : (lg_sl av).length ≤ maxL)
    (k : ∀ X : Cx, Ok X cc own ret y maxL F Lo Pst → Th X → X.c.exceptionTable.toList = hTab hh → X.Γ = Γ → X.χ0 = χ → X.ad0 = ad → X.na = na → X.l = l → Wp → G X ad χ 0 (lv_args 0 av) []) :
    Mt l y (wsW y cc maxL ret hh) (rmO F Lo χ) (Pm Γ ad χ av Wp) (Qm Γ na ad χ Pst) (frB Γ) := by
  refine MetFree.of_bodyS (code := cc) (maxLocals := maxL) (ret := ret) hy ?_ ?_
  · intro args s m h hn
    obtain ⟨m9, meth, c, hn9, h1, h2, h3, h4, -, h5, h6, -⟩ := Cond.codeWith_spec (atoms_spec (ws := wsW y cc maxL ret hh) h _ List.mem_cons_self)
    cases hn.symm.trans hn9
    exact ⟨meth, c, h1, h2, h3, h4, h5, h6⟩
  · intro p e s m args below meth c s₁ B hml hv _
    have hh0 : s₁.heap = s.heap := by rw [B.state]; rfl
    have S := Stand.of_body B
    have hts := atoms_spec (ws := wsW y cc maxL ret hh) B.pre
    obtain ⟨m9, meth', c', hn9, h1, h2, h3, h4, h5, -⟩ := Cond.codeWith_spec (hts _ List.mem_cons_self)
    have e0 : m9 = m := Option.some.inj (hn9.symm.trans B.named)
    subst e0
    have e1 : meth' = meth := Option.some.inj (h1.symm.trans B.method)
    subst e1
    have e2 : c' = c := Option.some.inj (h2.symm.trans S.code)
    subst e2
    obtain ⟨rfl, hH, hK, hw⟩ := hv
    have hts : ∀ w ∈ lw_all, w.before _ s = true := fun w h => hts w (List.mem_cons_of_mem _ h)
    have hown : s.vm.findClass own = some m9.cls := by rw [← ho]; exact findClass_of_methodNamed B.named
    have hin : meth'.name = y.name := (name_of_methodNamed B.named B.method).1
    have hl := lv_entry av (n := maxL) hL
    have key := k (p, l, e, (headSpec (wsW y cc maxL ret hh) (rmO F Lo χ)).room, s, m9, av.toArray, below, meth', c', MQx below (Qm Γ na ad χ Pst) av.toArray s (frB Γ), Γ, maxL, χ, ad, na)
      ⟨B.exec, B.bytes, B.returns, B.notSynchronized, ⟨hml, rfl⟩, hown, hts, hK, rfl, hin, fun _ h => h⟩ ⟨hH.2.2.1, hst⟩ (hTab_of h5) rfl rfl rfl rfl rfl hw _ s.heap [] 0 0 hl ⟨hH, Ext.rf, fun _ => rfl, (fun _ h => by cases h), rfl, rfl⟩
    rw [← lg_entry_eq] at key
    obtain ⟨t, a1, o, b1, b2, b3⟩ := key s₁ hh0 S
    exact ⟨t, o, a1, b1, b2, b3⟩
end MXS
/-! the caller's side of a throw -/
def BackT (l : Launch) (R : Room) (p : Program) (e : Env) (below : List Frame) (s : State) (sargs : Array Value) (y : MethodName) (len W : Nat) (Pre : Pt → Array Value → Prop) (Post : Pt → Array Value → Addr → Pt → Prop) : Prop :=
  ∀ m meth c (A : Pt) (g : JFrame) (ig : Instr) mk a, Stand p l e R s m sargs below meth c A.U A.locs A.cells A.slots → g.method = m → g.locals.size = c.maxLocals → decode c.code g.pc = .ok (ig, len) → 2 * g.monitorRoom + (g.stack.map fun v => v.category).sum ≤ W → A.U.methodNamed? y = some mk → Pre A a →
    ∃ (x : Addr) (B : Pt), Stand p l e R s m sargs below meth c B.U B.locs B.cells B.slots ∧ Post A a x B ∧ Steps p.tables e below (doInvoke e (A.U.setTop g) [] mk a).1 ((B.U.setTop g).pushFrame (.throwing x))
def PostT (Qc : Array Value → State → Addr → State → Nat → Nat → Prop) (free : Addr → Prop) : Pt → Array Value → Addr → Pt → Prop := fun A a x B =>
  ∃ (g : JFrame) (mk : MethodId) (t : State) (L : List Loc) (k n : Nat), B.U.heap = t.heap ∧ B.U.vm = t.vm ∧ Qc a (A.U.calling g mk a) x t k n ∧ B.locs = A.locs ++ L ∧ (∀ q ∈ L, free q.base) ∧ B.cells = A.cells + k ∧ B.slots = A.slots + n
section MTBX
variable {l : Launch} {R : Room} {p : Program} {e : Env} {below : List Frame} {s : State} {sargs : Array Value} {y : MethodName} {len W : Nat}
theorem MtX.back {ws : List Cond} {rm : Room} {Pc : Array Value → State → Prop} {Qc : Array Value → State → Addr → State → Nat → Nat → Prop} {free : Addr → Prop} {bytes : ByteArray} {maxL : Nat} {ret : Option FieldType}
    (hM : MtX l y ws rm Pc Qc free) (hblind : FrameBlind Pc)
    (hframes : rm.frames + 1 ≤ R.frames) (hlocals : W + (maxL + 11) + rm.locals ≤ R.locals)
    (hws : ∀ w ∈ ws, ∀ a' U, s.WarmedH U.vm → w.before a' U = true) (hcode : Cond.code y bytes maxL ret ∈ ws) (hini : (Cond.initialized y.cls).before sargs s = true) :
    BackT l R p e below s sargs y len W (PreM R rm Pc) (PostT Qc free) := by
  intro m meth c A g ig mk a X hg hsize hdg hW hn hp
  have h3 : (Cond.initialized y.cls).before a A.U = true := word_at X.warmed (Or.inl (by first | rfl | simp [Cond.onTables, Cond.keeps, Cond.steady])) hini
  have h1 : (headSpec ws rm).pre.before a A.U = true := atoms_intro fun w hw => hws w hw _ _ X.warmed
  have h2 := hws _ hcode a A.U X.warmed
  obtain ⟨h4, h5, hP⟩ := hp
  obtain ⟨U, Ls, c0, s0⟩ := A
  dsimp only [Pt.U, Pt.locs, Pt.cells, Pt.slots] at h1 h2 h3 h4 h5 hP X hn ⊢
  obtain ⟨methY, cY, hmY, hcY, -, hlY, -⟩ := Cond.code_spec hn h2
  obtain ⟨kY, hkY, -⟩ := className_of_methodNamed hn
  have hinitY : kY.init = .initialized := Cond.initialized_spec (findClass_of_methodNamed hn) hkY h3
  have h : At U g.method c below := by rw [hg]; exact X.here
  have happ : (headSpec ws rm).appliesLoose y e.platform (U.calling g mk a) = true :=
    Spec.appliesLoose_calling (g := g) h hdg hn hkY hinitY
      (X.room_calling (g := g) (R' := (headSpec ws rm).room) hsize hmY hcY hframes (by rw [hlY]; show _ + rm.locals ≤ _; omega) h4 h5) h1
  obtain ⟨mid, hmid⟩ := h.above
  have hfr : (U.setTop g).frames = (.java g :: mid) ++ below := by rw [State.frames_setTop' g h.top, hmid]; rfl
  obtain ⟨o, s₂, hsteps, -, hend, hq⟩ := Steps.callFree hM p X.admits X.cas X.clock (acts := []) hfr happ (hblind _ _ g mk hP) trivial
  obtain ⟨x, rfl, L, k, n, hqc, ⟨hW₂, hsame⟩, hL⟩ := hq
  rw [State.frames_setTop' g h.top, X.tail] at hend
  obtain ⟨T', X', -, -, ht⟩ := X.outOfThrown hg hend hW₂ hsame
  refine ⟨x, ⟨T', Ls ++ L, c0 + k, s0 + n⟩, X', ⟨g, mk, s₂, L, k, n, by rw [ht]; rfl, by rw [ht]; rfl, hqc, rfl, hL, rfl, rfl⟩, ?_⟩
  show Steps p.tables e below _ ((T'.setTop g).pushFrame (.throwing x))
  rw [← ht]
  exact hsteps
end MTBX
section CLX
variable {p : Program} {l : Launch} {e : Env} {R : Room} {s : State} {m : MethodId} {args : Array Value} {below : List Frame} {meth : Method} {c : Code} {T : State} {locs : List Loc} {cells slots : Nat}
theorem callVUX (X : Stand p l e R s m args below meth c T locs cells slots) (hexec : p.tables.exec = Jvm.exec) {own C owner : String} {index : Nat} {x y : MethodName} {bytes : ByteArray} {maxL : Nat} {ret : Option FieldType}
    (hown : s.vm.findClass own = some m.cls) (hlink : (Cond.methodLink own index x).before args s = true) (hsame : (Cond.sameMethod x.cls owner x.name x.desc).before args s = true)
    (hd0 : va_Decl s ⟨owner, x.name, x.desc⟩) (howner : owner ≠ "java/lang/invoke/MethodHandle" ∧ owner ≠ "java/lang/invoke/VarHandle")
    (hsel : (Cond.selects C x y).before args s = true) (hinst : (Cond.instanceMethod y).before args s = true) (hcode : (Cond.code y bytes maxL ret).before args s = true)
    {W : Nat} {Pre : Pt → Array Value → Prop} {Post : Pt → Array Value → Addr → Pt → Prop} (hK : BackT l R p e below s args y 3 W Pre Post)
    {b : Addr} {cellB : Cell} (hcell : T.heap[b]? = some cellB) (hobj : cellB.vm.isStatics = false) (hcls : s.vm.findClass C = some cellB.cls)
    {g : JFrame} (hg : g.method = m) (hsize : g.locals.size = c.maxLocals) {argsL rest : List Value} (hlen : ∀ sig, parseMethodDescriptor x.desc = some sig → argsL.length = sig.parameters.length)
    (hstack : g.stack = argsL.reverse ++ .ref b :: rest) (hW : 2 * g.monitorRoom + (rest.map fun v => v.category).sum ≤ W) (hdg : decode c.code g.pc = .ok (.invokevirtual index, 3))
    (hpre : ∀ vm₁, s.WarmedH vm₁ → Pre ⟨T.setVm vm₁, locs, cells, slots⟩ (Value.ref b :: argsL).toArray) :
    ∃ (v : Addr) (vm₁ : Vm) (B : Pt), s.WarmedH vm₁ ∧ Stand p l e R s m args below meth c B.U B.locs B.cells B.slots ∧ Post ⟨T.setVm vm₁, locs, cells, slots⟩ (Value.ref b :: argsL).toArray v B ∧
      ∀ target, Steps p.tables e below ((B.U.setTop { g with stack := rest }).pushFrame (.throwing v)) target → Steps p.tables e below (T.setTop g) target := by
  obtain ⟨r0, r, hn, hrm, hstR, hsigR⟩ := hd0
  obtain ⟨cn, ck, r1, hcn, hck, hni, hf, hn1⟩ := Cond.sameMethod_found hsame
  cases hn.symm.trans hn1
  obtain ⟨mk, methM, hnamed, hmethM, -, habM⟩ := Cond.instanceMethod_spec hinst
  obtain ⟨c2, r2, m2, q1, q2, q3, q4, kP, hkP, hkPi⟩ := Cond.selects_spec hsel
  cases hcls.symm.trans q1
  cases hf.symm.trans q2
  cases hnamed.symm.trans q3
  have hselP : selectMethod e.platform s.vm cellB.cls r0 = .method mk := by rw [Launch.admits_selectMethod X.admits]; exact q4
  obtain ⟨vm₁, X₁, hstep₁⟩ := X.invokevirtualUp hexec hown hlink hsame howner hn hrm hstR (a := b) (cell := cellB) hcell
    (fun z h => by rw [h] at hobj; cases hobj) hselP hmethM habM hkP hkPi (g := g) hg (argsL := argsL) (rest := rest) (hlen _ hsigR) hstack hdg
  obtain ⟨v, B, X', hpost, hsteps⟩ := hK m meth c ⟨T.setVm vm₁, locs, cells, slots⟩ { g with stack := rest } (.invokevirtual index) mk (Value.ref b :: argsL).toArray X₁ hg hsize hdg hW (X₁.named hnamed) (hpre vm₁ X₁.warmed)
  exact ⟨v, vm₁, B, X₁.warmed, X', hpost, fun target h => hstep₁ _ fun acts => by rw [doInvoke_state]; exact hsteps.trans h⟩
theorem callVX (X : Stand p l e R s m args below meth c T locs cells slots) (hexec : p.tables.exec = Jvm.exec) {own C : String} {index : Nat} {y : MethodName} {bytes : ByteArray} {maxL : Nat} {ret : Option FieldType}
    (hown : s.vm.findClass own = some m.cls) (hlink : (Cond.methodLink own index y).before args s = true) (hinst : (Cond.instanceMethod y).before args s = true) (hsel : (Cond.selects C y y).before args s = true)
    (hcode : (Cond.code y bytes maxL ret).before args s = true) (hy : y.cls ≠ "java/lang/invoke/MethodHandle" ∧ y.cls ≠ "java/lang/invoke/VarHandle")
    {W : Nat} {Pre : Pt → Array Value → Prop} {Post : Pt → Array Value → Addr → Pt → Prop} (hK : BackT l R p e below s args y 3 W Pre Post)
    {b : Addr} {cellB : Cell} (hcell : T.heap[b]? = some cellB) (hobj : cellB.vm.isStatics = false) (hcls : s.vm.findClass C = some cellB.cls)
    {g : JFrame} (hg : g.method = m) (hsize : g.locals.size = c.maxLocals) {argsL rest : List Value} (hlen : ∀ sig, parseMethodDescriptor y.desc = some sig → argsL.length = sig.parameters.length)
    (hstack : g.stack = argsL.reverse ++ .ref b :: rest) (hW : 2 * g.monitorRoom + (rest.map fun v => v.category).sum ≤ W) (hdg : decode c.code g.pc = .ok (.invokevirtual index, 3))
    (hpre : ∀ vm₁, s.WarmedH vm₁ → Pre ⟨T.setVm vm₁, locs, cells, slots⟩ (Value.ref b :: argsL).toArray) :
    ∃ (v : Addr) (vm₁ : Vm) (B : Pt), s.WarmedH vm₁ ∧ Stand p l e R s m args below meth c B.U B.locs B.cells B.slots ∧ Post ⟨T.setVm vm₁, locs, cells, slots⟩ (Value.ref b :: argsL).toArray v B ∧
      ∀ target, Steps p.tables e below ((B.U.setTop { g with stack := rest }).pushFrame (.throwing v)) target → Steps p.tables e below (T.setTop g) target := by
  obtain ⟨mk, methM, hnamed, hmethM, hstM, habM⟩ := Cond.instanceMethod_spec hinst
  obtain ⟨methM', cM, hmethM', -, -, -, -, -, -, hsigM⟩ := Cond.code_spec hnamed hcode
  cases hmethM.symm.trans hmethM'
  obtain ⟨c2, r2, m2, q1, q2, q3, q4, kP, hkP, hkPi⟩ := Cond.selects_spec hsel
  cases hcls.symm.trans q1
  cases (State.methodFound?_of_named hnamed hy).symm.trans q2
  cases hnamed.symm.trans q3
  have hselP : selectMethod e.platform s.vm cellB.cls mk = .method mk := by rw [Launch.admits_selectMethod X.admits]; exact q4
  obtain ⟨vm₁, X₁, hstep₁⟩ := X.invokevirtual hexec hown hlink hnamed hmethM hstM hkP hkPi hy (a := b) (cell := cellB) hcell
    (fun z h => by rw [h] at hobj; cases hobj) hselP hmethM habM hkP hkPi (g := g) hg (argsL := argsL) (rest := rest) (hlen _ hsigM) hstack hdg
  obtain ⟨v, B, X', hpost, hsteps⟩ := hK m meth c ⟨T.setVm vm₁, locs, cells, slots⟩ { g with stack := rest } (.invokevirtual index) mk (Value.ref b :: argsL).toArray X₁ hg hsize hdg hW (X₁.named hnamed) (hpre vm₁ X₁.warmed)
  exact ⟨v, vm₁, B, X₁.warmed, X', hpost, fun target h => hstep₁ _ fun acts => by rw [doInvoke_state]; exact hsteps.trans h⟩
theorem callSX (X : Stand p l e R s m args below meth c T locs cells slots) (hexec : p.tables.exec = Jvm.exec) {own : String} {index : Nat} {y : MethodName} {bytes : ByteArray} {maxL : Nat} {ret : Option FieldType}
    (hown : s.vm.findClass own = some m.cls) (hlink : (Cond.methodLink own index y).before args s = true) (hstat : (Cond.static y).before args s = true) (hinit : (Cond.initialized y.cls).before args s = true)
    (hcode : (Cond.code y bytes maxL ret).before args s = true) (hy : y.cls ≠ "java/lang/invoke/MethodHandle" ∧ y.cls ≠ "java/lang/invoke/VarHandle")
    {W : Nat} {Pre : Pt → Array Value → Prop} {Post : Pt → Array Value → Addr → Pt → Prop} (hK : BackT l R p e below s args y 3 W Pre Post)
    {g : JFrame} (hg : g.method = m) (hsize : g.locals.size = c.maxLocals) {argsL rest : List Value} (hlen : ∀ sig, parseMethodDescriptor y.desc = some sig → argsL.length = sig.parameters.length)
    (hstack : g.stack = argsL.reverse ++ rest) (hW : 2 * g.monitorRoom + (rest.map fun v => v.category).sum ≤ W) (hdg : decode c.code g.pc = .ok (.invokestatic index, 3))
    (hpre : ∀ vm₁, s.WarmedH vm₁ → Pre ⟨T.setVm vm₁, locs, cells, slots⟩ argsL.toArray) :
    ∃ (v : Addr) (vm₁ : Vm) (B : Pt), s.WarmedH vm₁ ∧ Stand p l e R s m args below meth c B.U B.locs B.cells B.slots ∧ Post ⟨T.setVm vm₁, locs, cells, slots⟩ argsL.toArray v B ∧
      ∀ target, Steps p.tables e below ((B.U.setTop { g with stack := rest }).pushFrame (.throwing v)) target → Steps p.tables e below (T.setTop g) target := by
  obtain ⟨mk, hnamed⟩ := Cond.code_named hcode
  obtain ⟨methM, cM, hmethM, -, -, -, -, -, -, hsigM⟩ := Cond.code_spec hnamed hcode
  have hstatic : methM.isStatic = true := Cond.static_spec hnamed hmethM hstat
  obtain ⟨kP, hkP, -⟩ := className_of_methodNamed hnamed
  have hinitP : kP.init = .initialized := Cond.initialized_spec (findClass_of_methodNamed hnamed) hkP hinit
  obtain ⟨vm₁, X₁, hstep₁⟩ := X.invokestatic hexec hown hlink hnamed hmethM hstatic hkP hinitP hy (g := g) hg (argsL := argsL) (rest := rest) (hlen _ hsigM) hstack hdg
  obtain ⟨v, B, X', hpost, hsteps⟩ := hK m meth c ⟨T.setVm vm₁, locs, cells, slots⟩ { g with stack := rest } (.invokestatic index) mk argsL.toArray X₁ hg hsize hdg hW (X₁.named hnamed) (hpre vm₁ X₁.warmed)
  exact ⟨v, vm₁, B, X₁.warmed, X', hpost, fun target h => hstep₁ _ fun acts => by rw [doInvoke_state]; exact hsteps.trans h⟩
theorem callIX (X : Stand p l e R s m args below meth c T locs cells slots) (hexec : p.tables.exec = Jvm.exec) {own : String} {index : Nat} {y : MethodName} {bytes : ByteArray} {maxL : Nat}
    (hown : s.vm.findClass own = some m.cls) (hy1 : y.name = "<init>") (hlink : (Cond.methodLink own index y).before args s = true) (hinst : (Cond.instanceMethod y).before args s = true)
    (hcode : (Cond.code y bytes maxL none).before args s = true) (hy : y.cls ≠ "java/lang/invoke/MethodHandle" ∧ y.cls ≠ "java/lang/invoke/VarHandle")
    {W : Nat} {Pre : Pt → Array Value → Prop} {Post : Pt → Array Value → Addr → Pt → Prop} (hK : BackT l R p e below s args y 3 W Pre Post)
    {g : JFrame} (hg : g.method = m) (hsize : g.locals.size = c.maxLocals) {a : Addr} {argsL rest : List Value} (hlen : ∀ sig, parseMethodDescriptor y.desc = some sig → argsL.length = sig.parameters.length)
    (hstack : g.stack = argsL.reverse ++ .ref a :: rest) (hW : 2 * g.monitorRoom + (rest.map fun v => v.category).sum ≤ W) (hdg : decode c.code g.pc = .ok (.invokespecial index, 3))
    (hpre : ∀ vm₁, s.WarmedH vm₁ → Pre ⟨T.setVm vm₁, locs, cells, slots⟩ (Value.ref a :: argsL).toArray) :
    ∃ (v : Addr) (vm₁ : Vm) (B : Pt), s.WarmedH vm₁ ∧ Stand p l e R s m args below meth c B.U B.locs B.cells B.slots ∧ Post ⟨T.setVm vm₁, locs, cells, slots⟩ (Value.ref a :: argsL).toArray v B ∧
      ∀ target, Steps p.tables e below ((B.U.setTop { g with stack := rest }).pushFrame (.throwing v)) target → Steps p.tables e below (T.setTop g) target := by
  subst hg
  have hpl : e.platform.magicAccessors = ({} : Platform).magicAccessors := by rw [X.admits.platform]
  obtain ⟨mk, methM, cM, kP, vm₁, hnamed, hmethM, hcodeM, -, hlocalsM, -, hkP, -, hW₁, hstep₁⟩ := Steps.initColdArgs (e := e) X.here hexec X.warmed hpl hown hy1 hy hlink hinst hcode (f := g) rfl hlen hstack hdg
  have X₁ := X.noted hW₁
  obtain ⟨v, B, X', hpost, hsteps⟩ := hK g.method meth c ⟨T.setVm vm₁, locs, cells, slots⟩ { g with stack := rest } (.invokespecial index) mk (Value.ref a :: argsL).toArray X₁ rfl hsize hdg hW (X₁.named hnamed) (hpre vm₁ X₁.warmed)
  exact ⟨v, vm₁, B, X₁.warmed, X', hpost, fun target h => hstep₁ _ fun acts => by rw [doInvoke_state]; exact hsteps.trans h⟩
end CLX
section GCX
variable {X : Cx} {cc : ByteArray} {own host : String} {ret : Option FieldType} {y0 : MethodName} {nL F Lo : Nat} {Pst : Option Value → (Nat → Nat → Nat) → St → Prop} {ad : Nat → Nat → Nat} {χ : St} {pc : Nat} {lv lv2 : List (Nat × Value)} {st st0 : List Value}
variable {x y : MethodName} {b : ByteArray} {L F' Lo' n index : Nat} {r : Option FieldType} {na' : Bool} {cls : String} {PstX : (Nat → Nat → Nat) → St → Prop} {Wp : Prop} {As : List Value}
variable {c i k ci : Nat} {ft : List (Nat × Nat)} {C owner : String} {T : u_T} {N : Nat} {K e d : Nat} {j : Int32}
theorem g_callUX (h : Ok X cc own ret y0 nL F Lo Pst) (hM : MtX X.l y (ws_ y b L r) (rmO F' Lo' χ) (Pm X.Γ ad χ (.ref (ad c i) :: As) Wp) (Qx X.Γ na' ad χ cls PstX) (frB X.Γ)) (hw : Wp) (hna : X.na = true → na' = true)
    (cw : va_CU X.R X.s X.args own C owner index x y b L r (ws_ y b L r) (rmO F' Lo' χ) (rmO F' Lo' χ).cells (rmO F' Lo' χ).slots n)
    (hi : i < cn χ c) (hf : fam c (tg χ c i) = (1, ci, ft)) (hc : vcl[ci]? = some (C, T, N)) (hn : As.length = n) (hs : st0 = As.reverse ++ .ref (ad c i) :: st) (hst : (st.map fun v => v.category).sum ≤ 8) (hd : decode cc pc = .ok (.invokevirtual index, 3))
    (kk : ∀ ad' χ', PstX ad' χ' → (na' = true → ad' = ad) → Ext χ χ' ad ad' → GT X ad' χ' pc lv cls) : G X ad χ pc lv st0 := by
  intro ls H locs cells slots hl hI T' hT XX
  have hts := h.2.2.2.2.2.2.1
  have hK := h.2.2.2.2.2.2.2.1
  have hR := h.2.2.2.2.2.2.2.2.1
  obtain ⟨-, -, hfr, hlo, hws, hcw⟩ := cw.back
  have hini := cw.init
  have hB : BackT X.l X.R X.p X.e X.below X.s X.args y 3 8 (PreM X.R (rmO F' Lo' χ) (Pm X.Γ ad χ (.ref (ad c i) :: As) Wp)) (PostT (Qx X.Γ na' ad χ cls PstX) (frB X.Γ)) := hM.back Pm.blind hfr hlo hws hcw hini
  have hat := hI.at hi
  rw [cE_o hf] at hat
  obtain ⟨cellB, hcB, hoB, hclB⟩ := va_recv hK.1 (P1 hat) hc (q0 := 0) rfl
  obtain ⟨v, vm₁, ⟨U', l2, c2, s2⟩, hW₁, X', ⟨g', mk, t, Lk, k, n', e1, e2, hq, h1, hL, h2, h3⟩, stp⟩ := callVUX XX h.1 (C := C) (owner := owner) (bytes := b) (maxL := L) (ret := r) h.2.2.2.2.2.1 cw.link cw.same cw.decl cw.notMH cw.sel cw.inst cw.code hB (by rw [hT]; exact hcB) hoB hclB (g := F0 X.m pc ls st0) rfl (hl.1.trans h.2.2.2.2.1.1.symm) (argsL := As) (rest := st) (fun sig z => hn.trans (cw.len sig z)) hs (lv_room (m := X.m) (pc := pc) (ls := ls) (rest := st0) hst) (by rw [h.2.1]; exact hd)
    (fun vm₁ hW₁ => ⟨(hI.room h).1, (hI.room h).2, rfl, by show HR _ _ _ T'.heap; rw [hT]; exact hI.1, hK.warm hW₁, hw⟩)
  dsimp only [Pt.U, Pt.locs, Pt.cells, Pt.slots] at X' e1 e2 h1 h2 h3 stp
  subst h1; subst h2; subst h3
  obtain ⟨ad', χ', hP, hna1, hE, hH, hu, hu2, hEx⟩ := hq
  obtain ⟨cell, x1, x2, x3⟩ := hEx
  obtain ⟨t2, a1, b1⟩ := kk ad' χ' hP hna1 hE ls st U' _ _ _ v hl (by rw [e1]; exact hI.back hna hna1 hE hH hu hu2 hL) ⟨cell, by rw [e1]; exact x1, x2, by rw [← X'.warmed.alike.findClass, e2]; exact x3⟩ X'
  exact ⟨t2, stp t2 a1, b1⟩
theorem g_callVX (h : Ok X cc own ret y0 nL F Lo Pst) (hM : MtX X.l y (ws_ y b L r) (rmO F' Lo' χ) (Pm X.Γ ad χ (.ref (ad c i) :: As) Wp) (Qx X.Γ na' ad χ cls PstX) (frB X.Γ)) (hw : Wp) (hna : X.na = true → na' = true)
    (q1 : Cond.methodLink own index y ∈ lw_all) (q2 : Cond.instanceMethod y ∈ lw_all) (q3 : Cond.selects C y y ∈ lw_all) (q4 : Cond.initialized C ∈ lw_all) (q5 : Cond.code y b L r ∈ lw_all)
    (hd0 : y.cls = C ∧ y.cls ≠ "java/lang/invoke/MethodHandle" ∧ y.cls ≠ "java/lang/invoke/VarHandle" ∧ (parseMethodDescriptor y.desc).map (fun d => d.parameters.length) = some n) (hF : F' + 1 ≤ F ∧ 8 + (L + 11) + Lo' ≤ Lo)
    (hi : i < cn χ c) (hf : fam c (tg χ c i) = (1, ci, ft)) (hc : vcl[ci]? = some (C, T, N)) (hn : As.length = n) (hs : st0 = As.reverse ++ .ref (ad c i) :: st) (hst : (st.map fun v => v.category).sum ≤ 8) (hd : decode cc pc = .ok (.invokevirtual index, 3))
    (kk : ∀ ad' χ', PstX ad' χ' → (na' = true → ad' = ad) → Ext χ χ' ad ad' → GT X ad' χ' pc lv cls) : G X ad χ pc lv st0 := by
  intro ls H locs cells slots hl hI T' hT XX
  have hts := h.2.2.2.2.2.2.1
  have hK := h.2.2.2.2.2.2.2.1
  have hR := h.2.2.2.2.2.2.2.2.1
  have cw : CallW X.R X.s X.args own C index y b L r (ws_ y b L r) (rmO F' Lo' χ) (rmO F' Lo' χ).cells (rmO F' Lo' χ).slots n := cwV n hts (lw_V q1 q2 q3 q4 q5) rfl rfl rfl hd0 (by rw [hR]; exact hF)
  obtain ⟨⟨-, -, hfr, hlo, hws, hcw, hcode, hini, hy, hlen, hlk⟩, hin, hse⟩ := cw
  have hB : BackT X.l X.R X.p X.e X.below X.s X.args y 3 8 (PreM X.R (rmO F' Lo' χ) (Pm X.Γ ad χ (.ref (ad c i) :: As) Wp)) (PostT (Qx X.Γ na' ad χ cls PstX) (frB X.Γ)) := hM.back Pm.blind hfr hlo hws hcw hini
  have hat := hI.at hi
  rw [cE_o hf] at hat
  obtain ⟨cellB, hcB, hoB, hclB⟩ := va_recv hK.1 (P1 hat) hc (q0 := 0) rfl
  obtain ⟨v, vm₁, ⟨U', l2, c2, s2⟩, hW₁, X', ⟨g', mk, t, Lk, k, n', e1, e2, hq, h1, hL, h2, h3⟩, stp⟩ := callVX XX h.1 (C := C) (bytes := b) (maxL := L) (ret := r) h.2.2.2.2.2.1 hlk hin hse hcode hy hB (by rw [hT]; exact hcB) hoB hclB (g := F0 X.m pc ls st0) rfl (hl.1.trans h.2.2.2.2.1.1.symm) (argsL := As) (rest := st) (fun sig z => hn.trans (hlen sig z)) hs (lv_room (m := X.m) (pc := pc) (ls := ls) (rest := st0) hst) (by rw [h.2.1]; exact hd)
    (fun vm₁ hW₁ => ⟨(hI.room h).1, (hI.room h).2, rfl, by show HR _ _ _ T'.heap; rw [hT]; exact hI.1, hK.warm hW₁, hw⟩)
  dsimp only [Pt.U, Pt.locs, Pt.cells, Pt.slots] at X' e1 e2 h1 h2 h3 stp
  subst h1; subst h2; subst h3
  obtain ⟨ad', χ', hP, hna1, hE, hH, hu, hu2, hEx⟩ := hq
  obtain ⟨cell, x1, x2, x3⟩ := hEx
  obtain ⟨t2, a1, b1⟩ := kk ad' χ' hP hna1 hE ls st U' _ _ _ v hl (by rw [e1]; exact hI.back hna hna1 hE hH hu hu2 hL) ⟨cell, by rw [e1]; exact x1, x2, by rw [← X'.warmed.alike.findClass, e2]; exact x3⟩ X'
  exact ⟨t2, stp t2 a1, b1⟩
theorem g_callSX (h : Ok X cc own ret y0 nL F Lo Pst) (hM : MtX X.l y (ws_ y b L r) (rmO F' Lo' χ) (Pm X.Γ ad χ As Wp) (Qx X.Γ na' ad χ cls PstX) (frB X.Γ)) (hw : Wp) (hna : X.na = true → na' = true)
    (q1 : Cond.methodLink own index y ∈ lw_all) (q2 : Cond.static y ∈ lw_all) (q4 : Cond.initialized y.cls ∈ lw_all) (q5 : Cond.code y b L r ∈ lw_all)
    (hd0 : y.cls ≠ "java/lang/invoke/MethodHandle" ∧ y.cls ≠ "java/lang/invoke/VarHandle" ∧ (parseMethodDescriptor y.desc).map (fun d => d.parameters.length) = some n) (hF : F' + 1 ≤ F ∧ 8 + (L + 11) + Lo' ≤ Lo)
    (hn : As.length = n) (hs : st0 = As.reverse ++ st) (hst : (st.map fun v => v.category).sum ≤ 8) (hd : decode cc pc = .ok (.invokestatic index, 3))
    (kk : ∀ ad' χ', PstX ad' χ' → (na' = true → ad' = ad) → Ext χ χ' ad ad' → GT X ad' χ' pc lv cls) : G X ad χ pc lv st0 := by
  intro ls H locs cells slots hl hI T' hT XX
  have hts := h.2.2.2.2.2.2.1
  have hK := h.2.2.2.2.2.2.2.1
  have hR := h.2.2.2.2.2.2.2.2.1
  have cw : CallB X.R X.s X.args own index y b L r (ws_ y b L r) (rmO F' Lo' χ) (rmO F' Lo' χ).cells (rmO F' Lo' χ).slots n ∧ (Cond.static y).before X.args X.s = true := va_cwS n hts (lw_S q1 q2 q4 q5) rfl rfl rfl hd0 (by rw [hR]; exact hF)
  obtain ⟨⟨-, -, hfr, hlo, hws, hcw, hcode, hini, hy, hlen, hlk⟩, hstt⟩ := cw
  have hB : BackT X.l X.R X.p X.e X.below X.s X.args y 3 8 (PreM X.R (rmO F' Lo' χ) (Pm X.Γ ad χ As Wp)) (PostT (Qx X.Γ na' ad χ cls PstX) (frB X.Γ)) := hM.back Pm.blind hfr hlo hws hcw hini
  obtain ⟨v, vm₁, ⟨U', l2, c2, s2⟩, hW₁, X', ⟨g', mk, t, Lk, k, n', e1, e2, hq, h1, hL, h2, h3⟩, stp⟩ := callSX XX h.1 (bytes := b) (maxL := L) (ret := r) h.2.2.2.2.2.1 hlk hstt hini hcode hy hB (g := F0 X.m pc ls st0) rfl (hl.1.trans h.2.2.2.2.1.1.symm) (argsL := As) (rest := st) (fun sig z => hn.trans (hlen sig z)) hs (lv_room (m := X.m) (pc := pc) (ls := ls) (rest := st0) hst) (by rw [h.2.1]; exact hd)
    (fun vm₁ hW₁ => ⟨(hI.room h).1, (hI.room h).2, rfl, by show HR _ _ _ T'.heap; rw [hT]; exact hI.1, hK.warm hW₁, hw⟩)
  dsimp only [Pt.U, Pt.locs, Pt.cells, Pt.slots] at X' e1 e2 h1 h2 h3 stp
  subst h1; subst h2; subst h3
  obtain ⟨ad', χ', hP, hna1, hE, hH, hu, hu2, hEx⟩ := hq
  obtain ⟨cell, x1, x2, x3⟩ := hEx
  obtain ⟨t2, a1, b1⟩ := kk ad' χ' hP hna1 hE ls st U' _ _ _ v hl (by rw [e1]; exact hI.back hna hna1 hE hH hu hu2 hL) ⟨cell, by rw [e1]; exact x1, x2, by rw [← X'.warmed.alike.findClass, e2]; exact x3⟩ X'
  exact ⟨t2, stp t2 a1, b1⟩
theorem g_callIX (h : Ok X cc own ret y0 nL F Lo Pst) (hM : MtX X.l y (ws_ y b L none) (rmO F' Lo' χ) (Pm X.Γ ad χ (.ref (ad c i) :: As) Wp) (Qx X.Γ na' ad χ cls PstX) (frB X.Γ)) (hw : Wp) (hna : X.na = true → na' = true) (hy1 : y.name = "<init>")
    (q1 : Cond.methodLink own index y ∈ lw_all) (q2 : Cond.instanceMethod y ∈ lw_all) (q4 : Cond.initialized y.cls ∈ lw_all) (q5 : Cond.code y b L none ∈ lw_all) (hd0 : y.cls ≠ "java/lang/invoke/MethodHandle" ∧ y.cls ≠ "java/lang/invoke/VarHandle" ∧ (parseMethodDescriptor y.desc).map (fun d => d.parameters.length) = some n) (hF : F' + 1 ≤ F ∧ 8 + (L + 11) + Lo' ≤ Lo)
    (hn : As.length = n) (hs : st0 = As.reverse ++ .ref (ad c i) :: st) (hst : (st.map fun v => v.category).sum ≤ 8) (hd : decode cc pc = .ok (.invokespecial index, 3))
    (kk : ∀ ad' χ', PstX ad' χ' → (na' = true → ad' = ad) → Ext χ χ' ad ad' → GT X ad' χ' pc lv cls) : G X ad χ pc lv st0 := by
  intro ls H locs cells slots hl hI T' hT XX
  have hts := h.2.2.2.2.2.2.1
  have hK := h.2.2.2.2.2.2.2.1
  have hR := h.2.2.2.2.2.2.2.2.1
  have cw : CallB X.R X.s X.args own index y b L none (ws_ y b L none) (rmO F' Lo' χ) (rmO F' Lo' χ).cells (rmO F' Lo' χ).slots n ∧ y.name = "<init>" ∧ (Cond.instanceMethod y).before X.args X.s = true := cwI n hts (lw_meth q5) rfl rfl rfl (hts _ q4) (hts _ q1) (hts _ q2) hy1 hd0 (by rw [hR]; exact hF)
  obtain ⟨⟨-, -, hfr, hlo, hws, hcw, hcode, hini, hy, hlen, hlk⟩, hy1, hin⟩ := cw
  have hB : BackT X.l X.R X.p X.e X.below X.s X.args y 3 8 (PreM X.R (rmO F' Lo' χ) (Pm X.Γ ad χ (.ref (ad c i) :: As) Wp)) (PostT (Qx X.Γ na' ad χ cls PstX) (frB X.Γ)) := hM.back Pm.blind hfr hlo hws hcw hini
  obtain ⟨v, vm₁, ⟨U', l2, c2, s2⟩, hW₁, X', ⟨g', mk, t, Lk, k, n', e1, e2, hq, h1, hL, h2, h3⟩, stp⟩ := callIX XX h.1 (bytes := b) (maxL := L) h.2.2.2.2.2.1 hy1 hlk hin hcode hy hB (g := F0 X.m pc ls st0) rfl (hl.1.trans h.2.2.2.2.1.1.symm) (a := ad c i) (argsL := As) (rest := st) (fun sig z => hn.trans (hlen sig z)) hs (lv_room (m := X.m) (pc := pc) (ls := ls) (rest := st0) hst) (by rw [h.2.1]; exact hd)
    (fun vm₁ hW₁ => ⟨(hI.room h).1, (hI.room h).2, rfl, by show HR _ _ _ T'.heap; rw [hT]; exact hI.1, hK.warm hW₁, hw⟩)
  dsimp only [Pt.U, Pt.locs, Pt.cells, Pt.slots] at X' e1 e2 h1 h2 h3 stp
  subst h1; subst h2; subst h3
  obtain ⟨ad', χ', hP, hna1, hE, hH, hu, hu2, hEx⟩ := hq
  obtain ⟨cell, x1, x2, x3⟩ := hEx
  obtain ⟨t2, a1, b1⟩ := kk ad' χ' hP hna1 hE ls st U' _ _ _ v hl (by rw [e1]; exact hI.back hna hna1 hE hH hu hu2 hL) ⟨cell, by rw [e1]; exact x1, x2, by rw [← X'.warmed.alike.findClass, e2]; exact x3⟩ X'
  exact ⟨t2, stp t2 a1, b1⟩
end GCX
