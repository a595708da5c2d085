set_option maxRecDepth 100000
set_option maxHeartbeats 2000000
theorem ov_start {tb : Tables} {e : Env} {below base : List Frame} {s target : State} (hgo : s.goesOn) (hcur : s.cur < s.threads.size) (hbase : ∃ mid, base = mid ++ below) (Z : StringT) (LZ : Z.Laid s.vm)
    {cls m : String} {cX : ClassId} {kX : Class} {i : Nat}
    (hsoe : (cls == "java/lang/StackOverflowError") = false) (hoom : (cls == "java/lang/OutOfMemoryError") = false)
    (hfound : s.vm.findClass cls = some cX) (hk : s.vm.classes[cX]? = some kX) (hinit : kX.init = .initialized) (hord : kX.kind = .ordinary)
    (hhot : e.platform.hotImplicitExceptions = false)
    (hbeyond : e.platform.stackBeyond ((((s.setFrames (.throwNew cls (some m) none :: base)).threads[s.cur]?).map (·.stackBytes)).getD 0) (s.setFrames (.throwNew cls (some m) none :: base)).frames = false)
    (hfree : e.platform.vmThrowRoom ≤ e.platform.stackFree ((((s.setFrames (.throwNew cls (some m) none :: base)).threads[s.cur]?).map (·.stackBytes)).getD 0) (s.setFrames (.throwNew cls (some m) none :: base)).frames)
    (hm : (m == notModelled) = false) (hctor : kX.findMethod "<init>" "(Ljava/lang/String;)V" = some i)
    (hlimit : ¬ (stringBytes (stringToUtf16 m)).size > e.platform.arrayLengthLimit) (hheap : ¬ (stringBytes (stringToUtf16 m)).size * componentBytes .byte > e.platform.maxHeapBytes)
    (hcells : s.heap.size + 3 ≤ e.platform.maxCells) (hslots : s.slotsUsed + (stringBytes (stringToUtf16 m)).size + Z.kS.instanceTypes.size + kX.instanceTypes.size ≤ e.platform.maxSlots)
    (hfitv : s.fitsSlot Z.cS .none Z.fv.slot (.ref s.heap.size) = true) (hfitc : s.fitsSlot Z.cS .none Z.fc.slot (.int (stringCoder (stringToUtf16 m))) = true)
    (hrest : Steps tb e below (doInvoke e ((withThrown s Z m cX kX).setFrames (.thenThrow (s.heap.size + 2) :: base)) [] ⟨cX, i⟩ #[.ref (s.heap.size + 2), .ref (s.heap.size + 1)]).1 target) :
    Steps tb e below (s.setFrames (.throwNew cls (some m) none :: base)) target := by
  obtain ⟨mid, hmid⟩ := hbase
  have hf0 : (s.setFrames (.throwNew cls (some m) none :: base)).frames = .throwNew cls (some m) none :: base := State.frames_setFrames _ hcur
  have hgo0 : (s.setFrames (.throwNew cls (some m) none :: base)).goesOn := ⟨hgo.1, by simpa using hgo.2.1, by simpa using hgo.2.2⟩
  have hw0 : Within (s.setFrames (.throwNew cls (some m) none :: base)) below := ⟨.throwNew cls (some m) none :: mid, by rw [hf0, hmid]; rfl, by simp, by simp⟩
  refine Steps.head hgo0 hw0 ?_
  rw [stepThread_throwNew hf0, stepThrowNew_message (s := s.setFrames (.throwNew cls (some m) none :: base)) (c := cX) (k := kX) (i := i) Z LZ hsoe hoom hfound hk hinit hord hhot hbeyond hfree hm hctor hlimit hheap hcells hslots hfitv hfitc]
  have hN : (withThrown (s.setFrames (.throwNew cls (some m) none :: base)) Z m cX kX).setFrames (.thenThrow ((s.setFrames (.throwNew cls (some m) none :: base)).heap.size + 2) :: base) = ((withThrown s Z m cX kX).setFrames (.thenThrow (s.heap.size + 2) :: base)) := by
    rw [withThrown_setFrames, State.setFrames_setFrames]
    rfl
  rw [hN]
  exact hrest
theorem ov_thr {tb : Tables} {e : Env} {s : State} {a : Addr} {f : NFrame} {r : List Frame} (hf : s.frames = .throwing a :: .native f :: r) (haw : f.awaiting = false) (hl : f.locked = none) :
    (stepThread tb e s).1 = s.setFrames (.throwing a :: r) := by
  unfold stepThread
  simp only [hf]
  unfold stepThrowing
  simp only [haw, Bool.false_eq_true, if_false, hl]
  unfold vmDo
  generalize hr : Sem.go _ e false _ s = res
  obtain ⟨as, rfl, -⟩ := Sem.eq_ok_of hr (a := true) (s' := s) (acts' := []) (by simp [leaveIfLocked, unmarked, Action.isMark])
  rfl
theorem ov_leave {tb : Tables} {e : Env} {below : List Frame} {T2 target : State} {a : Addr} {nf : NFrame} {g : JFrame} (hgo : T2.goesOn) (hcur : T2.cur < T2.threads.size) (haw : nf.awaiting = false) (hl : nf.locked = none)
    (hrest : Steps tb e below (T2.setFrames (.throwing a :: .java g :: below)) target) : Steps tb e below (T2.setFrames (.throwing a :: .native nf :: .java g :: below)) target := by
  have hf : (T2.setFrames (.throwing a :: .native nf :: .java g :: below)).frames = .throwing a :: .native nf :: .java g :: below := State.frames_setFrames _ hcur
  refine Steps.head ⟨hgo.1, by simpa using hgo.2.1, by simpa using hgo.2.2⟩ ⟨[.throwing a, .native nf, .java g], by rw [hf]; rfl, by simp, by simp⟩ ?_
  rw [ov_thr hf haw hl, State.setFrames_setFrames]
  exact hrest
section THN
variable {p : Program} {l : Launch} {e : Env} {R : Room} {s : State} {m₀ : MethodId} {args : Array Value} {below : List Frame} {meth : Method} {c : Code} {T' : State} {locs : List Loc} {cells slots : Nat}
theorem th_msgN (X : Stand p l e R s m₀ args below meth c T' locs cells slots) (hexec : p.tables.exec = Jvm.exec) (htr : e.platform.stackTraces = false) {cls : String} {names : List String} {text : String}
    (hcls : Bundle.fit cls = true) (hnames : ∀ n ∈ names, Bundle.fit n = true) (hsoe : (cls == "java/lang/StackOverflowError") = false) (hoom : (cls == "java/lang/OutOfMemoryError") = false)
    (h : ∀ a ∈ Bundle.messageArmAtoms cls names, a.before args s = true)
    (hne : ∀ cT kT a, s.vm.findClass Bundle.tN = some cT → s.vm.classes[cT]? = some kT → kT.statics = some a → ∀ x ∈ locs, x.base ≠ a)
    (htext : (text == notModelled) = false) (hlimit : ¬ (stringBytes (stringToUtf16 text)).size > e.platform.arrayLengthLimit) (hheap : ¬ (stringBytes (stringToUtf16 text)).size * componentBytes .byte > e.platform.maxHeapBytes)
    {g : JFrame} (hg : g.method = m₀) (hsize : g.locals.size = c.maxLocals)
    (nf : NFrame) (hnw : (Frame.native nf).words = 0) (haw : nf.awaiting = false) (hlk : nf.locked = none) (hRframes : names.length + 5 < R.frames) (hRlocals : 2 * g.monitorRoom + (g.stack.map fun v => v.category).sum + 10240 ≤ R.locals) (hshort : 13 * names.length + 55 ≤ 10240)
    (hRcells : cells + 3 ≤ R.cells) (hRslots : slots + ((stringBytes (stringToUtf16 text)).size + 4 + 6) ≤ R.slots) :
    ∃ (T2 : State) (L : List Loc) (c0 c1 c2 : Cell), Stand p l e R s m₀ args below meth c T2 (locs ++ L) (cells + 3) (slots + ((stringBytes (stringToUtf16 text)).size + 4 + 6)) ∧ (∀ q ∈ L, T'.heap.size ≤ q.base) ∧
      T2.heap = ((T'.heap.push c0).push c1).push c2 ∧ c2.vm = .none ∧ s.vm.findClass cls = some c2.cls ∧
      ∀ target, Steps p.tables e below ((T2.setTop g).pushFrame (.throwing (T'.heap.size + 2))) target → Steps p.tables e below (((T'.setTop g).pushFrame (.native nf)).pushFrame (.throwNew cls (some text) none)) target := by
  have howns : e.platform.frameOwnsMonitors = true := by rw [X.admits.platform]
  have hfin : e.platform.finalization = false := by rw [X.admits.platform]
  have hpl : e.platform.magicAccessors = ({} : Platform).magicAccessors := by rw [X.admits.platform]
  have a : ∀ x, x ∈ Bundle.messageArmAtoms cls names → x.holds args s none s [] = true := fun x hx => h x hx
  obtain ⟨T, Z0, L, -, Y⟩ := ThrowableC.of_atoms (args := args) howns hfin hpl (fun x hx => h x (by simp [Bundle.messageArmAtoms, hx]))
  obtain ⟨Z, M, LZ, LM, hnZ⟩ := Init0T.ofS_atoms (args := args) hpl L Y (fun x hx => h x (by simp [Bundle.messageArmAtoms, hx]))
  obtain ⟨P1, Ps, hlen, L1, hL, hP1m, hlink1, hlink⟩ := Bundle.chainS (args := args) hpl hnZ names cls hcls hnames (fun x hx => h x (by simp [Bundle.messageArmAtoms, hx]))
  obtain ⟨Zs, LZs, hn4, hfitv, hfitc⟩ := StringT.of_atoms (args := args) (fun x hx => h x (by simp [Bundle.messageArmAtoms, hx]))
  have hfound : s.vm.findClass cls = some P1.m.cls := findClass_of_methodNamed hP1m
  obtain ⟨c1, kX, hc1, hk, hord, -, -, hn6⟩ := Cond.instantiable_spec (a (.instantiable cls 6) (by simp [Bundle.messageArmAtoms]))
  cases Option.some.inj (hc1.symm.trans hfound)
  have hinit := Cond.initialized_spec hfound hk (a (.initialized cls) (by simp [Bundle.messageArmAtoms]))
  have hctor : kX.findMethod "<init>" "(Ljava/lang/String;)V" = some P1.m.idx := findMethod_of_methodNamed hP1m hk
  have hsel0 : selectMethod e.platform s.vm P1.m.cls T.fill0 = .method T.fill0 := by
    obtain ⟨c2, r2, m2, q1, q2, q3, q4, -⟩ := Cond.selects_spec (a (.selects cls Bundle.tFill0 Bundle.tFill0) (by simp [Bundle.messageArmAtoms]))
    cases Option.some.inj (q1.symm.trans hfound)
    cases Option.some.inj (q2.symm.trans (State.methodFound?_of_named Y.fill0 (by decide)))
    cases Option.some.inj (q3.symm.trans Y.fill0)
    rw [Launch.admits_selectMethod X.admits]; exact q4
  have hselF : selectMethod e.platform s.vm P1.m.cls T.fill = .method T.fill := by
    obtain ⟨c2, r2, m2, q1, q2, q3, q4, -⟩ := Cond.selects_spec (a (.selects cls Bundle.tFill Bundle.tFill) (by simp [Bundle.messageArmAtoms]))
    cases Option.some.inj (q1.symm.trans hfound)
    cases Option.some.inj (q2.symm.trans (State.methodFound?_of_named Y.fill (by decide)))
    cases Option.some.inj (q3.symm.trans Y.fill)
    rw [Launch.admits_selectMethod X.admits]; exact q4
  obtain ⟨cellS0, hcS0, hiss⟩ := Y.statics
  obtain ⟨u0, hu0⟩ := Cond.staticRefV Y.unassigned L.unassignedStatic L.statics hcS0 hiss (a (.isRef (.static Bundle.tN "UNASSIGNED_STACK" Bundle.steD)) (by simp [Bundle.messageArmAtoms]))
  obtain ⟨sen, hsen⟩ := Cond.staticRefV Y.sentinel L.sentinelStatic L.statics hcS0 hiss (a (.isRef (.static Bundle.tN "SUPPRESSED_SENTINEL" Bundle.listD)) (by simp [Bundle.messageArmAtoms]))
  obtain ⟨ci198, i198, fB, hk198, hg198, ha198, hsB, -, hnB, htB, hffB⟩ := Cond.ownField (t := .object "java/lang/Object") Y.found L.cls (by decide +kernel) (a (.fieldLink Bundle.tN 198 Bundle.tN "backtrace" "Ljava/lang/Object;") (by simp [Bundle.messageArmAtoms])) (a (.lays Bundle.tN Bundle.tN "backtrace" "Ljava/lang/Object;") (by simp [Bundle.messageArmAtoms])) e.platform hpl
  obtain ⟨cellS, hcS', heS, -, hkeep⟩ := X.same.2.2.2.2.2 T.aS cellS0 hcS0
  have hcellS : T'.heap[T.aS]? = some cellS := hcS'
  have hout' : ∀ i, (⟨T.aS, i⟩ : Loc) ∉ locs := fun i hmem => hne _ _ _ Y.found L.cls L.statics _ hmem rfl
  have hknownS : cellS.vm ≠ .unknown := by
    rw [heS]; intro hu
    rw [show cellS0.vm = .unknown from hu] at hiss
    cases hiss
  obtain ⟨iM, hffM⟩ := Y.msg
  obtain ⟨tyC, dC, hdC, hdnC⟩ := Cond.laysAt hfound hk Y.cause (a (.lays cls Bundle.tN "cause" "Ljava/lang/Throwable;") (by simp [Bundle.messageArmAtoms]))
  obtain ⟨tyS, dS, hdS, hdnS⟩ := Cond.laysAt hfound hk Y.stack (a (.lays cls Bundle.tN "stackTrace" Bundle.steD) (by simp [Bundle.messageArmAtoms]))
  obtain ⟨tyP, dP, hdP, hdnP⟩ := Cond.laysAt hfound hk Y.supp (a (.lays cls Bundle.tN "suppressedExceptions" Bundle.listD) (by simp [Bundle.messageArmAtoms]))
  obtain ⟨tyM, dM, hdM, hdnM⟩ := Cond.laysAt hfound hk hffM (a (.lays cls Bundle.tN "detailMessage" "Ljava/lang/String;") (by simp [Bundle.messageArmAtoms]))
  obtain ⟨tyB, dB, hdB, hdnB⟩ := Cond.laysAt hfound hk hffB (a (.lays cls Bundle.tN "backtrace" "Ljava/lang/Object;") (by simp [Bundle.messageArmAtoms]))
  have bC := Cond.laysApart hdB hdC hdnB hdnC (by rw [hnB, Y.causeName]; decide)
  have bS := Cond.laysApart hdB hdS hdnB hdnS (by rw [hnB, Y.stackName]; decide)
  have bP := Cond.laysApart hdB hdP hdnB hdnP (by rw [hnB, Y.suppName]; decide)
  have hskip : SkipFacts T e.platform s (fun u => u) u0 ((preparedCellV T.toThrowableT (freshCell P1.m.cls kX) (T'.heap.size + 2) u0 sen).withEntry T'.cur) :=
    ⟨{ ci198 := ci198, i198 := i198, fBack := fB }, ⟨hk198, hg198, ha198, hsB⟩, by
      have := fresh_default (c := P1.m.cls) tyB
      rw [htB] at this
      simpa [preparedCellV, Cell.setSlot, Cell.withEntry, Array.getElem?_setIfInBounds, bC, bS, bP, bC.symm, bS.symm, bP.symm, defaultValue] using this, fun _ _ => rfl⟩
  have hvU : cellS.slots[T.fUnassigned.slot]? = some u0.v := by rw [hkeep _ (hout' _)]; exact hu0
  have hvSen : cellS.slots[T.fSentinel.slot]? = some sen.v := by rw [hkeep _ (hout' _)]; exact hsen
  have htC : Takes s (freshCell P1.m.cls kX) T.fCause (.ref (T'.heap.size + 2)) := Takes.of_laid hk hord tyC (by rw [Y.causeType]; rfl)
  have htS : Takes s (freshCell P1.m.cls kX) T.fStack u0.v := Takes.of_laid hk hord tyS (by rw [Y.stackType]; exact fits_refV_array _ u0)
  have htP : Takes s (freshCell P1.m.cls kX) T.fSupp sen.v := Takes.of_laid hk hord tyP (by rw [Y.suppType]; exact fits_refV_object _ sen)
  have htM : Takes s (freshCell P1.m.cls kX) T.fMsg (.ref (T'.heap.size + 1)) := Takes.of_laid hk hord tyM (by rw [Y.msgType]; rfl)
  obtain ⟨g₀, hfrX⟩ := X.frames_eq
  have hcurX : T'.cur < T'.threads.size := State.cur_lt_of_frames hfrX
  have hgoX : T'.goesOn := ⟨X.here.running, X.here.runnable, X.here.alone⟩
  have hbase : ∃ mid, (.native nf :: .java g :: below : List Frame) = mid ++ below := ⟨[.native nf, .java g], rfl⟩
  have hUse : (stackUse (.native nf :: .java g :: below)).2 = (stackUse (.java g :: below)).2 := by rw [stackUse_light _ _ (fun f hf => by cases hf) hnw]
  have hSA := X.stackAbove hsize hRlocals
  rw [X.tail] at hSA
  have hb : ((((T'.setFrames (.throwNew cls (some text) none :: .native nf :: .java g :: below)).threads[T'.cur]?).map (·.stackBytes)).getD 0) = T'.me.stackBytes := by
    rw [← State.stackBytes_setFrames T' (.throwNew cls (some text) none :: .native nf :: .java g :: below)]
    exact State.stackBytes_me (T'.setFrames (.throwNew cls (some text) none :: .native nf :: .java g :: below))
  have hlimit2 : (e.platform.stackLimits T'.me).2 = (e.platform.limitsFor T'.me.stackBytes).2 := rfl
  have hmay : e.platform.stackBeyond ((((T'.setFrames (.throwNew cls (some text) none :: .native nf :: .java g :: below)).threads[T'.cur]?).map (·.stackBytes)).getD 0) (T'.setFrames (.throwNew cls (some text) none :: .native nf :: .java g :: below)).frames = false ∧ e.platform.vmThrowRoom ≤ e.platform.stackFree ((((T'.setFrames (.throwNew cls (some text) none :: .native nf :: .java g :: below)).threads[T'.cur]?).map (·.stackBytes)).getD 0) (T'.setFrames (.throwNew cls (some text) none :: .native nf :: .java g :: below)).frames := by
    rw [hb, State.frames_setFrames _ hcurX, Launch.admits_vmThrowRoom X.admits]
    unfold Platform.stackBeyond Platform.stackFree
    rw [stackUse_light _ _ (fun f hf => by cases hf) rfl, hUse]
    exact ⟨decide_eq_false (by omega), by omega⟩
  have hfr' : (.native nf :: .java g :: below : List Frame).length + Ps.length + 4 < (e.platform.stackLimits T'.me).1 := by
    have h1 := X.framesAbove hRframes
    rw [hfrX] at h1
    simp only [List.length_cons] at h1 ⊢
    omega
  have hwd' : (stackUse (.native nf :: .java g :: below)).2 + 13 * Ps.length + 55 ≤ (e.platform.stackLimits T'.me).2 := by rw [hUse]; omega
  have hslots : T'.slotsUsed + (stringBytes (stringToUtf16 text)).size + Zs.kS.instanceTypes.size + kX.instanceTypes.size ≤ e.platform.maxSlots := by have := X.slotsAbove hRslots; omega
  obtain ⟨q1, q2, -, q4, q5, -, q7⟩ := withThrown_facts e.platform T' Zs text P1.m.cls kX
  have hltS : T.aS < T'.heap.size := (Array.getElem?_eq_some_iff.mp hcellS).1
  obtain ⟨vm', hW', stc⟩ := ov_ctorP (p := p) (base := .native nf :: .java g :: below) (below := below) (s₀ := s) (W := withThrown T' Zs text P1.m.cls kX) (self := T'.heap.size + 2) (str := T'.heap.size + 1) hgoX hcurX hbase hexec T L Z LZ M LM (by rw [q1]; exact X.warmed) (t := T'.cur) (by simp [withThrown, withString]) (cell := freshCell P1.m.cls kX) (u0 := u0) (sen := sen) q4
    (by intro k hk'; cases hk') (by intro hk'; cases hk') rfl hsel0 ((q5 _ hltS).trans hcellS) (Nat.ne_of_lt (Nat.lt_of_lt_of_le hltS (Nat.le_add_right _ 2))) hknownS hvU htS (by simp [preparedCellV, Cell.setSlot, Cell.withEntry]) rfl rfl hskip (fun _ _ hA hW _ hroom _ hrest => L.nativeOff p htr hA hW hroom hrest) hselF hvSen htC htP htM Y.objLocals P1 L1 Ps hL hlink1 hlink (lim := e.platform.stackLimits T'.me) (by rw [q7]) hfr' hwd'
  have st : ∀ target, Steps p.tables e below ((((withThrown T' Zs text P1.m.cls kX).setVm vm').setCell (T'.heap.size + 2) ((((preparedCellV T.toThrowableT (freshCell P1.m.cls kX) (T'.heap.size + 2) u0 sen).withEntry T'.cur).setSlot T.fStack.slot u0.v).left.setSlot T.fMsg.slot (.ref (T'.heap.size + 1)))).setFrames (.throwing (T'.heap.size + 2) :: .native nf :: .java g :: below)) target → Steps p.tables e below (T'.setFrames (.throwNew cls (some text) none :: .native nf :: .java g :: below)) target := by
    intro target hst
    obtain ⟨kX', hk', he'⟩ := X.warmed.alike.2.2 _ _ hk
    have hty : kX'.instanceTypes = kX.instanceTypes := by rw [he']
    have hfresh : freshCell P1.m.cls kX' = (freshCell P1.m.cls kX) := by
      show ({ cls := P1.m.cls, slots := kX'.instanceTypes.map defaultValue, vm := .none } : Cell) = _
      rw [hty]
    obtain ⟨kS', kB', LZ', htyS⟩ := LZs.warmer X.warmed.alike
    have hsame : withThrown T' { Zs with kS := kS', kB := kB' } text P1.m.cls kX' = (withThrown T' Zs text P1.m.cls kX) := by
      rw [← withThrown_warmer T' Zs (kB' := kB') htyS text P1.m.cls kX]
      show (withString T' _ _ _ _ _ _).pushCell (freshCell P1.m.cls kX') = (withString T' _ _ _ _ _ _).pushCell (freshCell P1.m.cls kX)
      rw [hfresh]
    have hfs : T'.fitsSlot = s.fitsSlot := (show T'.fitsSlot = (s.setVm T'.vm).fitsSlot from rfl).trans (State.fitsSlot_setVm X.warmed.alike)
    refine ov_start hgoX hcurX hbase { Zs with kS := kS', kB := kB' } LZ' (cls := cls) (m := text) (cX := P1.m.cls) (kX := kX') (i := P1.m.idx) hsoe hoom (by rw [X.warmed.alike.findClass]; exact hfound) hk' (by rw [he']; exact hinit) (by rw [he']; exact hord)
      (Launch.admits_hotImplicitExceptions X.admits) hmay.1 hmay.2 htext (by rw [he']; exact hctor) hlimit hheap (X.cellsAbove hRcells) (by show T'.slotsUsed + _ + kS'.instanceTypes.size + kX'.instanceTypes.size ≤ _; rw [htyS, hty]; exact hslots) (by rw [hfs]; exact hfitv _) (by rw [hfs]; exact hfitc _) ?_
    rw [hsame]
    exact stc target hst
  rw [plainBareV_eq T.toThrowableT (T'.heap.size + 2) u0 sen (.ref (T'.heap.size + 1)) T'.cur rfl rfl] at st
  obtain ⟨-, -, w3, w4, -, -, -⟩ := withThrown_facts e.platform T' Zs text P1.m.cls kX
  have X3 := ((X.pushed (bytesOf Zs.cB (stringToUtf16 text))).pushed (stringAt Zs.cS Zs.kS Zs.fv Zs.fc (stringToUtf16 text) T'.heap.size)).pushed (freshCell P1.m.cls kX)
  rw [← withString_eq] at X3
  have X4 := X3.noted hW'
  have ha : (T'.heap.size + 2) < ((withThrown T' Zs text P1.m.cls kX).setVm vm').heap.size := by show _ < (withThrown T' Zs text P1.m.cls kX).heap.size; rw [w3]; omega
  have hcell : ((withThrown T' Zs text P1.m.cls kX).setVm vm').heap[(T'.heap.size + 2)]? = some (freshCell P1.m.cls kX) := w4
  have X5 := ((((X4.stored hcell T.fCause.slot (.ref (T'.heap.size + 2))).storedAgain ha T.fStack.slot u0.v).storedAgain ha T.fSupp.slot sen.v).storedAgain ha T.fStack.slot u0.v).storedAgain ha T.fMsg.slot (.ref (T'.heap.size + 1))
  have b1 : (bytesOf Zs.cB (stringToUtf16 text)).slots.size = (stringBytes (stringToUtf16 text)).size := by
    rw [(Cell.writeAll_facts _ _).2.2]; simp [bytes0]
  have b2 : (stringAt Zs.cS Zs.kS Zs.fv Zs.fc (stringToUtf16 text) T'.heap.size).slots.size = 4 := by simp [string0, Cell.setSlot, hn4]
  have b3 : (freshCell P1.m.cls kX).slots.size = 6 := by simp [hn6]
  have hsl : slots + (bytesOf Zs.cB (stringToUtf16 text)).slots.size + (stringAt Zs.cS Zs.kS Zs.fv Zs.fc (stringToUtf16 text) T'.heap.size).slots.size + (freshCell P1.m.cls kX).slots.size = slots + ((stringBytes (stringToUtf16 text)).size + 4 + 6) := by rw [b1, b2, b3]; omega
  rw [hsl] at X5
  simp only [List.append_assoc, List.cons_append, List.nil_append] at X5
  have hU : ((((withThrown T' Zs text P1.m.cls kX).setVm vm').setCell (T'.heap.size + 2) (plainBareV T.toThrowableT (freshCell P1.m.cls kX) (T'.heap.size + 2) u0 sen (.ref (T'.heap.size + 1)))).setTop g).pushFrame (.throwing (T'.heap.size + 2)) = (((withThrown T' Zs text P1.m.cls kX).setVm vm').setCell (T'.heap.size + 2) (plainBareV T.toThrowableT (freshCell P1.m.cls kX) (T'.heap.size + 2) u0 sen (.ref (T'.heap.size + 1)))).setFrames (.throwing (T'.heap.size + 2) :: .java g :: below) := by
    obtain ⟨g₁, hfrM⟩ := X5.frames_eq
    rw [State.pushFrame, State.frames_setTop _ hfrM, State.setTop_of_frames _ hfrM, State.setFrames_setFrames]
  obtain ⟨g5, hfr5⟩ := X5.frames_eq
  have hcur5 : _ := State.cur_lt_of_frames hfr5
  have hNote : ((T'.setTop g).pushFrame (.native nf)).pushFrame (.throwNew cls (some text) none) = T'.setFrames (.throwNew cls (some text) none :: .native nf :: .java g :: below) := by
    have e1 : (T'.setTop g).pushFrame (.native nf) = T'.setFrames (.native nf :: .java g :: below) := by
      rw [State.pushFrame, State.frames_setTop _ hfrX, State.setTop_of_frames _ hfrX, State.setFrames_setFrames]
    rw [e1, State.pushFrame, State.frames_setFrames _ hcurX, State.setFrames_setFrames]
  refine ⟨((withThrown T' Zs text P1.m.cls kX).setVm vm').setCell (T'.heap.size + 2) (plainBareV T.toThrowableT (freshCell P1.m.cls kX) (T'.heap.size + 2) u0 sen (.ref (T'.heap.size + 1))), _, bytesOf Zs.cB (stringToUtf16 text), stringAt Zs.cS Zs.kS Zs.fv Zs.fc (stringToUtf16 text) T'.heap.size, plainBareV T.toThrowableT (freshCell P1.m.cls kX) (T'.heap.size + 2) u0 sen (.ref (T'.heap.size + 1)), X5, ?_, ?_, rfl, hfound, fun target hst => by
    rw [hNote]
    refine st _ (ov_leave (T2 := ((withThrown T' Zs text P1.m.cls kX).setVm vm').setCell (T'.heap.size + 2) (plainBareV T.toThrowableT (freshCell P1.m.cls kX) (T'.heap.size + 2) u0 sen (.ref (T'.heap.size + 1)))) ⟨X5.here.running, X5.here.runnable, X5.here.alone⟩ hcur5 haw hlk ?_)
    rw [← hU]; exact hst⟩
  · intro q hq
    simp only [List.mem_cons, List.not_mem_nil, or_false] at hq
    rcases hq with rfl | rfl | rfl | rfl | rfl <;> exact Nat.le_add_right _ 2
  · rw [show withThrown T' Zs text P1.m.cls kX = ((T'.pushCell (bytesOf Zs.cB (stringToUtf16 text))).pushCell (stringAt Zs.cS Zs.kS Zs.fv Zs.fc (stringToUtf16 text) T'.heap.size)).pushCell (freshCell P1.m.cls kX) from by rw [← withString_eq]]
    apply Array.ext_getElem?
    intro i
    simp only [State.setCell, State.pushCell, State.setVm, Array.getElem?_setIfInBounds, Array.getElem?_push, Array.size_push]
    by_cases hi : i = T'.heap.size + 1 + 1
    · subst hi; simp
    · have : ¬ (T'.heap.size + 2 = i) := by omega
      simp [this, hi]
end THN
