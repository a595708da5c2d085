set_option maxRecDepth 100000
set_option maxHeartbeats 2000000
/-! an exception that a native makes: her note lies over the native's frame -/
section OV
variable {tb : Tables} {e : Env} {below base : List Frame} {W : State}
theorem ov_facts (hgo : W.goesOn) (hcur : W.cur < W.threads.size) (hbase : ∃ mid, base = mid ++ below) (a str : Addr) {m : MethodId} {meth : Method} {code : Code} (hm : W.vm.method? m = some meth) (hc : meth.code = some code) (hplain : W.plainMethod m) :
    (W.setFrames (.thenThrow a :: base)).frames = .thenThrow a :: base ∧ At ((W.setFrames (.thenThrow a :: base)).pushFrame (.java (passJ m a (.ref str) 0 []))) m code below ∧
    ((W.setFrames (.thenThrow a :: base)).pushFrame (.java (passJ m a (.ref str) 0 []))).frames = .java (passJ m a (.ref str) 0 []) :: .thenThrow a :: base := by
  obtain ⟨mid, hmid⟩ := hbase
  have hfN : (W.setFrames (.thenThrow a :: base)).frames = .thenThrow a :: base := State.frames_setFrames _ hcur
  have hcurN : (W.setFrames (.thenThrow a :: base)).cur < (W.setFrames (.thenThrow a :: base)).threads.size := State.cur_lt_of_frames hfN
  have hgoN : (W.setFrames (.thenThrow a :: base)).goesOn := ⟨hgo.1, by simpa using hgo.2.1, by simpa using hgo.2.2⟩
  refine ⟨hfN, At.pushOn _ hgoN hcurN ⟨.thenThrow a :: mid, by rw [hfN, hmid]; rfl⟩ hm hc hplain, ?_⟩
  rw [show ((W.setFrames (.thenThrow a :: base)).pushFrame (.java (passJ m a (.ref str) 0 []))).frames = .java (passJ m a (.ref str) 0 []) :: (W.setFrames (.thenThrow a :: base)).frames from State.frames_setFrames _ hcurN, hfN]
theorem ov_ret [Ours tb] {target : State} (hgo : W.goesOn) (hcur : W.cur < W.threads.size) (hbase : ∃ mid, base = mid ++ below) (hexec : tb.exec = Jvm.exec) {H : State → State} (hH : HeapOnly H) (hHgo : (H W).goesOn) (hHcur : (H W).cur < (H W).threads.size) (a str : Addr) {m : MethodId} {meth : Method} {code : Code}
    (hm : W.vm.method? m = some meth) (hc : meth.code = some code) (hplain : W.plainMethod m) (hl : meth.locks = false) (h5 : decode code.code 5 = .ok (.return_, 1))
    (hrest : Steps tb e below ((H W).setFrames (.throwing a :: base)) target) :
    Steps tb e below ((H ((W.setFrames (.thenThrow a :: base)).pushFrame (.java (passJ m a (.ref str) 0 [])))).setTop (passJ m a (.ref str) 5 [])) target := by
  obtain ⟨hfN, hI, hfI⟩ := ov_facts hgo hcur hbase a str hm hc hplain
  obtain ⟨mid, hmid⟩ := hbase
  have hB : At (H ((W.setFrames (.thenThrow a :: base)).pushFrame (.java (passJ m a (.ref str) 0 [])))) m code below := hH.at_ hI
  jvm_step hB [hexec, h5, return_.wp_sem]
  intro acts2
  have hfH : (H ((W.setFrames (.thenThrow a :: base)).pushFrame (.java (passJ m a (.ref str) 0 [])))).frames = .java (passJ m a (.ref str) 0 []) :: .thenThrow a :: base := by rw [hH.frames]; exact hfI
  rw [ret_to (t := H ((W.setFrames (.thenThrow a :: base)).pushFrame (.java (passJ m a (.ref str) 0 [])))) (f := passJ m a (.ref str) 5 []) (f₀ := passJ m a (.ref str) 0 []) (below := .thenThrow a :: base)
      (fs := .thenThrow a :: base) (meth := meth) hfH (by rw [hH.vm]; exact hm) hl rfl rfl rfl acts2]
  have hHI : ∀ F, (H ((W.setFrames (.thenThrow a :: base)).pushFrame (.java (passJ m a (.ref str) 0 [])))).setFrames F = (H W).setFrames F := by
    intro F
    rw [State.pushFrame, hH.setFrames, hH.setFrames, State.setFrames_setFrames, State.setFrames_setFrames]
  rw [hHI]
  have hf1 : ((H W).setFrames (.thenThrow a :: base)).frames = .thenThrow a :: base := State.frames_setFrames _ hHcur
  refine Steps.head ⟨hHgo.1, by simpa using hHgo.2.1, by simpa using hHgo.2.2⟩ ⟨.thenThrow a :: mid, by rw [hf1, hmid]; rfl, by simp, by simp⟩ ?_
  rw [stepThread_thenThrow hf1]
  show Steps tb e below (((H W).setFrames (.thenThrow a :: base)).setFrames (.throwing a :: base)) target
  rw [State.setFrames_setFrames]
  exact hrest
theorem ov_ctor [Ours tb] {s₀ : State} (hgo : W.goesOn) (hcur : W.cur < W.threads.size) (hbase : ∃ mid, base = mid ++ below) (hexec : tb.exec = Jvm.exec) {H : State → State} (hH : HeapOnly H) (hHgo : ∀ vm, (H (W.setVm vm)).goesOn) (hHcur : ∀ vm, (H (W.setVm vm)).cur < (H (W.setVm vm)).threads.size) (P1 : PassC) (L1 : P1.LinksS e.platform s₀) (hW : s₀.WarmedH W.vm) (a str : Addr)
    (hroom : e.platform.stackFull (((W.setFrames (.thenThrow a :: base)).threads[(W.setFrames (.thenThrow a :: base)).cur]?).getD { frames := [] }) (W.setFrames (.thenThrow a :: base)).frames 2 = false)
    (hsup : ∀ vm1, s₀.WarmedH vm1 → At (((W.setVm vm1).setFrames (.thenThrow a :: base)).pushFrame (.java (passJ P1.m a (.ref str) 0 []))) P1.m P1.code below → ∃ vm2, s₀.WarmedH vm2 ∧ ∀ t' : State,
      Steps tb e below ((H (((W.setVm vm2).setFrames (.thenThrow a :: base)).pushFrame (.java (passJ P1.m a (.ref str) 0 [])))).setTop (passJ P1.m a (.ref str) 5 [])) t' →
      Steps tb e below (doInvoke e ((((W.setVm vm1).setFrames (.thenThrow a :: base)).pushFrame (.java (passJ P1.m a (.ref str) 0 []))).setTop (passJ P1.m a (.ref str) 2 [])) [] P1.sup #[.ref a, .ref str]).1 t') :
    ∃ vm', s₀.WarmedH vm' ∧ ∀ target, Steps tb e below ((H (W.setVm vm')).setFrames (.throwing a :: base)) target →
      Steps tb e below (doInvoke e (W.setFrames (.thenThrow a :: base)) [] P1.m #[.ref a, .ref str]).1 target := by
  have hmW := hW.methodAt L1.method
  obtain ⟨hfN, hI, hfI⟩ := ov_facts hgo hcur hbase a str hmW L1.code (hW.plainAt L1.plain)
  obtain ⟨vm1, hW1, st1⟩ := Steps.invokeInitCold (tb := tb) (s₀ := s₀) (U := ((W.setFrames (.thenThrow a :: base)).pushFrame (.java (passJ P1.m a (.ref str) 0 [])))) (f := passJ P1.m a (.ref str) 2 [.ref str, .ref a]) (args := [.ref str]) (rest := []) (a := a) hI hexec L1.at2 hW L1.links L1.right L1.notHandle L1.cls L1.file L1.pool
    L1.supClass L1.supMethod L1.supName L1.supStatic L1.supAbstract L1.supFound L1.supParams.symm rfl
  obtain ⟨vm2, hW2, st2⟩ := hsup vm1 hW1 (hI.setVm (hW.alike.symm.trans hW1.alike))
  refine ⟨vm2, hW2, fun target hrest => ?_⟩
  rw [(doInvoke_java (s := (W.setFrames (.thenThrow a :: base))) (e := e) (acts := []) (args := #[.ref a, .ref str]) (meth := P1.meth) (code := P1.code) hmW L1.code L1.locks (by rw [L1.locals]; exact hroom)).1, L1.locals]
  show Steps tb e below ((W.setFrames (.thenThrow a :: base)).pushFrame (.java (passJ P1.m a (.ref str) 0 []))) target
  rw [← State.setTop_self (s := ((W.setFrames (.thenThrow a :: base)).pushFrame (.java (passJ P1.m a (.ref str) 0 [])))) (State.topJava?_of_frames hfI)]
  jvm_step hI [hexec, L1.at0, Value.isRef]
  jvm_step hI [hexec, L1.at1, Value.isRef]
  refine st1 target (st2 target ?_)
  exact ov_ret (W := W.setVm vm2) hgo hcur hbase hexec hH (hHgo vm2) (hHcur vm2) a str (hW2.methodAt L1.method) L1.code (hW2.plainAt (U := W.setVm vm2) L1.plain) L1.locks L1.at5 hrest
end OV
section OV2
variable {p : Program} {e : Env} {below base : List Frame}
theorem ov_ctorP {s₀ W : State} {self : Addr} (hgo : W.goesOn) (hcur : W.cur < W.threads.size) (hbase : ∃ mid, base = mid ++ below) (hexec : p.tables.exec = Jvm.exec)
    (T : ThrowableC) (L : T.Links e.platform s₀) (Z : Init0T) (LZ : Z.LaidS T.toThrowableT) (M : MsgC) (LM : M.Links T e.platform s₀) (hW : s₀.WarmedH W.vm) {t : ThreadId} (ht : W.cur = t)
    {u0 sen : RefV} {str : Addr} {cell cellS : Cell}
    (hcell : W.heap[self]? = some cell) (hobj : ∀ k, cell.vm ≠ .statics k) (hknown : cell.vm ≠ .unknown) (hfree : cell.monitor.owner = none)
    (hsel0 : selectMethod e.platform s₀.vm cell.cls T.fill0 = .method T.fill0)
    (hcellS : W.heap[T.aS]? = some cellS) (hneS : T.aS ≠ self) (hknownS : cellS.vm ≠ .unknown) (hvU : cellS.slots[T.fUnassigned.slot]? = some u0.v)
    (htS : Takes s₀ cell T.fStack u0.v)
    (hsz : ((preparedCellV T.toThrowableT cell self u0 sen).withEntry t).slots.size = cell.slots.size) (hcls : ((preparedCellV T.toThrowableT cell self u0 sen).withEntry t).cls = cell.cls) (hvmc : ((preparedCellV T.toThrowableT cell self u0 sen).withEntry t).vm = cell.vm)
    (hskip : SkipFacts T e.platform s₀ (fun u => u) u0 ((preparedCellV T.toThrowableT cell self u0 sen).withEntry t))
    (hnat : u0.v ≠ .null → ∀ u : State, At u T.fill T.codeFill below → s₀.WarmedH u.vm → u.heap[self]? = some ((preparedCellV T.toThrowableT cell self u0 sen).withEntry t) →
      e.platform.stackFull (((u.setTop (fillJ T.fill self 16 [])).threads[(u.setTop (fillJ T.fill self 16 [])).cur]?).getD { frames := [] }) (u.setTop (fillJ T.fill self 16 [])).frames (nativeFrameWords "java/lang/Throwable" "fillInStackTrace" 2) = false → ∀ t' : State,
      Steps p.tables e below (u.setTop (fillJ T.fill self 19 [.ref self])) t' →
      Steps p.tables e below (doInvoke e (u.setTop (fillJ T.fill self 16 [])) [] T.fill0 #[.ref self, .int 0]).1 t')
    (hselF : selectMethod e.platform s₀.vm cell.cls T.fill = .method T.fill) (hvSen : cellS.slots[T.fSentinel.slot]? = some sen.v)
    (htC : Takes s₀ cell T.fCause (.ref self)) (htP : Takes s₀ cell T.fSupp sen.v) (htM : Takes s₀ cell T.fMsg (.ref str)) (hobjLocals : T.codeObj.maxLocals = 1)
    (P1 : PassC) (L1 : P1.LinksS e.platform s₀) (Ps : List PassC) (hL : ∀ P, P ∈ Ps → P.LinksS e.platform s₀) (hlink1 : P1.sup = firstOf (Z.m T.toThrowableT) (Ps.map (·.toPassT))) (hlink : PassesOn (Z.m T.toThrowableT) (Ps.map (·.toPassT)))
    {lim : Nat × Nat} (hlim : e.platform.stackLimits W.me = lim) (hframes : base.length + Ps.length + 4 < lim.1) (hwords : (stackUse base).2 + 13 * Ps.length + 55 ≤ lim.2) :
    ∃ vm', s₀.WarmedH vm' ∧ ∀ target, Steps p.tables e below (((W.setVm vm').setCell self ((((preparedCellV T.toThrowableT cell self u0 sen).withEntry t).setSlot T.fStack.slot u0.v).left.setSlot T.fMsg.slot (.ref str))).setFrames (.throwing self :: base)) target →
      Steps p.tables e below (doInvoke e (W.setFrames (.thenThrow self :: base)) [] P1.m #[.ref self, .ref str]).1 target := by
  obtain ⟨hfN, -, -⟩ := ov_facts hgo hcur hbase self str (hW.methodAt L1.method) L1.code (hW.plainAt L1.plain)
  have hlimN : e.platform.stackLimits (W.setFrames (.thenThrow self :: base)).me = lim := by rw [State.stackLimits_setFrames]; exact hlim
  have hroom := Jvm.roomAbove (pl := e.platform) (u := W.setFrames (.thenThrow self :: base)) (vars := 2) (pushed := [.thenThrow self]) (base := base) (free := 13 * Ps.length + 55) (lim := lim) hfN hlimN
    (by simp only [List.length_cons, List.length_nil]; omega) (by omega) (by rw [stackUse_light _ _ (fun f hf => by cases hf) rfl, stackUse_nil]; show 0 + 2 + 11 ≤ _; omega)
  refine ov_ctor hgo hcur hbase hexec (H := fun u => u.setCell self ((((preparedCellV T.toThrowableT cell self u0 sen).withEntry t).setSlot T.fStack.slot u0.v).left.setSlot T.fMsg.slot (.ref str))) (heapOnly_id.thenSetCell self _) (fun _ => hgo) (fun _ => hcur) P1 L1 hW self str hroom (fun vm1 hW1 hI1 => ?_)
  rw [hlink1]
  obtain ⟨-, -, hfI⟩ := ov_facts (W := W.setVm vm1) hgo hcur hbase self str (hW1.methodAt L1.method) L1.code (hW1.plainAt (U := W.setVm vm1) L1.plain)
  have hXfr : (((W.setVm vm1).setFrames (.thenThrow self :: base)).pushFrame (.java (passJ P1.m self (.ref str) 0 []))).frames = .java (passJ P1.m self (.ref str) 0 []) :: .thenThrow self :: base := hfI
  have hXvm : ∀ w, (((W.setVm vm1).setFrames (.thenThrow self :: base)).pushFrame (.java (passJ P1.m self (.ref str) 0 []))).setVm w = (((W.setVm w).setFrames (.thenThrow self :: base)).pushFrame (.java (passJ P1.m self (.ref str) 0 []))) := fun w => by rw [State.pushFrame_setVm, State.setFrames_setVm, State.setVm_twice]
  have hXc : (((W.setVm vm1).setFrames (.thenThrow self :: base)).pushFrame (.java (passJ P1.m self (.ref str) 0 []))).heap[self]? = some cell := hcell
  have hXS : (((W.setVm vm1).setFrames (.thenThrow self :: base)).pushFrame (.java (passJ P1.m self (.ref str) 0 []))).heap[T.aS]? = some cellS := hcellS
  have hXcur : (((W.setVm vm1).setFrames (.thenThrow self :: base)).pushFrame (.java (passJ P1.m self (.ref str) 0 []))).cur = t := ht
  have hXW : s₀.WarmedH (((W.setVm vm1).setFrames (.thenThrow self :: base)).pushFrame (.java (passJ P1.m self (.ref str) 0 []))).vm := hW1
  have hXlim : e.platform.stackLimits (((W.setVm vm1).setFrames (.thenThrow self :: base)).pushFrame (.java (passJ P1.m self (.ref str) 0 []))).me = lim := by rw [State.stackLimits_pushFrame, State.stackLimits_setFrames]; exact hlim
  suffices hs : ∃ vm2, s₀.WarmedH vm2 ∧ ∀ t' : State, Steps p.tables e below ((((((W.setVm vm1).setFrames (.thenThrow self :: base)).pushFrame (.java (passJ P1.m self (.ref str) 0 []))).setVm vm2).setCell self ((((preparedCellV T.toThrowableT cell self u0 sen).withEntry t).setSlot T.fStack.slot u0.v).left.setSlot T.fMsg.slot (.ref str))).setTop (passJ P1.m self (.ref str) 5 [])) t' →
      Steps p.tables e below (doInvoke e ((((W.setVm vm1).setFrames (.thenThrow self :: base)).pushFrame (.java (passJ P1.m self (.ref str) 0 []))).setTop (passJ P1.m self (.ref str) 2 [])) [] (firstOf (Z.m T.toThrowableT) (Ps.map (·.toPassT))) #[.ref self, .ref str]).1 t' by
    obtain ⟨vm2, hW2, st⟩ := hs
    exact ⟨vm2, hW2, fun t' h' => st t' (by rw [hXvm]; exact h')⟩
  clear hXvm
  generalize (((W.setVm vm1).setFrames (.thenThrow self :: base)).pushFrame (.java (passJ P1.m self (.ref str) 0 []))) = X at hI1 hXfr hXc hXS hXcur hXW hXlim ⊢
  exact Steps.initThrowableSColdByV p (V := X) (g := passJ P1.m self (.ref str) 2 []) (c := P1.code) (self := self) hI1 hexec T L Z LZ M LM hXW hXcur (Nn := fun u => u) heapOnly_id (fun _ _ => rfl) (fun _ => rfl) (fun u x y => setCell_twice _ _ _ _) (fun _ => Nat.le_refl _) (cN := ((preparedCellV T.toThrowableT cell self u0 sen).withEntry t)) (msg := .ref str) rfl hXc hobj hknown hfree hsel0 hXS hneS hknownS hvU htS
    (fun _ hu => hu) (fun _ hu => hu) hcls hvmc rfl hsz hskip hnat hselF hvSen htC htP htM hobjLocals Ps hL hlink (ig := .invokespecial P1.index) (len := 3) [] hXlim
    (by rw [hXfr]; simp only [List.length_cons]; omega)
    (by rw [hXfr, List.tail_cons, stackUse_java, stackUse_light _ _ (fun f hf => by cases hf) rfl]
        show (stackUse base).2 + (2 + 11 + 2 * 0 + operandWords []) + 13 * Ps.length + 42 ≤ lim.2
        simp only [operandWords, List.foldl_nil]
        omega)
    L1.at2
end OV2
