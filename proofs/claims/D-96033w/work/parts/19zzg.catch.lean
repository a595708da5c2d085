set_option maxRecDepth 100000
section CC
variable {E : CtlPost} {e : Env} {d : Bool} {acts : List Action} {s : State} {f : JFrame} {a : Addr} {Q : Handler → Pre}
theorem th_go_cold {x : ExceptionTableEntry} {t : List ExceptionTableEntry} {c : ClassId} {vm' : Vm} (hx : covers x f.pc = true) (h0 : x.catchType ≠ 0)
    (hg : (Jvm.resolveClass f.method.cls x.catchType).Gives e.toSetting s.vm (.ok c) vm') (hr : vm'.classReady f.method.cls x.catchType c) (hsz : vm'.classes.size ≤ s.vm.classes.size) :
    wp (findHandler.go f a (x :: t)) Q E e d acts s ↔ wp (findHandler.go f a (x :: t)) Q E e d acts (s.setVm vm') := by
  obtain ⟨k, hkd, hres⟩ := hr
  obtain ⟨ha, ht⟩ := hg.op (op := VmOp.resolveClass f.method.cls x.catchType) rfl
  simp only [covers] at hx
  simp [findHandler.go, hx, h0, resolveClass_memo e hkd hres, ha, ht, hsz]
  exact Iff.rfl
end CC
section FN
variable {X : Cx} {cls : String} {pc h : Nat} {tbl : List ExceptionTableEntry}
def Fnd (X : Cx) (cls : String) (pc : Nat) (tbl : List ExceptionTableEntry) (h : Nat) : Prop :=
  ∀ (T : State) (locs : List Loc) (cells slots : Nat) (ls : Array Slot) (st : List Value) (a : Addr), Exc cls a X.s.vm T.heap → Stand X.p X.l X.e X.R X.s X.m X.args X.below X.meth X.c T locs cells slots →
    ∃ vm', X.s.WarmedH vm' ∧ ∀ (Q : Handler → Pre) (E : CtlPost) (d : Bool) (acts : List Action), wp (findHandler.go (F0 X.m pc ls st) a tbl) Q E X.e d acts ((T.setTop (F0 X.m pc ls st)).pushFrame (.throwing a)) ↔ Q (.found h) d acts (((T.setVm vm').setTop (F0 X.m pc ls st)).pushFrame (.throwing a))
theorem Fnd.skip {x : ExceptionTableEntry} (hx : covers x pc = false) (k : Fnd X cls pc tbl h) : Fnd X cls pc (x :: tbl) h := by
  intro T locs cells slots ls st a hE S
  obtain ⟨vm', h1, h2⟩ := k T locs cells slots ls st a hE S
  exact ⟨vm', h1, fun Q E d acts => (W.findHandler_go_skip (f := F0 X.m pc ls st) hx).trans (h2 Q E d acts)⟩
theorem Fnd.pass {x : ExceptionTableEntry} {own C : String} (hown : X.s.vm.findClass own = some X.m.cls) (hx : covers x pc = true) (h0 : x.catchType ≠ 0) (hlink : (Cond.classLink own x.catchType C).before X.args X.s = true)
    (hno : ∀ c1 c2, X.s.vm.findClass cls = some c1 → X.s.vm.findClass C = some c2 → X.s.vm.assignable c1 c2 = false) (k : Fnd X cls pc tbl h) : Fnd X cls pc (x :: tbl) h := by
  intro T locs cells slots ls st a hE S
  have hpl : X.e.platform.magicAccessors = ({} : Platform).magicAccessors := by rw [S.admits.platform]
  obtain ⟨cT, hcT, hcl⟩ := Cond.classLink_spec hown hlink X.e.platform hpl
  obtain ⟨dk, _, _, kt, hd, _, _, _, _, hkt, _, hopen⟩ := hcl.here
  have hcl₀ := S.warmed.classLinks hcl
  have hW' : X.s.WarmedH (T.vm.noted X.m.cls x.catchType (.cls cT)) := S.warmed.noted hd hopen (State.rightAt_cls hcl)
  have S' := S.noted hW'
  obtain ⟨cell, e1, e2, e3⟩ := hE
  obtain ⟨vm', h1, h2⟩ := k (T.setVm (T.vm.noted X.m.cls x.catchType (.cls cT))) locs cells slots ls st a ⟨cell, e1, e2, e3⟩ S'
  obtain ⟨ke, hke, -⟩ := Vm.findClass_spec e3
  obtain ⟨ke', hke', -⟩ := hW'.alike.2.2 _ _ hke
  obtain ⟨kt', hkt', -⟩ := hW'.alike.2.2 _ _ hkt
  refine ⟨vm', h1, fun Q E d acts => ?_⟩
  rw [th_go_cold (s := (T.setTop (F0 X.m pc ls st)).pushFrame (.throwing a)) (vm' := T.vm.noted X.m.cls x.catchType (.cls cT)) (f := F0 X.m pc ls st) hx h0 (resolveClass_links X.e.toSetting hcl₀) hcl₀.ready (show (T.vm.noted X.m.cls x.catchType (.cls cT)).classes.size ≤ T.vm.classes.size by no_record)]
  rw [W.findHandler_go_class (s := ((T.setTop (F0 X.m pc ls st)).pushFrame (.throwing a)).setVm (T.vm.noted X.m.cls x.catchType (.cls cT))) (f := F0 X.m pc ls st) hx h0 hcl₀.ready e1 (fun k hk => by rw [e2] at hk; cases hk) ⟨ke', hke'⟩ ⟨kt', hkt'⟩, if_neg (by
    show ¬ ((T.vm.noted X.m.cls x.catchType (.cls cT)).assignable cell.cls cT = true)
    rw [hW'.alike.assignable, hno _ _ e3 hcT]; decide)]
  exact h2 Q E d acts
theorem Fnd.hit {x : ExceptionTableEntry} {own C : String} (hown : X.s.vm.findClass own = some X.m.cls) (hx : covers x pc = true) (h0 : x.catchType ≠ 0) (hlink : (Cond.classLink own x.catchType C).before X.args X.s = true)
    (hyes : ∀ c1 c2, X.s.vm.findClass cls = some c1 → X.s.vm.findClass C = some c2 → X.s.vm.assignable c1 c2 = true) (hh : x.handlerPc = h) : Fnd X cls pc (x :: tbl) h := by
  intro T locs cells slots ls st a hE S
  have hpl : X.e.platform.magicAccessors = ({} : Platform).magicAccessors := by rw [S.admits.platform]
  obtain ⟨cT, hcT, hcl⟩ := Cond.classLink_spec hown hlink X.e.platform hpl
  obtain ⟨dk, _, _, kt, hd, _, _, _, _, hkt, _, hopen⟩ := hcl.here
  have hcl₀ := S.warmed.classLinks hcl
  have hW' : X.s.WarmedH (T.vm.noted X.m.cls x.catchType (.cls cT)) := S.warmed.noted hd hopen (State.rightAt_cls hcl)
  obtain ⟨cell, e1, e2, e3⟩ := hE
  obtain ⟨ke, hke, -⟩ := Vm.findClass_spec e3
  obtain ⟨ke', hke', -⟩ := hW'.alike.2.2 _ _ hke
  obtain ⟨kt', hkt', -⟩ := hW'.alike.2.2 _ _ hkt
  refine ⟨_, hW', fun Q E d acts => ?_⟩
  rw [th_go_cold (s := (T.setTop (F0 X.m pc ls st)).pushFrame (.throwing a)) (vm' := T.vm.noted X.m.cls x.catchType (.cls cT)) (f := F0 X.m pc ls st) hx h0 (resolveClass_links X.e.toSetting hcl₀) hcl₀.ready (show (T.vm.noted X.m.cls x.catchType (.cls cT)).classes.size ≤ T.vm.classes.size by no_record)]
  rw [W.findHandler_go_class (s := ((T.setTop (F0 X.m pc ls st)).pushFrame (.throwing a)).setVm (T.vm.noted X.m.cls x.catchType (.cls cT))) (f := F0 X.m pc ls st) hx h0 hcl₀.ready e1 (fun k hk => by rw [e2] at hk; cases hk) ⟨ke', hke'⟩ ⟨kt', hkt'⟩, if_pos (by
    show (T.vm.noted X.m.cls x.catchType (.cls cT)).assignable cell.cls cT = true
    rw [hW'.alike.assignable]; exact hyes _ _ e3 hcT), hh]
  exact Iff.rfl
end FN
