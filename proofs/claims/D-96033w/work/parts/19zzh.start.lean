set_option maxRecDepth 100000
set_option maxHeartbeats 1000000
section CT
theorem th_stepCatch {e : Env} {s : State} {a : Addr} {f : JFrame} {r : List Frame} {pc : Nat} {vm' : Vm} (hfind : ∀ (Q : Handler → Pre) (E : CtlPost) (d : Bool) (acts : List Action), wp (findHandler f a) Q E e d acts s ↔ Q (.found pc) d acts (s.setVm vm')) :
    (stepThrowing e s a (.java f :: r)).Is ((s.setVm vm').setFrames (.java { f with pc := pc, stack := [.ref a] } :: r)) [] := by
  simp only [stepThrowing, searchFrame, vmDo]
  generalize hr : Sem.go _ e false [] s = res
  obtain ⟨as, rfl, ha⟩ := Sem.eq_ok_of hr (a := Handler.found pc) (s' := s.setVm vm') (acts' := []) (by simp [hfind _ _ _ _])
  exact ⟨rfl, ha⟩
theorem th_frames (u : State) (vm' : Vm) (F G : List Frame) : ((u.setFrames F).setVm vm').setFrames G = (u.setVm vm').setFrames G := by
  have h1 : (u.setFrames F).setVm vm' = (u.setVm vm').setFrames F := rfl
  rw [h1, State.setFrames_setFrames]
theorem th_caught {tb : Tables} {e : Env} {s target : State} {g : JFrame} {c : Code} {below : List Frame} {a : Addr} (h : At s g.method c below) {pc : Nat} {vm' : Vm}
    (hfind : ∀ (Q : Handler → Pre) (E : CtlPost) (d : Bool) (acts : List Action), wp (findHandler g a) Q E e d acts ((s.setTop g).pushFrame (.throwing a)) ↔ Q (.found pc) d acts (((s.setTop g).pushFrame (.throwing a)).setVm vm'))
    (hrest : Steps tb e below ((s.setVm vm').setTop { g with pc := pc, stack := [.ref a] }) target) : Steps tb e below ((s.setTop g).pushFrame (.throwing a)) target := by
  obtain ⟨hgo, hw⟩ := h.throwing a
  refine Steps.head hgo hw ?_
  rw [stepThread_throwing (frames_entered h.top _), (th_stepCatch (s := (s.setTop g).pushFrame (.throwing a)) hfind).1]
  obtain ⟨g₀, hg⟩ := Option.isSome_iff_exists.mp h.top
  obtain ⟨r, hr⟩ := State.topJava?_eq_some.mp hg
  have hr' : (s.setVm vm').frames = .java g₀ :: r := hr
  rw [State.setTop_of_frames _ hr'] at hrest
  rw [hr, List.tail_cons, State.pushFrame, th_frames, State.setTop_of_frames _ hr, th_frames]
  exact hrest
end CT
section GC
variable {X : Cx} {ad : Nat → Nat → Nat} {χ : St} {pc h : Nat} {lv : List (Nat × Value)} {cls : String} {tbl : List ExceptionTableEntry}
theorem g_thrCatch (htb : X.c.exceptionTable.toList = tbl) (hf : Fnd X cls pc tbl h) (k : ∀ a, G X ad χ h lv [.ref a]) : GT X ad χ pc lv cls := by
  intro ls st T locs cells slots a hl hI hE S
  obtain ⟨vm', hW', hq⟩ := hf T locs cells slots ls st a hE S
  obtain ⟨t, h1, h2⟩ := k a ls T.heap locs cells slots hl hI (T.setVm vm') rfl (S.noted hW')
  refine ⟨t, th_caught (g := F0 X.m pc ls st) S.here (vm' := vm') (fun Q E d acts => ?_) h1, h2⟩
  refine (W.findHandler_eq (meth := X.meth) (code := X.c) S.method' S.code).trans ?_
  rw [htb]
  exact hq Q E d acts
end GC
/-! the old statics, seen from a later state -/
theorem os_lays {S0 s : State} {args : Array Value} {o n d : String} (hv : S0.vm.Alike s.vm) (hh : ∀ a : Nat, a < S0.heap.size → s.heap[a]? = S0.heap[a]?) (h : (Cond.laysStatic o n d).before #[] S0 = true) : (Cond.laysStatic o n d).before args s = true := by
  obtain ⟨c, k, i, f, a, cell, hc, hi, hst, ha, hcell, hs, hcls, hlt, hty⟩ := Cond.laysStatic_spec h
  obtain ⟨k', hi', hek⟩ := State.fieldFound?_setVm hv hi
  exact Cond.laysStatic_of (s := s) (by rw [hv.findClass]; exact hc) hi' hst (by rw [hek]; exact ha) (by rw [hh a (Array.getElem?_eq_some_iff.mp hcell).1]; exact hcell) hs hcls hlt (by rw [hek]; exact hty)
theorem os_ref {S0 s : State} {args : Array Value} {o n d : String} (hv : S0.vm.Alike s.vm) (hh : ∀ a : Nat, a < S0.heap.size → s.heap[a]? = S0.heap[a]?) (h : (Cond.laysStatic o n d).before #[] S0 = true) (h2 : (Cond.isRef (.static o n d)).before #[] S0 = true) : (Cond.isRef (.static o n d)).before args s = true := by
  obtain ⟨c, k, i, f, a, cell, hc, hi, hst, ha, hcell, hs, hcls, hlt, hty⟩ := Cond.laysStatic_spec h
  obtain ⟨k', hi', hek⟩ := State.fieldFound?_setVm hv hi
  have hi2 : s.fieldFound? o n d = some (c, k', i, f) := hi'
  have ha2 : k'.statics = some a := by rw [hek]; exact ha
  have hc2 : s.heap[a]? = some cell := by rw [hh a (Array.getElem?_eq_some_iff.mp hcell).1]; exact hcell
  have he : (Term.static o n d).eval #[] S0 none [] S0 = cell.slots[f.slot]? := by simp [Term.eval, State.fieldNamed?, hi, hst, ha, hcell, hs]
  have he2 : (Term.static o n d).eval args s none [] s = cell.slots[f.slot]? := by simp [Term.eval, State.fieldNamed?, hi2, hst, ha2, hc2, hs]
  simp only [Cond.before, Cond.holds, Cond.value] at h2 ⊢
  rw [he] at h2
  rw [he2]
  exact h2
theorem os_not {S0 s : State} {C T : String} (hv : S0.vm.Alike s.vm) (h : (Cond.not (.castable C T)).before #[] S0 = true) : ∀ c1 c2, s.vm.findClass C = some c1 → s.vm.findClass T = some c2 → s.vm.assignable c1 c2 = false := by
  intro c1 c2 h1 h2
  rw [hv.findClass] at h1 h2
  have hv2 := Cond.holds_not_iff.mp h
  simp only [Cond.value, h1, h2] at hv2
  rw [hv.assignable]
  exact Option.some.inj hv2
