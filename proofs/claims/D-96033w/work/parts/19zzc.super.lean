set_option maxRecDepth 100000

theorem isSub1 {vm : Vm} {s p : ClassId} {k : Class} (hk : vm.classes[s]? = some k) (hs : k.super = some p) : vm.isSubclass s p = true := by
  have hz : 0 < vm.classes.size := Nat.lt_of_le_of_lt (Nat.zero_le _) (Array.getElem?_eq_some_iff.mp hk).1
  obtain ⟨n, hn⟩ : ∃ n, vm.classes.size = n + 1 := ⟨vm.classes.size - 1, by omega⟩
  unfold Vm.isSubclass
  rw [hn]
  simp [Vm.isSubclassAux, hk, hs]
theorem isSub2 {vm : Vm} {s p t : ClassId} {k k2 : Class} (hk : vm.classes[s]? = some k) (hs : k.super = some p) (hk2 : vm.classes[p]? = some k2) (hs2 : k2.super = some t) : vm.isSubclass s t = true := by
  by_cases e : s = p
  · subst e
    cases hk.symm.trans hk2
    cases hs.symm.trans hs2
    exact isSub1 hk hs
  · have h1 := (Array.getElem?_eq_some_iff.mp hk).1
    have h2 := (Array.getElem?_eq_some_iff.mp hk2).1
    have e2 := Nat.lt_or_gt_of_ne e
    obtain ⟨n, hn⟩ : ∃ n, vm.classes.size = n + 2 := ⟨vm.classes.size - 2, by rcases e2 with e2 | e2 <;> omega⟩
    unfold Vm.isSubclass
    rw [hn]
    simp [Vm.isSubclassAux, hk, hs, hk2, hs2]
theorem sub_w1 {args : Array Value} {s : State} {C O : String} (h : (Cond.superclass C O).before args s = true) : ∀ ps mc, s.vm.findClass C = some ps → s.vm.findClass O = some mc → s.vm.isSubclass ps mc = true := by
  intro ps mc h1 h2
  obtain ⟨p, k, kp, a1, a2, a3, a4, -⟩ := Cond.superclass_spec h1 h
  cases a1.symm.trans h2
  exact isSub1 a2 a4
theorem sub_w2 {args : Array Value} {s : State} {C M O : String} (h : (Cond.superclass C M).before args s = true) (h' : (Cond.superclass M O).before args s = true) : ∀ ps mc, s.vm.findClass C = some ps → s.vm.findClass O = some mc → s.vm.isSubclass ps mc = true := by
  intro ps mc h1 h2
  obtain ⟨p, k, kp, a1, a2, a3, a4, -⟩ := Cond.superclass_spec h1 h
  obtain ⟨p', k', kp', b1, b2, b3, b4, -⟩ := Cond.superclass_spec a1 h'
  cases b1.symm.trans h2
  exact isSub2 a2 a4 b2 b4

/-- a super call of an inherited method -/
theorem va_callSU1 {p : Program} {l : Launch} {e : Env} {R : Room} {s : State} {m : MethodId} {args : Array Value} {below : List Frame} {meth : Method} {c : Code} {T : State} {locs : List Loc} {cells slots : Nat} (X : Stand p l e R s m args below meth c T locs cells slots) (hexec : p.tables.exec = Jvm.exec) {own owner : String} {index : Nat} {x : MethodName} {bytes : ByteArray} {maxL : Nat} {ret : Option FieldType}
    (hown : s.vm.findClass own = some m.cls) (hlink : (Cond.methodLink own index x).before args s = true) (hsame : (Cond.sameMethod x.cls owner x.name x.desc).before args s = true) (hsup : (Cond.superclass own x.cls).before args s = true) (hsub0 : ∀ ps mc, s.vm.findClass x.cls = some ps → s.vm.findClass owner = some mc → s.vm.isSubclass ps mc = true)
    (hinst : (Cond.instanceMethod ⟨owner, x.name, x.desc⟩).before args s = true) (hcode : (Cond.code ⟨owner, x.name, x.desc⟩ bytes maxL ret).before args s = true) (hno : x.name ≠ "<init>")
    {Wd : Nat} {Pre : Pt → Array Value → Prop} {Post : Pt → Array Value → Option Value → Pt → Prop} (hK : Back l R p e below s args ⟨owner, x.name, x.desc⟩ 3 Wd Pre Post)
    {b : Addr} {cellB : Cell} {kB : Class} (hcell : T.heap[b]? = some cellB) (hobj : cellB.vm.isStatics = false) (hkB : s.vm.classes[cellB.cls]? = some kB)
    {g : JFrame} (hg : g.method = m) (hsize : g.locals.size = c.maxLocals) {argsL rest : List Value} (hlen : ∀ sig, parseMethodDescriptor x.desc = some sig → argsL.length = sig.parameters.length)
    (hstack : g.stack = argsL.reverse ++ .ref b :: rest) (hW : 2 * g.monitorRoom + (rest.map fun v => v.category).sum ≤ Wd) (hdg : decode c.code g.pc = .ok (.invokespecial index, 3))
    (hpre : ∀ vm₁, s.WarmedH vm₁ → Pre ⟨T.setVm vm₁, locs, cells, slots⟩ (Value.ref b :: argsL).toArray) :
    ∃ (v : Option Value) (vm₁ : Vm) (B : Pt), s.WarmedH vm₁ ∧ Stand p l e R s m args below meth c B.U B.locs B.cells B.slots ∧ Post ⟨T.setVm vm₁, locs, cells, slots⟩ (Value.ref b :: argsL).toArray v B ∧
      ∀ target, Steps p.tables e below (B.U.setTop { g with pc := g.pc + 3, stack := v.toList ++ rest }) target → Steps p.tables e below (T.setTop g) target := by
  obtain ⟨mk, methM, hnamed, hmethM, hstM, habM⟩ := Cond.instanceMethod_spec hinst
  obtain ⟨methM', cM, hmethM', -, -, -, -, -, -, hsigM⟩ := Cond.code_spec hnamed hcode
  cases hmethM.symm.trans hmethM'
  obtain ⟨ps, dk, kp, hps, hdk, hkp, hsuper, hpi, -, hnid⟩ := Cond.superclass_spec hown hsup
  have hn : s.methodNamed? ⟨owner, x.name, x.desc⟩ = some mk := hnamed
  have hcl := findClass_of_methodNamed hnamed
  have hsub : s.vm.isSubclass ps mk.cls = true := hsub0 _ _ hps hcl
  obtain ⟨vm₁, X₁, hstep₁⟩ := X.invokespecialUp hexec hown hlink hsame hn hmethM hstM habM hno hdk hnid hps hsuper hsub (a := b) (cell := cellB) hcell
    (fun z h => by rw [h] at hobj; cases hobj) hkB (g := g) hg (argsL := argsL) (rest := rest) (hlen _ hsigM) hstack hdg
  obtain ⟨v, B, X', hpost, hsteps⟩ := hK m meth c ⟨T.setVm vm₁, locs, cells, slots⟩ { g with stack := rest } (.invokespecial index) mk (Value.ref b :: argsL).toArray X₁ hg hsize hdg hW (X₁.named hnamed) (hpre vm₁ X₁.warmed)
  exact ⟨v, vm₁, B, X₁.warmed, X', hpost, fun target h => hstep₁ _ (by rw [doInvoke_state]; exact hsteps.trans h)⟩

section GSU
variable {X : Cx} {cc : ByteArray} {own host : String} {ret : Option FieldType} {y0 : MethodName} {nL F Lo : Nat} {Pst : Option Value → (Nat → Nat → Nat) → St → Prop} {ad : Nat → Nat → Nat} {χ : St} {pc : Nat} {lv lv2 : List (Nat × Value)} {st st0 : List Value}
variable {x : MethodName} {b : ByteArray} {L F' Lo' n index : Nat} {r : Option FieldType} {na' : Bool} {Pst' : Option Value → (Nat → Nat → Nat) → St → Prop} {Wp : Prop} {As : List Value}
variable {c i k ci : Nat} {ft : List (Nat × Nat)} {C owner : String} {T : u_T} {N : Nat}
theorem g_callSU1 (h : Ok X cc own ret y0 nL F Lo Pst) (hM : Mt X.l ⟨owner, x.name, x.desc⟩ (ws_ ⟨owner, x.name, x.desc⟩ b L r) (rmO F' Lo' χ) (Pm X.Γ ad χ (.ref (ad c i) :: As) Wp) (Qm X.Γ na' ad χ Pst') (frB X.Γ)) (hw : Wp) (hna : X.na = true → na' = true)
    (q1 : Cond.methodLink own index x ∈ lw_all) (q2 : Cond.sameMethod x.cls owner x.name x.desc ∈ lw_all) (q3 : Cond.superclass own x.cls ∈ lw_all) (hsub : ∀ ps mc, X.s.vm.findClass x.cls = some ps → X.s.vm.findClass owner = some mc → X.s.vm.isSubclass ps mc = true) (q4 : Cond.instanceMethod ⟨owner, x.name, x.desc⟩ ∈ lw_all) (q5 : Cond.initialized owner ∈ lw_all) (q6 : Cond.code ⟨owner, x.name, x.desc⟩ b L r ∈ lw_all)
    (hd0 : x.name ≠ "<init>" ∧ (parseMethodDescriptor x.desc).map (fun d => d.parameters.length) = some n) (hF : F' + 1 ≤ F ∧ 8 + (L + 11) + Lo' ≤ Lo)
    (hi : i < cn χ c) (hf : fam c (tg χ c i) = (1, ci, ft)) (hc : vcl[ci]? = some (C, T, N)) (hn : As.length = n) (hs : st0 = As.reverse ++ .ref (ad c i) :: st) (hst : (st.map fun v => v.category).sum ≤ 8) (hd : decode cc pc = .ok (.invokespecial index, 3))
    (kk : ∀ v ad' χ', Pst' v ad' χ' → (na' = true → ad' = ad) → Ext χ χ' ad ad' → G X ad' χ' (pc + 3) lv (v.toList ++ st)) : G X ad χ pc lv st0 := by
  intro ls H locs cells slots hl hI T' hT XX
  have hts := h.2.2.2.2.2.2.1
  have hK := h.2.2.2.2.2.2.2.1
  have hR := h.2.2.2.2.2.2.2.2.1
  have hlen : ∀ sig, parseMethodDescriptor x.desc = some sig → n = sig.parameters.length := fun sig hh => by
    have h2 := hd0.2
    rw [hh] at h2
    exact (Option.some.inj h2).symm
  have hB : Back X.l X.R X.p X.e X.below X.s X.args ⟨owner, x.name, x.desc⟩ 3 8 (PreM X.R (rmO F' Lo' χ) (Pm X.Γ ad χ (.ref (ad c i) :: As) Wp)) (PostM (Qm X.Γ na' ad χ Pst') (frB X.Γ)) := hM.back Pm.blind (by rw [hR]; exact hF.1) (by rw [hR]; exact hF.2) (pay_in hts (lw_meth q6)) List.mem_cons_self (hts _ q5)
  have hat := hI.at hi
  rw [cE_o hf] at hat
  obtain ⟨cellB, hcB, hoB, hclB⟩ := va_recv hK.1 (P1 hat) hc (q0 := 0) rfl
  obtain ⟨hfc, kB, hkB, -⟩ : ClassAt X.s C (X.Γ.2.2.1.1 ci) := (hK.1.1 ci _ hc).2
  have hce : X.Γ.2.2.1.1 ci = cellB.cls := Option.some.inj (hfc.symm.trans hclB)
  rw [hce] at hkB
  obtain ⟨v, vm₁, ⟨U', l2, c2, s2⟩, hW₁, X', ⟨g', mk, t, Lk, k, n', e1, e2, hq, h1, hL, h2, h3⟩, stp⟩ := va_callSU1 XX h.1 (bytes := b) (maxL := L) (ret := r) h.2.2.2.2.2.1 (hts _ q1) (hts _ q2) (hts _ q3) hsub (hts _ q4) (hts _ q6) hd0.1 hB (by rw [hT]; exact hcB) hoB hkB (g := F0 X.m pc ls st0) rfl (hl.1.trans h.2.2.2.2.1.1.symm) (argsL := As) (rest := st) (fun sig z => hn.trans (hlen sig z)) hs (lv_room (m := X.m) (pc := pc) (ls := ls) (rest := st0) hst) (by rw [h.2.1]; exact hd)
    (fun vm₁ hW₁ => ⟨(hI.room h).1, (hI.room h).2, rfl, by show HR _ _ _ T'.heap; rw [hT]; exact hI.1, hK.warm hW₁, hw⟩)
  dsimp only [Pt.U, Pt.locs, Pt.cells, Pt.slots] at X' e1 e2 h1 h2 h3 stp
  subst h1; subst h2; subst h3
  obtain ⟨v', ad', χ', hv, hP, hna1, hE, hH, hu, hu2⟩ := hq
  cases hv
  obtain ⟨t2, a1, b1⟩ := kk v ad' χ' hP hna1 hE ls U'.heap _ _ _ hl (by rw [e1]; exact hI.back hna hna1 hE hH hu hu2 hL) U' rfl X'
  exact ⟨t2, stp t2 a1, b1⟩
end GSU

section GIF
variable {X : Cx} {cc : ByteArray} {own host : String} {ret : Option FieldType} {y0 : MethodName} {nL F Lo : Nat} {Pst : Option Value → (Nat → Nat → Nat) → St → Prop} {ad : Nat → Nat → Nat} {χ : St} {pc : Nat} {lv lv2 : List (Nat × Value)} {st st0 : List Value}
variable {x y : MethodName} {b : ByteArray} {L F' Lo' n index count : Nat} {r : Option FieldType} {na' : Bool} {Pst' : Option Value → (Nat → Nat → Nat) → St → Prop} {Wp : Prop} {As : List Value}
variable {c i k ci : Nat} {ft : List (Nat × Nat)} {C : String} {T : u_T} {N : Nat}
theorem lw_F {own : String} {idx : Nat} {C : String} {x y : MethodName} {b : ByteArray} {L : Nat} {r : Option FieldType} (h1 : Cond.methodLink own idx x ∈ lw_all) (h3 : Cond.selects C x y ∈ lw_all) (h4 : Cond.instanceMethod y ∈ lw_all) (h5 : Cond.initialized y.cls ∈ lw_all) (h6 : Cond.code y b L r ∈ lw_all) : GoodIn lw_all (va_wsF own idx C x y (ws_ y b L r)) := by
  refine lw_app ?_ (lw_meth h6)
  intro w hw
  simp only [List.mem_cons, List.not_mem_nil, or_false] at hw
  rcases hw with e | e | e | e
  · rw [e]; exact h1
  · rw [e]; exact h3
  · rw [e]; exact h4
  · rw [e]; exact h5
theorem g_callF0 (h : Ok X cc own ret y0 nL F Lo Pst) (hM : Mt X.l y (ws_ y b L r) (rmO F' Lo' χ) (Pm X.Γ ad χ (.ref (ad c i) :: As) Wp) (Qm X.Γ na' ad χ Pst') (frB X.Γ)) (hw : Wp) (hna : X.na = true → na' = true)
    (cw : va_CI X.R X.s X.args own C index x y b L r (ws_ y b L r) (rmO F' Lo' χ) (rmO F' Lo' χ).cells (rmO F' Lo' χ).slots n)
    (hi : i < cn χ c) (hf : fam c (tg χ c i) = (1, ci, ft)) (hc : vcl[ci]? = some (C, T, N)) (hn : As.length = n) (hs : st0 = As.reverse ++ .ref (ad c i) :: st) (hst : (st.map fun v => v.category).sum ≤ 8) (hd : decode cc pc = .ok (.invokeinterface index count, 5))
    (kk : ∀ v ad' χ', Pst' v ad' χ' → (na' = true → ad' = ad) → Ext χ χ' ad ad' → G X ad' χ' (pc + 5) lv (v.toList ++ st)) : G X ad χ pc lv st0 := by
  intro ls H locs cells slots hl hI T' hT XX
  have hts := h.2.2.2.2.2.2.1
  have hK := h.2.2.2.2.2.2.2.1
  have hR := h.2.2.2.2.2.2.2.2.1
  obtain ⟨-, -, hfr, hlo, hws, hcw⟩ := cw.back
  have hini := cw.init
  have hB : Back X.l X.R X.p X.e X.below X.s X.args y 5 8 (PreM X.R (rmO F' Lo' χ) (Pm X.Γ ad χ (.ref (ad c i) :: As) Wp)) (PostM (Qm X.Γ na' ad χ Pst') (frB X.Γ)) := hM.back Pm.blind hfr hlo hws hcw hini
  have hat := hI.at hi
  rw [cE_o hf] at hat
  obtain ⟨cellB, hcB, hoB, hclB⟩ := va_recv hK.1 (P1 hat) hc (q0 := 0) rfl
  obtain ⟨hfc, kB, hkB, -⟩ : ClassAt X.s C (X.Γ.2.2.1.1 ci) := (hK.1.1 ci _ hc).2
  have hce : X.Γ.2.2.1.1 ci = cellB.cls := Option.some.inj (hfc.symm.trans hclB)
  rw [hce] at hkB
  obtain ⟨v, vm₁, ⟨U', l2, c2, s2⟩, hW₁, X', ⟨g', mk, t, Lk, k, n', e1, e2, hq, h1, hL, h2, h3⟩, stp⟩ := va_callIF XX h.1 (C := C) (bytes := b) (maxL := L) (ret := r) h.2.2.2.2.2.1 cw.link cw.decl cw.face cw.sel cw.inst cw.pub cw.unh cw.cast cw.code cw.notMH hB (by rw [hT]; exact hcB) hoB hclB hkB (g := F0 X.m pc ls st0) rfl (hl.1.trans h.2.2.2.2.1.1.symm) (argsL := As) (rest := st) (fun sig z => hn.trans (cw.len sig z)) hs (lv_room (m := X.m) (pc := pc) (ls := ls) (rest := st0) hst) (by rw [h.2.1]; exact hd)
    (fun vm₁ hW₁ => ⟨(hI.room h).1, (hI.room h).2, rfl, by show HR _ _ _ T'.heap; rw [hT]; exact hI.1, hK.warm hW₁, hw⟩)
  dsimp only [Pt.U, Pt.locs, Pt.cells, Pt.slots] at X' e1 e2 h1 h2 h3 stp
  subst h1; subst h2; subst h3
  obtain ⟨v', ad', χ', hv, hP, hna1, hE, hH, hu, hu2⟩ := hq
  cases hv
  obtain ⟨t2, a1, b1⟩ := kk v ad' χ' hP hna1 hE ls U'.heap _ _ _ hl (by rw [e1]; exact hI.back hna hna1 hE hH hu hu2 hL) U' rfl X'
  exact ⟨t2, stp t2 a1, b1⟩
/-- a body's class goes into an array of bodies, or of what shelves hold -/
theorem AsOk.cast (h : Ok X cc own ret y0 nL F Lo Pst) {E : String} (hc : vcl[ci]? = some (C, T, N)) (q : Cond.castable C E ∈ lw_tbl) : AsOk X ci E := by
  intro comp hcomp
  have hcls := (h.2.2.2.2.2.2.2.1.1.1 ci _ hc).2
  have hw : (Cond.castable C E).before #[] X.s = true := h.2.2.2.2.2.2.2.1.2.1 _ q rfl
  obtain ⟨c1, t1, w1, w2, w3⟩ := Cond.castable_spec hw
  cases hcls.1.symm.trans w1
  cases hcomp.symm.trans w2
  obtain ⟨k, hk, -⟩ := Vm.findClass_spec hcomp
  exact ⟨⟨k, hk⟩, w3⟩
end GIF
