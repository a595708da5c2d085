set_option maxRecDepth 100000
set_option maxHeartbeats 1000000
section MBW
variable {l : Launch} {R : Room} {p : Program} {e : Env} {below : List Frame} {s : State} {sargs : Array Value} {y : MethodName} {len W : Nat}
theorem Mt.backW {ws : List Cond} {rm : Room} {Pc : Array Value → State → Prop} {Qc : Array Value → State → Outcome → State → Nat → Nat → Prop} {free : Addr → Prop} {bytes : ByteArray} {maxL : Nat} {ret : Option FieldType} {hh : List (Nat × Nat × Nat × Nat)}
    (hM : Mt l y ws rm Pc Qc free) (hblind : FrameBlind Pc)
    (hframes : rm.frames + 1 ≤ R.frames) (hlocals : W + (maxL + 11) + rm.locals ≤ R.locals)
    (hws : ∀ w ∈ ws, ∀ a' U, s.WarmedH U.vm → w.before a' U = true) (hcode : Cond.codeWith y bytes maxL ret hh ∈ ws) (hini : (Cond.initialized y.cls).before sargs s = true) :
    Back l R p e below s sargs y len W (PreM R rm Pc) (PostM Qc free) := by
  have hinit : ∀ (a' : Array Value) (U : State), s.WarmedH U.vm → (Cond.initialized y.cls).before a' U = true := fun a' U hW => word_at hW (Or.inl (by first | rfl | simp [Cond.onTables, Cond.keeps, Cond.steady])) hini
  refine va_ofFreeW (hh := hh) (S := headSpec ws rm) (P := Pc) (K := fun _ _ _ _ _ => True) (Q := fun a st o t => ∃ L k n, Qc a st o t k n ∧ FrameEnd st o t L k n ∧ ∀ q ∈ L, free q.base) (bytes := bytes) (maxL := maxL) (ret := ret)
    (E := fun a st o t L k n => Qc a st o t k n ∧ ∀ q ∈ L, free q.base) hM hframes hlocals ?_ ?_ (fun _ _ _ _ _ _ _ _ _ => trivial) ?_ ?_
  · intro m meth c A a X hp
    exact ⟨atoms_intro fun w hw => hws w hw _ _ X.warmed, hws _ hcode _ _ X.warmed, hinit _ _ X.warmed, hp.1, hp.2.1⟩
  · intro m meth c A a g mk X hp
    exact hblind _ _ _ _ hp.2.2
  · intro a st o t ⟨L, k, n, hq, hF, hL⟩
    exact ⟨L, k, n, hF, hq, hL⟩
  · intro m meth c A a g mk v t L k n X hp hq hF ⟨e1, hL⟩
    exact ⟨g, mk, t, L, k, n, rfl, rfl, e1, rfl, hL, rfl, rfl⟩
end MBW
section CVW
variable {p : Program} {l : Launch} {e : Env} {R : Room} {s : State} {m : MethodId} {args : Array Value} {below : List Frame} {meth : Method} {c : Code} {T : State} {locs : List Loc} {cells slots : Nat}
theorem callVW (X : Stand p l e R s m args below meth c T locs cells slots) (hexec : p.tables.exec = Jvm.exec) {own C : String} {index : Nat} {y : MethodName} {bytes : ByteArray} {maxL : Nat} {ret : Option FieldType} {hh : List (Nat × Nat × Nat × Nat)}
    (hown : s.vm.findClass own = some m.cls) (hlink : (Cond.methodLink own index y).before args s = true) (hinst : (Cond.instanceMethod y).before args s = true) (hsel : (Cond.selects C y y).before args s = true)
    (hcode : (Cond.codeWith y bytes maxL ret hh).before args s = true) (hy : y.cls ≠ "java/lang/invoke/MethodHandle" ∧ y.cls ≠ "java/lang/invoke/VarHandle")
    {W : Nat} {Pre : Pt → Array Value → Prop} {Post : Pt → Array Value → Option Value → Pt → Prop} (hK : Back l R p e below s args y 3 W Pre Post)
    {b : Addr} {cellB : Cell} (hcell : T.heap[b]? = some cellB) (hobj : cellB.vm.isStatics = false) (hcls : s.vm.findClass C = some cellB.cls)
    {g : JFrame} (hg : g.method = m) (hsize : g.locals.size = c.maxLocals) {argsL rest : List Value} (hlen : ∀ sig, parseMethodDescriptor y.desc = some sig → argsL.length = sig.parameters.length)
    (hstack : g.stack = argsL.reverse ++ .ref b :: rest) (hW : 2 * g.monitorRoom + (rest.map fun v => v.category).sum ≤ W) (hdg : decode c.code g.pc = .ok (.invokevirtual index, 3))
    (hpre : ∀ vm₁, s.WarmedH vm₁ → Pre ⟨T.setVm vm₁, locs, cells, slots⟩ (Value.ref b :: argsL).toArray) :
    ∃ (v : Option Value) (vm₁ : Vm) (B : Pt), s.WarmedH vm₁ ∧ Stand p l e R s m args below meth c B.U B.locs B.cells B.slots ∧ Post ⟨T.setVm vm₁, locs, cells, slots⟩ (Value.ref b :: argsL).toArray v B ∧
      ∀ target, Steps p.tables e below (B.U.setTop { g with pc := g.pc + 3, stack := v.toList ++ rest }) target → Steps p.tables e below (T.setTop g) target := by
  obtain ⟨mk, methM, hnamed, hmethM, hstM, habM⟩ := Cond.instanceMethod_spec hinst
  obtain ⟨m9, methM', cM, hn9, hmethM', -, -, -, -, -, -, hsigM⟩ := Cond.codeWith_spec hcode
  cases hnamed.symm.trans hn9
  cases hmethM.symm.trans hmethM'
  obtain ⟨c2, r2, m2, q1, q2, q3, q4, kP, hkP, hkPi⟩ := Cond.selects_spec hsel
  cases hcls.symm.trans q1
  cases (State.methodFound?_of_named hnamed hy).symm.trans q2
  cases hnamed.symm.trans q3
  have hselP : selectMethod e.platform s.vm cellB.cls mk = .method mk := by rw [Launch.admits_selectMethod X.admits]; exact q4
  obtain ⟨vm₁, X₁, hstep₁⟩ := X.invokevirtual hexec hown hlink hnamed hmethM hstM hkP hkPi hy (a := b) (cell := cellB) hcell
    (fun z h => by rw [h] at hobj; cases hobj) hselP hmethM habM hkP hkPi (g := g) hg (argsL := argsL) (rest := rest) (hlen _ hsigM) hstack hdg
  obtain ⟨v, B, X', hpost, hsteps⟩ := hK m meth c ⟨T.setVm vm₁, locs, cells, slots⟩ { g with stack := rest } (.invokevirtual index) mk (Value.ref b :: argsL).toArray X₁ hg hsize hdg hW (X₁.named hnamed) (hpre vm₁ X₁.warmed)
  exact ⟨v, vm₁, B, X₁.warmed, X', hpost, fun target h => hstep₁ _ fun acts => by rw [doInvoke_state]; exact hsteps.trans h⟩
end CVW
section GVW
variable {X : Cx} {cc : ByteArray} {own host : String} {ret : Option FieldType} {y0 : MethodName} {nL F Lo : Nat} {Pst : Option Value → (Nat → Nat → Nat) → St → Prop} {ad : Nat → Nat → Nat} {χ : St} {pc : Nat} {lv lv2 : List (Nat × Value)} {st st0 : List Value}
variable {y : MethodName} {b : ByteArray} {L F' Lo' n index : Nat} {r : Option FieldType} {na' : Bool} {Pst' : Option Value → (Nat → Nat → Nat) → St → Prop} {Wp : Prop} {As : List Value} {hh : List (Nat × Nat × Nat × Nat)}
variable {c i ci : Nat} {ft : List (Nat × Nat)} {C : String} {T : u_T} {N : Nat}
theorem g_callVW (h : Ok X cc own ret y0 nL F Lo Pst) (hM : Mt X.l y (wsW y b L r hh) (rmO F' Lo' χ) (Pm X.Γ ad χ (.ref (ad c i) :: As) Wp) (Qm X.Γ na' ad χ Pst') (frB X.Γ)) (hw : Wp) (hna : X.na = true → na' = true)
    (q1 : Cond.methodLink own index y ∈ lw_all) (q2 : Cond.instanceMethod y ∈ lw_all) (q3 : Cond.selects C y y ∈ lw_all) (q4 : Cond.initialized C ∈ lw_all) (q5 : Cond.codeWith y b L r hh ∈ lw_all)
    (hd0 : y.cls = C ∧ y.cls ≠ "java/lang/invoke/MethodHandle" ∧ y.cls ≠ "java/lang/invoke/VarHandle" ∧ (parseMethodDescriptor y.desc).map (fun d => d.parameters.length) = some n) (hF : F' + 1 ≤ F ∧ 8 + (L + 11) + Lo' ≤ Lo)
    (hi : i < cn χ c) (hf : fam c (tg χ c i) = (1, ci, ft)) (hc : vcl[ci]? = some (C, T, N)) (hn : As.length = n) (hs : st0 = As.reverse ++ .ref (ad c i) :: st) (hst : (st.map fun v => v.category).sum ≤ 8) (hd : decode cc pc = .ok (.invokevirtual index, 3))
    (kk : ∀ v ad' χ', Pst' v ad' χ' → (na' = true → ad' = ad) → Ext χ χ' ad ad' → G X ad' χ' (pc + 3) lv (v.toList ++ st)) : G X ad χ pc lv st0 := by
  intro ls H locs cells slots hl hI T' hT XX
  have hts := h.2.2.2.2.2.2.1
  have hK := h.2.2.2.2.2.2.2.1
  have hR := h.2.2.2.2.2.2.2.2.1
  have hlen : ∀ sig, parseMethodDescriptor y.desc = some sig → n = sig.parameters.length := fun sig z => by
    have h2 := hd0.2.2.2
    rw [z] at h2
    exact (Option.some.inj h2).symm
  have hini : (Cond.initialized y.cls).before X.args X.s = true := by rw [hd0.1]; exact hts _ q4
  have hB : Back X.l X.R X.p X.e X.below X.s X.args y 3 8 (PreM X.R (rmO F' Lo' χ) (Pm X.Γ ad χ (.ref (ad c i) :: As) Wp)) (PostM (Qm X.Γ na' ad χ Pst') (frB X.Γ)) := hM.backW Pm.blind (by rw [hR]; exact hF.1) (by rw [hR]; exact hF.2) (pay_in hts (lw_methW q5)) List.mem_cons_self hini
  have hat := hI.at hi
  rw [cE_o hf] at hat
  obtain ⟨cellB, hcB, hoB, hclB⟩ := va_recv hK.1 (P1 hat) hc (q0 := 0) rfl
  obtain ⟨v, vm₁, ⟨U', l2, c2, s2⟩, hW₁, X', ⟨g', mk, t, Lk, k, n', e1, e2, hq, h1, hL, h2, h3⟩, stp⟩ := callVW XX h.1 (C := C) (bytes := b) (maxL := L) (ret := r) (hh := hh) h.2.2.2.2.2.1 (hts _ q1) (hts _ q2) (hts _ q3) (hts _ q5) ⟨hd0.2.1, hd0.2.2.1⟩ hB (by rw [hT]; exact hcB) hoB hclB (g := F0 X.m pc ls st0) rfl (hl.1.trans h.2.2.2.2.1.1.symm) (argsL := As) (rest := st) (fun sig z => hn.trans (hlen sig z)) hs (lv_room (m := X.m) (pc := pc) (ls := ls) (rest := st0) hst) (by rw [h.2.1]; exact hd)
    (fun vm₁ hW₁ => ⟨(hI.room h).1, (hI.room h).2, rfl, by show HR _ _ _ T'.heap; rw [hT]; exact hI.1, hK.warm hW₁, hw⟩)
  dsimp only [Pt.U, Pt.locs, Pt.cells, Pt.slots] at X' e1 e2 h1 h2 h3 stp
  subst h1; subst h2; subst h3
  obtain ⟨v', ad', χ', hv, hP, hna1, hE, hH, hu, hu2⟩ := hq
  cases hv
  obtain ⟨t2, a1, b1⟩ := kk v ad' χ' hP hna1 hE ls U'.heap _ _ _ hl (by rw [e1]; exact hI.back hna hna1 hE hH hu hu2 hL) U' rfl X'
  exact ⟨t2, stp t2 a1, b1⟩
theorem g_callVWi (h : Ok X cc own ret y0 nL F Lo Pst) {Q : Int32 → St → Prop} (hM : Mt X.l y (wsW y b L r hh) (rmO F' Lo' χ) (Pm X.Γ ad χ (.ref (ad c i) :: As) Wp) (Qm X.Γ true ad χ (pI Q)) (frB X.Γ)) (hw : Wp)
    (q1 : Cond.methodLink own index y ∈ lw_all) (q2 : Cond.instanceMethod y ∈ lw_all) (q3 : Cond.selects C y y ∈ lw_all) (q4 : Cond.initialized C ∈ lw_all) (q5 : Cond.codeWith y b L r hh ∈ lw_all) (hd0 : y.cls = C ∧ y.cls ≠ "java/lang/invoke/MethodHandle" ∧ y.cls ≠ "java/lang/invoke/VarHandle" ∧ (parseMethodDescriptor y.desc).map (fun d => d.parameters.length) = some n) (hF : F' + 1 ≤ F ∧ 8 + (L + 11) + Lo' ≤ Lo) (hi : i < cn χ c) (hf : fam c (tg χ c i) = (1, ci, ft)) (hc : vcl[ci]? = some (C, T, N)) (hn : As.length = n) (hs : st0 = As.reverse ++ .ref (ad c i) :: st) (hst : (st.map fun v => v.category).sum ≤ 8) (hd : decode cc pc = .ok (.invokevirtual index, 3))
    (kk : ∀ r χ', Q r χ' → (∀ c, cn χ c ≤ cn χ' c) → G X ad χ' (pc + 3) lv (.int r :: st)) : G X ad χ pc lv st0 :=
  g_callVW h hM hw (fun _ => rfl) q1 q2 q3 q4 q5 hd0 hF hi hf hc hn hs hst hd (fun v ad' χ' hP hna hE => by
    obtain ⟨r, rfl, hf⟩ := hP
    obtain rfl := hna rfl
    exact kk r χ' hf hE.2)
theorem g_callVWl (h : Ok X cc own ret y0 nL F Lo Pst) {Q : Int64 → St → Prop} (hM : Mt X.l y (wsW y b L r hh) (rmO F' Lo' χ) (Pm X.Γ ad χ (.ref (ad c i) :: As) Wp) (Qm X.Γ true ad χ (pL Q)) (frB X.Γ)) (hw : Wp)
    (q1 : Cond.methodLink own index y ∈ lw_all) (q2 : Cond.instanceMethod y ∈ lw_all) (q3 : Cond.selects C y y ∈ lw_all) (q4 : Cond.initialized C ∈ lw_all) (q5 : Cond.codeWith y b L r hh ∈ lw_all) (hd0 : y.cls = C ∧ y.cls ≠ "java/lang/invoke/MethodHandle" ∧ y.cls ≠ "java/lang/invoke/VarHandle" ∧ (parseMethodDescriptor y.desc).map (fun d => d.parameters.length) = some n) (hF : F' + 1 ≤ F ∧ 8 + (L + 11) + Lo' ≤ Lo) (hi : i < cn χ c) (hf : fam c (tg χ c i) = (1, ci, ft)) (hc : vcl[ci]? = some (C, T, N)) (hn : As.length = n) (hs : st0 = As.reverse ++ .ref (ad c i) :: st) (hst : (st.map fun v => v.category).sum ≤ 8) (hd : decode cc pc = .ok (.invokevirtual index, 3))
    (kk : ∀ r χ', Q r χ' → (∀ c, cn χ c ≤ cn χ' c) → G X ad χ' (pc + 3) lv (.long r :: st)) : G X ad χ pc lv st0 :=
  g_callVW h hM hw (fun _ => rfl) q1 q2 q3 q4 q5 hd0 hF hi hf hc hn hs hst hd (fun v ad' χ' hP hna hE => by
    obtain ⟨r, rfl, hf⟩ := hP
    obtain rfl := hna rfl
    exact kk r χ' hf hE.2)
theorem g_callVWAi (h : Ok X cc own ret y0 nL F Lo Pst) (hnf : X.na = false) {Q : Int32 → St → Prop} (hM : Mt X.l y (wsW y b L r hh) (rmO F' Lo' χ) (Pm X.Γ ad χ (.ref (ad c i) :: As) Wp) (Qm X.Γ false ad χ (pI Q)) (frB X.Γ)) (hw : Wp)
    (q1 : Cond.methodLink own index y ∈ lw_all) (q2 : Cond.instanceMethod y ∈ lw_all) (q3 : Cond.selects C y y ∈ lw_all) (q4 : Cond.initialized C ∈ lw_all) (q5 : Cond.codeWith y b L r hh ∈ lw_all) (hd0 : y.cls = C ∧ y.cls ≠ "java/lang/invoke/MethodHandle" ∧ y.cls ≠ "java/lang/invoke/VarHandle" ∧ (parseMethodDescriptor y.desc).map (fun d => d.parameters.length) = some n) (hF : F' + 1 ≤ F ∧ 8 + (L + 11) + Lo' ≤ Lo) (hi : i < cn χ c) (hf : fam c (tg χ c i) = (1, ci, ft)) (hc : vcl[ci]? = some (C, T, N)) (hn : As.length = n) (hs : st0 = As.reverse ++ .ref (ad c i) :: st) (hst : (st.map fun v => v.category).sum ≤ 8) (hd : decode cc pc = .ok (.invokevirtual index, 3))
    (kk : ∀ r ad' χ', Q r χ' → Ext χ χ' ad ad' → G X ad' χ' (pc + 3) lv (.int r :: st)) : G X ad χ pc lv st0 :=
  g_callVW h hM hw (fun z => by rw [hnf] at z; cases z) q1 q2 q3 q4 q5 hd0 hF hi hf hc hn hs hst hd (fun v ad' χ' hP hna hE => by
    obtain ⟨r, rfl, hf⟩ := hP
    exact kk r ad' χ' hf hE)
/-! the script: an old cell -/
def Scr (X : Cx) (b L : Nat) (xs : Nat → Int32) : Prop := va_X b L xs X.s X.s.heap ∧ b < X.Γ.1 ∧ X.s.heap[b]? = X.Γ.2.1[b]?
theorem g_sld (h : Ok X cc own ret y0 nL F Lo Pst) {b L : Nat} {xs : Nat → Int32} {j : Int32} (hs : Scr X b L xs) (hj : vp_in j L) (hd : decode cc pc = .ok (.iaload, 1)) (kk : G X ad χ (pc + 1) lv (.int (xs j.toNatClampNeg) :: st)) : G X ad χ pc lv (.int j :: .ref b :: st) := by
  intro ls H locs cells slots hl hI
  obtain ⟨⟨scr, h1, h2, h3, h4, h5⟩, hb, he⟩ := hs
  have hlt : j.toNatClampNeg < L := Nat.not_le.mp fun q => hj (Or.inr q)
  exact W.iald (v := .int (xs j.toNatClampNeg)) h.1 h.2.1 (by rw [hI.1.2.2.1 b hb, ← he]; exact h1) h2 h3 (by rw [h4]; exact hj) (h5 _ hlt) rfl rfl hd (kk ls H locs cells slots hl hI)
theorem g_slen (h : Ok X cc own ret y0 nL F Lo Pst) {b L : Nat} {xs : Nat → Int32} (hs : Scr X b L xs) (hd : decode cc pc = .ok (.arraylength, 1)) (kk : G X ad χ (pc + 1) lv (.int (Int32.ofNat L) :: st)) : G X ad χ pc lv (.ref b :: st) := by
  intro ls H locs cells slots hl hI
  obtain ⟨⟨scr, h1, h2, h3, h4, h5⟩, hb, he⟩ := hs
  exact W.alen (n := Int32.ofNat L) h.1 h.2.1 (by rw [hI.1.2.2.1 b hb, ← he]; exact h1) h2 (by rw [h4] <;> rfl) rfl rfl hd (kk ls H locs cells slots hl hI)
end GVW
