set_option maxRecDepth 100000
set_option maxHeartbeats 1000000
section GX
variable {X : Cx} {cc : ByteArray} {own host : String} {ret : Option FieldType} {y0 : MethodName} {nL F Lo : Nat} {Pst : Option Value → (Nat → Nat → Nat) → St → Prop} {ad : Nat → Nat → Nat} {χ : St} {pc : Nat} {lv lv2 : List (Nat × Value)} {st st0 : List Value}
variable {c i k ci index t : Nat} {ft : List (Nat × Nat)} {C : String} {T : u_T} {N : Nat} {K e d L : Nat} {j : Int32}
theorem g_saldX (h : Ok X cc own ret y0 nL F Lo Pst) (th : Th X) {ty : FieldType} (hi : i < cn χ c) (hf : fam c (tg χ c i) = (2, e, [(d, L)])) (he : (vtys X.Γ.2.2.2)[e]? = some (X.Γ.2.2.2 e, ty)) (hLL : L < 2 ^ 31) (hj : ¬ vp_in j L) (hF : 8 ≤ F ∧ 10248 ≤ Lo) (hu : uC χ + 3 ≤ 603072) (hs : uS χ + 222 ≤ 7262314) (hst : (st.map fun v => v.category).sum ≤ 8) (hd : decode cc pc = .ok (.saload, 1)) (kk : ∀ n, n ≤ 222 → GT X ad (brn χ 3 n) pc lv nAI) : G X ad χ pc lv (.int j :: .ref (ad c i) :: st) := by
  intro ls H locs cells slots hl hI T hT S
  subst hT
  have hat := hI.at hi
  rw [cE_2 hf] at hat
  have hat2 : T.heap[ad c i]? = some (arrV (X.Γ.2.2.2 e) L (fun j => .int (gI χ c i j))) := hat
  obtain ⟨t2, a1, b1⟩ := gn_aio (j := j) (L := L) h th hLL hF hu hs kk ls st T locs cells slots hl hI hst S
  have hout := vp_out hj
  exact ⟨t2, S.saloadOut h.1 hat2 ((h.2.2.2.2.2.2.2.1.1.2 e _ he).1 L (fun j => .int (gI χ c i j))) (by rw [arrV_size]; exact hout) (g := F0 X.m pc ls (.int j :: .ref (ad c i) :: st)) rfl rfl (by rw [h.2.1]; exact hd) t2 (by rw [arrV_size]; exact a1), b1⟩
theorem g_ialdX (h : Ok X cc own ret y0 nL F Lo Pst) (th : Th X) {ty : FieldType} (hi : i < cn χ c) (hf : fam c (tg χ c i) = (2, e, [(d, L)])) (he : (vtys X.Γ.2.2.2)[e]? = some (X.Γ.2.2.2 e, ty)) (hLL : L < 2 ^ 31) (hj : ¬ vp_in j L) (hF : 8 ≤ F ∧ 10248 ≤ Lo) (hu : uC χ + 3 ≤ 603072) (hs : uS χ + 222 ≤ 7262314) (hst : (st.map fun v => v.category).sum ≤ 8) (hd : decode cc pc = .ok (.iaload, 1)) (kk : ∀ n, n ≤ 222 → GT X ad (brn χ 3 n) pc lv nAI) : G X ad χ pc lv (.int j :: .ref (ad c i) :: st) := by
  intro ls H locs cells slots hl hI T hT S
  subst hT
  have hat := hI.at hi
  rw [cE_2 hf] at hat
  have hat2 : T.heap[ad c i]? = some (arrV (X.Γ.2.2.2 e) L (fun j => .int (gI χ c i j))) := hat
  obtain ⟨t2, a1, b1⟩ := gn_aio (j := j) (L := L) h th hLL hF hu hs kk ls st T locs cells slots hl hI hst S
  have hout := vp_out hj
  exact ⟨t2, S.ialoadOut h.1 hat2 ((h.2.2.2.2.2.2.2.1.1.2 e _ he).1 L (fun j => .int (gI χ c i j))) (by rw [arrV_size]; exact hout) (g := F0 X.m pc ls (.int j :: .ref (ad c i) :: st)) rfl rfl (by rw [h.2.1]; exact hd) t2 (by rw [arrV_size]; exact a1), b1⟩
theorem g_laldX (h : Ok X cc own ret y0 nL F Lo Pst) (th : Th X) {ty : FieldType} (hi : i < cn χ c) (hf : fam c (tg χ c i) = (3, e, [(d, L)])) (he : (vtys X.Γ.2.2.2)[e]? = some (X.Γ.2.2.2 e, ty)) (hLL : L < 2 ^ 31) (hj : ¬ vp_in j L) (hF : 8 ≤ F ∧ 10248 ≤ Lo) (hu : uC χ + 3 ≤ 603072) (hs : uS χ + 222 ≤ 7262314) (hst : (st.map fun v => v.category).sum ≤ 8) (hd : decode cc pc = .ok (.laload, 1)) (kk : ∀ n, n ≤ 222 → GT X ad (brn χ 3 n) pc lv nAI) : G X ad χ pc lv (.int j :: .ref (ad c i) :: st) := by
  intro ls H locs cells slots hl hI T hT S
  subst hT
  have hat := hI.at hi
  rw [cE_3 hf] at hat
  have hat2 : T.heap[ad c i]? = some (arrV (X.Γ.2.2.2 e) L (fun j => .long (gL χ c i j))) := hat
  obtain ⟨t2, a1, b1⟩ := gn_aio (j := j) (L := L) h th hLL hF hu hs kk ls st T locs cells slots hl hI hst S
  have hout := vp_out hj
  exact ⟨t2, S.laloadOut h.1 hat2 ((h.2.2.2.2.2.2.2.1.1.2 e _ he).1 L (fun j => .long (gL χ c i j))) (by rw [arrV_size]; exact hout) (g := F0 X.m pc ls (.int j :: .ref (ad c i) :: st)) rfl rfl (by rw [h.2.1]; exact hd) t2 (by rw [arrV_size]; exact a1), b1⟩
theorem g_bastX (h : Ok X cc own ret y0 nL F Lo Pst) (th : Th X) {ty : FieldType} {x : Int32} (hi : i < cn χ c) (hf : fam c (tg χ c i) = (2, e, [(d, L)])) (he : (vtys X.Γ.2.2.2)[e]? = some (X.Γ.2.2.2 e, ty)) (hLL : L < 2 ^ 31) (hj : ¬ vp_in j L) (hF : 8 ≤ F ∧ 10248 ≤ Lo) (hu : uC χ + 3 ≤ 603072) (hs : uS χ + 222 ≤ 7262314) (hst : (st.map fun v => v.category).sum ≤ 8) (hd : decode cc pc = .ok (.bastore, 1)) (kk : ∀ n, n ≤ 222 → GT X ad (brn χ 3 n) pc lv nAI) : G X ad χ pc lv (.int x :: .int j :: .ref (ad c i) :: st) := by
  intro ls H locs cells slots hl hI T hT S
  subst hT
  have hat := hI.at hi
  rw [cE_2 hf] at hat
  have hat2 : T.heap[ad c i]? = some (arrV (X.Γ.2.2.2 e) L (fun j => .int (gI χ c i j))) := hat
  obtain ⟨t2, a1, b1⟩ := gn_aio (j := j) (L := L) h th hLL hF hu hs kk ls st T locs cells slots hl hI hst S
  have hout := vp_out hj
  exact ⟨t2, S.bastoreOut h.1 hat2 ((h.2.2.2.2.2.2.2.1.1.2 e _ he).1 L (fun j => .int (gI χ c i j))) (by rw [arrV_size]; exact hout) (g := F0 X.m pc ls (.int x :: .int j :: .ref (ad c i) :: st)) rfl rfl (by rw [h.2.1]; exact hd) t2 (by rw [arrV_size]; exact a1), b1⟩
theorem g_sastX (h : Ok X cc own ret y0 nL F Lo Pst) (th : Th X) {ty : FieldType} {x : Int32} (hi : i < cn χ c) (hf : fam c (tg χ c i) = (2, e, [(d, L)])) (he : (vtys X.Γ.2.2.2)[e]? = some (X.Γ.2.2.2 e, ty)) (hLL : L < 2 ^ 31) (hj : ¬ vp_in j L) (hF : 8 ≤ F ∧ 10248 ≤ Lo) (hu : uC χ + 3 ≤ 603072) (hs : uS χ + 222 ≤ 7262314) (hst : (st.map fun v => v.category).sum ≤ 8) (hd : decode cc pc = .ok (.sastore, 1)) (kk : ∀ n, n ≤ 222 → GT X ad (brn χ 3 n) pc lv nAI) : G X ad χ pc lv (.int x :: .int j :: .ref (ad c i) :: st) := by
  intro ls H locs cells slots hl hI T hT S
  subst hT
  have hat := hI.at hi
  rw [cE_2 hf] at hat
  have hat2 : T.heap[ad c i]? = some (arrV (X.Γ.2.2.2 e) L (fun j => .int (gI χ c i j))) := hat
  obtain ⟨t2, a1, b1⟩ := gn_aio (j := j) (L := L) h th hLL hF hu hs kk ls st T locs cells slots hl hI hst S
  have hout := vp_out hj
  exact ⟨t2, S.sastoreOut h.1 hat2 ((h.2.2.2.2.2.2.2.1.1.2 e _ he).1 L (fun j => .int (gI χ c i j))) (by rw [arrV_size]; exact hout) (g := F0 X.m pc ls (.int x :: .int j :: .ref (ad c i) :: st)) rfl rfl (by rw [h.2.1]; exact hd) t2 (by rw [arrV_size]; exact a1), b1⟩
theorem g_iastX (h : Ok X cc own ret y0 nL F Lo Pst) (th : Th X) {ty : FieldType} {x : Int32} (hi : i < cn χ c) (hf : fam c (tg χ c i) = (2, e, [(d, L)])) (he : (vtys X.Γ.2.2.2)[e]? = some (X.Γ.2.2.2 e, ty)) (hLL : L < 2 ^ 31) (hj : ¬ vp_in j L) (hF : 8 ≤ F ∧ 10248 ≤ Lo) (hu : uC χ + 3 ≤ 603072) (hs : uS χ + 222 ≤ 7262314) (hst : (st.map fun v => v.category).sum ≤ 8) (hd : decode cc pc = .ok (.iastore, 1)) (kk : ∀ n, n ≤ 222 → GT X ad (brn χ 3 n) pc lv nAI) : G X ad χ pc lv (.int x :: .int j :: .ref (ad c i) :: st) := by
  intro ls H locs cells slots hl hI T hT S
  subst hT
  have hat := hI.at hi
  rw [cE_2 hf] at hat
  have hat2 : T.heap[ad c i]? = some (arrV (X.Γ.2.2.2 e) L (fun j => .int (gI χ c i j))) := hat
  obtain ⟨t2, a1, b1⟩ := gn_aio (j := j) (L := L) h th hLL hF hu hs kk ls st T locs cells slots hl hI hst S
  have hout := vp_out hj
  exact ⟨t2, S.iastoreOut h.1 hat2 ((h.2.2.2.2.2.2.2.1.1.2 e _ he).1 L (fun j => .int (gI χ c i j))) (by rw [arrV_size]; exact hout) (g := F0 X.m pc ls (.int x :: .int j :: .ref (ad c i) :: st)) rfl rfl (by rw [h.2.1]; exact hd) t2 (by rw [arrV_size]; exact a1), b1⟩
theorem g_lastX (h : Ok X cc own ret y0 nL F Lo Pst) (th : Th X) {ty : FieldType} {x : Int64} (hi : i < cn χ c) (hf : fam c (tg χ c i) = (3, e, [(d, L)])) (he : (vtys X.Γ.2.2.2)[e]? = some (X.Γ.2.2.2 e, ty)) (hLL : L < 2 ^ 31) (hj : ¬ vp_in j L) (hF : 8 ≤ F ∧ 10248 ≤ Lo) (hu : uC χ + 3 ≤ 603072) (hs : uS χ + 222 ≤ 7262314) (hst : (st.map fun v => v.category).sum ≤ 8) (hd : decode cc pc = .ok (.lastore, 1)) (kk : ∀ n, n ≤ 222 → GT X ad (brn χ 3 n) pc lv nAI) : G X ad χ pc lv (.long x :: .int j :: .ref (ad c i) :: st) := by
  intro ls H locs cells slots hl hI T hT S
  subst hT
  have hat := hI.at hi
  rw [cE_3 hf] at hat
  have hat2 : T.heap[ad c i]? = some (arrV (X.Γ.2.2.2 e) L (fun j => .long (gL χ c i j))) := hat
  obtain ⟨t2, a1, b1⟩ := gn_aio (j := j) (L := L) h th hLL hF hu hs kk ls st T locs cells slots hl hI hst S
  have hout := vp_out hj
  exact ⟨t2, S.lastoreOut h.1 hat2 ((h.2.2.2.2.2.2.2.1.1.2 e _ he).1 L (fun j => .long (gL χ c i j))) (by rw [arrV_size]; exact hout) (g := F0 X.m pc ls (.long x :: .int j :: .ref (ad c i) :: st)) rfl rfl (by rw [h.2.1]; exact hd) t2 (by rw [arrV_size]; exact a1), b1⟩
theorem g_negX (h : Ok X cc own ret y0 nL F Lo Pst) (th : Th X) {aty : ArrayType} (hn : j < 0) (hF : 8 ≤ F ∧ 10248 ≤ Lo) (hu : uC χ + 3 ≤ 603072) (hs : uS χ + 222 ≤ 7262314) (hst : (st.map fun v => v.category).sum ≤ 8) (hd : decode cc pc = .ok (.newarray aty, 2)) (kk : ∀ n, n ≤ 222 → GT X ad (brn χ 3 n) pc lv nNS) : G X ad χ pc lv (.int j :: st) := by
  intro ls H locs cells slots hl hI T hT S
  subst hT
  obtain ⟨t2, a1, b1⟩ := gn_neg (j := j) h th hn hF hu hs kk ls st T locs cells slots hl hI hst S
  exact ⟨t2, S.newarrayNegative h.1 (g := F0 X.m pc ls (.int j :: st)) rfl hn rfl (by rw [h.2.1]; exact hd) t2 a1, b1⟩
/-- a call on null: the method that the pool names is there -/
def NulOk (X : Cx) (own : String) (index : Nat) (x : MethodName) (n : Nat) : Prop := (Cond.methodLink own index x).before X.args X.s = true ∧ (x.cls ≠ "java/lang/invoke/MethodHandle" ∧ x.cls ≠ "java/lang/invoke/VarHandle") ∧ ∃ (r0 : MethodId) (r : Method) (kr : Class), X.s.methodNamed? x = some r0 ∧ X.s.vm.method? r0 = some r ∧ r.isStatic = false ∧ X.s.vm.classes[r0.cls]? = some kr ∧ kr.isInterface = false ∧ n = r.sig.parameters.length
theorem NulOk.dec (h : Ok X cc own ret y0 nL F Lo Pst) {x : MethodName} {n : Nat} (q1 : Cond.methodLink own index x ∈ lw_all) (q2 : Cond.declares x ∈ lw_tbl) (q3 : Cond.sameMethod x.cls x.cls x.name x.desc ∈ lw_all) (hx : x.cls ≠ "java/lang/invoke/MethodHandle" ∧ x.cls ≠ "java/lang/invoke/VarHandle" ∧ (parseMethodDescriptor x.desc).map (fun d => d.parameters.length) = some n) : NulOk X own index x n := by
  have hts := h.2.2.2.2.2.2.1
  have hK := h.2.2.2.2.2.2.2.1
  refine ⟨hts _ q1, ⟨hx.1, hx.2.1⟩, ?_⟩
  obtain ⟨r0, r, hn, hrm, hst, hsig⟩ := Cond.declares_spec (hK.2.1 _ q2 rfl)
  obtain ⟨cn, ck, r1, hcn, hck, hni, hf, hn1⟩ := Cond.sameMethod_found (hts _ q3)
  have e1 : r1 = r0 := Option.some.inj (hn1.symm.trans hn)
  subst e1
  have hc2 := findClass_of_methodNamed hn
  have e2 : cn = r1.cls := Option.some.inj (hcn.symm.trans hc2)
  subst e2
  have h2 := hx.2.2
  rw [hsig] at h2
  exact ⟨r1, r, ck, hn, hrm, hst, hck, hni, (Option.some.inj h2).symm⟩
theorem NulOk.sel (h : Ok X cc own ret y0 nL F Lo Pst) {x : MethodName} {n : Nat} {b : ByteArray} {mL : Nat} {r : Option FieldType} (q1 : Cond.methodLink own index x ∈ lw_all) (q2 : Cond.instanceMethod x ∈ lw_all) (q3 : Cond.selects x.cls x x ∈ lw_all) (q4 : Cond.code x b mL r ∈ lw_all) (hx : x.cls ≠ "java/lang/invoke/MethodHandle" ∧ x.cls ≠ "java/lang/invoke/VarHandle" ∧ (parseMethodDescriptor x.desc).map (fun d => d.parameters.length) = some n) : NulOk X own index x n := by
  have hts := h.2.2.2.2.2.2.1
  refine ⟨hts _ q1, ⟨hx.1, hx.2.1⟩, ?_⟩
  obtain ⟨mk, methM, hnamed, hmethM, hstM, -⟩ := Cond.instanceMethod_spec (hts _ q2)
  obtain ⟨methM', cM, hmethM', -, -, -, -, -, -, hsigM⟩ := Cond.code_spec hnamed (hts _ q4)
  cases hmethM.symm.trans hmethM'
  obtain ⟨c2, r2, m2, -, -, q3', -, kP, hkP, hkPi⟩ := Cond.selects_spec (hts _ q3)
  cases hnamed.symm.trans q3'
  have h2 := hx.2.2
  rw [hsigM] at h2
  exact ⟨mk, methM, kP, hnamed, hmethM, hstM, hkP, hkPi, (Option.some.inj h2).symm⟩
theorem g_nullX (h : Ok X cc own ret y0 nL F Lo Pst) (th : Th X) {x : MethodName} {n : Nat} {As : List Value} (hx : NulOk X own index x n) (hn : As.length = n) (hs0 : st0 = As.reverse ++ .null :: st) (hF : 8 ≤ F ∧ 10248 ≤ Lo) (hu : uC χ + 1 ≤ 603072) (hs : uS χ + 8 ≤ 7262314) (hst : (st.map fun v => v.category).sum ≤ 8) (hd : decode cc pc = .ok (.invokevirtual index, 3)) (kk : GT X ad (brn χ 1 8) pc lv nNP) : G X ad χ pc lv st0 := by
  intro ls H locs cells slots hl hI T hT S
  subst hT
  obtain ⟨q1, hx2, r0, r, kr, z1, z2, z3, z4, z5, z6⟩ := hx
  obtain ⟨vm', S', stp⟩ := S.invokevirtualNull h.1 h.2.2.2.2.2.1 q1 z1 z2 z3 z4 z5 hx2 (g := F0 X.m pc ls st0) rfl (argsL := As) (rest := st) (hn.trans z6) hs0 (by rw [h.2.1]; exact hd)
  obtain ⟨t2, a1, b1⟩ := gn_npe h th ⟨by omega, hF.2⟩ hu hs kk ls st (T.setVm vm') locs cells slots hl hI hst S'
  exact ⟨t2, stp t2 a1, b1⟩
/-! checkcast -/
theorem g_castN (h : Ok X cc own ret y0 nL F Lo Pst) (hd : decode cc pc = .ok (.checkcast index, 3)) (kk : G X ad χ (pc + 3) lv (.null :: st)) : G X ad χ pc lv (.null :: st) := by
  intro ls H locs cells slots hl hI T hT S
  obtain ⟨t2, a1, b1⟩ := kk ls H locs cells slots hl hI T hT S
  refine ⟨t2, ?_, b1⟩
  have hdg : decode X.c.code (F0 X.m pc ls (.null :: st)).pc = .ok (.checkcast index, 3) := by rw [h.2.1]; exact hd
  have hA : At T (F0 X.m pc ls (.null :: st)).method X.c X.below := S.here
  jvm_step hA [h.1, hdg, checkcast.sem, F0]
  exact a1
theorem g_castP (h : Ok X cc own ret y0 nL F Lo Pst) {E : String} (q1 : Cond.classLink own index E ∈ lw_all) (hi : i < cn χ c) (hf : fam c (tg χ c i) = (1, ci, ft)) (hc : vcl[ci]? = some (C, T, N)) (ha : AsOk X ci E) (hd : decode cc pc = .ok (.checkcast index, 3)) (kk : G X ad χ (pc + 3) lv (.ref (ad c i) :: st)) : G X ad χ pc lv (.ref (ad c i) :: st) := by
  intro ls H locs cells slots hl hI T' hT S
  subst hT
  have hts := h.2.2.2.2.2.2.1
  have hK := h.2.2.2.2.2.2.2.1
  have hat := hI.at hi
  rw [cE_o hf] at hat
  obtain ⟨cellB, hcB, hoB, hclB⟩ := va_recv hK.1 (P1 hat) hc (q0 := 0) rfl
  have hpl : X.e.platform.magicAccessors = ({} : Platform).magicAccessors := by rw [S.admits.platform]
  obtain ⟨cT, hcT, -⟩ := Cond.classLink_spec h.2.2.2.2.2.1 (hts _ q1) X.e.platform hpl
  obtain ⟨ks, hks, -⟩ := Vm.findClass_spec hclB
  have e0 : X.Γ.2.2.1.1 ci = cellB.cls := Option.some.inj ((hK.1.1 ci _ hc).2.1.symm.trans hclB)
  obtain ⟨vm', S', stp⟩ := S.checkcast h.1 h.2.2.2.2.2.1 (hts _ q1) hcB (fun k e => by rw [e] at hoB; cases hoB) hks hcT (by rw [← e0]; exact (ha cT hcT).2) (g := F0 X.m pc ls (.ref (ad c i) :: st)) rfl (rest := st) rfl (by rw [h.2.1]; exact hd)
  obtain ⟨t2, a1, b1⟩ := kk ls T'.heap locs cells slots hl hI (T'.setVm vm') rfl S'
  exact ⟨t2, stp t2 a1, b1⟩
end GX
