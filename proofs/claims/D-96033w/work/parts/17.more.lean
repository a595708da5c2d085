set_option maxRecDepth 100000
section GM
variable {X : Cx} {cc : ByteArray} {own host : String} {ret : Option FieldType} {y0 : MethodName} {nL F Lo : Nat} {Pst : Option Value → (Nat → Nat → Nat) → St → Prop} {ad : Nat → Nat → Nat} {χ : St} {pc : Nat} {lv lv2 : List (Nat × Value)} {st st0 : List Value}
variable {y : MethodName} {b : ByteArray} {L F' Lo' n index : Nat} {r : Option FieldType} {na' : Bool} {Pst' : Option Value → (Nat → Nat → Nat) → St → Prop} {Wp : Prop} {As : List Value}
variable {c i k ci : Nat} {ft : List (Nat × Nat)} {C : String} {T : u_T} {N : Nat} {K e d : Nat} {j : Int32}
theorem g_callVN (h : Ok X cc own ret y0 nL F Lo Pst) (hM : Mt X.l y (ws_ y b L r) (rmO F' Lo' χ) (Pm X.Γ ad χ (.ref (ad c i) :: As) Wp) (Qm X.Γ na' ad χ Pst') (frB X.Γ)) (hw : Wp) (hna : X.na = true → na' = true)
    (q1 : Cond.methodLinkNest own index y host ∈ lw_tbl) (q2 : Cond.instanceMethod y ∈ lw_all) (q3 : Cond.selects C y y ∈ lw_all) (q4 : Cond.initialized y.cls ∈ lw_all) (q5 : Cond.code y b L r ∈ lw_all) (hd0 : y.cls ≠ "java/lang/invoke/MethodHandle" ∧ y.cls ≠ "java/lang/invoke/VarHandle" ∧ (parseMethodDescriptor y.desc).map (fun d => d.parameters.length) = some n) (hF : F' + 1 ≤ F ∧ 8 + (L + 11) + Lo' ≤ Lo)
    (hi : i < cn χ c) (hf : fam c (tg χ c i) = (1, ci, ft)) (hc : vcl[ci]? = some (C, T, N)) (hn : As.length = n) (hs : st0 = As.reverse ++ .ref (ad c i) :: st) (hst : (st.map fun v => v.category).sum ≤ 8) (hd : decode cc pc = .ok (.invokevirtual index, 3))
    (kk : ∀ v ad' χ', Pst' v ad' χ' → (na' = true → ad' = ad) → Ext χ χ' ad ad' → G X ad' χ' (pc + 3) lv (v.toList ++ st)) : G X ad χ pc lv st0 := by
  intro ls H locs cells slots hl hI T' hT XX
  have hts := h.2.2.2.2.2.2.1
  have hK := h.2.2.2.2.2.2.2.1
  have hR := h.2.2.2.2.2.2.2.2.1
  have cw : va_CN X.R X.s X.args own index y host b L r (ws_ y b L r) (rmO F' Lo' χ) (rmO F' Lo' χ).cells (rmO F' Lo' χ).slots n := va_cnB n hts (lw_meth q5) rfl rfl rfl (hK.2.1 _ q1 rfl) (hts _ q4) hd0 (by rw [hR]; exact hF)
  obtain ⟨⟨-, -, hfr, hlo, hws, hcw⟩, hcode, hini, hy, hlen, hlk⟩ := cw
  have hB : Back X.l X.R X.p X.e X.below X.s X.args y 3 8 (PreM X.R (rmO F' Lo' χ) (Pm X.Γ ad χ (.ref (ad c i) :: As) Wp)) (PostM (Qm X.Γ na' ad χ Pst') (frB X.Γ)) := hM.back Pm.blind hfr hlo hws hcw hini
  have hat := hI.at hi
  rw [cE_o hf] at hat
  obtain ⟨cellB, hcB, hoB, hclB⟩ := va_recv hK.1 (P1 hat) hc (q0 := 0) rfl
  obtain ⟨v, vm₁, ⟨U', l2, c2, s2⟩, hW₁, X', ⟨g', mk, t, Lk, k, n', e1, e2, hq, h1, hL, h2, h3⟩, stp⟩ := va_callVN XX h.1 (C := C) (bytes := b) (maxL := L) (ret := r) h.2.2.2.2.2.1 hlk (hts _ q2) (hts _ q3) hcode hy hB (by rw [hT]; exact hcB) hoB hclB (g := F0 X.m pc ls st0) rfl (hl.1.trans h.2.2.2.2.1.1.symm) (argsL := As) (rest := st) (fun sig z => hn.trans (hlen sig z)) hs (lv_room (m := X.m) (pc := pc) (ls := ls) (rest := st0) hst) (by rw [h.2.1]; exact hd)
    (fun vm₁ hW₁ => ⟨(hI.room h).1, (hI.room h).2, rfl, by show HR _ _ _ T'.heap; rw [hT]; exact hI.1, hK.warm hW₁, hw⟩)
  dsimp only [Pt.U, Pt.locs, Pt.cells, Pt.slots] at X' e1 e2 h1 h2 h3 stp
  subst h1; subst h2; subst h3
  obtain ⟨v', ad', χ', hv, hP, hna1, hE, hH, hu, hu2⟩ := hq
  cases hv
  obtain ⟨t2, a1, b1⟩ := kk v ad' χ' hP hna1 hE ls U'.heap _ _ _ hl (by rw [e1]; exact hI.back hna hna1 hE hH hu hu2 hL) U' rfl X'
  exact ⟨t2, stp t2 a1, b1⟩
theorem g_callSN (h : Ok X cc own ret y0 nL F Lo Pst) (hM : Mt X.l y (ws_ y b L r) (rmO F' Lo' χ) (Pm X.Γ ad χ As Wp) (Qm X.Γ na' ad χ Pst') (frB X.Γ)) (hw : Wp) (hna : X.na = true → na' = true)
    (q1 : Cond.methodLinkNest own index y host ∈ lw_tbl) (q2 : Cond.static y ∈ lw_all) (q4 : Cond.initialized y.cls ∈ lw_all) (q5 : Cond.code y b L r ∈ lw_all) (hd0 : y.cls ≠ "java/lang/invoke/MethodHandle" ∧ y.cls ≠ "java/lang/invoke/VarHandle" ∧ (parseMethodDescriptor y.desc).map (fun d => d.parameters.length) = some n) (hF : F' + 1 ≤ F ∧ 8 + (L + 11) + Lo' ≤ Lo)
    (hn : As.length = n) (hs : st0 = As.reverse ++ st) (hst : (st.map fun v => v.category).sum ≤ 8) (hd : decode cc pc = .ok (.invokestatic index, 3))
    (kk : ∀ v ad' χ', Pst' v ad' χ' → (na' = true → ad' = ad) → Ext χ χ' ad ad' → G X ad' χ' (pc + 3) lv (v.toList ++ st)) : G X ad χ pc lv st0 := by
  intro ls H locs cells slots hl hI T' hT XX
  have hts := h.2.2.2.2.2.2.1
  have hK := h.2.2.2.2.2.2.2.1
  have hR := h.2.2.2.2.2.2.2.2.1
  have cw : va_CN X.R X.s X.args own index y host b L r (ws_ y b L r) (rmO F' Lo' χ) (rmO F' Lo' χ).cells (rmO F' Lo' χ).slots n := va_cnB n hts (lw_meth q5) rfl rfl rfl (hK.2.1 _ q1 rfl) (hts _ q4) hd0 (by rw [hR]; exact hF)
  obtain ⟨⟨-, -, hfr, hlo, hws, hcw⟩, hcode, hini, hy, hlen, hlk⟩ := cw
  have hB : Back X.l X.R X.p X.e X.below X.s X.args y 3 8 (PreM X.R (rmO F' Lo' χ) (Pm X.Γ ad χ As Wp)) (PostM (Qm X.Γ na' ad χ Pst') (frB X.Γ)) := hM.back Pm.blind hfr hlo hws hcw hini
  obtain ⟨v, vm₁, ⟨U', l2, c2, s2⟩, hW₁, X', ⟨g', mk, t, Lk, k, n', e1, e2, hq, h1, hL, h2, h3⟩, stp⟩ := va_callSN XX h.1 (bytes := b) (maxL := L) (ret := r) h.2.2.2.2.2.1 hlk (hts _ q2) hini hcode hy hB (g := F0 X.m pc ls st0) rfl (hl.1.trans h.2.2.2.2.1.1.symm) (argsL := As) (rest := st) (fun sig z => hn.trans (hlen sig z)) hs (lv_room (m := X.m) (pc := pc) (ls := ls) (rest := st0) hst) (by rw [h.2.1]; exact hd)
    (fun vm₁ hW₁ => ⟨(hI.room h).1, (hI.room h).2, rfl, by show HR _ _ _ T'.heap; rw [hT]; exact hI.1, hK.warm hW₁, hw⟩)
  dsimp only [Pt.U, Pt.locs, Pt.cells, Pt.slots] at X' e1 e2 h1 h2 h3 stp
  subst h1; subst h2; subst h3
  obtain ⟨v', ad', χ', hv, hP, hna1, hE, hH, hu, hu2⟩ := hq
  cases hv
  obtain ⟨t2, a1, b1⟩ := kk v ad' χ' hP hna1 hE ls U'.heap _ _ _ hl (by rw [e1]; exact hI.back hna hna1 hE hH hu hu2 hL) U' rfl X'
  exact ⟨t2, stp t2 a1, b1⟩
theorem g_callI (h : Ok X cc own ret y0 nL F Lo Pst) (hM : Mt X.l y (ws_ y b L none) (rmO F' Lo' χ) (Pm X.Γ ad χ (.ref (ad c i) :: As) Wp) (Qm X.Γ na' ad χ Pst') (frB X.Γ)) (hw : Wp) (hna : X.na = true → na' = true) (hy1 : y.name = "<init>")
    (q1 : Cond.methodLink own index y ∈ lw_all) (q2 : Cond.instanceMethod y ∈ lw_all) (q4 : Cond.initialized y.cls ∈ lw_all) (q5 : Cond.code y b L none ∈ lw_all) (hd0 : y.cls ≠ "java/lang/invoke/MethodHandle" ∧ y.cls ≠ "java/lang/invoke/VarHandle" ∧ (parseMethodDescriptor y.desc).map (fun d => d.parameters.length) = some n) (hF : F' + 1 ≤ F ∧ 8 + (L + 11) + Lo' ≤ Lo)
    (hn : As.length = n) (hs : st0 = As.reverse ++ .ref (ad c i) :: st) (hst : (st.map fun v => v.category).sum ≤ 8) (hd : decode cc pc = .ok (.invokespecial index, 3))
    (kk : ∀ v ad' χ', Pst' v ad' χ' → (na' = true → ad' = ad) → Ext χ χ' ad ad' → G X ad' χ' (pc + 3) lv (v.toList ++ st)) : G X ad χ pc lv st0 := by
  intro ls H locs cells slots hl hI T' hT XX
  have hts := h.2.2.2.2.2.2.1
  have hK := h.2.2.2.2.2.2.2.1
  have hR := h.2.2.2.2.2.2.2.2.1
  have cw : CallB X.R X.s X.args own index y b L none (ws_ y b L none) (rmO F' Lo' χ) (rmO F' Lo' χ).cells (rmO F' Lo' χ).slots n ∧ y.name = "<init>" ∧ (Cond.instanceMethod y).before X.args X.s = true := cwI n hts (lw_meth q5) rfl rfl rfl (hts _ q4) (hts _ q1) (hts _ q2) hy1 hd0 (by rw [hR]; exact hF)
  obtain ⟨⟨-, -, hfr, hlo, hws, hcw, hcode, hini, hy, hlen, hlk⟩, hy1, hin⟩ := cw
  have hB : Back X.l X.R X.p X.e X.below X.s X.args y 3 8 (PreM X.R (rmO F' Lo' χ) (Pm X.Γ ad χ (.ref (ad c i) :: As) Wp)) (PostM (Qm X.Γ na' ad χ Pst') (frB X.Γ)) := hM.back Pm.blind hfr hlo hws hcw hini
  obtain ⟨v, vm₁, ⟨U', l2, c2, s2⟩, hW₁, X', ⟨g', mk, t, Lk, k, n', e1, e2, hq, h1, hL, h2, h3⟩, stp⟩ := callI XX h.1 (bytes := b) (maxL := L) h.2.2.2.2.2.1 hy1 hlk hin hcode hy hB (g := F0 X.m pc ls st0) rfl (hl.1.trans h.2.2.2.2.1.1.symm) (a := ad c i) (argsL := As) (rest := st) (fun sig z => hn.trans (hlen sig z)) hs (lv_room (m := X.m) (pc := pc) (ls := ls) (rest := st0) hst) (by rw [h.2.1]; exact hd)
    (fun vm₁ hW₁ => ⟨(hI.room h).1, (hI.room h).2, rfl, by show HR _ _ _ T'.heap; rw [hT]; exact hI.1, hK.warm hW₁, hw⟩)
  dsimp only [Pt.U, Pt.locs, Pt.cells, Pt.slots] at X' e1 e2 h1 h2 h3 stp
  subst h1; subst h2; subst h3
  obtain ⟨v', ad', χ', hv, hP, hna1, hE, hH, hu, hu2⟩ := hq
  cases hv
  obtain ⟨t2, a1, b1⟩ := kk v ad' χ' hP hna1 hE ls U'.heap _ _ _ hl (by rw [e1]; exact hI.back hna hna1 hE hH hu hu2 hL) U' rfl X'
  exact ⟨t2, stp t2 a1, b1⟩
theorem g_callIN (h : Ok X cc own ret y0 nL F Lo Pst) (hM : Mt X.l y (ws_ y b L none) (rmO F' Lo' χ) (Pm X.Γ ad χ (.ref (ad c i) :: As) Wp) (Qm X.Γ na' ad χ Pst') (frB X.Γ)) (hw : Wp) (hna : X.na = true → na' = true) (hy1 : y.name = "<init>")
    (q1 : Cond.methodLinkNest own index y host ∈ lw_tbl) (q2 : Cond.instanceMethod y ∈ lw_all) (q4 : Cond.initialized y.cls ∈ lw_all) (q5 : Cond.code y b L none ∈ lw_all) (hd0 : y.cls ≠ "java/lang/invoke/MethodHandle" ∧ y.cls ≠ "java/lang/invoke/VarHandle" ∧ (parseMethodDescriptor y.desc).map (fun d => d.parameters.length) = some n) (hF : F' + 1 ≤ F ∧ 8 + (L + 11) + Lo' ≤ Lo)
    (hn : As.length = n) (hs : st0 = As.reverse ++ .ref (ad c i) :: st) (hst : (st.map fun v => v.category).sum ≤ 8) (hd : decode cc pc = .ok (.invokespecial index, 3))
    (kk : ∀ v ad' χ', Pst' v ad' χ' → (na' = true → ad' = ad) → Ext χ χ' ad ad' → G X ad' χ' (pc + 3) lv (v.toList ++ st)) : G X ad χ pc lv st0 := by
  intro ls H locs cells slots hl hI T' hT XX
  have hts := h.2.2.2.2.2.2.1
  have hK := h.2.2.2.2.2.2.2.1
  have hR := h.2.2.2.2.2.2.2.2.1
  have cw : va_CN X.R X.s X.args own index y host b L none (ws_ y b L none) (rmO F' Lo' χ) (rmO F' Lo' χ).cells (rmO F' Lo' χ).slots n := va_cnB n hts (lw_meth q5) rfl rfl rfl (hK.2.1 _ q1 rfl) (hts _ q4) hd0 (by rw [hR]; exact hF)
  obtain ⟨⟨-, -, hfr, hlo, hws, hcw⟩, hcode, hini, hy, hlen, hlk⟩ := cw
  have hB : Back X.l X.R X.p X.e X.below X.s X.args y 3 8 (PreM X.R (rmO F' Lo' χ) (Pm X.Γ ad χ (.ref (ad c i) :: As) Wp)) (PostM (Qm X.Γ na' ad χ Pst') (frB X.Γ)) := hM.back Pm.blind hfr hlo hws hcw hini
  obtain ⟨v, vm₁, ⟨U', l2, c2, s2⟩, hW₁, X', ⟨g', mk, t, Lk, k, n', e1, e2, hq, h1, hL, h2, h3⟩, stp⟩ := va_callIN XX h.1 (bytes := b) (maxL := L) h.2.2.2.2.2.1 hy1 hlk (hts _ q2) hcode hy hB (g := F0 X.m pc ls st0) rfl (hl.1.trans h.2.2.2.2.1.1.symm) (a := ad c i) (argsL := As) (rest := st) (fun sig z => hn.trans (hlen sig z)) hs (lv_room (m := X.m) (pc := pc) (ls := ls) (rest := st0) hst) (by rw [h.2.1]; exact hd)
    (fun vm₁ hW₁ => ⟨(hI.room h).1, (hI.room h).2, rfl, by show HR _ _ _ T'.heap; rw [hT]; exact hI.1, hK.warm hW₁, hw⟩)
  dsimp only [Pt.U, Pt.locs, Pt.cells, Pt.slots] at X' e1 e2 h1 h2 h3 stp
  subst h1; subst h2; subst h3
  obtain ⟨v', ad', χ', hv, hP, hna1, hE, hH, hu, hu2⟩ := hq
  cases hv
  obtain ⟨t2, a1, b1⟩ := kk v ad' χ' hP hna1 hE ls U'.heap _ _ _ hl (by rw [e1]; exact hI.back hna hna1 hE hH hu hu2 hL) U' rfl X'
  exact ⟨t2, stp t2 a1, b1⟩
theorem g_objInit (h : Ok X cc own ret y0 nL F Lo Pst) (q1 : Cond.methodLink own index Lib.objectInit ∈ lw_all) (q2 : Cond.instanceMethod Lib.objectInit ∈ lw_all) (q3 : Cond.code Lib.objectInit ⟨#[0xb1]⟩ 1 none ∈ lw_all) {a : Nat} (hF : 1 ≤ F ∧ 20 ≤ Lo) (hst : (st.map fun v => v.category).sum ≤ 8) (hd : decode cc pc = .ok (.invokespecial index, 3)) (kk : G X ad χ (pc + 3) lv st) : G X ad χ pc lv (.ref a :: st) := by
  intro ls H locs cells slots hl hI
  have hts := h.2.2.2.2.2.2.1
  have hR := h.2.2.2.2.2.2.2.2.1
  refine W.objInit h.1 h.2.1 h.2.2.2.2.2.1 (hts _ q1) (hts _ q2) (hts _ q3) rfl (hl.1.trans h.2.2.2.2.1.1.symm) (rest := st) rfl hd (by rw [hR]; exact hF.1) ?_ (kk ls H locs cells slots hl hI)
  rw [hR]
  have := lv_room (m := X.m) (pc := pc) (ls := ls) (rest := .ref a :: st) hst
  show _ + _ + 12 ≤ Lo
  have h2 := hF.2
  omega
theorem alo_I {χ : St} {c t w F i : Nat} (h : ownF F ≠ c ∨ i ≠ nO χ c) : gI (alo χ c t w) F i = gI χ F i := by
  funext j
  show (if ownF F = c ∧ i = nO χ c then 0 else χ.2.1 F i j) = χ.2.1 F i j
  rw [if_neg (fun z => h.elim (fun h => h z.1) (fun h => h z.2))]
theorem alo_L {χ : St} {c t w F i : Nat} (h : ownF F ≠ c ∨ i ≠ nO χ c) : gL (alo χ c t w) F i = gL χ F i := by
  funext j
  show (if ownF F = c ∧ i = nO χ c then 0 else χ.2.2.1 F i j) = χ.2.2.1 F i j
  rw [if_neg (fun z => h.elim (fun h => h z.1) (fun h => h z.2))]
theorem alo_R {χ : St} {c t w F i : Nat} (h : ownF F ≠ c ∨ i ≠ nO χ c) : gR (alo χ c t w) F i = gR χ F i := by
  funext j
  show (if ownF F = c ∧ i = nO χ c then none else χ.2.2.2.1 F i j) = χ.2.2.2.1 F i j
  rw [if_neg (fun z => h.elim (fun h => h z.1) (fun h => h z.2))]
theorem alo_Rn {χ : St} {c t w F j : Nat} (h : ownF F = c) : gR (alo χ c t w) F (nO χ c) j = none := if_pos ⟨h, rfl⟩
theorem alo_In {χ : St} {c t w F j : Nat} (h : ownF F = c) : gI (alo χ c t w) F (nO χ c) j = 0 := if_pos ⟨h, rfl⟩
theorem alo_Ln {χ : St} {c t w F j : Nat} (h : ownF F = c) : gL (alo χ c t w) F (nO χ c) j = 0 := if_pos ⟨h, rfl⟩
theorem alo_t {χ : St} {c t w c' i : Nat} (h : c' ≠ c ∨ i ≠ nO χ c) : tg (alo χ c t w) c' i = tg χ c' i := by
  show (if c' = c ∧ i = nO χ c then t else tg χ c' i) = tg χ c' i
  rw [if_neg (fun z => h.elim (fun h => h z.1) (fun h => h z.2))]
theorem alo_tn {χ : St} {c t w : Nat} : tg (alo χ c t w) c (nO χ c) = t := if_pos ⟨rfl, rfl⟩
theorem cn_dyn {χ : St} {c : Nat} (h : fcn c = 0) : cn χ c = nO χ c := by unfold cn; rw [h]
theorem cn_alo {χ : St} {c t w : Nat} (h : fcn c = 0) : cn (alo χ c t w) c = nO χ c + 1 := by
  rw [cn_dyn h]
  exact if_pos rfl
theorem cn_alo_ne {χ : St} {c t w c' : Nat} (h : c' ≠ c) : cn (alo χ c t w) c' = cn χ c' := by
  unfold cn
  rw [show nO (alo χ c t w) c' = nO χ c' from if_neg h]
theorem cn_alo_le {χ : St} {c t w c' : Nat} (h : fcn c = 0) : cn χ c' ≤ cn (alo χ c t w) c' := by
  by_cases e : c' = c
  · subst e; rw [cn_alo h, cn_dyn h]; exact Nat.le_succ _
  · rw [cn_alo_ne e]; exact Nat.le_refl _
def adU (ad : Nat → Nat → Nat) (c n a : Nat) : Nat → Nat → Nat := fun c' i => if c' = c ∧ i = n then a else ad c' i
theorem adU_ne {ad : Nat → Nat → Nat} {c n a c' i : Nat} (h : c' ≠ c ∨ i ≠ n) : adU ad c n a c' i = ad c' i := if_neg (fun z => h.elim (fun h => h z.1) (fun h => h z.2))
theorem adU_eq {ad : Nat → Nat → Nat} {c n a : Nat} : adU ad c n a c n = a := if_pos ⟨rfl, rfl⟩
theorem lt_ne {χ : St} {c c' i : Nat} (hf : fcn c = 0) (h : i < cn χ c') : c' ≠ c ∨ i ≠ nO χ c := by
  by_cases e : c' = c
  · subst e
    rw [cn_dyn hf] at h
    exact Or.inr (by omega)
  · exact Or.inl e
theorem tgF_fam23 (t : Nat) : ∀ q ∈ (famT23 t).2.2, 100 ≤ q.1 → q.1 < 200 → tgF q.2 = q.1 - 100 := by
  unfold famT23
  split <;> decide
theorem tgF_fam30 (t : Nat) : ∀ q ∈ (famT30 t).2.2, 100 ≤ q.1 → q.1 < 200 → tgF q.2 = q.1 - 100 := by
  unfold famT30
  split <;> decide
set_option maxHeartbeats 4000000 in
theorem tgF_fam (c t : Nat) : (fam c t).1 = 1 → ∀ q ∈ (fam c t).2.2, 100 ≤ q.1 → q.1 < 200 → tgF q.2 = q.1 - 100 := by
  unfold fam
  split <;> first | exact fun _ => tgF_fam23 t | exact fun _ => tgF_fam30 t | (intro h; simp at h; done) | (intro _; decide)
set_option maxHeartbeats 4000000 in
theorem tgF_arr (c t : Nat) : (fam c t).1 = 4 → tgF c = ((fam c t).2.2.headD (0, 0)).1 := by
  unfold fam
  split <;> first | (intro h; rw [(famT23_own t).1] at h; simp at h; done) | (intro h; rw [(famT30_own t).1] at h; simp at h; done) | (intro h; simp at h; done) | (intro _; decide)
set_option maxHeartbeats 4000000 in
/-- const references go to cells that are there from the start -/
theorem fix_fam (c t : Nat) : (fam c t).1 = 1 → ∀ q ∈ (fam c t).2.2, 200 ≤ q.1 → fcn (q.1 - 200) ≠ 0 := by
  unfold fam
  split <;> first | (intro _; have h1 : ∀ q ∈ (famT23 t).2.2, q.1 < 200 := (by unfold famT23; split <;> decide); intro q hq h; exact absurd (h1 q hq) (by omega)) | (intro _; have h1 : ∀ q ∈ (famT30 t).2.2, q.1 < 200 := (by unfold famT30; split <;> decide); intro q hq h; exact absurd (h1 q hq) (by omega)) | (intro h; simp at h; done) | (intro _; decide)
set_option maxHeartbeats 4000000 in
theorem fix_arr (c t : Nat) : ((fam c t).1 = 0 ∧ ((fam c t).2.2.headD (0, 0)).1 = 0) ∨ (fam c t).1 = 1 ∨ (fam c t).1 = 2 ∨ (fam c t).1 = 3 ∨ (fam c t).1 = 4 ∨ ((fam c t).1 = 5 ∧ fcn ((fam c t).2.2.headD (0, 0)).1 ≠ 0) := by
  unfold fam
  split <;> first | exact Or.inr (Or.inl (famT23_own t).1) | exact Or.inr (Or.inl (famT30_own t).1) | exact Or.inl ⟨rfl, rfl⟩ | exact Or.inr (Or.inl rfl) | exact Or.inr (Or.inr (Or.inl rfl)) | exact Or.inr (Or.inr (Or.inr (Or.inl rfl))) | exact Or.inr (Or.inr (Or.inr (Or.inr (Or.inl rfl)))) | exact Or.inr (Or.inr (Or.inr (Or.inr (Or.inr ⟨rfl, by decide⟩))))
theorem hdyn23 (t : Nat) : ∀ q ∈ (famT23 t).2.2, q.1 = 0 ∨ q.1 = 1 ∨ 100 ≤ q.1 := by
  unfold famT23
  split <;> decide
theorem hdyn30 (t : Nat) : ∀ q ∈ (famT30 t).2.2, q.1 = 0 ∨ q.1 = 1 ∨ 100 ≤ q.1 := by
  unfold famT30
  split <;> decide
set_option maxHeartbeats 4000000 in
theorem hdyn (c t : Nat) : (fam c t).1 = 1 → ∀ q ∈ (fam c t).2.2, q.1 = 0 ∨ q.1 = 1 ∨ 100 ≤ q.1 := by
  unfold fam
  split <;> first | exact fun _ => hdyn23 t | exact fun _ => hdyn30 t | (intro h; simp at h; done) | (intro _; decide)
/-- an old cell's picture stays when a new cell comes -/
theorem cE_alo {aC : Nat → ClassId} {ad : Nat → Nat → Nat} {χ : St} {c t w a : Nat} (hf : fcn c = 0) (hcl : ∀ F i j x, gR χ F i j = some x → x < cn χ (tgF F)) {c' i' : Nat} (hi : i' < cn χ c') : cE aC (adU ad c (nO χ c) a) (alo χ c t w) c' i' = cE aC ad χ c' i' := by
  have hne := lt_ne hf hi
  have step1 : cE aC (adU ad c (nO χ c) a) (alo χ c t w) c' i' = cE aC (adU ad c (nO χ c) a) χ c' i' := by
    refine cE_congr (alo_t hne) (fun F hF => alo_I ?_) (fun F hF => alo_L ?_) (fun F hF => alo_R ?_) <;> (rw [hF]; exact hne)
  rw [step1]
  have hmap : ∀ F j d, tgF F = d → (gR χ F i' j).map (adU ad c (nO χ c) a d) = (gR χ F i' j).map (ad d) := by
    intro F j d hd
    cases e : gR χ F i' j with
    | none => rfl
    | some x =>
      have hx := hcl F i' j x e
      rw [hd] at hx
      simp only [Option.map_some]
      rw [adU_ne (lt_ne hf hx)]
  have hfix : ∀ d x, fcn d ≠ 0 → adU ad c (nO χ c) a d x = ad d x := fun d x hd => adU_ne (Or.inl (fun e => hd (by rw [e]; exact hf)))
  unfold cE
  by_cases h1 : (fam c' (tg χ c' i')).1 = 1
  · rw [if_pos h1, if_pos h1]
    have : (fam c' (tg χ c' i')).2.2.map (fvl (adU ad c (nO χ c) a) χ i') = (fam c' (tg χ c' i')).2.2.map (fvl ad χ i') := by
      apply List.map_congr_left
      intro q hq
      unfold fvl
      by_cases g1 : q.1 = 0
      · rw [if_pos g1, if_pos g1]
      · rw [if_neg g1, if_neg g1]
        by_cases g2 : q.1 = 1
        · rw [if_pos g2, if_pos g2]
        · rw [if_neg g2, if_neg g2]
          by_cases g3 : q.1 < 200
          · rw [if_pos g3, if_pos g3]
            by_cases g4 : 100 ≤ q.1
            · rw [hmap q.2 0 _ (tgF_fam c' _ h1 q hq g4 g3)]
            · have h5 := hdyn c' _ h1 q hq
              omega
          · rw [if_neg g3, if_neg g3, hfix _ _ (fix_fam c' _ h1 q hq (by omega))]
    rw [this]
  · rw [if_neg h1, if_neg h1]
    congr 3
    unfold cC
    rcases fix_arr c' (tg χ c' i') with ⟨g, g2⟩ | g | g | g | g | ⟨g, g2⟩
    · rw [g, g2]
      show Sum.inr (Sum.inr (Sum.inr (Sum.inr _))) = Sum.inr (Sum.inr (Sum.inr (Sum.inr _)))
      congr 4
      funext q
      rw [hfix 0 q (by decide)]
    · exact absurd g h1
    · rw [g]; rfl
    · rw [g]; rfl
    · rw [g]
      show Sum.inr (Sum.inr (Sum.inr (Sum.inr _))) = Sum.inr (Sum.inr (Sum.inr (Sum.inr _)))
      congr 4
      funext q
      exact hmap c' q _ (tgF_arr c' _ g)
    · rw [g]
      show Sum.inr (Sum.inr (Sum.inr (Sum.inr _))) = Sum.inr (Sum.inr (Sum.inr (Sum.inr _)))
      congr 4
      funext q
      rw [hfix _ _ g2]
end GM
