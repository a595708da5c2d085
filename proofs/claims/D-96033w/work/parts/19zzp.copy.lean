set_option maxRecDepth 100000
set_option maxHeartbeats 2000000
/-! System.arraycopy -/
def cpI (χ : St) (c i1 i2 sp dp n : Nat) : St := (χ.1, fun F i j => if F = c ∧ i = i2 then va_cpy (gI χ c i1) (gI χ c i2) sp dp n j else gI χ F i j, χ.2.2)
def cpL (χ : St) (c i1 i2 sp dp n : Nat) : St := (χ.1, χ.2.1, fun F i j => if F = c ∧ i = i2 then va_cpy (gL χ c i1) (gL χ c i2) sp dp n j else gL χ F i j, χ.2.2.2)
theorem gI_cp {χ : St} {c i1 i2 sp dp n : Nat} : gI (cpI χ c i1 i2 sp dp n) c i2 = va_cpy (gI χ c i1) (gI χ c i2) sp dp n := by
  funext j
  exact if_pos ⟨rfl, rfl⟩
theorem gL_cp {χ : St} {c i1 i2 sp dp n : Nat} : gL (cpL χ c i1 i2 sp dp n) c i2 = va_cpy (gL χ c i1) (gL χ c i2) sp dp n := by
  funext j
  exact if_pos ⟨rfl, rfl⟩
theorem gI_cp_ne {χ : St} {c i1 i2 sp dp n F i : Nat} (h : F ≠ c ∨ i ≠ i2) : gI (cpI χ c i1 i2 sp dp n) F i = gI χ F i := by
  funext j
  exact if_neg (fun z => h.elim (fun h => h z.1) (fun h => h z.2))
theorem gL_cp_ne {χ : St} {c i1 i2 sp dp n F i : Nat} (h : F ≠ c ∨ i ≠ i2) : gL (cpL χ c i1 i2 sp dp n) F i = gL χ F i := by
  funext j
  exact if_neg (fun z => h.elim (fun h => h z.1) (fun h => h z.2))
theorem cp_nn (z : Int32) (hz : ¬ z < 0) : z.toInt = (z.toNatClampNeg : Int) := by
  have hz0 : (0 : Int) ≤ z.toInt := by
    have := Int32.not_lt.mp hz
    simpa using Int32.le_iff_toInt_le.mp this
  show z.toInt = ((z.toInt.toNat : Nat) : Int)
  omega
/-- the arguments that are refused -/
def cpBad (sp dp n : Int32) (L1 L2 : Nat) : Prop := sp < 0 ∨ dp < 0 ∨ n < 0 ∨ (L1 : Int) < sp.toInt + n.toInt ∨ (L2 : Int) < dp.toInt + n.toInt
section WC
variable {E : CtlPost} {e : Env} {d : Bool} {acts : List Action} {s : State} {Q : Option Value → Pre}
theorem kind_len (t : FieldType) : sl (Native.java_lang_System.arraycopy.kindName t) ≤ 12 := by
  cases t <;> first | (show sl "object array" ≤ 12; decide) | decide
theorem i32_len (i : Int32) : sl (toString i) ≤ 11 := int32_print i
theorem int_len {i : Int} (h0 : 0 ≤ i) (h : i < 10 ^ 10) : sl (toString i) ≤ 10 := by
  obtain ⟨m, rfl⟩ := Int.eq_ofNat_of_zero_le h0
  exact nat_print (n := m) (by omega)
theorem nat_len {n : Nat} (h : n < 10 ^ 10) : sl (toString n) ≤ 10 := nat_print h
theorem str_id (s : String) : toString s = s := rfl
def cpText (sType dType : FieldType) (L1 L2 : Nat) (sp dp n : Int32) : String := if sp < 0 then toString "source index " ++ toString sp ++ toString " out of bounds for " ++ toString (toString (Native.java_lang_System.arraycopy.kindName sType) ++ toString "[" ++ toString L1 ++ toString "]") else if dp < 0 then toString "destination index " ++ toString dp ++ toString " out of bounds for " ++ toString (toString (Native.java_lang_System.arraycopy.kindName dType) ++ toString "[" ++ toString L2 ++ toString "]") else if n < 0 then toString "length " ++ toString n ++ toString " is negative" else if sp.toInt + n.toInt > L1 then toString "last source index " ++ toString (sp.toInt + n.toInt) ++ toString " out of bounds for " ++ toString (toString (Native.java_lang_System.arraycopy.kindName sType) ++ toString "[" ++ toString L1 ++ toString "]") else toString "last destination index " ++ toString (dp.toInt + n.toInt) ++ toString " out of bounds for " ++ toString (toString (Native.java_lang_System.arraycopy.kindName dType) ++ toString "[" ++ toString L2 ++ toString "]")
theorem cpText_len {sType dType : FieldType} {L1 L2 : Nat} {sp dp n : Int32} (hl1 : L1 < 2 ^ 31) (hl2 : L2 < 2 ^ 31) : sl (cpText sType dType L1 L2 sp dp n) ≤ 100 := by
  have k1 := kind_len sType
  have k2 := kind_len dType
  have n1 : sl (toString L1) ≤ 10 := nat_len (by omega)
  have n2 : sl (toString L2) ≤ 10 := nat_len (by omega)
  have i1 := i32_len sp
  have i2 := i32_len dp
  have i3 := i32_len n
  have e0 : sl "source index " = 13 := by decide
  have e1 : sl "destination index " = 18 := by decide
  have e2 : sl " out of bounds for " = 19 := by decide
  have e3 : sl "[" = 1 := by decide
  have e4 : sl "]" = 1 := by decide
  have e5 : sl "length " = 7 := by decide
  have e6 : sl " is negative" = 12 := by decide
  have e7 : sl "last source index " = 18 := by decide
  have e8 : sl "last destination index " = 23 := by decide
  have t1 := Int32.toInt_lt sp
  have t2 := Int32.toInt_lt dp
  have t3 := Int32.toInt_lt n
  unfold cpText
  split
  · simp only [sl_app, str_id]; omega
  rename_i h1
  split
  · simp only [sl_app, str_id]; omega
  rename_i h2
  split
  · simp only [sl_app, str_id]; omega
  rename_i h3
  have b1 := cp_nn sp h1
  have b2 := cp_nn dp h2
  have b3 := cp_nn n h3
  have i4 : sl (toString (sp.toInt + n.toInt)) ≤ 10 := int_len (by omega) (by omega)
  have i5 : sl (toString (dp.toInt + n.toInt)) ≤ 10 := int_len (by omega) (by omega)
  split
  · simp only [sl_app, str_id]; omega
  · simp only [sl_app, str_id]; omega
theorem w_copyX {src dst : Addr} {sp dp n : Int32} {cs cd : Cell} {ks kd : Class} {sComp dComp : ClassId} {sType dType : FieldType}
    (hs : s.heap[src]? = some cs) (hd : s.heap[dst]? = some cd) (hsobj : ∀ k, cs.vm ≠ .statics k) (hdobj : ∀ k, cd.vm ≠ .statics k)
    (hks : s.vm.classes[cs.cls]? = some ks) (hkd : s.vm.classes[cd.cls]? = some kd) (hsk : ks.kind = .array sComp sType) (hdk : kd.kind = .array dComp dType)
    (hty : ((refKind sType != refKind dType) || (!refKind sType && sType != dType)) = false)
    (hf : cpBad sp dp n cs.slots.size cd.slots.size)
    (hE : ∀ acts', E (.throwNew "java/lang/ArrayIndexOutOfBoundsException" (some ("arraycopy: " ++ cpText sType dType cs.slots.size cd.slots.size sp dp n))) acts' s) :
    wp (Native.java_lang_System.arraycopy.sem #[.ref src, .int sp, .ref dst, .int dp, .int n]) Q E e d acts s := by
  rw [Native.java_lang_System.arraycopy.sem_refs]
  unfold Native.java_lang_System.arraycopy.behind
  simp only [wp_bind', W.classOf, W.theClass, hs, hd, hks, hkd, Option.some.injEq, exists_eq_left', hsk, hdk]
  have hty2 := hty
  unfold refKind at hty2
  simp only [hty2, Bool.false_eq_true, if_false]
  simp only [wp_bind', W.sizeOf, hs, hd, Option.some.injEq, exists_eq_left']
  refine ⟨hsobj, hdobj, ?_⟩
  unfold cpText at hE
  by_cases h1 : sp < 0
  · rw [if_pos h1] at hE ⊢
    simp only [wp_bind', W.mark, W.throwNew]
    exact hE _
  rw [if_neg h1] at hE ⊢
  by_cases h2 : dp < 0
  · rw [if_pos h2] at hE ⊢
    simp only [wp_bind', W.mark, W.throwNew]
    exact hE _
  rw [if_neg h2] at hE ⊢
  by_cases h3 : n < 0
  · rw [if_pos h3] at hE ⊢
    simp only [wp_bind', W.mark, W.throwNew]
    exact hE _
  rw [if_neg h3] at hE ⊢
  by_cases h4 : sp.toInt + n.toInt > cs.slots.size
  · rw [if_pos h4] at hE ⊢
    simp only [wp_bind', W.mark, W.throwNew]
    exact hE _
  rw [if_neg h4] at hE ⊢
  have h5 : dp.toInt + n.toInt > cd.slots.size := by
    rcases hf with a | a | a | a | a
    · exact absurd a h1
    · exact absurd a h2
    · exact absurd a h3
    · exact absurd a h4
    · exact a
  rw [if_pos h5]
  simp only [wp_bind', W.mark, W.throwNew]
  exact hE _
end WC

theorem ov_native {tb : Tables} {e : Env} {below : List Frame} {s target : State} {g : JFrame} {c : Code} (h : At s g.method c below)
    {m : MethodId} {meth : Method} {k : Class} {row : NativeRow} {args : Array Value} (acts : List Action)
    (hk : s.vm.classes[m.cls]? = some k) (hx : k.methods[m.idx]? = some meth) (hboot : k.loader = none)
    (hnat : meth.isNative = true) (hc : meth.code = none) (hl : meth.locks = false)
    (hrow : NativeRow.find? tb.natives k.name meth.name meth.desc = some row)
    (hroom : e.platform.stackFull (((s.setTop g).threads[(s.setTop g).cur]?).getD { frames := [] }) (s.setTop g).frames (nativeFrameWords k.name meth.name (operandWords args.toList)) = false)
    {cls : String} {msg : Option String}
    (hw : ∀ E : CtlPost, (∀ acts', E (.throwNew cls msg) acts' ((s.setTop g).pushFrame (.native { method := m, args := seenByNative meth args, locked := none }))) →
      wp (row.sem (seenByNative meth args)) (fun _ _ _ _ => False) E e false [] ((s.setTop g).pushFrame (.native { method := m, args := seenByNative meth args, locked := none })))
    (hrest : Steps tb e below (((s.setTop g).pushFrame (.native { method := m, args := seenByNative meth args, locked := none })).pushFrame (.throwNew cls msg none)) target) :
    Steps tb e below (doInvoke e (s.setTop g) acts m args).1 target := by
  have hm : (s.setTop g).vm.method? m = some meth := by
    show s.vm.method? m = some meth
    simp [Vm.method?, hk, hx]
  have hroom' : e.platform.stackFull (((s.setTop g).threads[(s.setTop g).cur]?).getD { frames := [] }) (s.setTop g).frames
      (nativeFrameWords ((((s.setTop g).vm.classes[m.cls]?).map (·.name)).getD "") meth.name (operandWords args.toList)) = false := by
    have : (((s.setTop g).vm.classes[m.cls]?).map (·.name)).getD "" = k.name := by
      show ((s.vm.classes[m.cls]?).map (·.name)).getD "" = k.name
      simp [hk]
    rw [this]; exact hroom
  rw [(Fast.doInvoke_native (s := s.setTop g) (e := e) (acts := acts) (args := args) hm hnat hc hl hroom').1]
  have hfe := frames_entered (g := g) h.top (.native { method := m, args := seenByNative meth args, locked := none })
  obtain ⟨mid, hmid⟩ := h.above
  refine Steps.head ⟨h.running, by simpa using h.runnable, by simpa using h.alone⟩
    ⟨.native { method := m, args := seenByNative meth args, locked := none } :: .java g :: mid, by rw [hfe, hmid]; rfl, by simp, by simp⟩ ?_
  rw [stepThread_native (f := { method := m, args := seenByNative meth args, locked := none }) (k := k) (x := meth) (row := row) hfe hk hx hboot hrow rfl]
  have hw1 : wpRun (row.sem (seenByNative meth args)) (fun _ _ _ => False)
      (fun x s₁ _ => x = .throwNew cls msg ∧ s₁ = ((s.setTop g).pushFrame (.native { method := m, args := seenByNative meth args, locked := none }))) e
      ((s.setTop g).pushFrame (.native { method := m, args := seenByNative meth args, locked := none })) := hw _ (fun _ => ⟨rfl, rfl⟩)
  have hw2 := (wpRun_iff_run _ _ _ _ _).mp hw1
  cases hr : (row.sem (seenByNative meth args)).run e ((s.setTop g).pushFrame (.native { method := m, args := seenByNative meth args, locked := none })) with
  | ok v s₁ acts₁ => rw [hr] at hw2; exact hw2.elim
  | ctl x s₁ acts₁ =>
    rw [hr] at hw2
    cases x <;> first
      | exact hw2.elim
      | (obtain ⟨h1, h2⟩ := hw2; cases h1; subst h2; exact hrest)
      | (obtain ⟨h1, -⟩ := hw2; cases h1)
theorem cp_mod (w : String) : (("arraycopy: " ++ w) == notModelled) = false := by
  rw [beq_eq_false_iff_ne]
  intro h
  have h2 := congrArg String.toList h
  have h3 : ("arraycopy: " ++ w).toList = 'a' :: ("rraycopy: ".toList ++ w.toList) := by
    rw [String.toList_append]
    rfl
  rw [h3] at h2
  have h4 : notModelled.toList = '\u0000' :: " a message that is not modelled".toList := by decide
  rw [h4] at h2
  simp at h2
theorem cp_ne {F c c' i' i2 : Nat} (hc : c < 100) (hF : ownF F = c') (hne : c ≠ c' ∨ i' ≠ i2) : F ≠ c ∨ i' ≠ i2 := by
  by_cases z : F = c
  · subst z
    rw [own_lt hc] at hF
    exact hne.elim (fun q => absurd hF q) Or.inr
  · exact Or.inl z
section GCP
variable {X : Cx} {cc : ByteArray} {own host : String} {ret : Option FieldType} {y0 : MethodName} {nL F Lo : Nat} {Pst : Option Value → (Nat → Nat → Nat) → St → Prop} {ad : Nat → Nat → Nat} {χ : St} {pc : Nat} {lv lv2 : List (Nat × Value)} {st st0 : List Value}
variable {c i1 i2 index : Nat} {e d L1 L2 : Nat} {sp dp n : Int32} {ty : FieldType}
theorem cp_thrown (h : Ok X cc own ret y0 nL F Lo Pst) (th : Th X) (q1 : Cond.methodLink own index arraycopyName ∈ lw_all) {T : State} {cs cd : Cell} {ks kd : Class} {sComp dComp : ClassId} {sType dType : FieldType} {src dst : Nat}
    (hs0 : T.heap[src]? = some cs) (hd0 : T.heap[dst]? = some cd) (hsv : cs.vm = .none) (hdv : cd.vm = .none) (hks : X.s.vm.classes[cs.cls]? = some ks) (hkd : X.s.vm.classes[cd.cls]? = some kd) (hsk : ks.kind = .array sComp sType) (hdk : kd.kind = .array dComp dType)
    (hty : ((refKind sType != refKind dType) || (!refKind sType && sType != dType)) = false) (hl1 : cs.slots.size < 2 ^ 31) (hl2 : cd.slots.size < 2 ^ 31) (hbad : cpBad sp dp n cs.slots.size cd.slots.size)
    (hF : 9 ≤ F ∧ 10260 ≤ Lo) (hu : uC χ + 3 ≤ 603072) (hs : uS χ + 460 ≤ 7262314) (hst : (st.map fun v => v.category).sum ≤ 8) (hd : decode cc pc = .ok (.invokestatic index, 3)) (kk : ∀ n, n ≤ 460 → GT X ad (brn χ 3 n) pc lv nAI)
    {ls : Array Slot} {locs : List Loc} {cells slots : Nat} (hl : lv_has ls X.nL lv) (hI : Iv X ad χ T.heap locs cells slots) (S : Stand X.p X.l X.e X.R X.s X.m X.args X.below X.meth X.c T locs cells slots) :
    ∃ t, Steps X.p.tables X.e X.below (T.setTop (F0 X.m pc ls (.int n :: .int dp :: .ref dst :: .int sp :: .ref src :: st))) t ∧ X.Q t := by
  have hts := h.2.2.2.2.2.2.1
  have hR := h.2.2.2.2.2.2.2.2.1
  obtain ⟨r, kS, methS, hnS, hmS, hkS, N⟩ := NativeOf.of_static (hts _ q1411) (hts _ q1410) (ps := [.object "java/lang/Object", .int, .object "java/lang/Object", .int, .int]) (ret := none) (by decide +kernel)
  have hinitS : kS.init = .initialized := Cond.initialized_spec (findClass_of_methodNamed hnS) hkS (hts _ q131)
  obtain ⟨vm', S', step⟩ := S.invokestatic h.1 h.2.2.2.2.2.1 (hts _ q1) hnS hmS N.static hkS hinitS (by decide) (g := F0 X.m pc ls (.int n :: .int dp :: .ref dst :: .int sp :: .ref src :: st)) rfl (argsL := [.ref src, .int sp, .ref dst, .int dp, .int n]) (rest := st) (by rw [N.sig]; rfl) rfl (by rw [h.2.1]; exact hd)
  have hA' : X.s.vm.Alike vm' := S'.warmed.alike
  obtain ⟨kS', N'⟩ := N.alike hA'
  obtain ⟨ks', hks', hes⟩ := hA'.2.2 _ _ hks
  obtain ⟨kd', hkd', hed⟩ := hA'.2.2 _ _ hkd
  have hseen : seenByNative methS #[.ref src, .int sp, .ref dst, .int dp, .int n] = #[.ref src, .int sp, .ref dst, .int dp, .int n] := by
    simp [seenByNative, N.static, N.sig, narrow]
  have hlenT := cpText_len (sType := sType) (dType := dType) (sp := sp) (dp := dp) (n := n) hl1 hl2
  have hbytes : (stringBytes (stringToUtf16 ("arraycopy: " ++ cpText sType dType cs.slots.size cd.slots.size sp dp n))).size ≤ 450 := by
    have z1 := stringBytes_size_le (stringToUtf16 ("arraycopy: " ++ cpText sType dType cs.slots.size cd.slots.size sp dp n))
    have z2 := utf16_size_le ("arraycopy: " ++ cpText sType dType cs.slots.size cd.slots.size sp dp n)
    have z3 : sl ("arraycopy: " ++ cpText sType dType cs.slots.size cd.slots.size sp dp n) ≤ 111 := by
      rw [sl_app]
      have : sl "arraycopy: " = 11 := by decide
      omega
    unfold sl at z3
    omega
  have hp1 : X.e.platform.arrayLengthLimit = ({} : Platform).arrayLengthLimit := by rw [S.admits.platform]
  have hp2 : X.e.platform.maxHeapBytes = ({} : Platform).maxHeapBytes := by rw [S.admits.platform]
  have hp3 : 4000 ≤ ({} : Platform).arrayLengthLimit := by decide
  have hp4 : 4000 ≤ ({} : Platform).maxHeapBytes := by decide
  have g5 := hI.2.2.2.2.1
  have g6 := hI.2.2.2.2.2
  obtain ⟨T2, L, c0, c1, c2, S2, hL, hH, hv, hfc, stp⟩ := th_msgN S' h.1 (th_tr th S) (text := "arraycopy: " ++ cpText sType dType cs.slots.size cd.slots.size sp dp n) (names := nmA) (cls := nAI) (by decide +kernel) (by decide +kernel) (by decide +kernel) (by decide +kernel) (th_words h th wa_AI) (th_notlocs h th hI.2.2.2.1) (cp_mod _) (by rw [hp1]; omega) (by rw [hp2, show componentBytes .byte = 1 from rfl]; omega) (g := F0 X.m pc ls st) rfl (hl.1.trans h.2.2.2.2.1.1.symm)
    { method := r, args := #[.ref src, .int sp, .ref dst, .int dp, .int n], locked := none } rfl rfl rfl (by rw [hR]; show 3 + 5 < F; omega)
    (by rw [hR]; show 2 * 0 + (st.map fun v => v.category).sum + 10240 ≤ Lo; omega) (by decide) (by rw [hR]; show cells + 3 ≤ 603072 - uC X.χ0; omega) (by rw [hR]; show _ ≤ 7262314 - uS X.χ0; omega)
  have hsz : T2.heap.size = T.heap.size + 3 := by rw [hH]; simp [State.setVm]
  have oq : ∀ q : Nat, q < T.heap.size → T2.heap[q]? = T.heap[q]? := fun q hq => by
    rw [hH]
    show (((T.heap.push c0).push c1).push c2)[q]? = _
    rw [Array.getElem?_push, if_neg (by simp; omega), Array.getElem?_push, if_neg (by simp; omega), Array.getElem?_push, if_neg (by omega)]
  obtain ⟨t2, a1, b1⟩ := kk ((stringBytes (stringToUtf16 ("arraycopy: " ++ cpText sType dType cs.slots.size cd.slots.size sp dp n))).size + 4 + 6) (by omega) ls st T2 (locs ++ L) (cells + 3) (slots + ((stringBytes (stringToUtf16 ("arraycopy: " ++ cpText sType dType cs.slots.size cd.slots.size sp dp n))).size + 4 + 6)) (T.heap.size + 2) hl (hI.brn hL (by omega) oq hu (by omega)) ⟨c2, by
    rw [hH]
    show (((T.heap.push c0).push c1).push c2)[T.heap.size + 2]? = _
    rw [show T.heap.size + 2 = ((T.heap.push c0).push c1).size by simp]; exact Array.getElem?_push_size, hv, hfc⟩ S2
  refine ⟨t2, step t2 fun acts => ?_, b1⟩
  refine ov_native (row := arraycopyRow) (g := F0 X.m pc ls st) (S'.here) acts N'.cls N'.meth N'.boot N'.native N'.noCode N'.noLock (by rw [N'.className, N'.name, N'.desc]; exact arraycopy_row X.p)
    (by rw [N'.className, N'.name]; exact S'.notFull (g := F0 X.m pc ls st) (hl.1.trans h.2.2.2.2.1.1.symm) (vars := nativeFrameWords "java/lang/System" "arraycopy" 5) (by rw [hR]; show 1 ≤ F; omega) (by rw [hR]; show 2 * 0 + (st.map fun v => v.category).sum + (7 + 11) ≤ Lo; omega)) (cls := nAI) (msg := some ("arraycopy: " ++ cpText sType dType cs.slots.size cd.slots.size sp dp n)) (fun E hE => ?_) ?_
  · rw [hseen] at hE ⊢
    rw [arraycopyRow_sem]
    exact w_copyX (ks := ks') (kd := kd') (sComp := sComp) (dComp := dComp) (sType := sType) (dType := dType) hs0 hd0 (by rw [hsv]; intro _ h; cases h) (by rw [hdv]; intro _ h; cases h) hks' hkd' (by rw [hes]; exact hsk) (by rw [hed]; exact hdk) hty hbad hE
  · rw [hseen]
    exact stp t2 a1
theorem g_cpyI (h : Ok X cc own ret y0 nL F Lo Pst) (q1 : Cond.methodLink own index arraycopyName ∈ lw_all) (hi1 : i1 < cn χ c) (hi2 : i2 < cn χ c) (hf1 : fam c (tg χ c i1) = (2, e, [(d, L1)])) (hf2 : fam c (tg χ c i2) = (2, e, [(d, L2)])) (he : (vtys X.Γ.2.2.2)[e]? = some (X.Γ.2.2.2 e, ty)) (hprim : refKind ty = false)
    (h1 : ¬ sp < 0) (h2 : ¬ dp < 0) (h3 : ¬ n < 0) (h4 : sp.toNatClampNeg + n.toNatClampNeg ≤ L1) (h5 : dp.toNatClampNeg + n.toNatClampNeg ≤ L2) (hfit : ∀ k, k < n.toNatClampNeg → fits ty (.int (gI χ c i1 (sp.toNatClampNeg + k))) = true)
    (hF : 1 ≤ F ∧ 30 ≤ Lo) (hst : (st.map fun v => v.category).sum ≤ 8) (hd : decode cc pc = .ok (.invokestatic index, 3)) (kk : G X ad (cpI χ c i1 i2 sp.toNatClampNeg dp.toNatClampNeg n.toNatClampNeg) (pc + 3) lv st) : G X ad χ pc lv (.int n :: .int dp :: .ref (ad c i2) :: .int sp :: .ref (ad c i1) :: st) := by
  intro ls H locs cells slots hl hI T hT S
  subst hT
  have hts := h.2.2.2.2.2.2.1
  have hK := h.2.2.2.2.2.2.2.1
  have hR := h.2.2.2.2.2.2.2.2.1
  have a1 := hI.at hi1
  have a2 := hI.at hi2
  rw [cE_2 hf1] at a1
  rw [cE_2 hf2] at a2
  have c1 : T.heap[ad c i1]? = some (arrV (X.Γ.2.2.2 e) L1 (fun j => .int (gI χ c i1 j))) := a1
  have c2 : T.heap[ad c i2]? = some (arrV (X.Γ.2.2.2 e) L2 (fun j => .int (gI χ c i2 j))) := a2
  obtain ⟨-, k1, hk1, cm1, hkk1⟩ := (hK.1.2 e _ he).1 L1 (fun j => .int (gI χ c i1 j))
  obtain ⟨-, k2, hk2, cm2, hkk2⟩ := (hK.1.2 e _ he).1 L2 (fun j => .int (gI χ c i2 j))
  obtain ⟨vm', S', step⟩ := S.arraycopy h.1 h.2.2.2.2.2.1 (hts _ q1) (hts _ q1411) (hts _ q1410) (hts _ q131) (srcPos := sp) (destPos := dp) (n := n) c1 c2
    (fun _ h => by cases h) (fun _ h => by cases h) (fun h => by cases h) (fun h => by cases h) hk1 hk2 hkk1 hkk2 (by simp [hprim]) h1 h2 h3
    (by rw [cp_nn sp h1, cp_nn n h3, arrV_size]; omega) (by rw [cp_nn dp h2, cp_nn n h3, arrV_size]; omega)
    (fun vm₁ _ k hk => by
      have e0 : (arrV (X.Γ.2.2.2 e) L1 (fun j => .int (gI χ c i1 j))).slots.getD (sp.toNatClampNeg + k) .null = .int (gI χ c i1 (sp.toNatClampNeg + k)) := by
        rw [Array.getD_eq_getD_getElem?, arrV_read _ _ (by omega)]
        rfl
      refine ⟨?_, ?_⟩
      · rw [e0]
        exact hfit k hk
      · rw [e0]
        exact trivial)
    (g := F0 X.m pc ls (.int n :: .int dp :: .ref (ad c i2) :: .int sp :: .ref (ad c i1) :: st)) rfl (hl.1.trans h.2.2.2.2.1.1.symm) (rest := st) rfl (by rw [h.2.1]; exact hd) (by rw [hR]; exact hF.1) (by rw [hR]; show 2 * 0 + (st.map fun v => v.category).sum + (7 + 11) ≤ Lo; omega)
  have ec : copied (arrV (X.Γ.2.2.2 e) L1 (fun j => .int (gI χ c i1 j))) (arrV (X.Γ.2.2.2 e) L2 (fun j => .int (gI χ c i2 j))) sp dp n = arrV (X.Γ.2.2.2 e) L2 (fun j => .int (va_cpy (gI χ c i1) (gI χ c i2) sp.toNatClampNeg dp.toNatClampNeg n.toNatClampNeg j)) := va_copied (fun z => .int z) _ _ (gI χ c i1) (gI χ c i2) h4
  rw [ec] at S' step
  have hlt : ad c i2 < T.heap.size := (Array.getElem?_eq_some_iff.mp c2).1
  have hc := own_arr hf1
  have hI2 : Iv X ad (cpI χ c i1 i2 sp.toNatClampNeg dp.toNatClampNeg n.toNatClampNeg) (((T.setVm vm').setCell (ad c i2) (arrV (X.Γ.2.2.2 e) L2 (fun j => .int (va_cpy (gI χ c i1) (gI χ c i2) sp.toNatClampNeg dp.toNatClampNeg n.toNatClampNeg j))))).heap (locs ++ ((arrV (X.Γ.2.2.2 e) L1 (fun j => .int (gI χ c i1 j))).stretch sp.toNatClampNeg n.toNatClampNeg).zipIdx.map fun q => ⟨ad c i2, dp.toNatClampNeg + q.2⟩) cells slots := by
    obtain ⟨g1, g2, g3, g4, g5, g6⟩ := hI
    refine ⟨?_, g2, g3, ?_, g5, g6⟩
    · refine g1.upd hi2 (fun _ => rfl) rfl rfl g1.2.2.2.2.2.2 (fun c' i' hne => ?_) ?_ (by show (T.heap.setIfInBounds _ _).size = _; simp) (fun q hq => by show (T.heap.setIfInBounds _ _)[q]? = _; simp [Array.getElem?_setIfInBounds, Ne.symm hq])
      · refine cE_congr rfl (fun F hF => gI_cp_ne (cp_ne hc hF hne)) (fun F hF => rfl) (fun _ _ => rfl)
      · rw [cE_2 (χ := cpI χ c i1 i2 sp.toNatClampNeg dp.toNatClampNeg n.toNatClampNeg) (show fam c (tg (cpI χ c i1 i2 sp.toNatClampNeg dp.toNatClampNeg n.toNatClampNeg) c i2) = (2, e, [(d, L2)]) from hf2), gI_cp]
        show (T.heap.setIfInBounds (ad c i2) _)[ad c i2]? = some (vp_cell _ _)
        simp [Array.getElem?_setIfInBounds, hlt, vp_cell]
    · intro q hq
      rcases List.mem_append.mp hq with a | a
      · exact g4 q a
      · obtain ⟨z, -, hz⟩ := List.mem_map.mp a
        rw [← hz]
        exact (g1.1 c i2 hi2).2
  obtain ⟨t2, b1, b2⟩ := kk ls _ _ cells slots hl hI2 _ rfl S'
  exact ⟨t2, step t2 b1, b2⟩
theorem g_cpyIX (h : Ok X cc own ret y0 nL F Lo Pst) (th : Th X) (q1 : Cond.methodLink own index arraycopyName ∈ lw_all) (hi1 : i1 < cn χ c) (hi2 : i2 < cn χ c) (hf1 : fam c (tg χ c i1) = (2, e, [(d, L1)])) (hf2 : fam c (tg χ c i2) = (2, e, [(d, L2)])) (he : (vtys X.Γ.2.2.2)[e]? = some (X.Γ.2.2.2 e, ty)) (hprim : refKind ty = false)
    (hl1 : L1 < 2 ^ 31) (hl2 : L2 < 2 ^ 31) (hbad : cpBad sp dp n L1 L2) (hF : 9 ≤ F ∧ 10260 ≤ Lo) (hu : uC χ + 3 ≤ 603072) (hs : uS χ + 460 ≤ 7262314) (hst : (st.map fun v => v.category).sum ≤ 8) (hd : decode cc pc = .ok (.invokestatic index, 3)) (kk : ∀ n, n ≤ 460 → GT X ad (brn χ 3 n) pc lv nAI) : G X ad χ pc lv (.int n :: .int dp :: .ref (ad c i2) :: .int sp :: .ref (ad c i1) :: st) := by
  intro ls H locs cells slots hl hI T hT S
  subst hT
  have hts := h.2.2.2.2.2.2.1
  have hK := h.2.2.2.2.2.2.2.1
  have hR := h.2.2.2.2.2.2.2.2.1
  have a1 := hI.at hi1
  have a2 := hI.at hi2
  rw [cE_2 hf1] at a1
  rw [cE_2 hf2] at a2
  have c1 : T.heap[ad c i1]? = some (arrV (X.Γ.2.2.2 e) L1 (fun j => .int (gI χ c i1 j))) := a1
  have c2 : T.heap[ad c i2]? = some (arrV (X.Γ.2.2.2 e) L2 (fun j => .int (gI χ c i2 j))) := a2
  obtain ⟨-, k1, hk1, cm1, hkk1⟩ := (hK.1.2 e _ he).1 L1 (fun j => .int (gI χ c i1 j))
  obtain ⟨-, k2, hk2, cm2, hkk2⟩ := (hK.1.2 e _ he).1 L2 (fun j => .int (gI χ c i2 j))
  exact cp_thrown h th q1 c1 c2 rfl rfl hk1 hk2 hkk1 hkk2 (by simp [hprim]) (by rw [arrV_size]; exact hl1) (by rw [arrV_size]; exact hl2) (by rw [arrV_size, arrV_size]; exact hbad) hF hu hs hst hd kk hl hI S
theorem g_cpyL (h : Ok X cc own ret y0 nL F Lo Pst) (q1 : Cond.methodLink own index arraycopyName ∈ lw_all) (hi1 : i1 < cn χ c) (hi2 : i2 < cn χ c) (hf1 : fam c (tg χ c i1) = (3, e, [(d, L1)])) (hf2 : fam c (tg χ c i2) = (3, e, [(d, L2)])) (he : (vtys X.Γ.2.2.2)[e]? = some (X.Γ.2.2.2 e, ty)) (hprim : refKind ty = false)
    (h1 : ¬ sp < 0) (h2 : ¬ dp < 0) (h3 : ¬ n < 0) (h4 : sp.toNatClampNeg + n.toNatClampNeg ≤ L1) (h5 : dp.toNatClampNeg + n.toNatClampNeg ≤ L2) (hfit : ∀ k, k < n.toNatClampNeg → fits ty (.long (gL χ c i1 (sp.toNatClampNeg + k))) = true)
    (hF : 1 ≤ F ∧ 30 ≤ Lo) (hst : (st.map fun v => v.category).sum ≤ 8) (hd : decode cc pc = .ok (.invokestatic index, 3)) (kk : G X ad (cpL χ c i1 i2 sp.toNatClampNeg dp.toNatClampNeg n.toNatClampNeg) (pc + 3) lv st) : G X ad χ pc lv (.int n :: .int dp :: .ref (ad c i2) :: .int sp :: .ref (ad c i1) :: st) := by
  intro ls H locs cells slots hl hI T hT S
  subst hT
  have hts := h.2.2.2.2.2.2.1
  have hK := h.2.2.2.2.2.2.2.1
  have hR := h.2.2.2.2.2.2.2.2.1
  have a1 := hI.at hi1
  have a2 := hI.at hi2
  rw [cE_3 hf1] at a1
  rw [cE_3 hf2] at a2
  have c1 : T.heap[ad c i1]? = some (arrV (X.Γ.2.2.2 e) L1 (fun j => .long (gL χ c i1 j))) := a1
  have c2 : T.heap[ad c i2]? = some (arrV (X.Γ.2.2.2 e) L2 (fun j => .long (gL χ c i2 j))) := a2
  obtain ⟨-, k1, hk1, cm1, hkk1⟩ := (hK.1.2 e _ he).1 L1 (fun j => .long (gL χ c i1 j))
  obtain ⟨-, k2, hk2, cm2, hkk2⟩ := (hK.1.2 e _ he).1 L2 (fun j => .long (gL χ c i2 j))
  obtain ⟨vm', S', step⟩ := S.arraycopy h.1 h.2.2.2.2.2.1 (hts _ q1) (hts _ q1411) (hts _ q1410) (hts _ q131) (srcPos := sp) (destPos := dp) (n := n) c1 c2
    (fun _ h => by cases h) (fun _ h => by cases h) (fun h => by cases h) (fun h => by cases h) hk1 hk2 hkk1 hkk2 (by simp [hprim]) h1 h2 h3
    (by rw [cp_nn sp h1, cp_nn n h3, arrV_size]; omega) (by rw [cp_nn dp h2, cp_nn n h3, arrV_size]; omega)
    (fun vm₁ _ k hk => by
      have e0 : (arrV (X.Γ.2.2.2 e) L1 (fun j => .long (gL χ c i1 j))).slots.getD (sp.toNatClampNeg + k) .null = .long (gL χ c i1 (sp.toNatClampNeg + k)) := by
        rw [Array.getD_eq_getD_getElem?, arrV_read _ _ (by omega)]
        rfl
      refine ⟨?_, ?_⟩
      · rw [e0]
        exact hfit k hk
      · rw [e0]
        exact trivial)
    (g := F0 X.m pc ls (.int n :: .int dp :: .ref (ad c i2) :: .int sp :: .ref (ad c i1) :: st)) rfl (hl.1.trans h.2.2.2.2.1.1.symm) (rest := st) rfl (by rw [h.2.1]; exact hd) (by rw [hR]; exact hF.1) (by rw [hR]; show 2 * 0 + (st.map fun v => v.category).sum + (7 + 11) ≤ Lo; omega)
  have ec : copied (arrV (X.Γ.2.2.2 e) L1 (fun j => .long (gL χ c i1 j))) (arrV (X.Γ.2.2.2 e) L2 (fun j => .long (gL χ c i2 j))) sp dp n = arrV (X.Γ.2.2.2 e) L2 (fun j => .long (va_cpy (gL χ c i1) (gL χ c i2) sp.toNatClampNeg dp.toNatClampNeg n.toNatClampNeg j)) := va_copied (fun z => .long z) _ _ (gL χ c i1) (gL χ c i2) h4
  rw [ec] at S' step
  have hlt : ad c i2 < T.heap.size := (Array.getElem?_eq_some_iff.mp c2).1
  have hc := own_arr hf1
  have hI2 : Iv X ad (cpL χ c i1 i2 sp.toNatClampNeg dp.toNatClampNeg n.toNatClampNeg) (((T.setVm vm').setCell (ad c i2) (arrV (X.Γ.2.2.2 e) L2 (fun j => .long (va_cpy (gL χ c i1) (gL χ c i2) sp.toNatClampNeg dp.toNatClampNeg n.toNatClampNeg j))))).heap (locs ++ ((arrV (X.Γ.2.2.2 e) L1 (fun j => .long (gL χ c i1 j))).stretch sp.toNatClampNeg n.toNatClampNeg).zipIdx.map fun q => ⟨ad c i2, dp.toNatClampNeg + q.2⟩) cells slots := by
    obtain ⟨g1, g2, g3, g4, g5, g6⟩ := hI
    refine ⟨?_, g2, g3, ?_, g5, g6⟩
    · refine g1.upd hi2 (fun _ => rfl) rfl rfl g1.2.2.2.2.2.2 (fun c' i' hne => ?_) ?_ (by show (T.heap.setIfInBounds _ _).size = _; simp) (fun q hq => by show (T.heap.setIfInBounds _ _)[q]? = _; simp [Array.getElem?_setIfInBounds, Ne.symm hq])
      · refine cE_congr rfl (fun F hF => rfl) (fun F hF => gL_cp_ne (cp_ne hc hF hne)) (fun _ _ => rfl)
      · rw [cE_3 (χ := cpL χ c i1 i2 sp.toNatClampNeg dp.toNatClampNeg n.toNatClampNeg) (show fam c (tg (cpL χ c i1 i2 sp.toNatClampNeg dp.toNatClampNeg n.toNatClampNeg) c i2) = (3, e, [(d, L2)]) from hf2), gL_cp]
        show (T.heap.setIfInBounds (ad c i2) _)[ad c i2]? = some (vp_cell _ _)
        simp [Array.getElem?_setIfInBounds, hlt, vp_cell]
    · intro q hq
      rcases List.mem_append.mp hq with a | a
      · exact g4 q a
      · obtain ⟨z, -, hz⟩ := List.mem_map.mp a
        rw [← hz]
        exact (g1.1 c i2 hi2).2
  obtain ⟨t2, b1, b2⟩ := kk ls _ _ cells slots hl hI2 _ rfl S'
  exact ⟨t2, step t2 b1, b2⟩
theorem g_cpyLX (h : Ok X cc own ret y0 nL F Lo Pst) (th : Th X) (q1 : Cond.methodLink own index arraycopyName ∈ lw_all) (hi1 : i1 < cn χ c) (hi2 : i2 < cn χ c) (hf1 : fam c (tg χ c i1) = (3, e, [(d, L1)])) (hf2 : fam c (tg χ c i2) = (3, e, [(d, L2)])) (he : (vtys X.Γ.2.2.2)[e]? = some (X.Γ.2.2.2 e, ty)) (hprim : refKind ty = false)
    (hl1 : L1 < 2 ^ 31) (hl2 : L2 < 2 ^ 31) (hbad : cpBad sp dp n L1 L2) (hF : 9 ≤ F ∧ 10260 ≤ Lo) (hu : uC χ + 3 ≤ 603072) (hs : uS χ + 460 ≤ 7262314) (hst : (st.map fun v => v.category).sum ≤ 8) (hd : decode cc pc = .ok (.invokestatic index, 3)) (kk : ∀ n, n ≤ 460 → GT X ad (brn χ 3 n) pc lv nAI) : G X ad χ pc lv (.int n :: .int dp :: .ref (ad c i2) :: .int sp :: .ref (ad c i1) :: st) := by
  intro ls H locs cells slots hl hI T hT S
  subst hT
  have hts := h.2.2.2.2.2.2.1
  have hK := h.2.2.2.2.2.2.2.1
  have hR := h.2.2.2.2.2.2.2.2.1
  have a1 := hI.at hi1
  have a2 := hI.at hi2
  rw [cE_3 hf1] at a1
  rw [cE_3 hf2] at a2
  have c1 : T.heap[ad c i1]? = some (arrV (X.Γ.2.2.2 e) L1 (fun j => .long (gL χ c i1 j))) := a1
  have c2 : T.heap[ad c i2]? = some (arrV (X.Γ.2.2.2 e) L2 (fun j => .long (gL χ c i2 j))) := a2
  obtain ⟨-, k1, hk1, cm1, hkk1⟩ := (hK.1.2 e _ he).1 L1 (fun j => .long (gL χ c i1 j))
  obtain ⟨-, k2, hk2, cm2, hkk2⟩ := (hK.1.2 e _ he).1 L2 (fun j => .long (gL χ c i2 j))
  exact cp_thrown h th q1 c1 c2 rfl rfl hk1 hk2 hkk1 hkk2 (by simp [hprim]) (by rw [arrV_size]; exact hl1) (by rw [arrV_size]; exact hl2) (by rw [arrV_size, arrV_size]; exact hbad) hF hu hs hst hd kk hl hI S
end GCP
