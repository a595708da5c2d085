set_option maxRecDepth 100000
/-! WORDS THAT DON'T RIDE IN THE LISTS -/
def nxW : Cond → Bool
  | .fieldLinkNest _ _ _ _ _ _ => true
  | .methodLinkNest _ _ _ _ => true
  | .castable _ _ => true
  | .declares _ => true
  | .arrayOver (.object _) => true
  | _ => false
def NX (U : State) : Prop := ∀ w ∈ lw_tbl, nxW w = true → va_Nw w U
theorem NX.warm {s U : State} (hW : s.WarmedH U.vm) (h : NX s) : NX U := by
  intro w hw hn
  have h1 := h w hw hn
  cases w <;> simp only [nxW] at hn <;> first | (exact absurd hn (by decide)) | exact va_Nw.warmF hW h1 | exact va_Nw.warmM hW h1 | exact va_Nw.warmC hW h1 | exact va_Nw.warmD hW h1 | skip
  case arrayOver t =>
    cases t <;> simp only [nxW] at hn <;> first | (exact absurd hn (by decide)) | exact va_AO.moved hW.alike h1
abbrev xAges : MethodName := ⟨"ChairOld$Ages", "ages", "(I)I"⟩
abbrev xTells : MethodName := ⟨"ChairOld$Tells", "tells", "(I)I"⟩
abbrev fwl : List (String × MethodName × MethodName) := [("ChairOld$Plain", xAges, ⟨"ChairOld$Plain", "ages", "(I)I"⟩), ("ChairOld$Old", xAges, ⟨"ChairOld$Old", "ages", "(I)I"⟩), ("ChairOld$Mended", xAges, ⟨"ChairOld$Plain", "ages", "(I)I"⟩), ("ChairOld$Aged", xAges, ⟨"ChairOld$Plain", "ages", "(I)I"⟩), ("ChairOld$Split", xAges, ⟨"ChairOld$Old", "ages", "(I)I"⟩), ("ChairOld$Cut", xAges, ⟨"ChairOld$Plain", "ages", "(I)I"⟩), ("ChairOld$Fresh", xAges, ⟨"ChairOld$Fresh", "ages", "(I)I"⟩), ("ChairOld$Foreign", xAges, ⟨"ChairOld$Old", "ages", "(I)I"⟩),
  ("ChairOld$Plain", xTells, ⟨"ChairOld$Plain", "tells", "(I)I"⟩), ("ChairOld$Old", xTells, ⟨"ChairOld$Plain", "tells", "(I)I"⟩), ("ChairOld$Mended", xTells, ⟨"ChairOld$Plain", "tells", "(I)I"⟩), ("ChairOld$Aged", xTells, ⟨"ChairOld$Plain", "tells", "(I)I"⟩), ("ChairOld$Split", xTells, ⟨"ChairOld$Plain", "tells", "(I)I"⟩), ("ChairOld$Cut", xTells, ⟨"ChairOld$Cut", "tells", "(I)I"⟩), ("ChairOld$Fresh", xTells, ⟨"ChairOld$Plain", "tells", "(I)I"⟩), ("ChairOld$Foreign", xTells, ⟨"ChairOld$Foreign", "tells", "(I)I"⟩)]
def FW (U : State) : Prop := ∀ q ∈ fwl, va_Fw q.1 q.2.1 q.2.2 U
theorem FW.warm {s U : State} (hW : s.WarmedH U.vm) (h : FW s) : FW U := by
  intro q hq
  have hx : q.2.1.cls ≠ "java/lang/invoke/MethodHandle" ∧ q.2.1.cls ≠ "java/lang/invoke/VarHandle" := by
    have : ∀ q ∈ fwl, q.2.1.cls ≠ "java/lang/invoke/MethodHandle" ∧ q.2.1.cls ≠ "java/lang/invoke/VarHandle" := by decide
    exact this q hq
  exact va_Fw.moved hx hW.alike (h q hq)
/-! the reader's four texts: old cells -/
def stA (Γ : Gh) (s : Nat) : Nat := Γ.2.2.2 (100 + s)
def stV (Γ : Gh) (s : Nat) : Nat := Γ.2.2.2 (110 + s)
def sLen : List Nat := [3, 2, 3, 4]
def sByt : List (List Int32) := [[60, 61, 62], [43, 45], [42, 47, 37], [121, 107, 119, 112]]
def SS (Γ : Gh) (U : State) : Prop := vk_S 4 sLen sByt (stA Γ) (stV Γ) (fun q => Γ.1 ≤ q) U Γ.2.1 ∧ (vk_R "ChairOld$Reader" 79 "<=>" (stA Γ 0) U ∧ vk_R "ChairOld$Reader" 88 "+-" (stA Γ 1) U ∧ vk_R "ChairOld$Reader" 93 "*/%" (stA Γ 2) U ∧ vk_R "ChairOld$Reader" 98 "ykwp" (stA Γ 3) U) ∧ va_Z "java/lang/String" "COMPACT_STRINGS" "Z" (.int 1) (fun q => Γ.1 ≤ q) U Γ.2.1
theorem SS.warm {Γ : Gh} {s U : State} (hW : s.WarmedH U.vm) (h : SS Γ s) : SS Γ U := ⟨vk_S.moved hW.alike h.1, ⟨h.2.1.1.warm hW, h.2.1.2.1.warm hW, h.2.1.2.2.1.warm hW, h.2.1.2.2.2.warm hW⟩, va_Z.moved hW.alike h.2.2⟩
/-! the state at the law's entry: Throwable's statics, casts that fail, modules -/
abbrev ncl : List (String × String) := [("java/lang/NullPointerException", "java/lang/ClassCastException"), ("java/lang/ArrayIndexOutOfBoundsException", "java/lang/ClassCastException"), ("java/lang/ArrayIndexOutOfBoundsException", "java/lang/NullPointerException"), ("java/lang/ClassCastException", "java/lang/NullPointerException"), ("ChairOld$Plain", "ChairOld$Row"), ("ChairOld$Old", "ChairOld$Row"), ("ChairOld$Mended", "ChairOld$Row"), ("ChairOld$Aged", "ChairOld$Row"), ("ChairOld$Split", "ChairOld$Row"), ("ChairOld$Cut", "ChairOld$Row"), ("ChairOld$Fresh", "ChairOld$Row"), ("ChairOld$Foreign", "ChairOld$Row"), ("ChairOld$Plain", "ChairOld$ByteRow"), ("ChairOld$Old", "ChairOld$ByteRow"), ("ChairOld$Mended", "ChairOld$ByteRow"), ("ChairOld$Aged", "ChairOld$ByteRow"), ("ChairOld$Split", "ChairOld$ByteRow"), ("ChairOld$Cut", "ChairOld$ByteRow"), ("ChairOld$Fresh", "ChairOld$ByteRow"), ("ChairOld$Foreign", "ChairOld$ByteRow"), ("ChairOld$ByteRow", "ChairOld$ShortRow"), ("ChairOld$ByteRow", "ChairOld$IntRow"), ("ChairOld$ByteRow", "ChairOld$LongRow"), ("ChairOld$ByteRow", "ChairOld$BooleanRow"), ("ChairOld$ShortRow", "ChairOld$ByteRow"), ("ChairOld$ShortRow", "ChairOld$IntRow"), ("ChairOld$ShortRow", "ChairOld$LongRow"), ("ChairOld$ShortRow", "ChairOld$BooleanRow"), ("ChairOld$IntRow", "ChairOld$ByteRow"), ("ChairOld$IntRow", "ChairOld$ShortRow"), ("ChairOld$IntRow", "ChairOld$LongRow"), ("ChairOld$IntRow", "ChairOld$BooleanRow"), ("ChairOld$LongRow", "ChairOld$ByteRow"), ("ChairOld$LongRow", "ChairOld$ShortRow"), ("ChairOld$LongRow", "ChairOld$IntRow"), ("ChairOld$LongRow", "ChairOld$BooleanRow"), ("ChairOld$BooleanRow", "ChairOld$ByteRow"), ("ChairOld$BooleanRow", "ChairOld$ShortRow"), ("ChairOld$BooleanRow", "ChairOld$IntRow"), ("ChairOld$BooleanRow", "ChairOld$LongRow"), ("ChairOld$ByteRow", "ChairOld$Plain"), ("ChairOld$ShortRow", "ChairOld$Plain"), ("ChairOld$IntRow", "ChairOld$Plain"), ("ChairOld$LongRow", "ChairOld$Plain"), ("ChairOld$BooleanRow", "ChairOld$Plain")]
def OS (Γ : Gh) (U : State) : Prop := ∃ S0 : State, S0.vm.Alike U.vm ∧ S0.heap.size = Γ.1 ∧ S0.heap = Γ.2.1 ∧
  ((Cond.laysStatic Bundle.tN "UNASSIGNED_STACK" Bundle.steD).before #[] S0 = true ∧ (Cond.laysStatic Bundle.tN "SUPPRESSED_SENTINEL" Bundle.listD).before #[] S0 = true) ∧
  ((Cond.isRef (.static Bundle.tN "UNASSIGNED_STACK" Bundle.steD)).before #[] S0 = true ∧ (Cond.isRef (.static Bundle.tN "SUPPRESSED_SENTINEL" Bundle.listD)).before #[] S0 = true) ∧
  (∀ q ∈ ncl, (Cond.not (.castable q.1 q.2)).before #[] S0 = true) ∧ modulesRight_1 S0 = true
theorem OS.warm {Γ : Gh} {s U : State} (hW : s.WarmedH U.vm) (h : OS Γ s) : OS Γ U := by
  obtain ⟨S0, h1, h2⟩ := h
  exact ⟨S0, h1.trans hW.alike, h2⟩
def KK (Γ : Gh) (U : State) : Prop := va_K Γ.2.2.1 vcl (vtys Γ.2.2.2) U ∧ NX U ∧ FW U ∧ SS Γ U ∧ OS Γ U
theorem KK.warm {Γ : Gh} {s U : State} (hW : s.WarmedH U.vm) (h : KK Γ s) : KK Γ U := ⟨va_K.moved hW.alike h.1, h.2.1.warm hW, h.2.2.1.warm hW, h.2.2.2.1.warm hW, h.2.2.2.2.warm hW⟩
/-! CONTRACTS whose cells and slots are said by their end -/
def Mt (l : Launch) (y : MethodName) (ws : List Cond) (rm : Room) (Pc : Array Value → State → Prop) (Qc : Array Value → State → Outcome → State → Nat → Nat → Prop) (free : Addr → Prop) : Prop :=
  MetFree l y (headSpec ws rm) Pc (fun _ _ _ _ _ => True) (fun a st o t => ∃ L k n, Qc a st o t k n ∧ FrameEnd st o t L k n ∧ ∀ q ∈ L, free q.base)
def MQx (below : List Frame) (Qc : Array Value → State → Outcome → State → Nat → Nat → Prop) (a : Array Value) (s : State) (free : Addr → Prop) : State → Prop := fun t =>
  ∃ o, t.status = .running ∧ Ended t below o ∧ ∃ L k n, Qc a s o t k n ∧ FrameEnd s o t L k n ∧ ∀ q ∈ L, free q.base
theorem MQx.of {below : List Frame} {Qc : Array Value → State → Outcome → State → Nat → Nat → Prop} {a : Array Value} {s : State} {free : Addr → Prop} {k n : Nat} {t : State} (h : MQ below (fun a s o t => Qc a s o t k n) a s k n free t) : MQx below Qc a s free t := by
  obtain ⟨o, h1, h2, h3, L, h4, h5⟩ := h
  exact ⟨o, h1, h2, L, k, n, h3, h4, h5⟩
section MTW
variable {p : Program} {l : Launch} {e : Env} {R : Room} {s : State} {m : MethodId} {args : Array Value} {below : List Frame} {meth : Method} {c : Code} {H : Heap} {locs : List Loc} {cells slots : Nat} {Q Q' : State → Prop}
theorem W.imp {g : JFrame} (h : ∀ t, Q t → Q' t) (k : W p l e R s m args below meth c H locs cells slots Q g) : W p l e R s m args below meth c H locs cells slots Q' g := by
  intro T hT X
  obtain ⟨t, a, b⟩ := k T hT X
  exact ⟨t, a, h t b⟩
theorem Mt.ofW {y : MethodName} {ws ws' : List Cond} {rm : Room} {Pc : Array Value → State → Prop} {Qc : Array Value → State → Outcome → State → Nat → Nat → Prop} {free : Addr → Prop} {cc : ByteArray} {maxL : Nat} {ret : Option FieldType}
    (hy : plainName y.cls = true) (hw : ws = Cond.code y cc maxL ret :: ws')
    (body : ∀ p e s m args below meth c s₁, BodyLoose p l y (headSpec ws rm) cc maxL ret e s m args below meth c s₁ → c.maxLocals = maxL → Pc args s →
      W p l e (headSpec ws rm).room s m args below meth c s.heap [] 0 0 (MQx below Qc args s free) (entryFrame m args maxL)) : Mt l y ws rm Pc Qc free := by
  refine MetFree.of_bodyS (code := cc) (maxLocals := maxL) (ret := ret) hy ?_ ?_
  · intro args s m h hn
    obtain ⟨meth, c, h1, h2, h3, h4, h5, h6, -, -⟩ := Cond.code_spec hn (atoms_spec (ws := ws) h _ (by rw [hw]; exact List.mem_cons_self))
    exact ⟨meth, c, h1, h2, h3, h4, h5, h6⟩
  · intro p e s m args below meth c s₁ B hml hP _
    have hh0 : s₁.heap = s.heap := by rw [B.state]; rfl
    obtain ⟨t, a1, o, b1, b2, b3⟩ := body p e s m args below meth c s₁ B hml hP s₁ hh0 (Stand.of_body B)
    exact ⟨t, o, a1, b1, b2, b3⟩
end MTW
def PreM (R rm : Room) (Pc : Array Value → State → Prop) : Pt → Array Value → Prop := fun A a => A.cells + rm.cells ≤ R.cells ∧ A.slots + rm.slots ≤ R.slots ∧ Pc a A.U
def PostM (Qc : Array Value → State → Outcome → State → Nat → Nat → Prop) (free : Addr → Prop) : Pt → Array Value → Option Value → Pt → Prop := fun A a v B =>
  ∃ (g : JFrame) (mk : MethodId) (t : State) (L : List Loc) (k n : Nat), B.U.heap = t.heap ∧ B.U.vm = t.vm ∧ Qc a (A.U.calling g mk a) (.returned v) t k n ∧ B.locs = A.locs ++ L ∧ (∀ q ∈ L, free q.base) ∧ B.cells = A.cells + k ∧ B.slots = A.slots + n
section MTB
variable {l : Launch} {R : Room} {p : Program} {e : Env} {below : List Frame} {s : State} {sargs : Array Value} {y : MethodName} {len W : Nat}
theorem Mt.back {ws : List Cond} {rm : Room} {Pc : Array Value → State → Prop} {Qc : Array Value → State → Outcome → State → Nat → Nat → Prop} {free : Addr → Prop} {bytes : ByteArray} {maxL : Nat} {ret : Option FieldType}
    (hM : Mt l y ws rm Pc Qc free) (hblind : FrameBlind Pc)
    (hframes : rm.frames + 1 ≤ R.frames) (hlocals : W + (maxL + 11) + rm.locals ≤ R.locals)
    (hws : ∀ w ∈ ws, ∀ a' U, s.WarmedH U.vm → w.before a' U = true) (hcode : Cond.code y bytes maxL ret ∈ ws) (hini : (Cond.initialized y.cls).before sargs s = true) :
    Back l R p e below s sargs y len W (PreM R rm Pc) (PostM Qc free) := by
  have hinit : ∀ (a' : Array Value) (U : State), s.WarmedH U.vm → (Cond.initialized y.cls).before a' U = true := fun a' U hW => word_at hW (Or.inl (by first | rfl | simp [Cond.onTables, Cond.keeps, Cond.steady])) hini
  refine Back.of_free (S := headSpec ws rm) (P := Pc) (K := fun _ _ _ _ _ => True) (Q := fun a st o t => ∃ L k n, Qc a st o t k n ∧ FrameEnd st o t L k n ∧ ∀ q ∈ L, free q.base) (bytes := bytes) (maxL := maxL) (ret := ret)
    (E := fun a st o t L k n => Qc a st o t k n ∧ ∀ q ∈ L, free q.base) hM hframes hlocals ?_ ?_ (fun _ _ _ _ _ _ _ _ _ => trivial) ?_ ?_
  · intro m meth c A a X hp
    exact ⟨atoms_intro fun w hw => hws w hw _ _ X.warmed, hws _ hcode _ _ X.warmed, hinit _ _ X.warmed, hp.1, hp.2.1⟩
  · intro m meth c A a g mk X hp
    exact hblind _ _ _ _ hp.2.2
  · intro a st o t ⟨L, k, n, hq, hF, hL⟩
    exact ⟨L, k, n, hF, hq, hL⟩
  · intro m meth c A a g mk v t L k n X hp hq hF ⟨e1, hL⟩
    exact ⟨g, mk, t, L, k, n, rfl, rfl, e1, rfl, hL, rfl, rfl⟩
end MTB
/-! THE JUDGEMENT -/
def Ext (χ χ' : St) (ad ad' : Nat → Nat → Nat) : Prop := (∀ c i, i < cn χ c → ad' c i = ad c i) ∧ ∀ c, cn χ c ≤ cn χ' c
theorem Ext.rf {χ : St} {ad : Nat → Nat → Nat} : Ext χ χ ad ad := ⟨fun _ _ _ => rfl, fun _ => Nat.le_refl _⟩
theorem Ext.trans {χ χ1 χ2 : St} {ad ad1 ad2 : Nat → Nat → Nat} (h : Ext χ χ1 ad ad1) (h2 : Ext χ1 χ2 ad1 ad2) : Ext χ χ2 ad ad2 :=
  ⟨fun c i hi => (h2.1 c i (Nat.lt_of_lt_of_le hi (h.2 c))).trans (h.1 c i hi), fun c => Nat.le_trans (h.2 c) (h2.2 c)⟩
abbrev Cx : Type := Program × Launch × Env × Room × State × MethodId × Array Value × List Frame × Method × Code × (State → Prop) × Gh × Nat × St × (Nat → Nat → Nat) × Bool
abbrev Cx.p (X : Cx) : Program := X.1
abbrev Cx.l (X : Cx) : Launch := X.2.1
abbrev Cx.e (X : Cx) : Env := X.2.2.1
abbrev Cx.R (X : Cx) : Room := X.2.2.2.1
abbrev Cx.s (X : Cx) : State := X.2.2.2.2.1
abbrev Cx.m (X : Cx) : MethodId := X.2.2.2.2.2.1
abbrev Cx.args (X : Cx) : Array Value := X.2.2.2.2.2.2.1
abbrev Cx.below (X : Cx) : List Frame := X.2.2.2.2.2.2.2.1
abbrev Cx.meth (X : Cx) : Method := X.2.2.2.2.2.2.2.2.1
abbrev Cx.c (X : Cx) : Code := X.2.2.2.2.2.2.2.2.2.1
abbrev Cx.Q (X : Cx) : State → Prop := X.2.2.2.2.2.2.2.2.2.2.1
abbrev Cx.Γ (X : Cx) : Gh := X.2.2.2.2.2.2.2.2.2.2.2.1
abbrev Cx.nL (X : Cx) : Nat := X.2.2.2.2.2.2.2.2.2.2.2.2.1
abbrev Cx.χ0 (X : Cx) : St := X.2.2.2.2.2.2.2.2.2.2.2.2.2.1
abbrev Cx.ad0 (X : Cx) : Nat → Nat → Nat := X.2.2.2.2.2.2.2.2.2.2.2.2.2.2.1
abbrev Cx.na (X : Cx) : Bool := X.2.2.2.2.2.2.2.2.2.2.2.2.2.2.2
def Wx (X : Cx) (H : Heap) (locs : List Loc) (cells slots : Nat) (g : JFrame) : Prop := W X.p X.l X.e X.R X.s X.m X.args X.below X.meth X.c H locs cells slots X.Q g
def Iv (X : Cx) (ad : Nat → Nat → Nat) (χ : St) (H : Heap) (locs : List Loc) (cells slots : Nat) : Prop :=
  HR X.Γ ad χ H ∧ Ext X.χ0 χ X.ad0 ad ∧ (X.na = true → ad = X.ad0) ∧ (∀ q ∈ locs, X.Γ.1 ≤ q.base) ∧ uC X.χ0 + cells = uC χ ∧ uS X.χ0 + slots = uS χ
def G (X : Cx) (ad : Nat → Nat → Nat) (χ : St) (pc : Nat) (lv : List (Nat × Value)) (st : List Value) : Prop :=
  ∀ (ls : Array Slot) (H : Heap) (locs : List Loc) (cells slots : Nat), lv_has ls X.nL lv → Iv X ad χ H locs cells slots → Wx X H locs cells slots (F0 X.m pc ls st)
def rmO (F Lo : Nat) (χ : St) : Room := { frames := F, cells := 603072 - uC χ, slots := 7262314 - uS χ, locals := Lo }
def Qm (Γ : Gh) (na : Bool) (ad0 : Nat → Nat → Nat) (χ0 : St) (Pst : Option Value → (Nat → Nat → Nat) → St → Prop) : Array Value → State → Outcome → State → Nat → Nat → Prop := fun _ _ o t k n =>
  ∃ v ad' χ', o = .returned v ∧ Pst v ad' χ' ∧ (na = true → ad' = ad0) ∧ Ext χ0 χ' ad0 ad' ∧ HR Γ ad' χ' t.heap ∧ uC χ0 + k = uC χ' ∧ uS χ0 + n = uS χ'
def Pm (Γ : Gh) (ad : Nat → Nat → Nat) (χ : St) (av : List Value) (Wp : Prop) : Array Value → State → Prop := fun v U => v = av.toArray ∧ HR Γ ad χ U.heap ∧ KK Γ U ∧ Wp
theorem Pm.blind {Γ : Gh} {ad : Nat → Nat → Nat} {χ : St} {av : List Value} {Wp : Prop} : FrameBlind (Pm Γ ad χ av Wp) := fun a U g mk h => ⟨h.1, h.2.1, KK.warm (s := U) (U := U.calling g mk a) (State.WarmedH.refl U) h.2.2.1, h.2.2.2⟩
abbrev frB (Γ : Gh) : Addr → Prop := fun q => Γ.1 ≤ q
/-- what a walk has in hand -/
def Ok (X : Cx) (cc : ByteArray) (own : String) (ret : Option FieldType) (y : MethodName) (nL F Lo : Nat) (Pst : Option Value → (Nat → Nat → Nat) → St → Prop) : Prop :=
  X.p.tables.exec = Jvm.exec ∧ X.c.code = cc ∧ X.meth.sig.returnType = ret ∧ X.meth.locks = false ∧ (X.c.maxLocals = X.nL ∧ X.nL = nL) ∧ X.s.vm.findClass own = some X.m.cls ∧ (∀ w ∈ lw_all, w.before X.args X.s = true) ∧ KK X.Γ X.s ∧
  X.R = rmO F Lo X.χ0 ∧ X.meth.name = y.name ∧ ∀ t, MQx X.below (Qm X.Γ X.na X.ad0 X.χ0 Pst) X.args X.s (frB X.Γ) t → X.Q t
theorem Mt.start {l : Launch} {y : MethodName} {cc : ByteArray} {maxL : Nat} {ret : Option FieldType} {F Lo : Nat} {Γ : Gh} {na : Bool} {ad : Nat → Nat → Nat} {χ : St} {av : List Value} {Wp : Prop} {Pst : Option Value → (Nat → Nat → Nat) → St → Prop} (hy : plainName y.cls = true) (own : String) (ho : y.cls = own) (hL : (lg_sl av).length ≤ maxL)
    (k : ∀ X : Cx, Ok X cc own ret y maxL F Lo Pst → X.Γ = Γ → X.χ0 = χ → X.ad0 = ad → X.na = na → X.l = l → Wp → G X ad χ 0 (lv_args 0 av) []) :
    Mt l y (ws_ y cc maxL ret) (rmO F Lo χ) (Pm Γ ad χ av Wp) (Qm Γ na ad χ Pst) (frB Γ) := by
  refine Mt.ofW (cc := cc) (maxL := maxL) (ret := ret) hy rfl ?_
  intro p e s m args below meth c s₁ B hml hv
  obtain ⟨rfl, hH, hK, hw⟩ := hv
  have hts := atoms_spec (ws := ws_ y cc maxL ret) B.pre
  have hts : ∀ w ∈ lw_all, w.before _ s = true := fun w h => hts w (List.mem_cons_of_mem _ h)
  have hown : s.vm.findClass own = some m.cls := by rw [← ho]; exact findClass_of_methodNamed B.named
  have hin : meth.name = y.name := (name_of_methodNamed B.named B.method).1
  have hl := lv_entry av (n := maxL) hL
  rw [lg_entry_eq]
  exact k (p, l, e, (headSpec (ws_ y cc maxL ret) (rmO F Lo χ)).room, s, m, av.toArray, below, meth, c, MQx below (Qm Γ na ad χ Pst) av.toArray s (frB Γ), Γ, maxL, χ, ad, na)
    ⟨B.exec, B.bytes, B.returns, B.notSynchronized, ⟨hml, rfl⟩, hown, hts, hK, rfl, hin, fun _ h => h⟩ rfl rfl rfl rfl rfl hw _ _ _ _ _ hl ⟨hH, Ext.rf, fun _ => rfl, (fun _ h => by cases h), rfl, rfl⟩
