set_option maxRecDepth 100000
set_option maxHeartbeats 1000000
/-! CONSTRUCTORS: the cells, in the order of their making, from the base on -/
def KW (Γ : Gh) (cs : List va_E) (H : Heap) : Prop := H.size = Γ.1 + cs.length ∧ (∀ k e, cs[k]? = some e → va_at Γ.2.2.1 vcl (Γ.1 + k, e) H) ∧ ∀ q, q < Γ.1 → H[q]? = Γ.2.1[q]?
def Kv (X : Cx) (cs : List va_E) (w : Nat) (H : Heap) (locs : List Loc) (cells slots : Nat) : Prop := KW X.Γ cs H ∧ (∀ q ∈ locs, X.Γ.1 ≤ q.base) ∧ uC X.χ0 + cells = cs.length ∧ uS X.χ0 + slots = w
def GK (X : Cx) (cs : List va_E) (w : Nat) (pc : Nat) (lv : List (Nat × Value)) (st : List Value) : Prop :=
  ∀ (ls : Array Slot) (H : Heap) (locs : List Loc) (cells slots : Nat), lv_has ls X.nL lv → Kv X cs w H locs cells slots → Wx X H locs cells slots (F0 X.m pc ls st)
def χk (c w : Nat) : St := (fun _ => 0, fun _ _ _ => 0, fun _ _ _ => 0, fun _ _ _ => none, fun _ _ => 0, c, w)
def Pk (Γ : Gh) (cs : List va_E) (av : List Value) : Array Value → State → Prop := fun v U => v = av.toArray ∧ KW Γ cs U.heap ∧ KK Γ U
theorem Pk.blind {Γ : Gh} {cs : List va_E} {av : List Value} : FrameBlind (Pk Γ cs av) := fun a U g mk h => ⟨h.1, h.2.1, KK.warm (s := U) (U := U.calling g mk a) (State.WarmedH.refl U) h.2.2⟩
def Qk (Γ : Gh) (c0 w0 : Nat) (cs' : List va_E) (w' : Nat) : Array Value → State → Outcome → State → Nat → Nat → Prop := fun _ _ o t k n => o = .returned none ∧ KW Γ cs' t.heap ∧ c0 + k = cs'.length ∧ w0 + n = w'
theorem Mt.startK {l : Launch} {y : MethodName} {cc : ByteArray} {maxL : Nat} {F Lo : Nat} {Γ : Gh} {cs cs' : List va_E} {w w' : Nat} {av : List Value} (hy : plainName y.cls = true) (own : String) (ho : y.cls = own) (hL : (lg_sl av).length ≤ maxL)
    (k : ∀ X : Cx, Ok X cc own none y maxL F Lo (fun _ _ _ => False) → (∀ t, MQx X.below (Qk Γ cs.length w cs' w') X.args X.s (frB X.Γ) t → X.Q t) → X.Γ = Γ → X.χ0 = χk cs.length w → X.l = l → GK X cs w 0 (lv_args 0 av) []) :
    Mt l y (ws_ y cc maxL none) (rmO F Lo (χk cs.length w)) (Pk Γ cs av) (Qk Γ cs.length w cs' w') (frB Γ) := by
  refine Mt.ofW (cc := cc) (maxL := maxL) (ret := none) hy rfl ?_
  intro p e s m args below meth c s₁ B hml hv
  obtain ⟨rfl, hH, hK⟩ := hv
  have hts := atoms_spec (ws := ws_ y cc maxL none) B.pre
  have hts : ∀ w ∈ lw_all, w.before _ s = true := fun w h => hts w (List.mem_cons_of_mem _ h)
  have hown : s.vm.findClass own = some m.cls := by rw [← ho]; exact findClass_of_methodNamed B.named
  have hin : meth.name = y.name := (name_of_methodNamed B.named B.method).1
  have hl := lv_entry av (n := maxL) hL
  rw [lg_entry_eq]
  exact k (p, l, e, (headSpec (ws_ y cc maxL none) (rmO F Lo (χk cs.length w))).room, s, m, av.toArray, below, meth, c, MQx below (Qk Γ cs.length w cs' w') av.toArray s (frB Γ), Γ, maxL, χk cs.length w, fun _ _ => 0, true)
    ⟨B.exec, B.bytes, B.returns, B.notSynchronized, ⟨hml, rfl⟩, hown, hts, hK, rfl, hin, fun _ h => by obtain ⟨o, h1, h2, L, k, n, ⟨v, ad', χ', h3, h4, h5⟩, h6⟩ := h; exact h4.elim⟩ (fun _ h => h) rfl rfl rfl _ _ _ _ _ hl ⟨hH, (fun _ h => by cases h), rfl, rfl⟩
theorem KW.at {Γ : Gh} {cs : List va_E} {H : Heap} (h : KW Γ cs H) {a : Nat} {e : va_E} (ha : cs[a]? = some e) : va_at Γ.2.2.1 vcl (Γ.1 + a, e) H := h.2.1 a e ha
theorem KW.put {Γ : Gh} {cs : List va_E} {H H1 : Heap} {a : Nat} {e e' : va_E} (h : KW Γ cs H) (ha : cs[a]? = some e) (hat : va_at Γ.2.2.1 vcl (Γ.1 + a, e') H1) (hz : H1.size = H.size) (oq : ∀ q : Nat, q ≠ Γ.1 + a → H1[q]? = H[q]?) : KW Γ (cs.set a e') H1 := by
  obtain ⟨h1, h2, h3⟩ := h
  refine ⟨by rw [hz, List.length_set]; exact h1, fun k x hx => ?_, fun q hq => by rw [oq q (by omega)]; exact h3 q hq⟩
  by_cases hk : a = k
  · subst hk
    rw [List.getElem?_set_self (List.getElem?_eq_some_iff.mp ha).1] at hx
    cases hx
    exact hat
  · rw [List.getElem?_set_ne hk] at hx
    exact (h2 k x hx).kept (oq _ (by show Γ.1 + k ≠ _; omega))
theorem KW.push {Γ : Gh} {cs : List va_E} {H H1 : Heap} {e : va_E} (h : KW Γ cs H) (hat : va_at Γ.2.2.1 vcl (H.size, e) H1) (hz : H1.size = H.size + 1) (oq : ∀ q : Nat, q < H.size → H1[q]? = H[q]?) : KW Γ (cs ++ [e]) H1 := by
  obtain ⟨h1, h2, h3⟩ := h
  refine ⟨by rw [hz, List.length_append]; simp only [List.length_cons, List.length_nil]; omega, fun k x hx => ?_, fun q hq => by rw [oq q (by omega)]; exact h3 q hq⟩
  by_cases hk : k < cs.length
  · rw [List.getElem?_append_left hk] at hx
    exact (h2 k x hx).kept (oq _ (by show Γ.1 + k < _; omega))
  · rw [List.getElem?_append_right (by omega)] at hx
    have hz2 : k - cs.length < 1 := (List.getElem?_eq_some_iff.mp hx).1
    rw [show k - cs.length = 0 by omega] at hx
    cases hx
    rw [show Γ.1 + k = H.size by omega]
    exact hat
theorem Kv.put {X : Cx} {cs : List va_E} {w : Nat} {H H1 : Heap} {locs : List Loc} {cells slots a : Nat} {e e' : va_E} (h : Kv X cs w H locs cells slots) (ha : cs[a]? = some e) (hat : va_at X.Γ.2.2.1 vcl (X.Γ.1 + a, e') H1) (hz : H1.size = H.size) (oq : ∀ q : Nat, q ≠ X.Γ.1 + a → H1[q]? = H[q]?) (k : Nat) : Kv X (cs.set a e') w H1 (locs ++ [⟨X.Γ.1 + a, k⟩]) cells slots := by
  refine ⟨h.1.put ha hat hz oq, fun q hq => ?_, by rw [List.length_set]; exact h.2.2.1, h.2.2.2⟩
  rcases List.mem_append.mp hq with g | g
  · exact h.2.1 q g
  · rw [List.mem_singleton.mp g]; exact Nat.le_add_right _ _
theorem Kv.push {X : Cx} {cs : List va_E} {w n : Nat} {H H1 : Heap} {locs : List Loc} {cells slots : Nat} {e : va_E} (h : Kv X cs w H locs cells slots) (hat : va_at X.Γ.2.2.1 vcl (H.size, e) H1) (hz : H1.size = H.size + 1) (oq : ∀ q : Nat, q < H.size → H1[q]? = H[q]?) : Kv X (cs ++ [e]) (w + n) H1 locs (cells + 1) (slots + n) := by
  obtain ⟨g1, g2, g3, g4⟩ := h
  exact ⟨g1.push hat hz oq, g2, by rw [List.length_append]; simp only [List.length_cons, List.length_nil]; omega, by omega⟩
section KR
variable {X : Cx} {cc : ByteArray} {own : String} {ret : Option FieldType} {y0 : MethodName} {nL F Lo : Nat} {Pst : Option Value → (Nat → Nat → Nat) → St → Prop} {cs : List va_E} {w : Nat} {pc : Nat} {lv lv2 : List (Nat × Value)} {st st0 : List Value}
variable {a k ci index n : Nat} {fs : List Value} {C : String} {T : u_T} {N : Nat} {e L : Nat} {j : Int32}
theorem k_iconst (h : Ok X cc own ret y0 nL F Lo Pst) {n : Int} {v : Int32} (hd : decode cc pc = .ok (.iconst n, 1)) (hv : Int32.ofInt n = v) (k : GK X cs w (pc + 1) lv (.int v :: st)) : GK X cs w pc lv (st) :=
  fun ls H locs cells slots hl hI => lv_iconst h.1 h.2.1 hd hv (k ls H locs cells slots hl hI)
theorem k_bipush (h : Ok X cc own ret y0 nL F Lo Pst) {n : Int} {v : Int32} (hd : decode cc pc = .ok (.bipush n, 2)) (hv : (Int8.ofInt n).toInt32 = v) (k : GK X cs w (pc + 2) lv (.int v :: st)) : GK X cs w pc lv (st) :=
  fun ls H locs cells slots hl hI => lv_bipush h.1 h.2.1 hd hv (k ls H locs cells slots hl hI)
theorem k_sipush (h : Ok X cc own ret y0 nL F Lo Pst) {n : Int} {v : Int32} (hd : decode cc pc = .ok (.sipush n, 3)) (hv : (Int16.ofInt n).toInt32 = v) (k : GK X cs w (pc + 3) lv (.int v :: st)) : GK X cs w pc lv (st) :=
  fun ls H locs cells slots hl hI => lv_sipush h.1 h.2.1 hd hv (k ls H locs cells slots hl hI)
theorem k_iload_n (h : Ok X cc own ret y0 nL F Lo Pst) {n : Fin 4} {i : Nat} {x : Int32} (q : Nat) (hd : decode cc pc = .ok (.iload_n n, 1)) (hi : (n : Nat) = i) (hq : lv[q]? = some (i, .int x)) (k : GK X cs w (pc + 1) lv (.int x :: st)) : GK X cs w pc lv (st) :=
  fun ls H locs cells slots hl hI => lv_iload_n h.1 h.2.1 hd hi (lv_at hl q hq) (k ls H locs cells slots hl hI)
theorem k_aload_n (h : Ok X cc own ret y0 nL F Lo Pst) {n : Fin 4} {i : Nat} {x : Nat} (q : Nat) (hd : decode cc pc = .ok (.aload_n n, 1)) (hi : (n : Nat) = i) (hq : lv[q]? = some (i, .ref x)) (k : GK X cs w (pc + 1) lv (.ref x :: st)) : GK X cs w pc lv (st) :=
  fun ls H locs cells slots hl hI => lv_aload_n h.1 h.2.1 hd hi (lv_at hl q hq) (k ls H locs cells slots hl hI)
theorem k_istore_n (h : Ok X cc own ret y0 nL F Lo Pst) {n : Fin 4} {i : Nat} {x : Int32} (hd : decode cc pc = .ok (.istore_n n, 1)) (hi : (n : Nat) = i) (hn : i < nL) (hl2 : (i, Value.int x) :: lv.filter (fun q => !(q.1 == i) && !(q.1 + 1 == i && q.2.category == 2)) = lv2) (k : GK X cs w (pc + 1) lv2 st) : GK X cs w pc lv (.int x :: st) :=
  fun ls H locs cells slots hl hI => lv_istore_n h.1 h.2.1 hd hi hl (h.2.2.2.2.1.2.symm ▸ hn) hl2 (fun ls hl => k ls H locs cells slots hl hI)
theorem k_astore_n (h : Ok X cc own ret y0 nL F Lo Pst) {n : Fin 4} {i : Nat} {x : Nat} (hd : decode cc pc = .ok (.astore_n n, 1)) (hi : (n : Nat) = i) (hn : i < nL) (hl2 : (i, Value.ref x) :: lv.filter (fun q => !(q.1 == i) && !(q.1 + 1 == i && q.2.category == 2)) = lv2) (k : GK X cs w (pc + 1) lv2 st) : GK X cs w pc lv (.ref x :: st) :=
  fun ls H locs cells slots hl hI => lv_astore_n h.1 h.2.1 hd hi hl (h.2.2.2.2.1.2.symm ▸ hn) hl2 (fun ls hl => k ls H locs cells slots hl hI)
theorem k_iinc (h : Ok X cc own ret y0 nL F Lo Pst) {i : Nat} {n : Int} {x v : Int32} (q : Nat) (hd : decode cc pc = .ok (.iinc i n, 3)) (hq : lv[q]? = some (i, .int x)) (hv : x + Int32.ofInt n = v) (hn : i < nL) (hl2 : (i, Value.int v) :: lv.filter (fun q => !(q.1 == i) && !(q.1 + 1 == i && q.2.category == 2)) = lv2) (k : GK X cs w (pc + 3) lv2 st) : GK X cs w pc lv st :=
  fun ls H locs cells slots hl hI => lv_iinc h.1 h.2.1 hd hl hq hv (h.2.2.2.2.1.2.symm ▸ hn) hl2 (fun ls hl => k ls H locs cells slots hl hI)
theorem k_iadd (h : Ok X cc own ret y0 nL F Lo Pst) {a b : Int32} (hd : decode cc pc = .ok (.iadd, 1)) (k : GK X cs w (pc + 1) lv (.int (a + b) :: st)) : GK X cs w pc lv (.int b :: .int a :: st) :=
  fun ls H locs cells slots hl hI => lv_iadd h.1 h.2.1 hd (k ls H locs cells slots hl hI)
theorem k_dup (h : Ok X cc own ret y0 nL F Lo Pst) {v : Value} (hd : decode cc pc = .ok (.dup, 1)) (hv : v.category = 1) (k : GK X cs w (pc + 1) lv (v :: v :: st)) : GK X cs w pc lv (v :: st) :=
  fun ls H locs cells slots hl hI => lv_dup h.1 h.2.1 hd hv (k ls H locs cells slots hl hI)
theorem k_icmp_ge (h : Ok X cc own ret y0 nL F Lo Pst) {a b : Int32} {off : Int} (tgt : Nat) (hd : decode cc pc = .ok (.if_icmp .ge off, 3)) (ht : (pc : Int) + off = (tgt : Int)) (kt : b ≤ a → GK X cs w tgt lv st) (kf : ¬ b ≤ a → GK X cs w (pc + 3) lv st) : GK X cs w pc lv (.int b :: .int a :: st) :=
  fun ls H locs cells slots hl hI => lv_icmp_ge h.1 h.2.1 hd ht (fun z => kt z ls H locs cells slots hl hI) (fun z => kf z ls H locs cells slots hl hI)
theorem k_goto (h : Ok X cc own ret y0 nL F Lo Pst) {off : Int} (tgt : Nat) (hd : decode cc pc = .ok (.goto off, 3)) (ht : (pc : Int) + off = (tgt : Int)) (k : GK X cs w tgt lv st) : GK X cs w pc lv st :=
  fun ls H locs cells slots hl hI => lv_goto h.1 h.2.1 hd ht (k ls H locs cells slots hl hI)
theorem k_norm {cs' : List va_E} {w' : Nat} (h : cs = cs') (hw : w = w') (kk : GK X cs' w' pc lv st) : GK X cs w pc lv st := by
  subst h
  subst hw
  exact kk
theorem k_nl {pc' : Nat} {lv' : List (Nat × Value)} (hp : pc = pc') (hl : lv = lv') (kk : GK X cs w pc' lv' st) : GK X cs w pc lv st := by
  subst hp
  subst hl
  exact kk
theorem k_vret {cs0 : Nat} {w0 : Nat} (h : Ok X cc own none y0 nL F Lo Pst) (hQ : ∀ t, MQx X.below (Qk X.Γ cs0 w0 cs w) X.args X.s (frB X.Γ) t → X.Q t) (h0 : X.χ0 = χk cs0 w0) (hd : decode cc pc = .ok (.return_, 1)) : GK X cs w pc lv [] := by
  intro ls H locs cells slots hl hI
  unfold Wx
  have hc := hI.2.2.1
  have hs := hI.2.2.2
  rw [h0] at hc hs
  exact W.imp (fun t ht => hQ t (MQx.of ht)) (W.vret h.1 h.2.1 h.2.2.1 (fun t ht _ => ⟨rfl, by rw [ht]; exact hI.1, hc, hs⟩) hI.2.1 hd h.2.2.2.1)
theorem k_objInit (h : Ok X cc own ret y0 nL F Lo Pst) (q1 : Cond.methodLink own index Lib.objectInit ∈ lw_all) (q2 : Cond.instanceMethod Lib.objectInit ∈ lw_all) (q3 : Cond.code Lib.objectInit ⟨#[0xb1]⟩ 1 none ∈ lw_all) {a : Nat} (hF : 1 ≤ F ∧ 20 ≤ Lo) (hst : (st.map fun v => v.category).sum ≤ 8) (hd : decode cc pc = .ok (.invokespecial index, 3)) (kk : GK X cs w (pc + 3) lv st) : GK X cs w pc lv (.ref a :: st) := by
  intro ls H locs cells slots hl hI
  have hts := h.2.2.2.2.2.2.1
  have hR := h.2.2.2.2.2.2.2.2.1
  refine W.objInit h.1 h.2.1 h.2.2.2.2.2.1 (hts _ q1) (hts _ q2) (hts _ q3) rfl (hl.1.trans h.2.2.2.2.1.1.symm) (rest := st) rfl hd (by rw [hR]; exact hF.1) ?_ (kk ls H locs cells slots hl hI)
  rw [hR]
  have := lv_room (m := X.m) (pc := pc) (ls := ls) (rest := .ref a :: st) hst
  show _ + _ + 12 ≤ Lo
  have h2 := hF.2
  omega
theorem Kv.free {H : Heap} {locs : List Loc} {cells slots : Nat} (h : Ok X cc own ret y0 nL F Lo Pst) (hI : Kv X cs w H locs cells slots) {m : Nat} (hu : cs.length + 1 ≤ 603072) (hs : w + m ≤ 7262314) : cells + 1 ≤ X.R.cells ∧ slots + m ≤ X.R.slots := by
  obtain ⟨g1, g2, g3, g4⟩ := hI
  rw [h.2.2.2.2.2.2.2.2.1]
  exact ⟨by show cells + 1 ≤ 603072 - uC X.χ0; omega, by show slots + m ≤ 7262314 - uS X.χ0; omega⟩
theorem k_new (h : Ok X cc own ret y0 nL F Lo Pst) (ty : Nat → FieldType) (hn : cs.length = n) (hc : vcl[ci]? = some (C, T, N)) (hin : ∀ w ∈ u_ws C T N, w ∈ lw_all) (hty : ∀ k, k < N → parseFieldDescriptor (T k).2.2.1 = some (ty k)) (hdf : ∀ j, j < N → defaultValue (ty j) = vp_V fs j)
    (q1 : Cond.classLink own index C ∈ lw_all) (q2 : Cond.instantiable C N ∈ lw_all) (q3 : Cond.initialized C ∈ lw_all) (hu : n + 1 ≤ 603072) (hs : w + N ≤ 7262314) (hd : decode cc pc = .ok (.new index, 3))
    (kk : GK X (cs ++ [.inr (ci, fs)]) (w + N) (pc + 3) lv (.ref (X.Γ.1 + n) :: st)) : GK X cs w pc lv st := by
  intro ls H locs cells slots hl hI
  subst hn
  have hts := h.2.2.2.2.2.2.1
  have hKn := h.2.2.2.2.2.2.2.1.1.1 ci _ hc
  have hfr := hI.free h hu hs
  refine W.newcK h.1 h.2.1 h.2.2.2.2.2.1 (hts _ q1) (hts _ q2) (hts _ q3) rfl hd hfr.1 hfr.2 hKn.2.1 rfl fun H1 kC hkC e1 z1 o1 => ?_
  have k1 := kk ls H1 locs (cells + 1) (slots + N) hl (hI.push (e := .inr (ci, fs)) ⟨_, hc, (u_born ty hts hin hKn hkC e1 hty).to hdf⟩ z1 o1)
  rw [← hI.1.1] at k1
  exact k1
theorem k_newI (h : Ok X cc own ret y0 nL F Lo Pst) {aty : ArrayType} {j : Int32} {tyy : FieldType} (hn : cs.length = n) (hty : newarray.typeOf aty = tyy) (hdv : defaultValue tyy = .int 0) (hra : ∀ U cA, va_RA U cA tyy → U.vm.findClass ("[" ++ tyy.toString) = some cA) (hb : componentBytes tyy ≤ 8) (hL : j.toNatClampNeg = L) (he : (vtys X.Γ.2.2.2)[e]? = some (X.Γ.2.2.2 e, tyy)) (q1 : Cond.arrayClass tyy ∈ lw_all) (hj : ¬ j < 0) (hu : n + 1 ≤ 603072) (hs : w + L ≤ 7262314) (hd : decode cc pc = .ok (.newarray aty, 2))
    (kk : GK X (cs ++ [.inl (X.Γ.2.2.2 e, L, .inl (fun _ => 0))]) (w + L) (pc + 2) lv (.ref (X.Γ.1 + n) :: st)) : GK X cs w pc lv (.int j :: st) := by
  intro ls H locs cells slots hl hI
  subst hn
  subst hty
  have hts := h.2.2.2.2.2.2.1
  have hfr := hI.free h hu hs
  refine va_newaK h.1 h.2.1 (hts _ q1) rfl hd rfl hj hL (Nat.le_trans (Nat.mul_le_mul (show L ≤ 7262314 by omega) hb) (by decide)) hfr.1 hfr.2 rfl fun H1 cA e1 z1 o1 hAr hNm => ?_
  have hcA : X.Γ.2.2.2 e = cA := Option.some.inj ((hra _ _ (h.2.2.2.2.2.2.2.1.1.2 e _ he).2).symm.trans hNm)
  have k1 := kk ls H1 locs (cells + 1) (slots + L) hl (hI.push (e := .inl (X.Γ.2.2.2 e, L, .inl (fun _ => 0))) (by
    show H1[H.size]? = some (vp_cell _ _)
    rw [e1, vp_cell_i, hcA]
    congr 2
    funext q
    rw [hdv]) z1 o1)
  rw [← hI.1.1] at k1
  exact k1
theorem k_newL (h : Ok X cc own ret y0 nL F Lo Pst) {aty : ArrayType} {j : Int32} {tyy : FieldType} (hn : cs.length = n) (hty : newarray.typeOf aty = tyy) (hdv : defaultValue tyy = .long 0) (hra : ∀ U cA, va_RA U cA tyy → U.vm.findClass ("[" ++ tyy.toString) = some cA) (hb : componentBytes tyy ≤ 8) (hL : j.toNatClampNeg = L) (he : (vtys X.Γ.2.2.2)[e]? = some (X.Γ.2.2.2 e, tyy)) (q1 : Cond.arrayClass tyy ∈ lw_all) (hj : ¬ j < 0) (hu : n + 1 ≤ 603072) (hs : w + L ≤ 7262314) (hd : decode cc pc = .ok (.newarray aty, 2))
    (kk : GK X (cs ++ [.inl (X.Γ.2.2.2 e, L, .inr (.inl (fun _ => 0)))]) (w + L) (pc + 2) lv (.ref (X.Γ.1 + n) :: st)) : GK X cs w pc lv (.int j :: st) := by
  intro ls H locs cells slots hl hI
  subst hn
  subst hty
  have hts := h.2.2.2.2.2.2.1
  have hfr := hI.free h hu hs
  refine va_newaK h.1 h.2.1 (hts _ q1) rfl hd rfl hj hL (Nat.le_trans (Nat.mul_le_mul (show L ≤ 7262314 by omega) hb) (by decide)) hfr.1 hfr.2 rfl fun H1 cA e1 z1 o1 hAr hNm => ?_
  have hcA : X.Γ.2.2.2 e = cA := Option.some.inj ((hra _ _ (h.2.2.2.2.2.2.2.1.1.2 e _ he).2).symm.trans hNm)
  have k1 := kk ls H1 locs (cells + 1) (slots + L) hl (hI.push (e := .inl (X.Γ.2.2.2 e, L, .inr (.inl (fun _ => 0)))) (by
    show H1[H.size]? = some (vp_cell _ _)
    rw [e1, vp_cell_l, hcA]
    congr 2
    funext q
    rw [hdv]) z1 o1)
  rw [← hI.1.1] at k1
  exact k1
theorem k_newA (h : Ok X cc own ret y0 nL F Lo Pst) {j : Int32} (hn : cs.length = n) (hL : j.toNatClampNeg = L) (he : (vtys X.Γ.2.2.2)[e]? = some (X.Γ.2.2.2 e, .object C)) (q1 : Cond.classLink own index C ∈ lw_all) (q2 : Cond.arrayOver (.object C) ∈ lw_tbl) (hj : ¬ j < 0) (hu : n + 1 ≤ 603072) (hs : w + L ≤ 7262314) (hd : decode cc pc = .ok (.anewarray index, 3))
    (kk : GK X (cs ++ [.inl (X.Γ.2.2.2 e, L, .inr (.inr (.inr (.inr (fun _ => none)))))]) (w + L) (pc + 3) lv (.ref (X.Γ.1 + n) :: st)) : GK X cs w pc lv (.int j :: st) := by
  intro ls H locs cells slots hl hI
  subst hn
  subst hL
  have hts := h.2.2.2.2.2.2.1
  have hK := h.2.2.2.2.2.2.2.1
  have hfr := hI.free h hu hs
  refine W.anew h.1 h.2.1 h.2.2.2.2.2.1 (hts _ q1) (va_AO.use (hK.2.1 _ q2 rfl)) rfl hd rfl hj (by omega) hfr.1 hfr.2 fun cA kA comp f1 f2 f3 f4 => ?_
  obtain ⟨kA', comp', p1, p2, p3, p4⟩ := (hK.1.2 e _ he).2
  have hcA : X.Γ.2.2.2 e = cA := Option.some.inj (p4.symm.trans f1)
  generalize hH1 : H.push ({ cls := cA, slots := Array.replicate j.toNatClampNeg .null, vm := .none } : Cell) = H1
  have z1 : H1.size = H.size + 1 := by rw [← hH1, Array.size_push]
  have e1 : H1[H.size]? = some (arrV cA j.toNatClampNeg (fun _ => .null)) := by rw [← hH1, Array.getElem?_push_size, ← arrV_new]
  have o1 : ∀ q : Nat, q < H.size → H1[q]? = H[q]? := fun q hq => by rw [← hH1, Array.getElem?_push, if_neg (Nat.ne_of_lt hq)]
  have k1 := kk ls H1 locs (cells + 1) (slots + j.toNatClampNeg) hl (hI.push (e := .inl (X.Γ.2.2.2 e, j.toNatClampNeg, .inr (.inr (.inr (.inr (fun _ => none)))))) (by
    show H1[H.size]? = some (vp_cell _ _)
    rw [vp_cell_q, hcA]
    exact e1) z1 o1)
  rw [← hI.1.1] at k1
  exact k1
theorem k_get (h : Ok X cc own ret y0 nL F Lo Pst) {v : Value} (ha : cs[a]? = some (.inr (ci, fs))) (hv : fs[k]? = some v) (hc : vcl[ci]? = some (C, T, N)) (hin : ∀ w ∈ u_ws C T N, w ∈ lw_all) (hk : k < N) (hlink : Cond.fieldLink own index (T k).1 (T k).2.1 (T k).2.2.1 ∈ lw_all) (hd : decode cc pc = .ok (.getfield index, 3)) (kk : GK X cs w (pc + 3) lv (v :: st)) : GK X cs w pc lv (.ref (X.Γ.1 + a) :: st) := by
  intro ls H locs cells slots hl hI
  have hts := h.2.2.2.2.2.2.1
  exact va_get h.1 h.2.1 hts hin h.2.2.2.2.2.1 h.2.2.2.2.2.2.2.1.1 (P1 (hI.1.at ha)) 0 rfl hc k hk (hts _ hlink) (fun _ z => z) hv hd (kk ls H locs cells slots hl hI)
theorem k_put (h : Ok X cc own ret y0 nL F Lo Pst) {v : Value} {ty0 : Nat → FieldType} {ty : FieldType} (ha : cs[a]? = some (.inr (ci, fs))) (hl0 : k < fs.length) (hc : vcl[ci]? = some (C, T, N)) (hin : ∀ w ∈ u_ws C T N, w ∈ lw_all) (hty : ∀ k, k < N → parseFieldDescriptor (T k).2.2.1 = some (ty0 k)) (hnm : ∀ a, a < N → ∀ b, b < N → a ≠ b → (T a).2.1 ≠ (T b).2.1) (hk : k < N)
    (hlink : Cond.fieldLink own index (T k).1 (T k).2.1 (T k).2.2.1 ∈ lw_all) (hfin : (T k).2.2.2 = false) (ht : parseFieldDescriptor (T k).2.2.1 = some ty) (hnr : narrow ty v = v) (hfit : fits ty v = true)
    (hd : decode cc pc = .ok (.putfield index, 3)) (kk : GK X (cs.set a (.inr (ci, fs.set k v))) w (pc + 3) lv st) : GK X cs w pc lv (v :: .ref (X.Γ.1 + a) :: st) := by
  intro ls H locs cells slots hl hI
  have hat := hI.1.at ha
  have hts := h.2.2.2.2.2.2.1
  have hK := h.2.2.2.2.2.2.2.1.1
  have hap := va_apart (own := own) hts hin ty0 hty hnm hK hc
  obtain ⟨r, h1, cell, q1, q2, q3, q4⟩ := hat
  have hr : r = (C, T, N) := Option.some.inj (h1.symm.trans hc)
  subst hr
  obtain ⟨hS, hfc, kC, hkC, hkind⟩ := hK.1 ci _ hc
  obtain ⟨cf, kf, fi, f, hfi, hsl⟩ := hS k hk
  have hlay := hts _ (hin _ (u_in_lay hk))
  unfold u_lay at hlay
  rw [if_neg (by rw [hfin]; decide)] at hlay
  have hst := (u_facts hfc hkC (u_lays hts hin hk) hfi).1
  have h6 := u_store hfc hkC hkind hlay hfi ht hnr hfit
  refine W.putK h.1 h.2.1 (f := f) ⟨h.2.2.2.2.2.1, hts _ hlink, ⟨_, _, _, hfi⟩, hst⟩ (by rw [q2]; exact h6) q1 q3 (by rw [hsl]; exact k2_hasslot (q4 k hk)) rfl rfl hd fun H' e1 e2 e3 => ?_
  rw [hsl] at e1 ⊢
  refine kk ls H' _ cells slots hl (hI.put ha ?_ e2 e3 _)
  exact ⟨_, hc, t_OB.to (V := updV (vp_V fs) k v) ⟨_, e1, q2, q3, t_set q4 hap hk v⟩ (fun j _ => vp_updV_set hl0 v j)⟩
theorem k_putF (h : Ok X cc own ret y0 nL F Lo Pst) (hin2 : y0.name = "<init>") {v : Value} {ty0 : Nat → FieldType} {ty : FieldType} (ha : cs[a]? = some (.inr (ci, fs))) (hl0 : k < fs.length) (hc : vcl[ci]? = some (C, T, N)) (hin : ∀ w ∈ u_ws C T N, w ∈ lw_all) (hty : ∀ k, k < N → parseFieldDescriptor (T k).2.2.1 = some (ty0 k)) (hnm : ∀ a, a < N → ∀ b, b < N → a ≠ b → (T a).2.1 ≠ (T b).2.1) (hk : k < N)
    (hlink : Cond.fieldLink own index (T k).1 (T k).2.1 (T k).2.2.1 ∈ lw_all) (hfin : (T k).2.2.2 = true) (hdecl : (T k).1 = own) (ht : parseFieldDescriptor (T k).2.2.1 = some ty) (hnr : narrow ty v = v) (hfit : fits ty v = true)
    (hd : decode cc pc = .ok (.putfield index, 3)) (kk : GK X (cs.set a (.inr (ci, fs.set k v))) w (pc + 3) lv st) : GK X cs w pc lv (v :: .ref (X.Γ.1 + a) :: st) := by
  intro ls H locs cells slots hl hI
  have hat := hI.1.at ha
  have hts := h.2.2.2.2.2.2.1
  have hK := h.2.2.2.2.2.2.2.1.1
  have hown := h.2.2.2.2.2.1
  have hap := va_apart (own := own) hts hin ty0 hty hnm hK hc
  obtain ⟨r, h1, cell, q1, q2, q3, q4⟩ := hat
  have hr : r = (C, T, N) := Option.some.inj (h1.symm.trans hc)
  subst hr
  obtain ⟨hS, hfc, kC, hkC, hkind⟩ := hK.1 ci _ hc
  obtain ⟨cf, kf, fi, f, hfi, hsl⟩ := hS k hk
  have hlay := hts _ (hin _ (u_in_lay hk))
  unfold u_lay at hlay
  rw [if_pos hfin] at hlay
  have hst := (u_facts hfc hkC (u_lays hts hin hk) hfi).1
  have hcf : X.m.cls = cf := by
    obtain ⟨_, _, c', _, _, _, -, -, hf', -, -, -, hown2, -⟩ := Cond.laysFinal_spec hlay
    have e1 : c' = cf := by have := hfi.symm.trans hf'; simp at this; exact this.1.symm
    rw [hdecl] at hown2
    rw [← e1]; exact Option.some.inj (hown.symm.trans hown2)
  have h6 := u_fits hfc hkC hkind (Or.inr hlay) hfi ht hnr hfit
  refine W.putFinK h.1 h.2.1 hown (hts _ hlink) hfi hst hcf (h.2.2.2.2.2.2.2.2.2.1.trans hin2) (by rw [q2]; exact h6) q1 q3 (by rw [hsl]; exact k2_hasslot (q4 k hk)) rfl rfl hd fun H' e1 e2 e3 => ?_
  rw [hsl] at e1 ⊢
  refine kk ls H' _ cells slots hl (hI.put ha ?_ e2 e3 _)
  exact ⟨_, hc, t_OB.to (V := updV (vp_V fs) k v) ⟨_, e1, q2, q3, t_set q4 hap hk v⟩ (fun j _ => vp_updV_set hl0 v j)⟩
theorem k_iast (h : Ok X cc own ret y0 nL F Lo Pst) {x : Int32} {f : Nat → Int32} (ha : cs[a]? = some (.inl (X.Γ.2.2.2 e, L, .inl f))) (he : (vtys X.Γ.2.2.2)[e]? = some (X.Γ.2.2.2 e, .int)) (hj : vp_in j L) (hd : decode cc pc = .ok (.iastore, 1)) (kk : GK X (cs.set a (.inl (X.Γ.2.2.2 e, L, .inl (upd f j.toNatClampNeg x)))) w (pc + 1) lv st) : GK X cs w pc lv (.int x :: .int j :: .ref (X.Γ.1 + a) :: st) := by
  intro ls H locs cells slots hl hI
  have hat := hI.1.at ha
  refine W.iast h.1 h.2.1 hat ((h.2.2.2.2.2.2.2.1.1.2 e _ he).1 L (fun j => .int (f j))) (fun q => by cases q) (by show ¬ (j < 0 ∨ (arrV _ _ _).slots.size ≤ _); rw [arrV_size]; exact hj) rfl rfl hd fun H1 e1 z oq => ?_
  refine kk ls H1 _ cells slots hl (hI.put ha ?_ z oq _)
  show H1[X.Γ.1 + a]? = some (vp_cell _ _)
  rw [e1]
  rw [vp_cell_i, vp_cell_i, arrV_store]
  congr 2
  funext q
  by_cases hq : q = j.toNatClampNeg
  · subst hq; simp [updV, upd]
  · simp [updV, upd, hq]
theorem k_aast (h : Ok X cc own ret y0 nL F Lo Pst) {E : String} {z ci2 : Nat} {fs2 : List Value} {C2 : String} {T2 : u_T} {N2 : Nat} {f : Nat → Option Nat} (ha : cs[a]? = some (.inl (X.Γ.2.2.2 e, L, .inr (.inr (.inr (.inr f)))))) (he : (vtys X.Γ.2.2.2)[e]? = some (X.Γ.2.2.2 e, .object E)) (hj : vp_in j L) (hz : cs[z]? = some (.inr (ci2, fs2))) (hc2 : vcl[ci2]? = some (C2, T2, N2)) (has : AsOk X ci2 E) (hd : decode cc pc = .ok (.aastore, 1))
    (kk : GK X (cs.set a (.inl (X.Γ.2.2.2 e, L, .inr (.inr (.inr (.inr (va_up f j.toNatClampNeg (some (X.Γ.1 + z))))))))) w (pc + 1) lv st) : GK X cs w pc lv (.ref (X.Γ.1 + z) :: .int j :: .ref (X.Γ.1 + a) :: st) := by
  intro ls H locs cells slots hl hI
  have hat := hI.1.at ha
  have hat2 := hI.1.at hz
  have hlt : j.toNatClampNeg < L := Nat.not_le.mp fun q => hj (Or.inr q)
  have h0 : ¬ j < 0 := fun q => hj (Or.inl q)
  obtain ⟨r', hr', cellV, g1, g2, g3, -⟩ := hat2
  have hK := h.2.2.2.2.2.2.2.1.1
  obtain ⟨kA, comp, k1, k2, k3, -⟩ := (hK.2 e _ he).2
  have hcls := (hK.1 ci2 _ hc2).2
  obtain ⟨kC, hkC, -⟩ := hcls.2
  obtain ⟨⟨kcomp, hkcomp⟩, hasg⟩ := has comp k3
  refine W.aast h.1 h.2.1 hat (fun q h => by cases h) (fun h => by cases h) k1 k2 rfl hkcomp ⟨h0, by show _ < (arrV _ _ _).slots.size; rw [arrV_size]; exact hlt⟩ g1 (fun q h => by rw [g3] at h; cases h) (by rw [g2]; exact hkC) (by rw [g2]; exact hasg) rfl rfl hd fun H1 e1 z1 oq => ?_
  refine kk ls H1 _ cells slots hl (hI.put ha ?_ z1 oq _)
  show H1[X.Γ.1 + a]? = some (vp_cell _ _)
  rw [e1]
  rw [vp_cell_q, vp_cell_q, arrV_store]
  congr 2
  funext q
  by_cases hq : q = j.toNatClampNeg
  · subst hq; simp [updV, va_up, va_rf]
  · simp [updV, va_up, hq]
theorem Kv.room {F' Lo' : Nat} {H : Heap} {locs : List Loc} {cells slots : Nat} (h : Ok X cc own ret y0 nL F Lo Pst) (hI : Kv X cs w H locs cells slots) (hc : cs.length ≤ 603072) (hw : w ≤ 7262314) : cells + (rmO F' Lo' (χk cs.length w)).cells ≤ X.R.cells ∧ slots + (rmO F' Lo' (χk cs.length w)).slots ≤ X.R.slots := by
  obtain ⟨g1, g2, g3, g4⟩ := hI
  rw [h.2.2.2.2.2.2.2.2.1]
  exact ⟨by show cells + (603072 - cs.length) ≤ 603072 - uC X.χ0; omega, by show slots + (7262314 - w) ≤ 7262314 - uS X.χ0; omega⟩
theorem k_callI (h : Ok X cc own ret y0 nL F Lo Pst) {y : MethodName} {b : ByteArray} {L F' Lo' : Nat} {cs' : List va_E} {w' : Nat} (hM : Mt X.l y (ws_ y b L none) (rmO F' Lo' (χk cs.length w)) (Pk X.Γ cs [.ref (X.Γ.1 + a)]) (Qk X.Γ cs.length w cs' w') (frB X.Γ)) (hy1 : y.name = "<init>")
    (q1 : Cond.methodLink own index y ∈ lw_all) (q2 : Cond.instanceMethod y ∈ lw_all) (q4 : Cond.initialized y.cls ∈ lw_all) (q5 : Cond.code y b L none ∈ lw_all) (hd0 : y.cls ≠ "java/lang/invoke/MethodHandle" ∧ y.cls ≠ "java/lang/invoke/VarHandle" ∧ (parseMethodDescriptor y.desc).map (fun d => d.parameters.length) = some 0) (hF : F' + 1 ≤ F ∧ 8 + (L + 11) + Lo' ≤ Lo)
    (hc : cs.length ≤ 603072) (hw : w ≤ 7262314) (hst : (st.map fun v => v.category).sum ≤ 8) (hd : decode cc pc = .ok (.invokespecial index, 3)) (kk : GK X cs' w' (pc + 3) lv st) : GK X cs w pc lv (.ref (X.Γ.1 + a) :: st) := by
  intro ls H locs cells slots hl hI T' hT XX
  have hts := h.2.2.2.2.2.2.1
  have hK := h.2.2.2.2.2.2.2.1
  have hR := h.2.2.2.2.2.2.2.2.1
  have cw : CallB X.R X.s X.args own index y b L none (ws_ y b L none) (rmO F' Lo' (χk cs.length w)) (rmO F' Lo' (χk cs.length w)).cells (rmO F' Lo' (χk cs.length w)).slots 0 ∧ y.name = "<init>" ∧ (Cond.instanceMethod y).before X.args X.s = true := cwI 0 hts (lw_meth q5) rfl rfl rfl (hts _ q4) (hts _ q1) (hts _ q2) hy1 hd0 (by rw [hR]; exact hF)
  obtain ⟨⟨-, -, hfr, hlo, hws, hcw, hcode, hini, hy, hlen, hlk⟩, hy1, hin⟩ := cw
  have hB : Back X.l X.R X.p X.e X.below X.s X.args y 3 8 (PreM X.R (rmO F' Lo' (χk cs.length w)) (Pk X.Γ cs [.ref (X.Γ.1 + a)])) (PostM (Qk X.Γ cs.length w cs' w') (frB X.Γ)) := hM.back Pk.blind hfr hlo hws hcw hini
  obtain ⟨v, vm₁, ⟨U', l2, c2, s2⟩, hW₁, X', ⟨g', mk, t, Lk, k, n', e1, e2, hq, h1, hL, h2, h3⟩, stp⟩ := callI XX h.1 (bytes := b) (maxL := L) h.2.2.2.2.2.1 hy1 hlk hin hcode hy hB (g := F0 X.m pc ls (.ref (X.Γ.1 + a) :: st)) rfl (hl.1.trans h.2.2.2.2.1.1.symm) (a := X.Γ.1 + a) (argsL := []) (rest := st) (fun sig z => hlen sig z) rfl (lv_room (m := X.m) (pc := pc) (ls := ls) (rest := .ref (X.Γ.1 + a) :: st) hst) (by rw [h.2.1]; exact hd)
    (fun vm₁ hW₁ => ⟨(hI.room h hc hw).1, (hI.room h hc hw).2, rfl, by show KW _ _ T'.heap; rw [hT]; exact hI.1, hK.warm hW₁⟩)
  dsimp only [Pt.U, Pt.locs, Pt.cells, Pt.slots] at X' e1 e2 h1 h2 h3 stp
  subst h1; subst h2; subst h3
  obtain ⟨hv, hH, hu, hu2⟩ := hq
  cases hv
  obtain ⟨t2, a1, b1⟩ := kk ls U'.heap _ _ _ hl (by
    obtain ⟨g1, g2, g3, g4⟩ := hI
    refine ⟨by rw [e1]; exact hH, fun q hq => ?_, by omega, by omega⟩
    rcases List.mem_append.mp hq with z | z
    · exact g2 q z
    · exact hL q z) U' rfl X'
  exact ⟨t2, stp t2 a1, b1⟩
theorem k_callIN {host : String} (h : Ok X cc own ret y0 nL F Lo Pst) {y : MethodName} {b : ByteArray} {L F' Lo' : Nat} {cs' : List va_E} {w' : Nat} (hM : Mt X.l y (ws_ y b L none) (rmO F' Lo' (χk cs.length w)) (Pk X.Γ cs [.ref (X.Γ.1 + a)]) (Qk X.Γ cs.length w cs' w') (frB X.Γ)) (hy1 : y.name = "<init>")
    (q1 : Cond.methodLinkNest own index y host ∈ lw_tbl) (q2 : Cond.instanceMethod y ∈ lw_all) (q4 : Cond.initialized y.cls ∈ lw_all) (q5 : Cond.code y b L none ∈ lw_all) (hd0 : y.cls ≠ "java/lang/invoke/MethodHandle" ∧ y.cls ≠ "java/lang/invoke/VarHandle" ∧ (parseMethodDescriptor y.desc).map (fun d => d.parameters.length) = some 0) (hF : F' + 1 ≤ F ∧ 8 + (L + 11) + Lo' ≤ Lo)
    (hc : cs.length ≤ 603072) (hw : w ≤ 7262314) (hst : (st.map fun v => v.category).sum ≤ 8) (hd : decode cc pc = .ok (.invokespecial index, 3)) (kk : GK X cs' w' (pc + 3) lv st) : GK X cs w pc lv (.ref (X.Γ.1 + a) :: st) := by
  intro ls H locs cells slots hl hI T' hT XX
  have hts := h.2.2.2.2.2.2.1
  have hK := h.2.2.2.2.2.2.2.1
  have hR := h.2.2.2.2.2.2.2.2.1
  have cw : va_CN X.R X.s X.args own index y host b L none (ws_ y b L none) (rmO F' Lo' (χk cs.length w)) (rmO F' Lo' (χk cs.length w)).cells (rmO F' Lo' (χk cs.length w)).slots 0 := va_cnB 0 hts (lw_meth q5) rfl rfl rfl (hK.2.1 _ q1 rfl) (hts _ q4) hd0 (by rw [hR]; exact hF)
  obtain ⟨⟨-, -, hfr, hlo, hws, hcw⟩, hcode, hini, hy, hlen, hlk⟩ := cw
  have hB : Back X.l X.R X.p X.e X.below X.s X.args y 3 8 (PreM X.R (rmO F' Lo' (χk cs.length w)) (Pk X.Γ cs [.ref (X.Γ.1 + a)])) (PostM (Qk X.Γ cs.length w cs' w') (frB X.Γ)) := hM.back Pk.blind hfr hlo hws hcw hini
  obtain ⟨v, vm₁, ⟨U', l2, c2, s2⟩, hW₁, X', ⟨g', mk, t, Lk, k, n', e1, e2, hq, h1, hL, h2, h3⟩, stp⟩ := va_callIN XX h.1 (bytes := b) (maxL := L) h.2.2.2.2.2.1 hy1 hlk (hts _ q2) hcode hy hB (g := F0 X.m pc ls (.ref (X.Γ.1 + a) :: st)) rfl (hl.1.trans h.2.2.2.2.1.1.symm) (a := X.Γ.1 + a) (argsL := []) (rest := st) (fun sig z => hlen sig z) rfl (lv_room (m := X.m) (pc := pc) (ls := ls) (rest := .ref (X.Γ.1 + a) :: st) hst) (by rw [h.2.1]; exact hd)
    (fun vm₁ hW₁ => ⟨(hI.room h hc hw).1, (hI.room h hc hw).2, rfl, by show KW _ _ T'.heap; rw [hT]; exact hI.1, hK.warm hW₁⟩)
  dsimp only [Pt.U, Pt.locs, Pt.cells, Pt.slots] at X' e1 e2 h1 h2 h3 stp
  subst h1; subst h2; subst h3
  obtain ⟨hv, hH, hu, hu2⟩ := hq
  cases hv
  obtain ⟨t2, a1, b1⟩ := kk ls U'.heap _ _ _ hl (by
    obtain ⟨g1, g2, g3, g4⟩ := hI
    refine ⟨by rw [e1]; exact hH, fun q hq => ?_, by omega, by omega⟩
    rcases List.mem_append.mp hq with z | z
    · exact g2 q z
    · exact hL q z) U' rfl X'
  exact ⟨t2, stp t2 a1, b1⟩
end KR
