set_option maxRecDepth 100000
set_option maxHeartbeats 4000000
/-! THE CLAIM OUT OF ONE WALK OF THE LAW'S BODY. Your part is whole_start (and what it stands on); all else here is the same for every law, but numbers. -/
def R_law : String := "ChairOldLaw"
def lw_P (b : Addr) (xs : List Int32) (args : Array Value) (s : State) : Prop := args = #[.ref b] ∧ s.IntsAt b xs ∧ xs.length ≤ 384 ∧ (Jvm.Cond.and given_1 narrow_1).before args s = true ∧ modulesRight_1 s = true
def lw_Q (_ : Array Value) (s : State) (o : Outcome) (t : State) : Prop := o = .returned (some (.int 1)) ∧ Framed s o t [] 603072 7262314
def lw_Z (below : List Frame) (a : Array Value) (s : State) : State → Prop := fun t => ∃ o, t.status = .running ∧ Ended t below o ∧ lw_Q a s o t
/-- the law's own end, with 1 on the stack, nothing written that was there before, its room as the claim has it -/
theorem lw_ret {p : Program} {l : Launch} {e : Env} {s : State} {m : MethodId} {below : List Frame} {meth : Method} {c : Code} {b : Nat} (hx : p.tables.exec = Jvm.exec) (hb : c.code = code) (hr : meth.sig.returnType = ret) (hlocks : meth.locks = false) {pc : Nat} {H : Heap} {ls : Array Slot} (hdg : decode code pc = .ok (.ireturn, 1)) : W p l e room_1 s m #[Value.ref b] below meth c H [] 603072 7262314 (lw_Z below #[Value.ref b] s) (F0 m pc ls [.int 1]) := by
  intro T hT X
  obtain ⟨fs, hret, hrun, hended, hW, hframe⟩ := X.leave (v := some (.int 1)) (hlocks := hlocks) (fun h => by rw [hr] at h; cases h)
  have hmeth' : T.vm.method? m = some meth := X.method'
  refine ⟨T.setFrames fs, ?_, .returned (some (.int 1)), hrun, hended, rfl, ⟨_, rfl⟩, hW, hframe⟩
  jvm_step X.here [X.here.top, hx, hb, hdg, hmeth', hr, ret, narrow_b1]
  (try refine ⟨rfl, ?_⟩); (try refine ⟨rfl, ?_⟩)
  first | (intro acts; rw [hret _ acts rfl rfl rfl]) | rw [hret _ _ rfl rfl rfl]
  exact Steps.refl _
/-- what holds at the law's entry: the machine, the code, the tables' words (any of lw_tbl by 'hts w (by decide +kernel)'), the script of L ints xs at the cell b, what the Statement gives of the start (any of its parts by flat_of_before) -/
def lw_At (p : Program) (s : State) (m : MethodId) (meth : Method) (c : Code) (b L : Nat) (xs : Nat → Int32) : Prop :=
  p.tables.exec = Jvm.exec ∧ c.code = code ∧ meth.sig.returnType = ret ∧ c.maxLocals = 4 ∧ s.vm.findClass R_law = some m.cls ∧ (∀ w ∈ lw_tbl, w.before #[Value.ref b] s = true) ∧ va_X b L xs s s.heap ∧ b < s.heap.size ∧ meth.locks = false ∧ (Jvm.Cond.and given_1 narrow_1).before #[Value.ref b] s = true
theorem whole_start {p : Program} {e : Env} {s : State} {m : MethodId} {below : List Frame} {meth : Method} {c : Code} (l : Launch) (hfl : l.stackTraces = false) {b L : Nat} {xs : Nat → Int32} (hL : L ≤ 384) (hp : w_L_law xs L χ00 (fun r _ => r = 1)) (C0 : lw_At p s m meth c b L xs) (hmod : modulesRight_1 s = true) : W p l e room_1 s m #[Value.ref b] below meth c s.heap [] 0 0 (lw_Z below #[Value.ref b] s) (entryFrame m ([Value.ref b] : List Value).toArray 4) := by
  obtain ⟨hex, hcode, hret, hml, hown, hts, hX, hbl, hlk, hgv⟩ := C0
  obtain ⟨D, κ, hK⟩ := kk_start hts hgv hmod
  generalize hΓ : ((s.heap.size, s.heap, D, κ) : Gh) = Γ at hK
  have hΓ1 : Γ.1 = s.heap.size := by rw [← hΓ]
  have hΓ2 : Γ.2.1 = s.heap := by rw [← hΓ]
  obtain ⟨X, hXX⟩ : ∃ X : Cx, ((p, l, e, room_1, s, m, #[Value.ref b], below, meth, c, lw_Z below #[Value.ref b] s, Γ, 4, χk 0 0, ad00 Γ.1, false) : Cx) = X := ⟨_, rfl⟩
  have hOk : Ok X cL_law "ChairOldLaw" ret ⟨"", meth.name, ""⟩ 4 2048 94400 (fun _ _ _ => False) := by
    rw [← hXX]
    exact ⟨hex, hcode, hret, hlk, ⟨hml, rfl⟩, hown, fun w h => hts w (lw_all_tbl h), hK, rfl, rfl, fun _ h => by obtain ⟨o, h1, h2, L, k, n, ⟨v, ad', χ', h3, h4, h5⟩, h6⟩ := h; exact h4.elim⟩
  have hTh : Th X := by
    rw [← hXX]
    exact ⟨fun a ha => by show s.heap[a]? = Γ.2.1[a]?; rw [hΓ2], hfl⟩
  have hS : Scr X b L xs := by
    rw [← hXX]
    exact ⟨hX, by show b < Γ.1; rw [hΓ1]; exact hbl, by show s.heap[b]? = Γ.2.1[b]?; rw [hΓ2]⟩
  have hna : X.na = false := by rw [← hXX]
  have hR : ∀ (v : Int32) (ad : Nat → Nat → Nat) (χ : St) (pc : Nat) (lv : List (Nat × Value)), decode cL_law pc = .ok (.ireturn, 1) → v = 1 → G X ad χ pc lv [.int v] := by
    rw [← hXX]
    intro v ad χ pc lv hd hv ls H locs cells slots hl hI
    subst hv
    have g5 : uC (χk 0 0) + cells = uC χ := hI.2.2.2.2.1
    have g6 : uS (χk 0 0) + slots = uS χ := hI.2.2.2.2.2
    have g7 := hI.1.2.2.2.2.1
    have g8 := hI.1.2.2.2.2.2.1
    have g9 : uC (χk 0 0) = 0 := rfl
    have g10 : uS (χk 0 0) = 0 := rfl
    exact va_forget (fun q hq => by rw [← hΓ1]; exact hI.2.2.2.1 q hq) (W.widen (k := 603072) (n := 7262314) (by omega) (by omega) (lw_ret hex hcode hret hlk hd))
  have hG := law_loop hOk hTh hna hS (fun r _ => r = 1) hR (ad00 Γ.1) χ00 hp
  have hXl : X.l = l := by rw [← hXX]
  have hXΓ : X.Γ = Γ := by rw [← hXX]
  have hX0 : X.χ0 = χk 0 0 := by rw [← hXX]
  have hXad : X.ad0 = ad00 Γ.1 := by rw [← hXX]
  have hK0 : GK X [] 0 0 (lv_args 0 [.ref b]) [] := by
    refine k_new hOk (ci := 0) (fs := [.null, .null, .null, .int 0, .null, .int 0, .int 0, .null, .int 0, .null, .null, .null, .null, .null, .long 0, .null, .null, .null, .int 0, .int 0, .int 0, .null, .null, .int 0, .null]) (n := 0) tyX0 rfl rfl in_X0 tyX0_ok dk_X0 q132 q133 q85 (by decide) (by decide) dL_law_0 ?_
    refine k_dup hOk dL_law_3 rfl ?_
    refine k_callI hOk (a := 0) (cs' := csC X.Γ) (w' := 1742) (mk_C_init X.l X.Γ) rfl q134 q135 q85 q136 hk_C_init (by decide) (Nat.le_of_ble_eq_true rfl) (by decide) (Nat.le_of_ble_eq_true rfl) dL_law_4 ?_
    refine k_astore_n hOk dL_law_7 rfl (by decide) rfl ?_
    refine k_new hOk (ci := 4) (fs := [.null, .null, .null, .null, .int 0, .int 0, .int 0, .null, .null, .null, .null, .int 0, .null, .null, .int 0, .int 0, .int 0, .int 0, .int 0, .null, .null, .null, .null, .null, .long 0, .null, .null, .int 0, .null, .null, .null, .null, .int 0, .int 0, .int 0, .null, .null, .int 0, .int 0, .int 0, .null, .null, .null, .null]) (n := 30) tyX4 rfl rfl in_X4 tyX4_ok dk_X4 q1499 q1500 q89 (by decide) (by decide) dL_law_8 ?_
    refine k_dup hOk dL_law_11 rfl ?_
    refine k_callI hOk (a := 30) (cs' := cs00 X.Γ) (w' := 4716) (mk_M_init X.l X.Γ (.inr (0, [.ref (X.Γ.1 + 1), .ref (X.Γ.1 + 2), .ref (X.Γ.1 + 9), .int 0, .ref (X.Γ.1 + 16), .int 0, .int 0, .ref (X.Γ.1 + 17), .int 0, .ref (X.Γ.1 + 18), .ref (X.Γ.1 + 20), .ref (X.Γ.1 + 21), .ref (X.Γ.1 + 22), .ref (X.Γ.1 + 23), .long 0, .ref (X.Γ.1 + 24), .ref (X.Γ.1 + 25), .ref (X.Γ.1 + 26), .int 0, .int (-1), .int 0, .ref (X.Γ.1 + 27), .ref (X.Γ.1 + 28), .int 0, .ref (X.Γ.1 + 29)])) (.inl (X.Γ.2.2.2 5, 8, .inr (.inr (.inr (.inr (fun _ => none)))))) (.inl (X.Γ.2.2.2 6, 6, .inr (.inr (.inr (.inr (va_up (va_up (va_up (va_up (va_up (va_up (fun _ => none) 0 (some (X.Γ.1 + 3))) 1 (some (X.Γ.1 + 4))) 2 (some (X.Γ.1 + 5))) 3 (some (X.Γ.1 + 6))) 4 (some (X.Γ.1 + 7))) 5 (some (X.Γ.1 + 8)))))))) (.inr (1, [.int 1, .int 0])) (.inr (1, [.int 1, .int 0])) (.inr (1, [.int 1, .int 0])) (.inr (1, [.int 1, .int 0])) (.inr (1, [.int 1, .int 0])) (.inr (1, [.int 1, .int 0])) (.inl (X.Γ.2.2.2 7, 6, .inr (.inr (.inr (.inr (va_up (va_up (va_up (va_up (va_up (va_up (fun _ => none) 0 (some (X.Γ.1 + 10))) 1 (some (X.Γ.1 + 11))) 2 (some (X.Γ.1 + 12))) 3 (some (X.Γ.1 + 13))) 4 (some (X.Γ.1 + 14))) 5 (some (X.Γ.1 + 15)))))))) (.inr (2, [.int 1, .int 10, .null])) (.inr (2, [.int 1, .int 10, .null])) (.inr (2, [.int 1, .int 10, .null])) (.inr (2, [.int 1, .int 10, .null])) (.inr (2, [.int 1, .int 10, .null])) (.inr (2, [.int 1, .int 10, .null])) (.inl (X.Γ.2.2.2 8, 40, .inr (.inr (.inr (.inr (fun _ => none)))))) (.inl (X.Γ.2.2.2 1, 120, .inl (fun _ => 0))) (.inr (3, [.ref (X.Γ.1 + 19)])) (.inl (X.Γ.2.2.2 0, 128, .inl (fun _ => 0))) (.inl (X.Γ.2.2.2 0, 1080, .inl (fun _ => 0))) (.inl (X.Γ.2.2.2 3, 180, .inr (.inl (fun _ => 0)))) (.inl (X.Γ.2.2.2 3, 6, .inr (.inl (fun _ => 0)))) (.inl (X.Γ.2.2.2 1, 6, .inl (fun _ => 0))) (.inl (X.Γ.2.2.2 0, 8, .inl (fun _ => 0))) (.inl (X.Γ.2.2.2 0, 8, .inl (fun _ => 0))) (.inl (X.Γ.2.2.2 9, 10, .inr (.inr (.inr (.inr (fun _ => none)))))) (.inl (X.Γ.2.2.2 1, 24, .inl (fun _ => 0))) (.inl (X.Γ.2.2.2 10, 50, .inr (.inr (.inr (.inr (fun _ => none)))))) (.inl (X.Γ.2.2.2 11, 6, .inr (.inr (.inr (.inr (fun _ => none))))))) rfl q1501 q1502 q89 q1503 hk_M_init (by decide) (Nat.le_of_ble_eq_true rfl) (by decide) (Nat.le_of_ble_eq_true rfl) dL_law_12 ?_
    refine k_astore_n hOk dL_law_15 rfl (by decide) rfl ?_
    intro ls H locs cells slots hl hI
    refine hG ls H locs cells slots (by
      have hl2 := hl
      rw [hXΓ] at hl2
      exact hl2) ?_
    have hI1 := hI.1
    rw [hXΓ] at hI1
    refine ⟨by rw [hXΓ]; exact adopt hI1, ?_, (fun z => by rw [hna] at z; cases z), hI.2.1, ?_, ?_⟩
    · rw [hX0, hXad]
      exact ⟨fun _ _ _ => rfl, fun c => Nat.le_refl _⟩
    · exact hI.2.2.1
    · exact hI.2.2.2
  have hl := lv_entry [Value.ref b] (n := 4) (Nat.le_of_ble_eq_true rfl)
  rw [lg_entry_eq]
  have key := hK0 _ s.heap [] 0 0 (by rw [← hXX]; exact hl) (by
    rw [← hXX]
    exact ⟨⟨by show s.heap.size = Γ.1 + 0; omega, fun k e h => by simp at h, fun q hq => by show s.heap[q]? = Γ.2.1[q]?; rw [hΓ2]⟩, (fun _ h => by cases h), rfl, rfl⟩)
  rw [← hXX] at key
  exact key
set_option maxHeartbeats 4000000 in
theorem lw_walk (pl : ∀ (xs : Nat → Int32) (L : Nat), L ≤ 384 → w_L_law xs L χ00 (fun r _ => r = 1)) (l : Launch) (hfl : l.stackTraces = false) (b : Addr) (xs : List Int32) : MetFree l x (headSpec (Jvm.Cond.code x code maxLocals ret :: tables_1) room_1) (lw_P b xs) (fun _ _ _ _ _ => True) lw_Q := by
  refine MetFree.of_bodyS (code := code) (maxLocals := maxLocals) (ret := ret) (by decide) ?_ ?_
  · intro args s m h hn
    obtain ⟨meth, c, h1, h2, h3, h4, h5, h6, -, -⟩ := Cond.code_spec hn (atoms_spec (ws := Jvm.Cond.code x code maxLocals ret :: tables_1) h _ List.mem_cons_self)
    exact ⟨meth, c, h1, h2, h3, h4, h5, h6⟩
  · intro p e s m args below meth c s₁ B hml0 hP _
    obtain ⟨rfl, hx, hbd, hgv, hmod⟩ := hP
    obtain ⟨scr, harrAt, hlist, hof, hsmall⟩ := hx
    obtain ⟨hcb, hkn, -, -⟩ := State.arrayAt?_spec harrAt
    have hown : s.vm.findClass R_law = some m.cls := findClass_of_methodNamed B.named
    have hts0 : ∀ c ∈ (Jvm.Cond.code x code maxLocals ret :: tables_1), c.before #[Value.ref b] s = true := atoms_spec (ws := Jvm.Cond.code x code maxLocals ret :: tables_1) B.pre
    have hts : ∀ w ∈ lw_tbl, w.before #[Value.ref b] s = true := k2_hts_sels lw_privs (fun w hw => hts0 w (List.mem_cons_of_mem _ hw)) lw_privs_ok
    have hml : c.maxLocals = 4 := B.maxLocals_eq (hts0 _ List.mem_cons_self)
    have X₀ : Stand p l e room_1 s m #[Value.ref b] below meth c s₁ [] 0 0 := Stand.of_body B
    have hh0 : s₁.heap = s.heap := by rw [B.state]; rfl
    have hsz : scr.slots.size = xs.length := by rw [← Array.length_toList, hlist, List.length_map]
    have hval : ∀ j : Nat, j < xs.length → scr.slots[j]? = some (.int (xs.getD j 0)) := fun j hj => by
      rw [← Array.getElem?_toList, hlist]
      simp [hj]
    have hbl : b < s.heap.size := (Array.getElem?_eq_some_iff.mp hcb).1
    have hX : va_X b xs.length (fun j => xs.getD j 0) s s.heap := ⟨scr, hcb, hof, hkn, hsz, hval⟩
    have K : W p l e room_1 s m #[Value.ref b] below meth c s₁.heap [] 0 0 (lw_Z below #[Value.ref b] s) (entryFrame m ([Value.ref b] : List Value).toArray 4) := by
      rw [hh0]
      exact whole_start l hfl hbd (pl _ _ hbd) ⟨B.exec, B.bytes, B.returns, hml, hown, hts, hX, hbl, B.notSynchronized, hgv⟩ hmod
    obtain ⟨t, a1, o, b1, b2, b3⟩ := K s₁ rfl X₀
    exact ⟨t, o, a1, b1, b2, b3⟩
theorem lw_pre_spec {args : Array Value} {s : State} (h : (Jvm.Cond.and given_1 narrow_1).before args s = true) (hr : rest_1_c.before args s = true) (hmod : modulesRight_1 s = true) : ∃ (b : Addr) (xs : List Int32), lw_P b xs args s := by
  have hs := flat_of_before _ h
  have hq := flat_of_before _ hr
  have hc : (Cond.count 1).before args s = true := hs _ (by decide +kernel)
  have harr : (Cond.arrayOf (.arg 0) .int).before args s = true := hs _ (by decide +kernel)
  have hle : (Cond.le (.length (.arg 0)) (.int 384)).before args s = true := hs _ (by decide +kernel)
  have hlen : (Cond.isInt (.length (.arg 0))).before args s = true := hq _ (by decide +kernel)
  have hall : (Cond.all (.arg 0) (.isInt (.elem (.arg 0) (.index 0)))).before args s = true := hq _ (by decide +kernel)
  obtain ⟨b, xs, hb, hx⟩ := State.ints_of_pre rfl harr hlen hall
  have hsm : xs.length < 2 ^ 31 := hx.choose_spec.2.2.2
  have hev : (Term.length (.arg 0)).eval args s none [] s = some (.int xs.length.toInt32) := hx.length_eval hb
  have hv := Cond.le_ints hev (show (Term.int 384).eval args s none [] s = some (.int 384) from rfl)
  have hd : xs.length.toInt32 ≤ 384 := by
    simpa [Cond.before, Cond.holds, hv] using hle
  have hN : xs.length ≤ 384 := (Int32.ofNat_le_ofNat hsm (by decide)).mp (show Int32.ofNat xs.length ≤ Int32.ofNat 384 from hd)
  exact ⟨b, xs, Cond.one_arg hc (show args[0]? = some (.ref b) from hb), hx, hN, h, hmod⟩
theorem lw_comes (pl : ∀ (xs : Nat → Int32) (L : Nat), L ≤ 384 → w_L_law xs L χ00 (fun r _ => r = 1)) (l : Launch) (hfl : l.stackTraces = false) : Comes l x (Jvm.Cond.code x code maxLocals ret :: tables_1) room_1 (fun tb e args s => Calls_1 tb e args s ∧ rest_1 tb e args s ∧ Pre_1 tb e args s)
    (fun _ _ args s o t => lw_Q args s o t) := by
  intro p e ha hc hk s m args below hf hfit hheap happ hpre
  obtain ⟨b, xs, hP⟩ := lw_pre_spec hpre.2.2 hpre.2.1.1 hpre.2.1.2
  obtain ⟨k, o, h1, h2, h3, hQ⟩ := lw_walk pl l hfl b xs p e ha hc hk s m args below hf ((Spec.applies_iff_loose hf).mp happ).1 hP trivial
  exact ⟨k, o, h1, h2, h3, hQ⟩
theorem lw_frame {s t : State} {o : Outcome} {args : Array Value} (h : Framed s o t [] 603072 7262314) :
    Framed s o t (fieldLocs frame_1_writes args s ++ arrayLocs frame_1_arrays args s ++ staticLocs frame_1_statics s) 603072 7262314 := h
theorem lw_limb (pl : ∀ (xs : Nat → Int32) (L : Nat), L ≤ 384 → w_L_law xs L χ00 (fun r _ => r = 1)) (L : Cond) (hL : ∀ (args : Array Value) (s t : State), L.after args s (.returned (some (.int 1))) t = true) :
    ArmFor flags0 classFile x code maxLocals ret World_1 tables_1 room_1 Calls_1 rest_1 Pre_1
      (fun tb e a s o t => postC L tb e a s o t ∧ Framed s o t (fieldLocs frame_1_writes a s ++ arrayLocs frame_1_arrays a s ++ staticLocs frame_1_statics s) 603072 7262314) := by
  intro l hflags _ _ p e ha hc hk s m args below hf hfit hheap happ hpre
  obtain ⟨k, o, h1, h2, h3, rfl, hF⟩ := lw_comes pl l (by unfold Launch.stackTraces; rw [hflags]; decide) p e ha hc hk s m args below hf hfit hheap happ hpre
  exact ⟨k, _, h1, h2, h3, hL args s _, lw_frame hF⟩
theorem i_vc_of (pl : ∀ (xs : Nat → Int32) (L : Nat), L ≤ 384 → w_L_law xs L χ00 (fun r _ => r = 1)) : Claimed_1_1 ∧ Claimed_1_2 := ⟨lw_limb pl limb_1_1 (fun args s t => by simp [limb_1_1, Cond.after, Cond.holds, Cond.value]), lw_limb pl limb_1_2 (fun args s t => Cond.after_iff.mpr (by
  first | (rw [show limb_1_2 = Cond.eq .result (.int 1) from rfl, Cond.eq_ints (x := 1) (y := 1) rfl rfl]; simp; done) | (simp [limb_1_2, Cond.value, Term.eval]; done)))⟩
