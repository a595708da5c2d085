set_option maxRecDepth 100000
set_option maxHeartbeats 4000000
theorem lays_any {A : Array Value} {s : State} {o n d : String} (h : (Cond.laysStatic o n d).before A s = true) : (Cond.laysStatic o n d).before #[] s = true := by
  obtain ⟨c, k, i, f, a, cell, hc, hi, hst, ha, hcell, hs, hcls, hlt, hty⟩ := Cond.laysStatic_spec h
  exact Cond.laysStatic_of (s := s) hc hi hst ha hcell hs hcls hlt hty
theorem ref_any {A : Array Value} {s : State} {o n d : String} (h : (Cond.laysStatic o n d).before A s = true) (h2 : (Cond.isRef (.static o n d)).before A s = true) : (Cond.isRef (.static o n d)).before #[] s = true := by
  obtain ⟨c, k, i, f, a, cell, hc, hi, hst, ha, hcell, hs, hcls, hlt, hty⟩ := Cond.laysStatic_spec h
  have he : (Term.static o n d).eval A s none [] s = cell.slots[f.slot]? := by simp [Term.eval, State.fieldNamed?, hi, hst, ha, hcell, hs]
  have he2 : (Term.static o n d).eval #[] s none [] s = cell.slots[f.slot]? := by simp [Term.eval, State.fieldNamed?, hi, hst, ha, hcell, hs]
  simp only [Cond.before, Cond.holds, Cond.value] at h2 ⊢
  rw [he] at h2
  rw [he2]
  exact h2
theorem not_any {A : Array Value} {s : State} {C T : String} (h : (Cond.not (.castable C T)).before A s = true) : (Cond.not (.castable C T)).before #[] s = true := h
theorem vk_S_congr {N : Nat} {len : List Nat} {byt : List (List Int32)} {k k' v v' : Nat → Nat} {A : Nat → Prop} {U : State} {H : Heap} (h : vk_S N len byt k v A U H) (e1 : ∀ i, i < N → k' i = k i) (e2 : ∀ i, i < N → v' i = v i) : vk_S N len byt k' v' A U H :=
  ⟨fun i hi => by rw [e1 i hi, e2 i hi]; exact h.1 i hi, fun i j hi hj e => h.2 i j hi hj (by rw [← e1 i hi, ← e1 j hj]; exact e)⟩
abbrev tyl : List FieldType := [.int, .byte, .short, .long, .boolean, .object "ChairOld$Part", .object "ChairOld$Kind", .object "ChairOld$Mark", .object "ChairOld$Change", .object "ChairOld$Paper", .object "ChairOld$Plain", .object "ChairOld$Held"]
theorem kk_start {s : State} {b : Nat} (hts : ∀ w ∈ lw_tbl, w.before #[Value.ref b] s = true) (hgv : (Jvm.Cond.and given_1 narrow_1).before #[Value.ref b] s = true) (hmod : modulesRight_1 s = true) : ∃ (D : va_G) (κ : Nat → ClassId), KK (s.heap.size, s.heap, D, κ) s := by
  have ha : ∀ w ∈ lw_all, w.before #[Value.ref b] s = true := fun w h => hts w (lw_all_tbl h)
  have hfl := flat_of_before _ hgv
  have hnd : ∀ w ∈ nd00, w.before #[Value.ref b] s = true := fun w h => hfl w (nd00_in w h)
  have hD : ∀ ci : Nat, ∃ q0 : ClassId × (Nat → Nat), ∀ q : vw_C, vcl[ci]? = some q → u_Kn s q.1 q.2.1 q.2.2 q0.1 q0.2 := by
    intro ci
    rcases Nat.lt_or_ge ci 28 with h | h
    · rcases (show ci = 0 ∨ ci = 1 ∨ ci = 2 ∨ ci = 3 ∨ ci = 4 ∨ ci = 5 ∨ ci = 6 ∨ ci = 7 ∨ ci = 8 ∨ ci = 9 ∨ ci = 10 ∨ ci = 11 ∨ ci = 12 ∨ ci = 13 ∨ ci = 14 ∨ ci = 15 ∨ ci = 16 ∨ ci = 17 ∨ ci = 18 ∨ ci = 19 ∨ ci = 20 ∨ ci = 21 ∨ ci = 22 ∨ ci = 23 ∨ ci = 24 ∨ ci = 25 ∨ ci = 26 ∨ ci = 27 by omega) with rfl | rfl | rfl | rfl | rfl | rfl | rfl | rfl | rfl | rfl | rfl | rfl | rfl | rfl | rfl | rfl | rfl | rfl | rfl | rfl | rfl | rfl | rfl | rfl | rfl | rfl | rfl | rfl
      · obtain ⟨c, I, hk⟩ := u_known ha in_X0 (ha _ q133)
        exact ⟨(c, I), fun q e => by have e2 : (RX0, TX0, 25) = q := Option.some.inj e; subst e2; exact hk⟩
      · obtain ⟨c, I, hk⟩ := u_known ha in_X1 (ha _ q144)
        exact ⟨(c, I), fun q e => by have e2 : (RX1, TX1, 2) = q := Option.some.inj e; subst e2; exact hk⟩
      · obtain ⟨c, I, hk⟩ := u_known ha in_X2 (ha _ q159)
        exact ⟨(c, I), fun q e => by have e2 : (RX2, TX2, 3) = q := Option.some.inj e; subst e2; exact hk⟩
      · obtain ⟨c, I, hk⟩ := u_known ha in_X3 (ha _ q179)
        exact ⟨(c, I), fun q e => by have e2 : (RX3, TX3, 1) = q := Option.some.inj e; subst e2; exact hk⟩
      · obtain ⟨c, I, hk⟩ := u_known ha in_X4 (ha _ q1500)
        exact ⟨(c, I), fun q e => by have e2 : (RX4, TX4, 44) = q := Option.some.inj e; subst e2; exact hk⟩
      · obtain ⟨c, I, hk⟩ := u_known ha in_X5 (ha _ q288)
        exact ⟨(c, I), fun q e => by have e2 : (RX5, TX5, 4) = q := Option.some.inj e; subst e2; exact hk⟩
      · obtain ⟨c, I, hk⟩ := u_known ha in_X6 (ha _ q492)
        exact ⟨(c, I), fun q e => by have e2 : (RX6, TX6, 4) = q := Option.some.inj e; subst e2; exact hk⟩
      · obtain ⟨c, I, hk⟩ := u_known ha in_X7 (ha _ q523)
        exact ⟨(c, I), fun q e => by have e2 : (RX7, TX7, 4) = q := Option.some.inj e; subst e2; exact hk⟩
      · obtain ⟨c, I, hk⟩ := u_known ha in_X8 (ha _ q551)
        exact ⟨(c, I), fun q e => by have e2 : (RX8, TX8, 3) = q := Option.some.inj e; subst e2; exact hk⟩
      · obtain ⟨c, I, hk⟩ := u_known ha in_X10 (ha _ q689)
        exact ⟨(c, I), fun q e => by have e2 : (RX10, TX10, 1) = q := Option.some.inj e; subst e2; exact hk⟩
      · obtain ⟨c, I, hk⟩ := u_known ha in_X11 (ha _ q710)
        exact ⟨(c, I), fun q e => by have e2 : (RX11, TX11, 1) = q := Option.some.inj e; subst e2; exact hk⟩
      · obtain ⟨c, I, hk⟩ := u_known ha in_X12 (ha _ q720)
        exact ⟨(c, I), fun q e => by have e2 : (RX12, TX12, 1) = q := Option.some.inj e; subst e2; exact hk⟩
      · obtain ⟨c, I, hk⟩ := u_known ha in_X13 (ha _ q731)
        exact ⟨(c, I), fun q e => by have e2 : (RX13, TX13, 1) = q := Option.some.inj e; subst e2; exact hk⟩
      · obtain ⟨c, I, hk⟩ := u_known ha in_X14 (ha _ q746)
        exact ⟨(c, I), fun q e => by have e2 : (RX14, TX14, 3) = q := Option.some.inj e; subst e2; exact hk⟩
      · obtain ⟨c, I, hk⟩ := u_known ha in_X15 (ha _ q953)
        exact ⟨(c, I), fun q e => by have e2 : (RX15, TX15, 3) = q := Option.some.inj e; subst e2; exact hk⟩
      · obtain ⟨c, I, hk⟩ := u_known ha in_X17 (ha _ q1120)
        exact ⟨(c, I), fun q e => by have e2 : (RX17, TX17, 2) = q := Option.some.inj e; subst e2; exact hk⟩
      · obtain ⟨c, I, hk⟩ := u_known ha in_X18 (ha _ q1021)
        exact ⟨(c, I), fun q e => by have e2 : (RX18, TX18, 3) = q := Option.some.inj e; subst e2; exact hk⟩
      · obtain ⟨c, I, hk⟩ := u_known ha in_X19 (ha _ q1043)
        exact ⟨(c, I), fun q e => by have e2 : (RX19, TX19, 3) = q := Option.some.inj e; subst e2; exact hk⟩
      · obtain ⟨c, I, hk⟩ := u_known ha in_X20 (ha _ q1055)
        exact ⟨(c, I), fun q e => by have e2 : (RX20, TX20, 4) = q := Option.some.inj e; subst e2; exact hk⟩
      · obtain ⟨c, I, hk⟩ := u_known ha in_X21 (ha _ q1068)
        exact ⟨(c, I), fun q e => by have e2 : (RX21, TX21, 4) = q := Option.some.inj e; subst e2; exact hk⟩
      · obtain ⟨c, I, hk⟩ := u_known ha in_X22 (ha _ q1081)
        exact ⟨(c, I), fun q e => by have e2 : (RX22, TX22, 5) = q := Option.some.inj e; subst e2; exact hk⟩
      · obtain ⟨c, I, hk⟩ := u_known ha in_X23 (ha _ q1095)
        exact ⟨(c, I), fun q e => by have e2 : (RX23, TX23, 3) = q := Option.some.inj e; subst e2; exact hk⟩
      · obtain ⟨c, I, hk⟩ := u_known ha in_X24 (ha _ q1107)
        exact ⟨(c, I), fun q e => by have e2 : (RX24, TX24, 5) = q := Option.some.inj e; subst e2; exact hk⟩
      · obtain ⟨c, I, hk⟩ := u_known ha in_X26 (ha _ q1301)
        exact ⟨(c, I), fun q e => by have e2 : (RX26, TX26, 1) = q := Option.some.inj e; subst e2; exact hk⟩
      · obtain ⟨c, I, hk⟩ := u_known ha in_X27 (ha _ q1314)
        exact ⟨(c, I), fun q e => by have e2 : (RX27, TX27, 1) = q := Option.some.inj e; subst e2; exact hk⟩
      · obtain ⟨c, I, hk⟩ := u_known ha in_X28 (ha _ q1325)
        exact ⟨(c, I), fun q e => by have e2 : (RX28, TX28, 1) = q := Option.some.inj e; subst e2; exact hk⟩
      · obtain ⟨c, I, hk⟩ := u_known ha in_X29 (ha _ q1335)
        exact ⟨(c, I), fun q e => by have e2 : (RX29, TX29, 1) = q := Option.some.inj e; subst e2; exact hk⟩
      · obtain ⟨c, I, hk⟩ := u_known ha in_X30 (ha _ q1345)
        exact ⟨(c, I), fun q e => by have e2 : (RX30, TX30, 1) = q := Option.some.inj e; subst e2; exact hk⟩
    · exact ⟨(0, fun _ => 0), fun q e => by rw [List.getElem?_eq_none h] at e; cases e⟩
  have hκ : ∀ e : Nat, ∃ cA : ClassId, ∀ q : FieldType, tyl[e]? = some q → ArrOfT s cA q ∧ va_RA s cA q := by
    intro e
    rcases Nat.lt_or_ge e 12 with h | h
    · rcases (show e = 0 ∨ e = 1 ∨ e = 2 ∨ e = 3 ∨ e = 4 ∨ e = 5 ∨ e = 6 ∨ e = 7 ∨ e = 8 ∨ e = 9 ∨ e = 10 ∨ e = 11 by omega) with rfl | rfl | rfl | rfl | rfl | rfl | rfl | rfl | rfl | rfl | rfl | rfl
      · obtain ⟨c, k, comp, h1, h2, h3⟩ := Cond.arrayClass_spec (ha _ q191)
        exact ⟨c, fun q e => by have e2 : (.int : FieldType) = q := Option.some.inj e; subst e2; exact ⟨fun N z => ⟨(fun k h => by cases h), k, h2, comp, h3⟩, h1⟩⟩
      · obtain ⟨c, k, comp, h1, h2, h3⟩ := Cond.arrayClass_spec (ha _ q190)
        exact ⟨c, fun q e => by have e2 : (.byte : FieldType) = q := Option.some.inj e; subst e2; exact ⟨fun N z => ⟨(fun k h => by cases h), k, h2, comp, h3⟩, h1⟩⟩
      · obtain ⟨c, k, comp, h1, h2, h3⟩ := Cond.arrayClass_spec (ha _ q1323)
        exact ⟨c, fun q e => by have e2 : (.short : FieldType) = q := Option.some.inj e; subst e2; exact ⟨fun N z => ⟨(fun k h => by cases h), k, h2, comp, h3⟩, h1⟩⟩
      · obtain ⟨c, k, comp, h1, h2, h3⟩ := Cond.arrayClass_spec (ha _ q276)
        exact ⟨c, fun q e => by have e2 : (.long : FieldType) = q := Option.some.inj e; subst e2; exact ⟨fun N z => ⟨(fun k h => by cases h), k, h2, comp, h3⟩, h1⟩⟩
      · obtain ⟨c, k, comp, h1, h2, h3⟩ := Cond.arrayClass_spec (ha _ q1354)
        exact ⟨c, fun q e => by have e2 : (.boolean : FieldType) = q := Option.some.inj e; subst e2; exact ⟨fun N z => ⟨(fun k h => by cases h), k, h2, comp, h3⟩, h1⟩⟩
      · obtain ⟨comp, c, k, h1, -, h3, h4, h5⟩ := Cond.arrayOver_spec (hts _ q141)
        exact ⟨c, fun q e => by have e2 : (.object "ChairOld$Part" : FieldType) = q := Option.some.inj e; subst e2; exact ⟨fun N z => ⟨(fun k h => by cases h), k, h3, comp, h4⟩, k, comp, h3, h4, h1, h5⟩⟩
      · obtain ⟨comp, c, k, h1, -, h3, h4, h5⟩ := Cond.arrayOver_spec (hts _ q143)
        exact ⟨c, fun q e => by have e2 : (.object "ChairOld$Kind" : FieldType) = q := Option.some.inj e; subst e2; exact ⟨fun N z => ⟨(fun k h => by cases h), k, h3, comp, h4⟩, k, comp, h3, h4, h1, h5⟩⟩
      · obtain ⟨comp, c, k, h1, -, h3, h4, h5⟩ := Cond.arrayOver_spec (hts _ q158)
        exact ⟨c, fun q e => by have e2 : (.object "ChairOld$Mark" : FieldType) = q := Option.some.inj e; subst e2; exact ⟨fun N z => ⟨(fun k h => by cases h), k, h3, comp, h4⟩, k, comp, h3, h4, h1, h5⟩⟩
      · obtain ⟨comp, c, k, h1, -, h3, h4, h5⟩ := Cond.arrayOver_spec (hts _ q177)
        exact ⟨c, fun q e => by have e2 : (.object "ChairOld$Change" : FieldType) = q := Option.some.inj e; subst e2; exact ⟨fun N z => ⟨(fun k h => by cases h), k, h3, comp, h4⟩, k, comp, h3, h4, h1, h5⟩⟩
      · obtain ⟨comp, c, k, h1, -, h3, h4, h5⟩ := Cond.arrayOver_spec (hts _ q193)
        exact ⟨c, fun q e => by have e2 : (.object "ChairOld$Paper" : FieldType) = q := Option.some.inj e; subst e2; exact ⟨fun N z => ⟨(fun k h => by cases h), k, h3, comp, h4⟩, k, comp, h3, h4, h1, h5⟩⟩
      · obtain ⟨comp, c, k, h1, -, h3, h4, h5⟩ := Cond.arrayOver_spec (hts _ q195)
        exact ⟨c, fun q e => by have e2 : (.object "ChairOld$Plain" : FieldType) = q := Option.some.inj e; subst e2; exact ⟨fun N z => ⟨(fun k h => by cases h), k, h3, comp, h4⟩, k, comp, h3, h4, h1, h5⟩⟩
      · obtain ⟨comp, c, k, h1, -, h3, h4, h5⟩ := Cond.arrayOver_spec (hts _ q197)
        exact ⟨c, fun q e => by have e2 : (.object "ChairOld$Held" : FieldType) = q := Option.some.inj e; subst e2; exact ⟨fun N z => ⟨(fun k h => by cases h), k, h3, comp, h4⟩, k, comp, h3, h4, h1, h5⟩⟩
    · exact ⟨0, fun q e => by rw [List.getElem?_eq_none h] at e; cases e⟩
  have hS := vk_Sof (args := #[Value.ref b]) (s := s) (N := 4) (tm := fun i => [(Term.string "ChairOld$Reader" 79), (Term.string "ChairOld$Reader" 88), (Term.string "ChairOld$Reader" 93), (Term.string "ChairOld$Reader" 98)].getD i (.int 0)) (len := sLen) (byt := sByt) (A := fun q => s.heap.size ≤ q)
    (fun i hi => by
      rcases (show i = 0 ∨ i = 1 ∨ i = 2 ∨ i = 3 by omega) with rfl | rfl | rfl | rfl <;> decide)
    (fun i hi => by
      rcases (show i = 0 ∨ i = 1 ∨ i = 2 ∨ i = 3 by omega) with rfl | rfl | rfl | rfl <;> exact hnd _ (by decide +kernel))
    (fun i hi => by
      rcases (show i = 0 ∨ i = 1 ∨ i = 2 ∨ i = 3 by omega) with rfl | rfl | rfl | rfl <;> exact hnd _ (by decide +kernel))
    (fun i hi => by
      rcases (show i = 0 ∨ i = 1 ∨ i = 2 ∨ i = 3 by omega) with rfl | rfl | rfl | rfl <;> exact hnd _ (by decide +kernel))
    (fun i hi => by
      rcases (show i = 0 ∨ i = 1 ∨ i = 2 ∨ i = 3 by omega) with rfl | rfl | rfl | rfl <;> exact hnd _ (by decide +kernel))
    (fun i hi j hj => by
      rcases (show i = 0 ∨ i = 1 ∨ i = 2 ∨ i = 3 by omega) with rfl | rfl | rfl | rfl
      · have hj2 : j < 3 := hj
        rcases (show j = 0 ∨ j = 1 ∨ j = 2 by omega) with rfl | rfl | rfl <;> exact hnd _ (by decide +kernel)
      · have hj2 : j < 2 := hj
        rcases (show j = 0 ∨ j = 1 by omega) with rfl | rfl <;> exact hnd _ (by decide +kernel)
      · have hj2 : j < 3 := hj
        rcases (show j = 0 ∨ j = 1 ∨ j = 2 by omega) with rfl | rfl | rfl <;> exact hnd _ (by decide +kernel)
      · have hj2 : j < 4 := hj
        rcases (show j = 0 ∨ j = 1 ∨ j = 2 ∨ j = 3 by omega) with rfl | rfl | rfl | rfl <;> exact hnd _ (by decide +kernel))
    (fun i j hi hj hij => by
      rcases (show i = 0 ∨ i = 1 ∨ i = 2 ∨ i = 3 by omega) with rfl | rfl | rfl | rfl <;> rcases (show j = 0 ∨ j = 1 ∨ j = 2 ∨ j = 3 by omega) with rfl | rfl | rfl | rfl <;> first | exact absurd rfl hij | exact Or.inl (hnd _ (by decide +kernel)) | exact Or.inr (hnd _ (by decide +kernel)))
    (fun a h1 h2 => by omega)
  obtain ⟨adK, adV, hvk, hev⟩ := hS
  let D : va_G := (fun ci => (hD ci).choose.1, fun ci => (hD ci).choose.2)
  let κ : Nat → ClassId := fun k => if k < 12 then (hκ k).choose else if k < 110 then adK (k - 100) else adV (k - 110)
  have hk1 : ∀ i, i < 4 → κ (100 + i) = adK i := fun i hi => by
    show (if 100 + i < 12 then _ else if 100 + i < 110 then adK (100 + i - 100) else _) = _
    rw [if_neg (by omega), if_pos (by omega), show 100 + i - 100 = i by omega]
  have hk2 : ∀ i, i < 4 → κ (110 + i) = adV i := fun i hi => by
    show (if 110 + i < 12 then _ else if 110 + i < 110 then _ else adV (110 + i - 110)) = _
    rw [if_neg (by omega), if_neg (by omega), show 110 + i - 110 = i by omega]
  refine ⟨D, κ, ⟨fun ci q hq => (hD ci).choose_spec q hq, fun k q hq => ?_⟩, fun w hw hn => ?_, ?_, ⟨vk_S_congr hvk hk1 hk2, ⟨?_, ?_, ?_, ?_⟩, ?_⟩, s, Vm.Alike.refl _, rfl, rfl, ?_⟩
  · have hk12 : k < 12 := (List.getElem?_eq_some_iff.mp hq).1
    have hκk : κ k = (hκ k).choose := if_pos hk12
    have hq2 : (vtys κ)[k]? = (tyl[k]?).map fun t => (κ k, t) := by
      rcases (show k = 0 ∨ k = 1 ∨ k = 2 ∨ k = 3 ∨ k = 4 ∨ k = 5 ∨ k = 6 ∨ k = 7 ∨ k = 8 ∨ k = 9 ∨ k = 10 ∨ k = 11 by omega) with rfl | rfl | rfl | rfl | rfl | rfl | rfl | rfl | rfl | rfl | rfl | rfl <;> rfl
    rw [hq2] at hq
    obtain ⟨t, ht, rfl⟩ := Option.map_eq_some_iff.mp hq
    show ArrOfT s (κ k) t ∧ va_RA s (κ k) t
    rw [hκk]
    exact (hκ k).choose_spec t ht
  · have h1 := hts w hw
    cases w <;> simp only [nxW] at hn <;> first | exact va_Nw.of rfl h1 | (exact absurd hn (by decide)) | skip
    case arrayOver t =>
      cases t <;> simp only [nxW] at hn <;> first | exact h1 | (exact absurd hn (by decide))
  · intro q hq
    simp only [fwl, List.mem_cons, List.not_mem_nil, or_false] at hq
    rcases hq with rfl | rfl | rfl | rfl | rfl | rfl | rfl | rfl | rfl | rfl | rfl | rfl | rfl | rfl | rfl | rfl
    · exact va_Fw.of (hts _ (List.mem_of_getElem? (i := 1136) (by decide +kernel))) (hts _ (List.mem_of_getElem? (i := 1135) (by decide +kernel))) (hts _ (List.mem_of_getElem? (i := 1141) (by decide +kernel))) (hts _ (List.mem_of_getElem? (i := 1174) (by decide +kernel))) (hts _ (List.mem_of_getElem? (i := 1172) (by decide +kernel)))
    · exact va_Fw.of (hts _ (List.mem_of_getElem? (i := 1136) (by decide +kernel))) (hts _ (List.mem_of_getElem? (i := 1135) (by decide +kernel))) (hts _ (List.mem_of_getElem? (i := 1154) (by decide +kernel))) (hts _ (List.mem_of_getElem? (i := 1171) (by decide +kernel))) (hts _ (List.mem_of_getElem? (i := 1169) (by decide +kernel)))
    · exact va_Fw.of (hts _ (List.mem_of_getElem? (i := 1136) (by decide +kernel))) (hts _ (List.mem_of_getElem? (i := 1135) (by decide +kernel))) (hts _ (List.mem_of_getElem? (i := 1141) (by decide +kernel))) (hts _ (List.mem_of_getElem? (i := 1168) (by decide +kernel))) (hts _ (List.mem_of_getElem? (i := 1166) (by decide +kernel)))
    · exact va_Fw.of (hts _ (List.mem_of_getElem? (i := 1136) (by decide +kernel))) (hts _ (List.mem_of_getElem? (i := 1135) (by decide +kernel))) (hts _ (List.mem_of_getElem? (i := 1141) (by decide +kernel))) (hts _ (List.mem_of_getElem? (i := 1139) (by decide +kernel))) (hts _ (List.mem_of_getElem? (i := 1137) (by decide +kernel)))
    · exact va_Fw.of (hts _ (List.mem_of_getElem? (i := 1136) (by decide +kernel))) (hts _ (List.mem_of_getElem? (i := 1135) (by decide +kernel))) (hts _ (List.mem_of_getElem? (i := 1154) (by decide +kernel))) (hts _ (List.mem_of_getElem? (i := 1177) (by decide +kernel))) (hts _ (List.mem_of_getElem? (i := 1175) (by decide +kernel)))
    · exact va_Fw.of (hts _ (List.mem_of_getElem? (i := 1136) (by decide +kernel))) (hts _ (List.mem_of_getElem? (i := 1135) (by decide +kernel))) (hts _ (List.mem_of_getElem? (i := 1141) (by decide +kernel))) (hts _ (List.mem_of_getElem? (i := 1149) (by decide +kernel))) (hts _ (List.mem_of_getElem? (i := 1147) (by decide +kernel)))
    · exact va_Fw.of (hts _ (List.mem_of_getElem? (i := 1136) (by decide +kernel))) (hts _ (List.mem_of_getElem? (i := 1135) (by decide +kernel))) (hts _ (List.mem_of_getElem? (i := 1162) (by decide +kernel))) (hts _ (List.mem_of_getElem? (i := 1160) (by decide +kernel))) (hts _ (List.mem_of_getElem? (i := 1158) (by decide +kernel)))
    · exact va_Fw.of (hts _ (List.mem_of_getElem? (i := 1136) (by decide +kernel))) (hts _ (List.mem_of_getElem? (i := 1135) (by decide +kernel))) (hts _ (List.mem_of_getElem? (i := 1154) (by decide +kernel))) (hts _ (List.mem_of_getElem? (i := 1152) (by decide +kernel))) (hts _ (List.mem_of_getElem? (i := 1150) (by decide +kernel)))
    · exact va_Fw.of (hts _ (List.mem_of_getElem? (i := 1181) (by decide +kernel))) (hts _ (List.mem_of_getElem? (i := 1180) (by decide +kernel))) (hts _ (List.mem_of_getElem? (i := 1186) (by decide +kernel))) (hts _ (List.mem_of_getElem? (i := 1266) (by decide +kernel))) (hts _ (List.mem_of_getElem? (i := 1264) (by decide +kernel)))
    · exact va_Fw.of (hts _ (List.mem_of_getElem? (i := 1181) (by decide +kernel))) (hts _ (List.mem_of_getElem? (i := 1180) (by decide +kernel))) (hts _ (List.mem_of_getElem? (i := 1186) (by decide +kernel))) (hts _ (List.mem_of_getElem? (i := 1263) (by decide +kernel))) (hts _ (List.mem_of_getElem? (i := 1261) (by decide +kernel)))
    · exact va_Fw.of (hts _ (List.mem_of_getElem? (i := 1181) (by decide +kernel))) (hts _ (List.mem_of_getElem? (i := 1180) (by decide +kernel))) (hts _ (List.mem_of_getElem? (i := 1186) (by decide +kernel))) (hts _ (List.mem_of_getElem? (i := 1260) (by decide +kernel))) (hts _ (List.mem_of_getElem? (i := 1258) (by decide +kernel)))
    · exact va_Fw.of (hts _ (List.mem_of_getElem? (i := 1181) (by decide +kernel))) (hts _ (List.mem_of_getElem? (i := 1180) (by decide +kernel))) (hts _ (List.mem_of_getElem? (i := 1186) (by decide +kernel))) (hts _ (List.mem_of_getElem? (i := 1184) (by decide +kernel))) (hts _ (List.mem_of_getElem? (i := 1182) (by decide +kernel)))
    · exact va_Fw.of (hts _ (List.mem_of_getElem? (i := 1181) (by decide +kernel))) (hts _ (List.mem_of_getElem? (i := 1180) (by decide +kernel))) (hts _ (List.mem_of_getElem? (i := 1186) (by decide +kernel))) (hts _ (List.mem_of_getElem? (i := 1269) (by decide +kernel))) (hts _ (List.mem_of_getElem? (i := 1267) (by decide +kernel)))
    · exact va_Fw.of (hts _ (List.mem_of_getElem? (i := 1181) (by decide +kernel))) (hts _ (List.mem_of_getElem? (i := 1180) (by decide +kernel))) (hts _ (List.mem_of_getElem? (i := 1241) (by decide +kernel))) (hts _ (List.mem_of_getElem? (i := 1239) (by decide +kernel))) (hts _ (List.mem_of_getElem? (i := 1237) (by decide +kernel)))
    · exact va_Fw.of (hts _ (List.mem_of_getElem? (i := 1181) (by decide +kernel))) (hts _ (List.mem_of_getElem? (i := 1180) (by decide +kernel))) (hts _ (List.mem_of_getElem? (i := 1186) (by decide +kernel))) (hts _ (List.mem_of_getElem? (i := 1257) (by decide +kernel))) (hts _ (List.mem_of_getElem? (i := 1255) (by decide +kernel)))
    · exact va_Fw.of (hts _ (List.mem_of_getElem? (i := 1181) (by decide +kernel))) (hts _ (List.mem_of_getElem? (i := 1180) (by decide +kernel))) (hts _ (List.mem_of_getElem? (i := 1251) (by decide +kernel))) (hts _ (List.mem_of_getElem? (i := 1249) (by decide +kernel))) (hts _ (List.mem_of_getElem? (i := 1247) (by decide +kernel)))
  · refine vk_R.of (A := #[Value.ref b]) (hts _ (List.mem_of_getElem? (i := 762) (by decide +kernel))) ?_
    show _ = some (Value.ref (κ (100 + 0)))
    rw [hk1 0 (by decide)]
    exact hev 0 (by decide)
  · refine vk_R.of (A := #[Value.ref b]) (hts _ (List.mem_of_getElem? (i := 761) (by decide +kernel))) ?_
    show _ = some (Value.ref (κ (100 + 1)))
    rw [hk1 1 (by decide)]
    exact hev 1 (by decide)
  · refine vk_R.of (A := #[Value.ref b]) (hts _ (List.mem_of_getElem? (i := 740) (by decide +kernel))) ?_
    show _ = some (Value.ref (κ (100 + 2)))
    rw [hk1 2 (by decide)]
    exact hev 2 (by decide)
  · refine vk_R.of (A := #[Value.ref b]) (hts _ (List.mem_of_getElem? (i := 597) (by decide +kernel))) ?_
    show _ = some (Value.ref (κ (100 + 3)))
    rw [hk1 3 (by decide)]
    exact hev 3 (by decide)
  · exact va_Zof (hts _ (List.mem_of_getElem? (i := 615) (by decide +kernel))) (hts _ (List.mem_of_getElem? (i := 95) (by decide +kernel))) (va_eqt (hnd _ (by decide +kernel))) (fun a h1 h2 => by omega)
  · exact ⟨⟨lays_any (hts _ (List.mem_of_getElem? (i := 329) (by decide +kernel))), lays_any (hts _ (List.mem_of_getElem? (i := 331) (by decide +kernel)))⟩, ⟨ref_any (hts _ (List.mem_of_getElem? (i := 329) (by decide +kernel))) (hnd _ (by decide +kernel)), ref_any (hts _ (List.mem_of_getElem? (i := 331) (by decide +kernel))) (hnd _ (by decide +kernel))⟩, fun q hq => not_any (hfl _ (nc00_in q hq)), hmod⟩
