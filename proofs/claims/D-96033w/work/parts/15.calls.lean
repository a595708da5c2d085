set_option maxRecDepth 100000
abbrev pI (Q : Int32 → St → Prop) : Option Value → (Nat → Nat → Nat) → St → Prop := fun v _ χ => ∃ r, v = some (.int r) ∧ Q r χ
abbrev pL (Q : Int64 → St → Prop) : Option Value → (Nat → Nat → Nat) → St → Prop := fun v _ χ => ∃ r, v = some (.long r) ∧ Q r χ
abbrev pV (Q : St → Prop) : Option Value → (Nat → Nat → Nat) → St → Prop := fun v _ χ => v = none ∧ Q χ
abbrev pR (d : Nat) (Q : Option Nat → St → Prop) : Option Value → (Nat → Nat → Nat) → St → Prop := fun v ad χ => ∃ o : Option Nat, v = some (va_rf (o.map (ad d))) ∧ (∀ x, o = some x → x < cn χ d) ∧ Q o χ
theorem Mt.no {l : Launch} {y : MethodName} {ws : List Cond} {rm : Room} {Γ : Gh} {ad : Nat → Nat → Nat} {χ : St} {av : List Value} {Wp : Prop} {Qc : Array Value → State → Outcome → State → Nat → Nat → Prop} {free : Addr → Prop} (h : Wp → False) : Mt l y ws rm (Pm Γ ad χ av Wp) Qc free :=
  fun _ _ _ _ _ _ _ _ _ _ _ hP _ => (h hP.2.2.2).elim
/-- a switch's value outside its table -/
theorem tb_out {x : Int32} {lo hi : Int} (h : ∀ v : Int, lo ≤ v → v ≤ hi → ¬ x = Int32.ofInt v) : x.toInt < lo ∨ hi < x.toInt := by
  by_cases h1 : x.toInt < lo
  · exact Or.inl h1
  · by_cases h2 : hi < x.toInt
    · exact Or.inr h2
    · exact absurd (Int32.ofInt_toInt x).symm (h x.toInt (by omega) (by omega))
theorem lk_ne {x : Int32} {k : Int} {v : Int32} (h : ¬ x = v) (hv : Int32.ofInt k = v := by rfl) : ¬ k = x.toInt := fun e => h (by rw [← hv, e]; exact (Int32.ofInt_toInt x).symm)
section GC
variable {X : Cx} {cc : ByteArray} {own : String} {ret : Option FieldType} {y0 : MethodName} {nL F Lo : Nat} {Pst : Option Value → (Nat → Nat → Nat) → St → Prop} {ad : Nat → Nat → Nat} {χ : St} {pc : Nat} {lv lv2 : List (Nat × Value)} {st st0 : List Value}
variable {y : MethodName} {b : ByteArray} {L F' Lo' n index : Nat} {r : Option FieldType} {Wp : Prop} {As : List Value}
theorem g_callVi (h : Ok X cc own ret y0 nL F Lo Pst) {c i ci : Nat} {ft : List (Nat × Nat)} {C : String} {T : u_T} {N : Nat} {Q : Int32 → St → Prop} (hM : Mt X.l y (ws_ y b L r) (rmO F' Lo' χ) (Pm X.Γ ad χ (.ref (ad c i) :: As) Wp) (Qm X.Γ true ad χ (pI Q)) (frB X.Γ)) (hw : Wp)
    (q1 : Cond.methodLink own index y ∈ lw_all) (q2 : Cond.instanceMethod y ∈ lw_all) (q3 : Cond.selects C y y ∈ lw_all) (q4 : Cond.initialized C ∈ lw_all) (q5 : Cond.code y b L r ∈ lw_all)
    (hd0 : y.cls = C ∧ y.cls ≠ "java/lang/invoke/MethodHandle" ∧ y.cls ≠ "java/lang/invoke/VarHandle" ∧ (parseMethodDescriptor y.desc).map (fun d => d.parameters.length) = some n) (hF : F' + 1 ≤ F ∧ 8 + (L + 11) + Lo' ≤ Lo)
    (hi : i < cn χ c) (hf : fam c (tg χ c i) = (1, ci, ft)) (hc : vcl[ci]? = some (C, T, N)) (hn : As.length = n) (hs : st0 = As.reverse ++ .ref (ad c i) :: st) (hst : (st.map fun v => v.category).sum ≤ 8) (hd : decode cc pc = .ok (.invokevirtual index, 3))
    (kk : ∀ r χ', Q r χ' → (∀ c, cn χ c ≤ cn χ' c) → G X ad χ' (pc + 3) lv (.int r :: st)) : G X ad χ pc lv st0 :=
  g_callV h hM hw (fun _ => rfl) q1 q2 q3 q4 q5 hd0 hF hi hf hc hn hs hst hd (fun v ad' χ' hP hna hE => by
    obtain ⟨r, rfl, hf⟩ := hP
    obtain rfl := hna rfl
    exact kk r χ' hf hE.2)
theorem g_callSi (h : Ok X cc own ret y0 nL F Lo Pst) {Q : Int32 → St → Prop} (hM : Mt X.l y (ws_ y b L r) (rmO F' Lo' χ) (Pm X.Γ ad χ As Wp) (Qm X.Γ true ad χ (pI Q)) (frB X.Γ)) (hw : Wp)
    (q1 : Cond.methodLink own index y ∈ lw_all) (q2 : Cond.static y ∈ lw_all) (q4 : Cond.initialized y.cls ∈ lw_all) (q5 : Cond.code y b L r ∈ lw_all)
    (hd0 : y.cls ≠ "java/lang/invoke/MethodHandle" ∧ y.cls ≠ "java/lang/invoke/VarHandle" ∧ (parseMethodDescriptor y.desc).map (fun d => d.parameters.length) = some n) (hF : F' + 1 ≤ F ∧ 8 + (L + 11) + Lo' ≤ Lo)
    (hn : As.length = n) (hs : st0 = As.reverse ++ st) (hst : (st.map fun v => v.category).sum ≤ 8) (hd : decode cc pc = .ok (.invokestatic index, 3))
    (kk : ∀ r χ', Q r χ' → (∀ c, cn χ c ≤ cn χ' c) → G X ad χ' (pc + 3) lv (.int r :: st)) : G X ad χ pc lv st0 :=
  g_callS h hM hw (fun _ => rfl) q1 q2 q4 q5 hd0 hF hn hs hst hd (fun v ad' χ' hP hna hE => by
    obtain ⟨r, rfl, hf⟩ := hP
    obtain rfl := hna rfl
    exact kk r χ' hf hE.2)
theorem g_callVl (h : Ok X cc own ret y0 nL F Lo Pst) {c i ci : Nat} {ft : List (Nat × Nat)} {C : String} {T : u_T} {N : Nat} {Q : Int64 → St → Prop} (hM : Mt X.l y (ws_ y b L r) (rmO F' Lo' χ) (Pm X.Γ ad χ (.ref (ad c i) :: As) Wp) (Qm X.Γ true ad χ (pL Q)) (frB X.Γ)) (hw : Wp)
    (q1 : Cond.methodLink own index y ∈ lw_all) (q2 : Cond.instanceMethod y ∈ lw_all) (q3 : Cond.selects C y y ∈ lw_all) (q4 : Cond.initialized C ∈ lw_all) (q5 : Cond.code y b L r ∈ lw_all)
    (hd0 : y.cls = C ∧ y.cls ≠ "java/lang/invoke/MethodHandle" ∧ y.cls ≠ "java/lang/invoke/VarHandle" ∧ (parseMethodDescriptor y.desc).map (fun d => d.parameters.length) = some n) (hF : F' + 1 ≤ F ∧ 8 + (L + 11) + Lo' ≤ Lo)
    (hi : i < cn χ c) (hf : fam c (tg χ c i) = (1, ci, ft)) (hc : vcl[ci]? = some (C, T, N)) (hn : As.length = n) (hs : st0 = As.reverse ++ .ref (ad c i) :: st) (hst : (st.map fun v => v.category).sum ≤ 8) (hd : decode cc pc = .ok (.invokevirtual index, 3))
    (kk : ∀ r χ', Q r χ' → (∀ c, cn χ c ≤ cn χ' c) → G X ad χ' (pc + 3) lv (.long r :: st)) : G X ad χ pc lv st0 :=
  g_callV h hM hw (fun _ => rfl) q1 q2 q3 q4 q5 hd0 hF hi hf hc hn hs hst hd (fun v ad' χ' hP hna hE => by
    obtain ⟨r, rfl, hf⟩ := hP
    obtain rfl := hna rfl
    exact kk r χ' hf hE.2)
theorem g_callSl (h : Ok X cc own ret y0 nL F Lo Pst) {Q : Int64 → St → Prop} (hM : Mt X.l y (ws_ y b L r) (rmO F' Lo' χ) (Pm X.Γ ad χ As Wp) (Qm X.Γ true ad χ (pL Q)) (frB X.Γ)) (hw : Wp)
    (q1 : Cond.methodLink own index y ∈ lw_all) (q2 : Cond.static y ∈ lw_all) (q4 : Cond.initialized y.cls ∈ lw_all) (q5 : Cond.code y b L r ∈ lw_all)
    (hd0 : y.cls ≠ "java/lang/invoke/MethodHandle" ∧ y.cls ≠ "java/lang/invoke/VarHandle" ∧ (parseMethodDescriptor y.desc).map (fun d => d.parameters.length) = some n) (hF : F' + 1 ≤ F ∧ 8 + (L + 11) + Lo' ≤ Lo)
    (hn : As.length = n) (hs : st0 = As.reverse ++ st) (hst : (st.map fun v => v.category).sum ≤ 8) (hd : decode cc pc = .ok (.invokestatic index, 3))
    (kk : ∀ r χ', Q r χ' → (∀ c, cn χ c ≤ cn χ' c) → G X ad χ' (pc + 3) lv (.long r :: st)) : G X ad χ pc lv st0 :=
  g_callS h hM hw (fun _ => rfl) q1 q2 q4 q5 hd0 hF hn hs hst hd (fun v ad' χ' hP hna hE => by
    obtain ⟨r, rfl, hf⟩ := hP
    obtain rfl := hna rfl
    exact kk r χ' hf hE.2)
theorem g_callVv (h : Ok X cc own ret y0 nL F Lo Pst) {c i ci : Nat} {ft : List (Nat × Nat)} {C : String} {T : u_T} {N : Nat} {Q : St → Prop} (hM : Mt X.l y (ws_ y b L r) (rmO F' Lo' χ) (Pm X.Γ ad χ (.ref (ad c i) :: As) Wp) (Qm X.Γ true ad χ (pV Q)) (frB X.Γ)) (hw : Wp)
    (q1 : Cond.methodLink own index y ∈ lw_all) (q2 : Cond.instanceMethod y ∈ lw_all) (q3 : Cond.selects C y y ∈ lw_all) (q4 : Cond.initialized C ∈ lw_all) (q5 : Cond.code y b L r ∈ lw_all)
    (hd0 : y.cls = C ∧ y.cls ≠ "java/lang/invoke/MethodHandle" ∧ y.cls ≠ "java/lang/invoke/VarHandle" ∧ (parseMethodDescriptor y.desc).map (fun d => d.parameters.length) = some n) (hF : F' + 1 ≤ F ∧ 8 + (L + 11) + Lo' ≤ Lo)
    (hi : i < cn χ c) (hf : fam c (tg χ c i) = (1, ci, ft)) (hc : vcl[ci]? = some (C, T, N)) (hn : As.length = n) (hs : st0 = As.reverse ++ .ref (ad c i) :: st) (hst : (st.map fun v => v.category).sum ≤ 8) (hd : decode cc pc = .ok (.invokevirtual index, 3))
    (kk : ∀ χ', Q χ' → (∀ c, cn χ c ≤ cn χ' c) → G X ad χ' (pc + 3) lv st) : G X ad χ pc lv st0 :=
  g_callV h hM hw (fun _ => rfl) q1 q2 q3 q4 q5 hd0 hF hi hf hc hn hs hst hd (fun v ad' χ' hP hna hE => by
    obtain ⟨rfl, hf⟩ := hP
    obtain rfl := hna rfl
    exact kk χ' hf hE.2)
theorem g_callSv (h : Ok X cc own ret y0 nL F Lo Pst) {Q : St → Prop} (hM : Mt X.l y (ws_ y b L r) (rmO F' Lo' χ) (Pm X.Γ ad χ As Wp) (Qm X.Γ true ad χ (pV Q)) (frB X.Γ)) (hw : Wp)
    (q1 : Cond.methodLink own index y ∈ lw_all) (q2 : Cond.static y ∈ lw_all) (q4 : Cond.initialized y.cls ∈ lw_all) (q5 : Cond.code y b L r ∈ lw_all)
    (hd0 : y.cls ≠ "java/lang/invoke/MethodHandle" ∧ y.cls ≠ "java/lang/invoke/VarHandle" ∧ (parseMethodDescriptor y.desc).map (fun d => d.parameters.length) = some n) (hF : F' + 1 ≤ F ∧ 8 + (L + 11) + Lo' ≤ Lo)
    (hn : As.length = n) (hs : st0 = As.reverse ++ st) (hst : (st.map fun v => v.category).sum ≤ 8) (hd : decode cc pc = .ok (.invokestatic index, 3))
    (kk : ∀ χ', Q χ' → (∀ c, cn χ c ≤ cn χ' c) → G X ad χ' (pc + 3) lv st) : G X ad χ pc lv st0 :=
  g_callS h hM hw (fun _ => rfl) q1 q2 q4 q5 hd0 hF hn hs hst hd (fun v ad' χ' hP hna hE => by
    obtain ⟨rfl, hf⟩ := hP
    obtain rfl := hna rfl
    exact kk χ' hf hE.2)
end GC
theorem fc0 (χ : St) : 0 < cn χ 0 := Nat.zero_lt_one
abbrev fl0 : List (Nat × Nat) := [(201, 100), (202, 101), (203, 102), (0, 103), (204, 104), (0, 105), (0, 106), (205, 107), (0, 108), (206, 109), (208, 110), (209, 111), (210, 112), (211, 113), (1, 114), (212, 115), (213, 116), (214, 117), (0, 118), (0, 119), (0, 120), (215, 121), (216, 122), (0, 123), (217, 124)]
theorem ff0 {t : Nat} : fam 0 t = (1, 0, fl0) := rfl
theorem fc1 (χ : St) : 0 < cn χ 1 := Nat.zero_lt_one
theorem ff1 {t : Nat} : fam 1 t = (4, 5, [(20, 8)]) := rfl
theorem fc2 (χ : St) : 0 < cn χ 2 := Nat.zero_lt_one
theorem ff2 {t : Nat} : fam 2 t = (5, 6, [(18, 6)]) := rfl
theorem fc3 (χ : St) : 0 < cn χ 3 := Nat.zero_lt_one
theorem ff3 {t : Nat} : fam 3 t = (5, 7, [(19, 6)]) := rfl
theorem fc4 (χ : St) : 0 < cn χ 4 := Nat.zero_lt_one
theorem ff4 {t : Nat} : fam 4 t = (4, 8, [(21, 40)]) := rfl
theorem fc5 (χ : St) : 0 < cn χ 5 := Nat.zero_lt_one
theorem ff5 {t : Nat} : fam 5 t = (2, 1, [(0, 120)]) := rfl
theorem fc6 (χ : St) : 0 < cn χ 6 := Nat.zero_lt_one
abbrev fl6 : List (Nat × Nat) := [(207, 700)]
theorem ff6 {t : Nat} : fam 6 t = (1, 3, fl6) := rfl
theorem fc7 (χ : St) : 0 < cn χ 7 := Nat.zero_lt_one
theorem ff7 {t : Nat} : fam 7 t = (2, 0, [(0, 128)]) := rfl
theorem fc8 (χ : St) : 0 < cn χ 8 := Nat.zero_lt_one
theorem ff8 {t : Nat} : fam 8 t = (2, 0, [(0, 1080)]) := rfl
theorem fc9 (χ : St) : 0 < cn χ 9 := Nat.zero_lt_one
theorem ff9 {t : Nat} : fam 9 t = (3, 3, [(0, 180)]) := rfl
theorem fc10 (χ : St) : 0 < cn χ 10 := Nat.zero_lt_one
theorem ff10 {t : Nat} : fam 10 t = (3, 3, [(0, 6)]) := rfl
theorem fc11 (χ : St) : 0 < cn χ 11 := Nat.zero_lt_one
theorem ff11 {t : Nat} : fam 11 t = (2, 1, [(0, 6)]) := rfl
theorem fc12 (χ : St) : 0 < cn χ 12 := Nat.zero_lt_one
theorem ff12 {t : Nat} : fam 12 t = (2, 0, [(0, 8)]) := rfl
theorem fc13 (χ : St) : 0 < cn χ 13 := Nat.zero_lt_one
theorem ff13 {t : Nat} : fam 13 t = (2, 0, [(0, 8)]) := rfl
theorem fc14 (χ : St) : 0 < cn χ 14 := Nat.zero_lt_one
theorem ff14 {t : Nat} : fam 14 t = (4, 9, [(22, 10)]) := rfl
theorem fc15 (χ : St) : 0 < cn χ 15 := Nat.zero_lt_one
theorem ff15 {t : Nat} : fam 15 t = (2, 1, [(0, 24)]) := rfl
theorem fc16 (χ : St) : 0 < cn χ 16 := Nat.zero_lt_one
theorem ff16 {t : Nat} : fam 16 t = (4, 10, [(23, 50)]) := rfl
theorem fc17 (χ : St) : 0 < cn χ 17 := Nat.zero_lt_one
theorem ff17 {t : Nat} : fam 17 t = (4, 11, [(23, 6)]) := rfl
theorem fc18 {χ : St} {i : Nat} (h : i < 6) : i < cn χ 18 := h
abbrev fl18 : List (Nat × Nat) := [(0, 1900), (0, 1901)]
theorem ff18 {t : Nat} : fam 18 t = (1, 1, fl18) := rfl
theorem fc19 {χ : St} {i : Nat} (h : i < 6) : i < cn χ 19 := h
abbrev fl19 : List (Nat × Nat) := [(0, 2000), (0, 2001), (124, 2002)]
theorem ff19 {t : Nat} : fam 19 t = (1, 2, fl19) := rfl
abbrev fl20 : List (Nat × Nat) := [(0, 2100), (0, 2101), (125, 2102), (125, 2103)]
theorem ff20 {t : Nat} : fam 20 t = (1, 5, fl20) := rfl
abbrev fl21 : List (Nat × Nat) := [(0, 2200), (0, 2201), (0, 2202), (0, 2203)]
theorem ff21 {t : Nat} : fam 21 t = (1, 6, fl21) := rfl
abbrev fl22 : List (Nat × Nat) := [(0, 2300), (0, 2301), (0, 2302)]
theorem ff22 {t : Nat} : fam 22 t = (1, 14, fl22) := rfl
abbrev fl24 : List (Nat × Nat) := [(130, 2500), (130, 2501), (124, 2502)]
theorem ff24 {t : Nat} : fam 24 t = (1, 8, fl24) := rfl
theorem ff25 {t : Nat} : fam 25 t = (2, 1, [(0, t)]) := rfl
theorem ff26 {t : Nat} : fam 26 t = (2, 2, [(0, t)]) := rfl
theorem ff27 {t : Nat} : fam 27 t = (2, 0, [(0, t)]) := rfl
theorem ff28 {t : Nat} : fam 28 t = (3, 3, [(0, t)]) := rfl
theorem ff29 {t : Nat} : fam 29 t = (2, 4, [(0, t)]) := rfl
abbrev fl31 : List (Nat × Nat) := [(0, 3200), (0, 3201), (0, 3202), (100, 3203)]
theorem ff31 {t : Nat} : fam 31 t = (1, 7, fl31) := rfl
theorem fc40 (χ : St) : 0 < cn χ 40 := Nat.zero_lt_one
abbrev fl40 : List (Nat × Nat) := [(241, 4100), (242, 4101), (243, 4102), (244, 4103), (0, 4104), (0, 4105), (0, 4106), (245, 4107), (246, 4108), (247, 4109), (248, 4110), (0, 4111), (249, 4112), (250, 4113), (0, 4114), (0, 4115), (0, 4116), (0, 4117), (0, 4118), (251, 4119), (252, 4120), (253, 4121), (254, 4122), (255, 4123), (1, 4124), (256, 4125), (257, 4126), (0, 4127), (258, 4128), (259, 4129), (260, 4130), (261, 4131), (0, 4132), (0, 4133), (0, 4134), (262, 4135), (263, 4136), (0, 4137), (0, 4138), (0, 4139), (264, 4140), (265, 4141), (266, 4142), (267, 4143)]
theorem ff40 {t : Nat} : fam 40 t = (1, 4, fl40) := rfl
theorem fc41 (χ : St) : 0 < cn χ 41 := Nat.zero_lt_one
theorem ff41 {t : Nat} : fam 41 t = (2, 0, [(0, 24)]) := rfl
theorem fc42 (χ : St) : 0 < cn χ 42 := Nat.zero_lt_one
theorem ff42 {t : Nat} : fam 42 t = (2, 0, [(0, 40)]) := rfl
theorem fc43 (χ : St) : 0 < cn χ 43 := Nat.zero_lt_one
theorem ff43 {t : Nat} : fam 43 t = (2, 0, [(0, 40)]) := rfl
theorem fc44 (χ : St) : 0 < cn χ 44 := Nat.zero_lt_one
theorem ff44 {t : Nat} : fam 44 t = (2, 0, [(0, 40)]) := rfl
theorem fc45 (χ : St) : 0 < cn χ 45 := Nat.zero_lt_one
theorem ff45 {t : Nat} : fam 45 t = (2, 0, [(0, 8)]) := rfl
theorem fc46 (χ : St) : 0 < cn χ 46 := Nat.zero_lt_one
theorem ff46 {t : Nat} : fam 46 t = (2, 0, [(0, 8)]) := rfl
theorem fc47 (χ : St) : 0 < cn χ 47 := Nat.zero_lt_one
theorem ff47 {t : Nat} : fam 47 t = (2, 0, [(0, 48)]) := rfl
theorem fc48 (χ : St) : 0 < cn χ 48 := Nat.zero_lt_one
theorem ff48 {t : Nat} : fam 48 t = (2, 0, [(0, 120)]) := rfl
theorem fc49 (χ : St) : 0 < cn χ 49 := Nat.zero_lt_one
theorem ff49 {t : Nat} : fam 49 t = (2, 0, [(0, 720)]) := rfl
theorem fc50 (χ : St) : 0 < cn χ 50 := Nat.zero_lt_one
theorem ff50 {t : Nat} : fam 50 t = (2, 0, [(0, 6)]) := rfl
theorem fc51 (χ : St) : 0 < cn χ 51 := Nat.zero_lt_one
theorem ff51 {t : Nat} : fam 51 t = (2, 0, [(0, 4)]) := rfl
theorem fc52 (χ : St) : 0 < cn χ 52 := Nat.zero_lt_one
theorem ff52 {t : Nat} : fam 52 t = (2, 0, [(0, 1080)]) := rfl
theorem fc53 (χ : St) : 0 < cn χ 53 := Nat.zero_lt_one
theorem ff53 {t : Nat} : fam 53 t = (2, 0, [(0, 6)]) := rfl
theorem fc54 (χ : St) : 0 < cn χ 54 := Nat.zero_lt_one
theorem ff54 {t : Nat} : fam 54 t = (3, 3, [(0, 180)]) := rfl
theorem fc55 (χ : St) : 0 < cn χ 55 := Nat.zero_lt_one
theorem ff55 {t : Nat} : fam 55 t = (3, 3, [(0, 6)]) := rfl
theorem fc56 (χ : St) : 0 < cn χ 56 := Nat.zero_lt_one
theorem ff56 {t : Nat} : fam 56 t = (2, 0, [(0, 8)]) := rfl
theorem fc57 (χ : St) : 0 < cn χ 57 := Nat.zero_lt_one
theorem ff57 {t : Nat} : fam 57 t = (2, 0, [(0, 8)]) := rfl
theorem fc58 (χ : St) : 0 < cn χ 58 := Nat.zero_lt_one
theorem ff58 {t : Nat} : fam 58 t = (2, 0, [(0, 10)]) := rfl
theorem fc59 (χ : St) : 0 < cn χ 59 := Nat.zero_lt_one
theorem ff59 {t : Nat} : fam 59 t = (2, 0, [(0, 10)]) := rfl
theorem fc60 (χ : St) : 0 < cn χ 60 := Nat.zero_lt_one
theorem ff60 {t : Nat} : fam 60 t = (2, 0, [(0, 10)]) := rfl
theorem fc61 (χ : St) : 0 < cn χ 61 := Nat.zero_lt_one
theorem ff61 {t : Nat} : fam 61 t = (2, 0, [(0, 48)]) := rfl
theorem fc62 (χ : St) : 0 < cn χ 62 := Nat.zero_lt_one
theorem ff62 {t : Nat} : fam 62 t = (2, 0, [(0, 50)]) := rfl
theorem fc63 (χ : St) : 0 < cn χ 63 := Nat.zero_lt_one
theorem ff63 {t : Nat} : fam 63 t = (2, 0, [(0, 24)]) := rfl
theorem fc64 (χ : St) : 0 < cn χ 64 := Nat.zero_lt_one
theorem ff64 {t : Nat} : fam 64 t = (2, 0, [(0, 6)]) := rfl
theorem fc65 (χ : St) : 0 < cn χ 65 := Nat.zero_lt_one
theorem ff65 {t : Nat} : fam 65 t = (2, 0, [(0, 6)]) := rfl
theorem fc66 (χ : St) : 0 < cn χ 66 := Nat.zero_lt_one
theorem ff66 {t : Nat} : fam 66 t = (3, 3, [(0, 360)]) := rfl
theorem fc67 (χ : St) : 0 < cn χ 67 := Nat.zero_lt_one
theorem ff67 {t : Nat} : fam 67 t = (3, 3, [(0, 60)]) := rfl
