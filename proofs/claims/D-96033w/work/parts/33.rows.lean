set_option maxRecDepth 100000
section GCA
variable {X : Cx} {cc : ByteArray} {own : String} {ret : Option FieldType} {y0 : MethodName} {nL F Lo : Nat} {Pst : Option Value → (Nat → Nat → Nat) → St → Prop} {ad : Nat → Nat → Nat} {χ : St} {pc z index : Nat} {lv : List (Nat × Value)} {st : List Value} {j : Int32}
theorem th_no (h : Ok X cc own ret y0 nL F Lo Pst) {C E : String} (hm : (C, E) ∈ ncl) : ∀ c1 c2, X.s.vm.findClass C = some c1 → X.s.vm.findClass E = some c2 → X.s.vm.assignable c1 c2 = false := by
  obtain ⟨S0, h1, h2, h3, -, -, h6, h7⟩ := h.2.2.2.2.2.2.2.1.2.2.2.2
  exact os_not h1 (h6 _ hm)
theorem th_yes (h : Ok X cc own ret y0 nL F Lo Pst) {C E : String} (hm : Cond.castable C E ∈ lw_tbl) : ∀ c1 c2, X.s.vm.findClass C = some c1 → X.s.vm.findClass E = some c2 → X.s.vm.assignable c1 c2 = true := by
  intro c1 c2 h1 h2
  obtain ⟨c3, cT, hc3, hcT, hasg⟩ := Cond.castable_spec (h.2.2.2.2.2.2.2.1.2.1 _ hm rfl)
  rw [h1] at hc3; cases hc3
  rw [h2] at hcT; cases hcT
  exact hasg
theorem kq376 : (Cond.castable "java/lang/ClassCastException" "java/lang/ClassCastException") ∈ lw_tbl := List.mem_of_getElem? (i := 376) (by decide +kernel)
theorem kq420 : (Cond.castable "java/lang/NullPointerException" "java/lang/NullPointerException") ∈ lw_tbl := List.mem_of_getElem? (i := 420) (by decide +kernel)
theorem kq2023 : (Cond.castable "java/lang/ArrayIndexOutOfBoundsException" "java/lang/IndexOutOfBoundsException") ∈ lw_tbl := List.mem_of_getElem? (i := 2023) (by decide +kernel)
theorem kq1296 : (Cond.castable "java/lang/NegativeArraySizeException" "java/lang/NegativeArraySizeException") ∈ lw_tbl := List.mem_of_getElem? (i := 1296) (by decide +kernel)
theorem g_cast_Row_p (h : Ok X cc own ret y0 nL F Lo Pst) (q1 : Cond.classLink own index "ChairOld$Row" ∈ lw_all) (ht : tg χ 23 z = 8 ∨ tg χ 23 z = 9 ∨ tg χ 23 z = 10 ∨ tg χ 23 z = 11 ∨ tg χ 23 z = 12) (hz : z < cn χ 23) (hd : decode cc pc = .ok (.checkcast index, 3)) (kk : G X ad χ (pc + 3) lv (.ref (ad 23 z) :: st)) : G X ad χ pc lv (.ref (ad 23 z) :: st) := by
  rcases ht with ht | ht | ht | ht | ht
  · exact g_castP h q1 hz (ff23_8 ht) rfl (AsOk.cast h rfl q2025) hd kk
  · exact g_castP h q1 hz (ff23_9 ht) rfl (AsOk.cast h rfl q2028) hd kk
  · exact g_castP h q1 hz (ff23_10 ht) rfl (AsOk.cast h rfl q2026) hd kk
  · exact g_castP h q1 hz (ff23_11 ht) rfl (AsOk.cast h rfl q2027) hd kk
  · exact g_castP h q1 hz (ff23_12 ht) rfl (AsOk.cast h rfl q2024) hd kk
theorem g_cast_Row_x (h : Ok X cc own ret y0 nL F Lo Pst) (th : Th X) (q1 : Cond.classLink own index "ChairOld$Row" ∈ lw_all) (ht : tg χ 23 z = 0 ∨ tg χ 23 z = 1 ∨ tg χ 23 z = 2 ∨ tg χ 23 z = 3 ∨ tg χ 23 z = 4 ∨ tg χ 23 z = 5 ∨ tg χ 23 z = 6 ∨ tg χ 23 z = 7) (hz : z < cn χ 23) (hF : 8 ≤ F ∧ 10248 ≤ Lo) (hu : uC χ + 3 ≤ 603072) (hs : uS χ + 1610 ≤ 7262314) (hst : (st.map fun v => v.category).sum ≤ 7) (hd : decode cc pc = .ok (.checkcast index, 3)) (kk : ∀ n, n ≤ 1610 → GT X ad (brn χ 3 n) pc lv nCC) : G X ad χ pc lv (.ref (ad 23 z) :: st) := by
  rcases ht with ht | ht | ht | ht | ht | ht | ht | ht
  · exact g_castX h th q1 hz (ff23_0 ht) rfl (by decide) (by decide +kernel) (by decide +kernel) hF hu hs hst hd kk
  · exact g_castX h th q1 hz (ff23_1 ht) rfl (by decide) (by decide +kernel) (by decide +kernel) hF hu hs hst hd kk
  · exact g_castX h th q1 hz (ff23_2 ht) rfl (by decide) (by decide +kernel) (by decide +kernel) hF hu hs hst hd kk
  · exact g_castX h th q1 hz (ff23_3 ht) rfl (by decide) (by decide +kernel) (by decide +kernel) hF hu hs hst hd kk
  · exact g_castX h th q1 hz (ff23_4 ht) rfl (by decide) (by decide +kernel) (by decide +kernel) hF hu hs hst hd kk
  · exact g_castX h th q1 hz (ff23_5 ht) rfl (by decide) (by decide +kernel) (by decide +kernel) hF hu hs hst hd kk
  · exact g_castX h th q1 hz (ff23_6 ht) rfl (by decide) (by decide +kernel) (by decide +kernel) hF hu hs hst hd kk
  · exact g_castX h th q1 hz (ff23_7 ht) rfl (by decide) (by decide +kernel) (by decide +kernel) hF hu hs hst hd kk
theorem g_cast_ByteRow0_p (h : Ok X cc own ret y0 nL F Lo Pst) (q1 : Cond.classLink own index "ChairOld$ByteRow" ∈ lw_all) (ht : tg χ 23 z = 8) (hz : z < cn χ 23) (hd : decode cc pc = .ok (.checkcast index, 3)) (kk : G X ad χ (pc + 3) lv (.ref (ad 23 z) :: st)) : G X ad χ pc lv (.ref (ad 23 z) :: st) := by
  exact g_castP h q1 hz (ff23_8 ht) rfl (AsOk.self h rfl) hd kk
theorem g_cast_ByteRow0_x (h : Ok X cc own ret y0 nL F Lo Pst) (th : Th X) (q1 : Cond.classLink own index "ChairOld$ByteRow" ∈ lw_all) (ht : tg χ 23 z = 0 ∨ tg χ 23 z = 1 ∨ tg χ 23 z = 2 ∨ tg χ 23 z = 3 ∨ tg χ 23 z = 4 ∨ tg χ 23 z = 5 ∨ tg χ 23 z = 6 ∨ tg χ 23 z = 7 ∨ tg χ 23 z = 9 ∨ tg χ 23 z = 10 ∨ tg χ 23 z = 11 ∨ tg χ 23 z = 12) (hz : z < cn χ 23) (hF : 8 ≤ F ∧ 10248 ≤ Lo) (hu : uC χ + 3 ≤ 603072) (hs : uS χ + 1610 ≤ 7262314) (hst : (st.map fun v => v.category).sum ≤ 7) (hd : decode cc pc = .ok (.checkcast index, 3)) (kk : ∀ n, n ≤ 1610 → GT X ad (brn χ 3 n) pc lv nCC) : G X ad χ pc lv (.ref (ad 23 z) :: st) := by
  rcases ht with ht | ht | ht | ht | ht | ht | ht | ht | ht | ht | ht | ht
  · exact g_castX h th q1 hz (ff23_0 ht) rfl (by decide) (by decide +kernel) (by decide +kernel) hF hu hs hst hd kk
  · exact g_castX h th q1 hz (ff23_1 ht) rfl (by decide) (by decide +kernel) (by decide +kernel) hF hu hs hst hd kk
  · exact g_castX h th q1 hz (ff23_2 ht) rfl (by decide) (by decide +kernel) (by decide +kernel) hF hu hs hst hd kk
  · exact g_castX h th q1 hz (ff23_3 ht) rfl (by decide) (by decide +kernel) (by decide +kernel) hF hu hs hst hd kk
  · exact g_castX h th q1 hz (ff23_4 ht) rfl (by decide) (by decide +kernel) (by decide +kernel) hF hu hs hst hd kk
  · exact g_castX h th q1 hz (ff23_5 ht) rfl (by decide) (by decide +kernel) (by decide +kernel) hF hu hs hst hd kk
  · exact g_castX h th q1 hz (ff23_6 ht) rfl (by decide) (by decide +kernel) (by decide +kernel) hF hu hs hst hd kk
  · exact g_castX h th q1 hz (ff23_7 ht) rfl (by decide) (by decide +kernel) (by decide +kernel) hF hu hs hst hd kk
  · exact g_castX h th q1 hz (ff23_9 ht) rfl (by decide) (by decide +kernel) (by decide +kernel) hF hu hs hst hd kk
  · exact g_castX h th q1 hz (ff23_10 ht) rfl (by decide) (by decide +kernel) (by decide +kernel) hF hu hs hst hd kk
  · exact g_castX h th q1 hz (ff23_11 ht) rfl (by decide) (by decide +kernel) (by decide +kernel) hF hu hs hst hd kk
  · exact g_castX h th q1 hz (ff23_12 ht) rfl (by decide) (by decide +kernel) (by decide +kernel) hF hu hs hst hd kk
theorem g_cast_Plain_p (h : Ok X cc own ret y0 nL F Lo Pst) (q1 : Cond.classLink own index "ChairOld$Plain" ∈ lw_all) (ht : tg χ 23 z = 0 ∨ tg χ 23 z = 1 ∨ tg χ 23 z = 2 ∨ tg χ 23 z = 3 ∨ tg χ 23 z = 4 ∨ tg χ 23 z = 5 ∨ tg χ 23 z = 6 ∨ tg χ 23 z = 7) (hz : z < cn χ 23) (hd : decode cc pc = .ok (.checkcast index, 3)) (kk : G X ad χ (pc + 3) lv (.ref (ad 23 z) :: st)) : G X ad χ pc lv (.ref (ad 23 z) :: st) := by
  rcases ht with ht | ht | ht | ht | ht | ht | ht | ht
  · exact g_castP h q1 hz (ff23_0 ht) rfl (AsOk.self h rfl) hd kk
  · exact g_castP h q1 hz (ff23_1 ht) rfl (AsOk.cast h rfl q2034) hd kk
  · exact g_castP h q1 hz (ff23_2 ht) rfl (AsOk.cast h rfl q2033) hd kk
  · exact g_castP h q1 hz (ff23_3 ht) rfl (AsOk.cast h rfl q2029) hd kk
  · exact g_castP h q1 hz (ff23_4 ht) rfl (AsOk.cast h rfl q2035) hd kk
  · exact g_castP h q1 hz (ff23_5 ht) rfl (AsOk.cast h rfl q2030) hd kk
  · exact g_castP h q1 hz (ff23_6 ht) rfl (AsOk.cast h rfl q2032) hd kk
  · exact g_castP h q1 hz (ff23_7 ht) rfl (AsOk.cast h rfl q2031) hd kk
theorem g_cast_Plain_x (h : Ok X cc own ret y0 nL F Lo Pst) (th : Th X) (q1 : Cond.classLink own index "ChairOld$Plain" ∈ lw_all) (ht : tg χ 23 z = 8 ∨ tg χ 23 z = 9 ∨ tg χ 23 z = 10 ∨ tg χ 23 z = 11 ∨ tg χ 23 z = 12) (hz : z < cn χ 23) (hF : 8 ≤ F ∧ 10248 ≤ Lo) (hu : uC χ + 3 ≤ 603072) (hs : uS χ + 1610 ≤ 7262314) (hst : (st.map fun v => v.category).sum ≤ 7) (hd : decode cc pc = .ok (.checkcast index, 3)) (kk : ∀ n, n ≤ 1610 → GT X ad (brn χ 3 n) pc lv nCC) : G X ad χ pc lv (.ref (ad 23 z) :: st) := by
  rcases ht with ht | ht | ht | ht | ht
  · exact g_castX h th q1 hz (ff23_8 ht) rfl (by decide) (by decide +kernel) (by decide +kernel) hF hu hs hst hd kk
  · exact g_castX h th q1 hz (ff23_9 ht) rfl (by decide) (by decide +kernel) (by decide +kernel) hF hu hs hst hd kk
  · exact g_castX h th q1 hz (ff23_10 ht) rfl (by decide) (by decide +kernel) (by decide +kernel) hF hu hs hst hd kk
  · exact g_castX h th q1 hz (ff23_11 ht) rfl (by decide) (by decide +kernel) (by decide +kernel) hF hu hs hst hd kk
  · exact g_castX h th q1 hz (ff23_12 ht) rfl (by decide) (by decide +kernel) (by decide +kernel) hF hu hs hst hd kk
theorem g_cast_ByteRow_p (h : Ok X cc own ret y0 nL F Lo Pst) (q1 : Cond.classLink own index "ChairOld$ByteRow" ∈ lw_all) (ht : tg χ 23 z = 8) (hz : z < cn χ 23) (hd : decode cc pc = .ok (.checkcast index, 3)) (kk : G X ad χ (pc + 3) lv (.ref (ad 23 z) :: st)) : G X ad χ pc lv (.ref (ad 23 z) :: st) := by
  exact g_castP h q1 hz (ff23_8 ht) rfl (AsOk.self h rfl) hd kk
theorem g_cast_ByteRow_x (h : Ok X cc own ret y0 nL F Lo Pst) (th : Th X) (q1 : Cond.classLink own index "ChairOld$ByteRow" ∈ lw_all) (ht : tg χ 23 z = 9 ∨ tg χ 23 z = 10 ∨ tg χ 23 z = 11 ∨ tg χ 23 z = 12) (hz : z < cn χ 23) (hF : 8 ≤ F ∧ 10248 ≤ Lo) (hu : uC χ + 3 ≤ 603072) (hs : uS χ + 1610 ≤ 7262314) (hst : (st.map fun v => v.category).sum ≤ 7) (hd : decode cc pc = .ok (.checkcast index, 3)) (kk : ∀ n, n ≤ 1610 → GT X ad (brn χ 3 n) pc lv nCC) : G X ad χ pc lv (.ref (ad 23 z) :: st) := by
  rcases ht with ht | ht | ht | ht
  · exact g_castX h th q1 hz (ff23_9 ht) rfl (by decide) (by decide +kernel) (by decide +kernel) hF hu hs hst hd kk
  · exact g_castX h th q1 hz (ff23_10 ht) rfl (by decide) (by decide +kernel) (by decide +kernel) hF hu hs hst hd kk
  · exact g_castX h th q1 hz (ff23_11 ht) rfl (by decide) (by decide +kernel) (by decide +kernel) hF hu hs hst hd kk
  · exact g_castX h th q1 hz (ff23_12 ht) rfl (by decide) (by decide +kernel) (by decide +kernel) hF hu hs hst hd kk
theorem g_cast_ShortRow_p (h : Ok X cc own ret y0 nL F Lo Pst) (q1 : Cond.classLink own index "ChairOld$ShortRow" ∈ lw_all) (ht : tg χ 23 z = 9) (hz : z < cn χ 23) (hd : decode cc pc = .ok (.checkcast index, 3)) (kk : G X ad χ (pc + 3) lv (.ref (ad 23 z) :: st)) : G X ad χ pc lv (.ref (ad 23 z) :: st) := by
  exact g_castP h q1 hz (ff23_9 ht) rfl (AsOk.self h rfl) hd kk
theorem g_cast_ShortRow_x (h : Ok X cc own ret y0 nL F Lo Pst) (th : Th X) (q1 : Cond.classLink own index "ChairOld$ShortRow" ∈ lw_all) (ht : tg χ 23 z = 8 ∨ tg χ 23 z = 10 ∨ tg χ 23 z = 11 ∨ tg χ 23 z = 12) (hz : z < cn χ 23) (hF : 8 ≤ F ∧ 10248 ≤ Lo) (hu : uC χ + 3 ≤ 603072) (hs : uS χ + 1610 ≤ 7262314) (hst : (st.map fun v => v.category).sum ≤ 7) (hd : decode cc pc = .ok (.checkcast index, 3)) (kk : ∀ n, n ≤ 1610 → GT X ad (brn χ 3 n) pc lv nCC) : G X ad χ pc lv (.ref (ad 23 z) :: st) := by
  rcases ht with ht | ht | ht | ht
  · exact g_castX h th q1 hz (ff23_8 ht) rfl (by decide) (by decide +kernel) (by decide +kernel) hF hu hs hst hd kk
  · exact g_castX h th q1 hz (ff23_10 ht) rfl (by decide) (by decide +kernel) (by decide +kernel) hF hu hs hst hd kk
  · exact g_castX h th q1 hz (ff23_11 ht) rfl (by decide) (by decide +kernel) (by decide +kernel) hF hu hs hst hd kk
  · exact g_castX h th q1 hz (ff23_12 ht) rfl (by decide) (by decide +kernel) (by decide +kernel) hF hu hs hst hd kk
theorem g_cast_IntRow_p (h : Ok X cc own ret y0 nL F Lo Pst) (q1 : Cond.classLink own index "ChairOld$IntRow" ∈ lw_all) (ht : tg χ 23 z = 10) (hz : z < cn χ 23) (hd : decode cc pc = .ok (.checkcast index, 3)) (kk : G X ad χ (pc + 3) lv (.ref (ad 23 z) :: st)) : G X ad χ pc lv (.ref (ad 23 z) :: st) := by
  exact g_castP h q1 hz (ff23_10 ht) rfl (AsOk.self h rfl) hd kk
theorem g_cast_IntRow_x (h : Ok X cc own ret y0 nL F Lo Pst) (th : Th X) (q1 : Cond.classLink own index "ChairOld$IntRow" ∈ lw_all) (ht : tg χ 23 z = 8 ∨ tg χ 23 z = 9 ∨ tg χ 23 z = 11 ∨ tg χ 23 z = 12) (hz : z < cn χ 23) (hF : 8 ≤ F ∧ 10248 ≤ Lo) (hu : uC χ + 3 ≤ 603072) (hs : uS χ + 1610 ≤ 7262314) (hst : (st.map fun v => v.category).sum ≤ 7) (hd : decode cc pc = .ok (.checkcast index, 3)) (kk : ∀ n, n ≤ 1610 → GT X ad (brn χ 3 n) pc lv nCC) : G X ad χ pc lv (.ref (ad 23 z) :: st) := by
  rcases ht with ht | ht | ht | ht
  · exact g_castX h th q1 hz (ff23_8 ht) rfl (by decide) (by decide +kernel) (by decide +kernel) hF hu hs hst hd kk
  · exact g_castX h th q1 hz (ff23_9 ht) rfl (by decide) (by decide +kernel) (by decide +kernel) hF hu hs hst hd kk
  · exact g_castX h th q1 hz (ff23_11 ht) rfl (by decide) (by decide +kernel) (by decide +kernel) hF hu hs hst hd kk
  · exact g_castX h th q1 hz (ff23_12 ht) rfl (by decide) (by decide +kernel) (by decide +kernel) hF hu hs hst hd kk
theorem g_cast_LongRow_p (h : Ok X cc own ret y0 nL F Lo Pst) (q1 : Cond.classLink own index "ChairOld$LongRow" ∈ lw_all) (ht : tg χ 23 z = 11) (hz : z < cn χ 23) (hd : decode cc pc = .ok (.checkcast index, 3)) (kk : G X ad χ (pc + 3) lv (.ref (ad 23 z) :: st)) : G X ad χ pc lv (.ref (ad 23 z) :: st) := by
  exact g_castP h q1 hz (ff23_11 ht) rfl (AsOk.self h rfl) hd kk
theorem g_cast_LongRow_x (h : Ok X cc own ret y0 nL F Lo Pst) (th : Th X) (q1 : Cond.classLink own index "ChairOld$LongRow" ∈ lw_all) (ht : tg χ 23 z = 8 ∨ tg χ 23 z = 9 ∨ tg χ 23 z = 10 ∨ tg χ 23 z = 12) (hz : z < cn χ 23) (hF : 8 ≤ F ∧ 10248 ≤ Lo) (hu : uC χ + 3 ≤ 603072) (hs : uS χ + 1610 ≤ 7262314) (hst : (st.map fun v => v.category).sum ≤ 7) (hd : decode cc pc = .ok (.checkcast index, 3)) (kk : ∀ n, n ≤ 1610 → GT X ad (brn χ 3 n) pc lv nCC) : G X ad χ pc lv (.ref (ad 23 z) :: st) := by
  rcases ht with ht | ht | ht | ht
  · exact g_castX h th q1 hz (ff23_8 ht) rfl (by decide) (by decide +kernel) (by decide +kernel) hF hu hs hst hd kk
  · exact g_castX h th q1 hz (ff23_9 ht) rfl (by decide) (by decide +kernel) (by decide +kernel) hF hu hs hst hd kk
  · exact g_castX h th q1 hz (ff23_10 ht) rfl (by decide) (by decide +kernel) (by decide +kernel) hF hu hs hst hd kk
  · exact g_castX h th q1 hz (ff23_12 ht) rfl (by decide) (by decide +kernel) (by decide +kernel) hF hu hs hst hd kk
theorem g_cast_BooleanRow_p (h : Ok X cc own ret y0 nL F Lo Pst) (q1 : Cond.classLink own index "ChairOld$BooleanRow" ∈ lw_all) (ht : tg χ 23 z = 12) (hz : z < cn χ 23) (hd : decode cc pc = .ok (.checkcast index, 3)) (kk : G X ad χ (pc + 3) lv (.ref (ad 23 z) :: st)) : G X ad χ pc lv (.ref (ad 23 z) :: st) := by
  exact g_castP h q1 hz (ff23_12 ht) rfl (AsOk.self h rfl) hd kk
theorem g_cast_BooleanRow_x (h : Ok X cc own ret y0 nL F Lo Pst) (th : Th X) (q1 : Cond.classLink own index "ChairOld$BooleanRow" ∈ lw_all) (ht : tg χ 23 z = 8 ∨ tg χ 23 z = 9 ∨ tg χ 23 z = 10 ∨ tg χ 23 z = 11) (hz : z < cn χ 23) (hF : 8 ≤ F ∧ 10248 ≤ Lo) (hu : uC χ + 3 ≤ 603072) (hs : uS χ + 1610 ≤ 7262314) (hst : (st.map fun v => v.category).sum ≤ 7) (hd : decode cc pc = .ok (.checkcast index, 3)) (kk : ∀ n, n ≤ 1610 → GT X ad (brn χ 3 n) pc lv nCC) : G X ad χ pc lv (.ref (ad 23 z) :: st) := by
  rcases ht with ht | ht | ht | ht
  · exact g_castX h th q1 hz (ff23_8 ht) rfl (by decide) (by decide +kernel) (by decide +kernel) hF hu hs hst hd kk
  · exact g_castX h th q1 hz (ff23_9 ht) rfl (by decide) (by decide +kernel) (by decide +kernel) hF hu hs hst hd kk
  · exact g_castX h th q1 hz (ff23_10 ht) rfl (by decide) (by decide +kernel) (by decide +kernel) hF hu hs hst hd kk
  · exact g_castX h th q1 hz (ff23_11 ht) rfl (by decide) (by decide +kernel) (by decide +kernel) hF hu hs hst hd kk
end GCA
theorem hy_X25_init : yX25_init.cls ≠ "java/lang/invoke/MethodHandle" ∧ yX25_init.cls ≠ "java/lang/invoke/VarHandle" ∧ (parseMethodDescriptor yX25_init.desc).map (fun d => d.parameters.length) = some 0 := by decide +kernel
theorem hy_X26_init : yX26_init.cls ≠ "java/lang/invoke/MethodHandle" ∧ yX26_init.cls ≠ "java/lang/invoke/VarHandle" ∧ (parseMethodDescriptor yX26_init.desc).map (fun d => d.parameters.length) = some 1 := by decide +kernel
theorem hy_X27_init : yX27_init.cls ≠ "java/lang/invoke/MethodHandle" ∧ yX27_init.cls ≠ "java/lang/invoke/VarHandle" ∧ (parseMethodDescriptor yX27_init.desc).map (fun d => d.parameters.length) = some 1 := by decide +kernel
theorem hy_X28_init : yX28_init.cls ≠ "java/lang/invoke/MethodHandle" ∧ yX28_init.cls ≠ "java/lang/invoke/VarHandle" ∧ (parseMethodDescriptor yX28_init.desc).map (fun d => d.parameters.length) = some 1 := by decide +kernel
theorem hy_X29_init : yX29_init.cls ≠ "java/lang/invoke/MethodHandle" ∧ yX29_init.cls ≠ "java/lang/invoke/VarHandle" ∧ (parseMethodDescriptor yX29_init.desc).map (fun d => d.parameters.length) = some 1 := by decide +kernel
theorem hy_X30_init : yX30_init.cls ≠ "java/lang/invoke/MethodHandle" ∧ yX30_init.cls ≠ "java/lang/invoke/VarHandle" ∧ (parseMethodDescriptor yX30_init.desc).map (fun d => d.parameters.length) = some 1 := by decide +kernel
theorem hy_X26_at : yX26_at.cls ≠ "java/lang/invoke/MethodHandle" ∧ yX26_at.cls ≠ "java/lang/invoke/VarHandle" ∧ (parseMethodDescriptor yX26_at.desc).map (fun d => d.parameters.length) = some 1 := by decide +kernel
theorem hy_X27_at : yX27_at.cls ≠ "java/lang/invoke/MethodHandle" ∧ yX27_at.cls ≠ "java/lang/invoke/VarHandle" ∧ (parseMethodDescriptor yX27_at.desc).map (fun d => d.parameters.length) = some 1 := by decide +kernel
theorem hy_X28_at : yX28_at.cls ≠ "java/lang/invoke/MethodHandle" ∧ yX28_at.cls ≠ "java/lang/invoke/VarHandle" ∧ (parseMethodDescriptor yX28_at.desc).map (fun d => d.parameters.length) = some 1 := by decide +kernel
theorem hy_X29_at : yX29_at.cls ≠ "java/lang/invoke/MethodHandle" ∧ yX29_at.cls ≠ "java/lang/invoke/VarHandle" ∧ (parseMethodDescriptor yX29_at.desc).map (fun d => d.parameters.length) = some 1 := by decide +kernel
theorem hy_X30_at : yX30_at.cls ≠ "java/lang/invoke/MethodHandle" ∧ yX30_at.cls ≠ "java/lang/invoke/VarHandle" ∧ (parseMethodDescriptor yX30_at.desc).map (fun d => d.parameters.length) = some 1 := by decide +kernel
theorem hy_X26_put : yX26_put.cls ≠ "java/lang/invoke/MethodHandle" ∧ yX26_put.cls ≠ "java/lang/invoke/VarHandle" ∧ (parseMethodDescriptor yX26_put.desc).map (fun d => d.parameters.length) = some 2 := by decide +kernel
theorem hy_X27_put : yX27_put.cls ≠ "java/lang/invoke/MethodHandle" ∧ yX27_put.cls ≠ "java/lang/invoke/VarHandle" ∧ (parseMethodDescriptor yX27_put.desc).map (fun d => d.parameters.length) = some 2 := by decide +kernel
theorem hy_X28_put : yX28_put.cls ≠ "java/lang/invoke/MethodHandle" ∧ yX28_put.cls ≠ "java/lang/invoke/VarHandle" ∧ (parseMethodDescriptor yX28_put.desc).map (fun d => d.parameters.length) = some 2 := by decide +kernel
theorem hy_X29_put : yX29_put.cls ≠ "java/lang/invoke/MethodHandle" ∧ yX29_put.cls ≠ "java/lang/invoke/VarHandle" ∧ (parseMethodDescriptor yX29_put.desc).map (fun d => d.parameters.length) = some 2 := by decide +kernel
theorem hy_X30_put : yX30_put.cls ≠ "java/lang/invoke/MethodHandle" ∧ yX30_put.cls ≠ "java/lang/invoke/VarHandle" ∧ (parseMethodDescriptor yX30_put.desc).map (fun d => d.parameters.length) = some 2 := by decide +kernel
def w_X25_init (x0 : Nat) (χ : St) (Q : St → Prop) : Prop := (w_X16_init x0 χ (fun χ1 => (Q χ1)))
set_option maxHeartbeats 4000000 in
theorem mt_X25_init (l : Launch) (Γ : Gh) (ad : Nat → Nat → Nat) (x0 : Nat) (χ : St) (Q : St → Prop) : Mt l yX25_init (ws_ yX25_init cX25_init 1 (none)) (rmO (2) (40) χ) (Pm Γ ad χ [.ref (ad 23 x0)] (x0 < cn χ 23 ∧ w_X25_init x0 χ Q)) (Qm Γ true ad χ (pV Q)) (frB Γ) := by
  refine Mt.start (by decide) RX25 rfl (Nat.le_of_ble_eq_true rfl) ?_
  intro X hX hG _ _ hna _ ⟨hv0, hf⟩
  unfold w_X25_init at hf
  refine g_aload_n hX 0 dX25_init_0 rfl rfl ?_
  refine g_callINv hX (n := 0) (mt_X16_init X.l X.Γ _ _ _ _) ⟨hv0, hf⟩ rfl q1308 q1029 q115 q1030 hy_X16_init (by decide) rfl rfl (Nat.le_of_ble_eq_true rfl) dX25_init_1 (fun χ1 hf hc1 => ?_)
  exact g_vret hX ⟨rfl, hf⟩ dX25_init_4

def w_X26_init (x0 : Nat) (x1 : Int32) (χ : St) (Q : St → Prop) : Prop := (w_X25_init x0 χ (fun χ1 => (¬ x1 < 0) ∧ (uC χ1 + 1 ≤ 603072) ∧ (uS χ1 + x1.toNatClampNeg ≤ 7262314) ∧ ((∀ χ2 : St, χ2 = (alo χ1 25 x1.toNatClampNeg x1.toNatClampNeg) → (tg χ2 23 x0 = 8) ∧ ((∀ χ4 : St, χ4 = (sR χ2 2410 x0 0 (some (nO χ1 25))) → (Q χ4)))))))
set_option maxHeartbeats 4000000 in
theorem mt_X26_init (l : Launch) (Γ : Gh) (ad : Nat → Nat → Nat) (x0 : Nat) (x1 : Int32) (χ : St) (Q : St → Prop) : Mt l yX26_init (ws_ yX26_init cX26_init 2 (none)) (rmO (3) (60) χ) (Pm Γ ad χ [.ref (ad 23 x0), .int x1] (x0 < cn χ 23 ∧ w_X26_init x0 x1 χ Q)) (Qm Γ false ad χ (pV Q)) (frB Γ) := by
  refine Mt.start (by decide) RX26 rfl (Nat.le_of_ble_eq_true rfl) ?_
  intro X hX hG _ _ hna _ ⟨hv0, hf⟩
  unfold w_X26_init at hf
  refine g_aload_n hX 0 dX26_init_0 rfl rfl ?_
  refine g_callINv hX (n := 0) (mt_X25_init X.l X.Γ _ _ _ _) ⟨hv0, hf⟩ rfl q1305 q1306 q125 q1307 hy_X25_init (by decide) rfl rfl (Nat.le_of_ble_eq_true rfl) dX26_init_1 (fun χ1 hf hc1 => ?_)
  refine g_aload_n hX 0 dX26_init_4 rfl rfl ?_
  refine g_iload_n hX 1 dX26_init_5 rfl rfl ?_
  refine g_newI hX hna (c := 25) (L := _) (tyy := .byte) rfl rfl (fun _ _ z => z) (by decide) rfl rfl rfl rfl q190 hf.1 hf.2.1 hf.2.2.1 dX26_init_6 (fun ad2 hE2 => ?_)
  replace hf := hf.2.2.2 _ rfl
  rw [← hE2.1 23 _ (Nat.lt_of_lt_of_le hv0 (hc1 23))]
  have hg3 := hf.1
  replace hf := hf.2
  refine g_putRF hX rfl (v := some _) (k := 0) (Nat.lt_of_lt_of_le (Nat.lt_of_lt_of_le hv0 (hc1 23)) (hE2.2 23)) (ff23_8 hg3) rfl rfl in_X26 tyX26_ok nmX26 (by decide) (by decide) (by decide) rfl rfl q1309 rfl rfl rfl nar_rfa fits_rfa (fun x e => by cases e; exact (new_lt rfl)) dX26_init_8 ?_
  replace hf := hf _ rfl
  exact g_vret hX ⟨rfl, hf⟩ dX26_init_11

def wx_X26_init (x0 : Nat) (x1 : Int32) (χ : St) (Q : St → Prop) : Prop := (w_X25_init x0 χ (fun χ1 => ((x1 < 0) ∧ (uC χ1 + 3 ≤ 603072) ∧ (uS χ1 + 222 ≤ 7262314) ∧ (∀ n3, n3 ≤ 222 → ∀ χ2, χ2 = brn χ1 3 n3 → (Q χ2)))))
set_option maxHeartbeats 4000000 in
theorem mx_X26_init (l : Launch) (hl : l.stackTraces = false) (Γ : Gh) (ad : Nat → Nat → Nat) (x0 : Nat) (x1 : Int32) (χ : St) (Q : St → Prop) : MtX l yX26_init (ws_ yX26_init cX26_init 2 (none)) (rmO (8) (10248) χ) (Pm Γ ad χ [.ref (ad 23 x0), .int x1] (x0 < cn χ 23 ∧ wx_X26_init x0 x1 χ Q)) (Qx Γ false ad χ nNS (fun _ χ => Q χ)) (frB Γ) := by
  refine MtX.start hl (by decide) RX26 rfl (Nat.le_of_ble_eq_true rfl) ?_
  intro X hX hT hO hG _ _ hna _ ⟨hv0, hf⟩
  unfold wx_X26_init at hf
  refine g_aload_n hX 0 dX26_init_0 rfl rfl ?_
  refine g_callINv hX (n := 0) (mt_X25_init X.l X.Γ _ _ _ _) ⟨hv0, hf⟩ rfl q1305 q1306 q125 q1307 hy_X25_init (by decide) rfl rfl (Nat.le_of_ble_eq_true rfl) dX26_init_1 (fun χ1 hf hc1 => ?_)
  refine g_aload_n hX 0 dX26_init_4 rfl rfl ?_
  refine g_iload_n hX 1 dX26_init_5 rfl rfl ?_
  refine g_negX hX hT hf.1 ⟨by decide, by decide⟩ hf.2.1 hf.2.2.1 (Nat.le_of_ble_eq_true rfl) dX26_init_6 (fun n3 hn3 => ?_)
  replace hf := hf.2.2.2
  replace hf := hf n3 hn3 _ rfl
  exact hO hf

def w_X27_init (x0 : Nat) (x1 : Int32) (χ : St) (Q : St → Prop) : Prop := (w_X25_init x0 χ (fun χ1 => (¬ x1 < 0) ∧ (uC χ1 + 1 ≤ 603072) ∧ (uS χ1 + x1.toNatClampNeg ≤ 7262314) ∧ ((∀ χ2 : St, χ2 = (alo χ1 26 x1.toNatClampNeg x1.toNatClampNeg) → (tg χ2 23 x0 = 9) ∧ ((∀ χ4 : St, χ4 = (sR χ2 2411 x0 0 (some (nO χ1 26))) → (Q χ4)))))))
set_option maxHeartbeats 4000000 in
theorem mt_X27_init (l : Launch) (Γ : Gh) (ad : Nat → Nat → Nat) (x0 : Nat) (x1 : Int32) (χ : St) (Q : St → Prop) : Mt l yX27_init (ws_ yX27_init cX27_init 2 (none)) (rmO (3) (60) χ) (Pm Γ ad χ [.ref (ad 23 x0), .int x1] (x0 < cn χ 23 ∧ w_X27_init x0 x1 χ Q)) (Qm Γ false ad χ (pV Q)) (frB Γ) := by
  refine Mt.start (by decide) RX27 rfl (Nat.le_of_ble_eq_true rfl) ?_
  intro X hX hG _ _ hna _ ⟨hv0, hf⟩
  unfold w_X27_init at hf
  refine g_aload_n hX 0 dX27_init_0 rfl rfl ?_
  refine g_callINv hX (n := 0) (mt_X25_init X.l X.Γ _ _ _ _) ⟨hv0, hf⟩ rfl q1318 q1306 q125 q1307 hy_X25_init (by decide) rfl rfl (Nat.le_of_ble_eq_true rfl) dX27_init_1 (fun χ1 hf hc1 => ?_)
  refine g_aload_n hX 0 dX27_init_4 rfl rfl ?_
  refine g_iload_n hX 1 dX27_init_5 rfl rfl ?_
  refine g_newI hX hna (c := 26) (L := _) (tyy := .short) rfl rfl (fun _ _ z => z) (by decide) rfl rfl rfl rfl q1323 hf.1 hf.2.1 hf.2.2.1 dX27_init_6 (fun ad2 hE2 => ?_)
  replace hf := hf.2.2.2 _ rfl
  rw [← hE2.1 23 _ (Nat.lt_of_lt_of_le hv0 (hc1 23))]
  have hg3 := hf.1
  replace hf := hf.2
  refine g_putRF hX rfl (v := some _) (k := 0) (Nat.lt_of_lt_of_le (Nat.lt_of_lt_of_le hv0 (hc1 23)) (hE2.2 23)) (ff23_9 hg3) rfl rfl in_X27 tyX27_ok nmX27 (by decide) (by decide) (by decide) rfl rfl q1319 rfl rfl rfl nar_rfa fits_rfa (fun x e => by cases e; exact (new_lt rfl)) dX27_init_8 ?_
  replace hf := hf _ rfl
  exact g_vret hX ⟨rfl, hf⟩ dX27_init_11

def wx_X27_init (x0 : Nat) (x1 : Int32) (χ : St) (Q : St → Prop) : Prop := (w_X25_init x0 χ (fun χ1 => ((x1 < 0) ∧ (uC χ1 + 3 ≤ 603072) ∧ (uS χ1 + 222 ≤ 7262314) ∧ (∀ n3, n3 ≤ 222 → ∀ χ2, χ2 = brn χ1 3 n3 → (Q χ2)))))
set_option maxHeartbeats 4000000 in
theorem mx_X27_init (l : Launch) (hl : l.stackTraces = false) (Γ : Gh) (ad : Nat → Nat → Nat) (x0 : Nat) (x1 : Int32) (χ : St) (Q : St → Prop) : MtX l yX27_init (ws_ yX27_init cX27_init 2 (none)) (rmO (8) (10248) χ) (Pm Γ ad χ [.ref (ad 23 x0), .int x1] (x0 < cn χ 23 ∧ wx_X27_init x0 x1 χ Q)) (Qx Γ false ad χ nNS (fun _ χ => Q χ)) (frB Γ) := by
  refine MtX.start hl (by decide) RX27 rfl (Nat.le_of_ble_eq_true rfl) ?_
  intro X hX hT hO hG _ _ hna _ ⟨hv0, hf⟩
  unfold wx_X27_init at hf
  refine g_aload_n hX 0 dX27_init_0 rfl rfl ?_
  refine g_callINv hX (n := 0) (mt_X25_init X.l X.Γ _ _ _ _) ⟨hv0, hf⟩ rfl q1318 q1306 q125 q1307 hy_X25_init (by decide) rfl rfl (Nat.le_of_ble_eq_true rfl) dX27_init_1 (fun χ1 hf hc1 => ?_)
  refine g_aload_n hX 0 dX27_init_4 rfl rfl ?_
  refine g_iload_n hX 1 dX27_init_5 rfl rfl ?_
  refine g_negX hX hT hf.1 ⟨by decide, by decide⟩ hf.2.1 hf.2.2.1 (Nat.le_of_ble_eq_true rfl) dX27_init_6 (fun n3 hn3 => ?_)
  replace hf := hf.2.2.2
  replace hf := hf n3 hn3 _ rfl
  exact hO hf

def w_X28_init (x0 : Nat) (x1 : Int32) (χ : St) (Q : St → Prop) : Prop := (w_X25_init x0 χ (fun χ1 => (¬ x1 < 0) ∧ (uC χ1 + 1 ≤ 603072) ∧ (uS χ1 + x1.toNatClampNeg ≤ 7262314) ∧ ((∀ χ2 : St, χ2 = (alo χ1 27 x1.toNatClampNeg x1.toNatClampNeg) → (tg χ2 23 x0 = 10) ∧ ((∀ χ4 : St, χ4 = (sR χ2 2412 x0 0 (some (nO χ1 27))) → (Q χ4)))))))
set_option maxHeartbeats 4000000 in
theorem mt_X28_init (l : Launch) (Γ : Gh) (ad : Nat → Nat → Nat) (x0 : Nat) (x1 : Int32) (χ : St) (Q : St → Prop) : Mt l yX28_init (ws_ yX28_init cX28_init 2 (none)) (rmO (3) (60) χ) (Pm Γ ad χ [.ref (ad 23 x0), .int x1] (x0 < cn χ 23 ∧ w_X28_init x0 x1 χ Q)) (Qm Γ false ad χ (pV Q)) (frB Γ) := by
  refine Mt.start (by decide) RX28 rfl (Nat.le_of_ble_eq_true rfl) ?_
  intro X hX hG _ _ hna _ ⟨hv0, hf⟩
  unfold w_X28_init at hf
  refine g_aload_n hX 0 dX28_init_0 rfl rfl ?_
  refine g_callINv hX (n := 0) (mt_X25_init X.l X.Γ _ _ _ _) ⟨hv0, hf⟩ rfl q1329 q1306 q125 q1307 hy_X25_init (by decide) rfl rfl (Nat.le_of_ble_eq_true rfl) dX28_init_1 (fun χ1 hf hc1 => ?_)
  refine g_aload_n hX 0 dX28_init_4 rfl rfl ?_
  refine g_iload_n hX 1 dX28_init_5 rfl rfl ?_
  refine g_newI hX hna (c := 27) (L := _) (tyy := .int) rfl rfl (fun _ _ z => z) (by decide) rfl rfl rfl rfl q191 hf.1 hf.2.1 hf.2.2.1 dX28_init_6 (fun ad2 hE2 => ?_)
  replace hf := hf.2.2.2 _ rfl
  rw [← hE2.1 23 _ (Nat.lt_of_lt_of_le hv0 (hc1 23))]
  have hg3 := hf.1
  replace hf := hf.2
  refine g_putRF hX rfl (v := some _) (k := 0) (Nat.lt_of_lt_of_le (Nat.lt_of_lt_of_le hv0 (hc1 23)) (hE2.2 23)) (ff23_10 hg3) rfl rfl in_X28 tyX28_ok nmX28 (by decide) (by decide) (by decide) rfl rfl q1330 rfl rfl rfl nar_rfa fits_rfa (fun x e => by cases e; exact (new_lt rfl)) dX28_init_8 ?_
  replace hf := hf _ rfl
  exact g_vret hX ⟨rfl, hf⟩ dX28_init_11

def wx_X28_init (x0 : Nat) (x1 : Int32) (χ : St) (Q : St → Prop) : Prop := (w_X25_init x0 χ (fun χ1 => ((x1 < 0) ∧ (uC χ1 + 3 ≤ 603072) ∧ (uS χ1 + 222 ≤ 7262314) ∧ (∀ n3, n3 ≤ 222 → ∀ χ2, χ2 = brn χ1 3 n3 → (Q χ2)))))
set_option maxHeartbeats 4000000 in
theorem mx_X28_init (l : Launch) (hl : l.stackTraces = false) (Γ : Gh) (ad : Nat → Nat → Nat) (x0 : Nat) (x1 : Int32) (χ : St) (Q : St → Prop) : MtX l yX28_init (ws_ yX28_init cX28_init 2 (none)) (rmO (8) (10248) χ) (Pm Γ ad χ [.ref (ad 23 x0), .int x1] (x0 < cn χ 23 ∧ wx_X28_init x0 x1 χ Q)) (Qx Γ false ad χ nNS (fun _ χ => Q χ)) (frB Γ) := by
  refine MtX.start hl (by decide) RX28 rfl (Nat.le_of_ble_eq_true rfl) ?_
  intro X hX hT hO hG _ _ hna _ ⟨hv0, hf⟩
  unfold wx_X28_init at hf
  refine g_aload_n hX 0 dX28_init_0 rfl rfl ?_
  refine g_callINv hX (n := 0) (mt_X25_init X.l X.Γ _ _ _ _) ⟨hv0, hf⟩ rfl q1329 q1306 q125 q1307 hy_X25_init (by decide) rfl rfl (Nat.le_of_ble_eq_true rfl) dX28_init_1 (fun χ1 hf hc1 => ?_)
  refine g_aload_n hX 0 dX28_init_4 rfl rfl ?_
  refine g_iload_n hX 1 dX28_init_5 rfl rfl ?_
  refine g_negX hX hT hf.1 ⟨by decide, by decide⟩ hf.2.1 hf.2.2.1 (Nat.le_of_ble_eq_true rfl) dX28_init_6 (fun n3 hn3 => ?_)
  replace hf := hf.2.2.2
  replace hf := hf n3 hn3 _ rfl
  exact hO hf

def w_X29_init (x0 : Nat) (x1 : Int32) (χ : St) (Q : St → Prop) : Prop := (w_X25_init x0 χ (fun χ1 => (¬ x1 < 0) ∧ (uC χ1 + 1 ≤ 603072) ∧ (uS χ1 + x1.toNatClampNeg ≤ 7262314) ∧ ((∀ χ2 : St, χ2 = (alo χ1 28 x1.toNatClampNeg x1.toNatClampNeg) → (tg χ2 23 x0 = 11) ∧ ((∀ χ4 : St, χ4 = (sR χ2 2413 x0 0 (some (nO χ1 28))) → (Q χ4)))))))
set_option maxHeartbeats 4000000 in
theorem mt_X29_init (l : Launch) (Γ : Gh) (ad : Nat → Nat → Nat) (x0 : Nat) (x1 : Int32) (χ : St) (Q : St → Prop) : Mt l yX29_init (ws_ yX29_init cX29_init 2 (none)) (rmO (3) (60) χ) (Pm Γ ad χ [.ref (ad 23 x0), .int x1] (x0 < cn χ 23 ∧ w_X29_init x0 x1 χ Q)) (Qm Γ false ad χ (pV Q)) (frB Γ) := by
  refine Mt.start (by decide) RX29 rfl (Nat.le_of_ble_eq_true rfl) ?_
  intro X hX hG _ _ hna _ ⟨hv0, hf⟩
  unfold w_X29_init at hf
  refine g_aload_n hX 0 dX29_init_0 rfl rfl ?_
  refine g_callINv hX (n := 0) (mt_X25_init X.l X.Γ _ _ _ _) ⟨hv0, hf⟩ rfl q1339 q1306 q125 q1307 hy_X25_init (by decide) rfl rfl (Nat.le_of_ble_eq_true rfl) dX29_init_1 (fun χ1 hf hc1 => ?_)
  refine g_aload_n hX 0 dX29_init_4 rfl rfl ?_
  refine g_iload_n hX 1 dX29_init_5 rfl rfl ?_
  refine g_newL hX hna (c := 28) (L := _) (tyy := .long) rfl rfl (fun _ _ z => z) (by decide) rfl rfl rfl rfl q276 hf.1 hf.2.1 hf.2.2.1 dX29_init_6 (fun ad2 hE2 => ?_)
  replace hf := hf.2.2.2 _ rfl
  rw [← hE2.1 23 _ (Nat.lt_of_lt_of_le hv0 (hc1 23))]
  have hg3 := hf.1
  replace hf := hf.2
  refine g_putRF hX rfl (v := some _) (k := 0) (Nat.lt_of_lt_of_le (Nat.lt_of_lt_of_le hv0 (hc1 23)) (hE2.2 23)) (ff23_11 hg3) rfl rfl in_X29 tyX29_ok nmX29 (by decide) (by decide) (by decide) rfl rfl q1340 rfl rfl rfl nar_rfa fits_rfa (fun x e => by cases e; exact (new_lt rfl)) dX29_init_8 ?_
  replace hf := hf _ rfl
  exact g_vret hX ⟨rfl, hf⟩ dX29_init_11

def wx_X29_init (x0 : Nat) (x1 : Int32) (χ : St) (Q : St → Prop) : Prop := (w_X25_init x0 χ (fun χ1 => ((x1 < 0) ∧ (uC χ1 + 3 ≤ 603072) ∧ (uS χ1 + 222 ≤ 7262314) ∧ (∀ n3, n3 ≤ 222 → ∀ χ2, χ2 = brn χ1 3 n3 → (Q χ2)))))
set_option maxHeartbeats 4000000 in
theorem mx_X29_init (l : Launch) (hl : l.stackTraces = false) (Γ : Gh) (ad : Nat → Nat → Nat) (x0 : Nat) (x1 : Int32) (χ : St) (Q : St → Prop) : MtX l yX29_init (ws_ yX29_init cX29_init 2 (none)) (rmO (8) (10248) χ) (Pm Γ ad χ [.ref (ad 23 x0), .int x1] (x0 < cn χ 23 ∧ wx_X29_init x0 x1 χ Q)) (Qx Γ false ad χ nNS (fun _ χ => Q χ)) (frB Γ) := by
  refine MtX.start hl (by decide) RX29 rfl (Nat.le_of_ble_eq_true rfl) ?_
  intro X hX hT hO hG _ _ hna _ ⟨hv0, hf⟩
  unfold wx_X29_init at hf
  refine g_aload_n hX 0 dX29_init_0 rfl rfl ?_
  refine g_callINv hX (n := 0) (mt_X25_init X.l X.Γ _ _ _ _) ⟨hv0, hf⟩ rfl q1339 q1306 q125 q1307 hy_X25_init (by decide) rfl rfl (Nat.le_of_ble_eq_true rfl) dX29_init_1 (fun χ1 hf hc1 => ?_)
  refine g_aload_n hX 0 dX29_init_4 rfl rfl ?_
  refine g_iload_n hX 1 dX29_init_5 rfl rfl ?_
  refine g_negX hX hT hf.1 ⟨by decide, by decide⟩ hf.2.1 hf.2.2.1 (Nat.le_of_ble_eq_true rfl) dX29_init_6 (fun n3 hn3 => ?_)
  replace hf := hf.2.2.2
  replace hf := hf n3 hn3 _ rfl
  exact hO hf

def w_X30_init (x0 : Nat) (x1 : Int32) (χ : St) (Q : St → Prop) : Prop := (w_X25_init x0 χ (fun χ1 => (¬ x1 < 0) ∧ (uC χ1 + 1 ≤ 603072) ∧ (uS χ1 + x1.toNatClampNeg ≤ 7262314) ∧ ((∀ χ2 : St, χ2 = (alo χ1 29 x1.toNatClampNeg x1.toNatClampNeg) → (tg χ2 23 x0 = 12) ∧ ((∀ χ4 : St, χ4 = (sR χ2 2414 x0 0 (some (nO χ1 29))) → (Q χ4)))))))
set_option maxHeartbeats 4000000 in
theorem mt_X30_init (l : Launch) (Γ : Gh) (ad : Nat → Nat → Nat) (x0 : Nat) (x1 : Int32) (χ : St) (Q : St → Prop) : Mt l yX30_init (ws_ yX30_init cX30_init 2 (none)) (rmO (3) (60) χ) (Pm Γ ad χ [.ref (ad 23 x0), .int x1] (x0 < cn χ 23 ∧ w_X30_init x0 x1 χ Q)) (Qm Γ false ad χ (pV Q)) (frB Γ) := by
  refine Mt.start (by decide) RX30 rfl (Nat.le_of_ble_eq_true rfl) ?_
  intro X hX hG _ _ hna _ ⟨hv0, hf⟩
  unfold w_X30_init at hf
  refine g_aload_n hX 0 dX30_init_0 rfl rfl ?_
  refine g_callINv hX (n := 0) (mt_X25_init X.l X.Γ _ _ _ _) ⟨hv0, hf⟩ rfl q1349 q1306 q125 q1307 hy_X25_init (by decide) rfl rfl (Nat.le_of_ble_eq_true rfl) dX30_init_1 (fun χ1 hf hc1 => ?_)
  refine g_aload_n hX 0 dX30_init_4 rfl rfl ?_
  refine g_iload_n hX 1 dX30_init_5 rfl rfl ?_
  refine g_newI hX hna (c := 29) (L := _) (tyy := .boolean) rfl rfl (fun _ _ z => z) (by decide) rfl rfl rfl rfl q1354 hf.1 hf.2.1 hf.2.2.1 dX30_init_6 (fun ad2 hE2 => ?_)
  replace hf := hf.2.2.2 _ rfl
  rw [← hE2.1 23 _ (Nat.lt_of_lt_of_le hv0 (hc1 23))]
  have hg3 := hf.1
  replace hf := hf.2
  refine g_putRF hX rfl (v := some _) (k := 0) (Nat.lt_of_lt_of_le (Nat.lt_of_lt_of_le hv0 (hc1 23)) (hE2.2 23)) (ff23_12 hg3) rfl rfl in_X30 tyX30_ok nmX30 (by decide) (by decide) (by decide) rfl rfl q1350 rfl rfl rfl nar_rfa fits_rfa (fun x e => by cases e; exact (new_lt rfl)) dX30_init_8 ?_
  replace hf := hf _ rfl
  exact g_vret hX ⟨rfl, hf⟩ dX30_init_11

def wx_X30_init (x0 : Nat) (x1 : Int32) (χ : St) (Q : St → Prop) : Prop := (w_X25_init x0 χ (fun χ1 => ((x1 < 0) ∧ (uC χ1 + 3 ≤ 603072) ∧ (uS χ1 + 222 ≤ 7262314) ∧ (∀ n3, n3 ≤ 222 → ∀ χ2, χ2 = brn χ1 3 n3 → (Q χ2)))))
set_option maxHeartbeats 4000000 in
theorem mx_X30_init (l : Launch) (hl : l.stackTraces = false) (Γ : Gh) (ad : Nat → Nat → Nat) (x0 : Nat) (x1 : Int32) (χ : St) (Q : St → Prop) : MtX l yX30_init (ws_ yX30_init cX30_init 2 (none)) (rmO (8) (10248) χ) (Pm Γ ad χ [.ref (ad 23 x0), .int x1] (x0 < cn χ 23 ∧ wx_X30_init x0 x1 χ Q)) (Qx Γ false ad χ nNS (fun _ χ => Q χ)) (frB Γ) := by
  refine MtX.start hl (by decide) RX30 rfl (Nat.le_of_ble_eq_true rfl) ?_
  intro X hX hT hO hG _ _ hna _ ⟨hv0, hf⟩
  unfold wx_X30_init at hf
  refine g_aload_n hX 0 dX30_init_0 rfl rfl ?_
  refine g_callINv hX (n := 0) (mt_X25_init X.l X.Γ _ _ _ _) ⟨hv0, hf⟩ rfl q1349 q1306 q125 q1307 hy_X25_init (by decide) rfl rfl (Nat.le_of_ble_eq_true rfl) dX30_init_1 (fun χ1 hf hc1 => ?_)
  refine g_aload_n hX 0 dX30_init_4 rfl rfl ?_
  refine g_iload_n hX 1 dX30_init_5 rfl rfl ?_
  refine g_negX hX hT hf.1 ⟨by decide, by decide⟩ hf.2.1 hf.2.2.1 (Nat.le_of_ble_eq_true rfl) dX30_init_6 (fun n3 hn3 => ?_)
  replace hf := hf.2.2.2
  replace hf := hf n3 hn3 _ rfl
  exact hO hf

def w_C_newRow (x0 : Int32) (x1 : Int32) (χ : St) (Q : Option Nat → St → Prop) : Prop := (∀ v1 : Int32, v1 = x0 → ((v1 = (0 : Int32) → (uC χ + 1 ≤ 603072) ∧ (uS χ + 1 ≤ 7262314) ∧ ((∀ χ2 : St, χ2 = (alo χ 23 8 1) → (w_X26_init (nO χ 23) x1 χ2 (fun χ3 => (Q (some (nO χ 23)) χ3)))))) ∧ (v1 = (1 : Int32) → (uC χ + 1 ≤ 603072) ∧ (uS χ + 1 ≤ 7262314) ∧ ((∀ χ4 : St, χ4 = (alo χ 23 9 1) → (w_X27_init (nO χ 23) x1 χ4 (fun χ5 => (Q (some (nO χ 23)) χ5)))))) ∧ (v1 = (2 : Int32) → (uC χ + 1 ≤ 603072) ∧ (uS χ + 1 ≤ 7262314) ∧ ((∀ χ6 : St, χ6 = (alo χ 23 10 1) → (w_X28_init (nO χ 23) x1 χ6 (fun χ7 => (Q (some (nO χ 23)) χ7)))))) ∧ (v1 = (3 : Int32) → (uC χ + 1 ≤ 603072) ∧ (uS χ + 1 ≤ 7262314) ∧ ((∀ χ8 : St, χ8 = (alo χ 23 11 1) → (w_X29_init (nO χ 23) x1 χ8 (fun χ9 => (Q (some (nO χ 23)) χ9)))))) ∧ (¬ v1 = (0 : Int32) → ¬ v1 = (1 : Int32) → ¬ v1 = (2 : Int32) → ¬ v1 = (3 : Int32) → (uC χ + 1 ≤ 603072) ∧ (uS χ + 1 ≤ 7262314) ∧ ((∀ χ10 : St, χ10 = (alo χ 23 12 1) → (w_X30_init (nO χ 23) x1 χ10 (fun χ11 => (Q (some (nO χ 23)) χ11))))))))
set_option maxHeartbeats 4000000 in
theorem mt_C_newRow (l : Launch) (Γ : Gh) (ad : Nat → Nat → Nat) (x0 : Int32) (x1 : Int32) (χ : St) (Q : Option Nat → St → Prop) : Mt l yX0_newRow (ws_ yX0_newRow cX0_newRow 2 (some (.object "ChairOld$Row"))) (rmO (4) (81) χ) (Pm Γ ad χ [.int x0, .int x1] (w_C_newRow x0 x1 χ Q)) (Qm Γ false ad χ (pR 23 Q)) (frB Γ) := by
  refine Mt.start (by decide) RX0 rfl (Nat.le_of_ble_eq_true rfl) ?_
  intro X hX hG _ _ hna _ hf
  unfold w_C_newRow at hf
  refine g_iload_n hX 0 dX0_newRow_0 rfl rfl ?_
  replace hf := hf _ rfl
  by_cases z0 : x0 = (0 : Int32)
  · replace hf := hf.1 z0
    refine g_tableIn hX 32 dX0_newRow_1 (by rw [z0]; decide) (by rw [z0]; decide) (by rw [z0] <;> rfl) (by decide) ?_
    refine g_new hX hna (c := 23) (t := 8) tyX26 rfl rfl (by decide) rfl in_X26 tyX26_ok df_X26 q445 q1301 q126 hf.1 hf.2.1 dX0_newRow_32 (fun ad2 hE2 => ?_)
    replace hf := hf.2.2 _ rfl
    refine g_dup hX dX0_newRow_35 rfl ?_
    refine g_iload_n hX 1 dX0_newRow_36 rfl rfl ?_
    refine g_callIAv hX hna (n := 1) (mt_X26_init X.l X.Γ _ _ _ _ _) ⟨(new_lt rfl), hf⟩ rfl q1302 q1303 q126 q1304 hy_X26_init (by decide) rfl rfl (Nat.le_of_ble_eq_true rfl) dX0_newRow_37 (fun ad3 χ3 hf hc3 => ?_)
    rw [← hc3.1 23 _ (new_lt rfl)]
    exact g_aret hX rfl (Or.inr ⟨_, rfl⟩) ⟨some _, rfl, (fun x e => by cases e; exact (Nat.lt_of_lt_of_le (new_lt rfl) (hc3.2 23))), hf⟩ dX0_newRow_40
  replace hf := hf.2
  by_cases z1 : x0 = (1 : Int32)
  · replace hf := hf.1 z1
    refine g_tableIn hX 41 dX0_newRow_1 (by rw [z1]; decide) (by rw [z1]; decide) (by rw [z1] <;> rfl) (by decide) ?_
    refine g_new hX hna (c := 23) (t := 9) tyX27 rfl rfl (by decide) rfl in_X27 tyX27_ok df_X27 q1313 q1314 q127 hf.1 hf.2.1 dX0_newRow_41 (fun ad4 hE4 => ?_)
    replace hf := hf.2.2 _ rfl
    refine g_dup hX dX0_newRow_44 rfl ?_
    refine g_iload_n hX 1 dX0_newRow_45 rfl rfl ?_
    refine g_callIAv hX hna (n := 1) (mt_X27_init X.l X.Γ _ _ _ _ _) ⟨(new_lt rfl), hf⟩ rfl q1315 q1316 q127 q1317 hy_X27_init (by decide) rfl rfl (Nat.le_of_ble_eq_true rfl) dX0_newRow_46 (fun ad5 χ5 hf hc5 => ?_)
    rw [← hc5.1 23 _ (new_lt rfl)]
    exact g_aret hX rfl (Or.inr ⟨_, rfl⟩) ⟨some _, rfl, (fun x e => by cases e; exact (Nat.lt_of_lt_of_le (new_lt rfl) (hc5.2 23))), hf⟩ dX0_newRow_49
  replace hf := hf.2
  by_cases z2 : x0 = (2 : Int32)
  · replace hf := hf.1 z2
    refine g_tableIn hX 50 dX0_newRow_1 (by rw [z2]; decide) (by rw [z2]; decide) (by rw [z2] <;> rfl) (by decide) ?_
    refine g_new hX hna (c := 23) (t := 10) tyX28 rfl rfl (by decide) rfl in_X28 tyX28_ok df_X28 q1324 q1325 q128 hf.1 hf.2.1 dX0_newRow_50 (fun ad6 hE6 => ?_)
    replace hf := hf.2.2 _ rfl
    refine g_dup hX dX0_newRow_53 rfl ?_
    refine g_iload_n hX 1 dX0_newRow_54 rfl rfl ?_
    refine g_callIAv hX hna (n := 1) (mt_X28_init X.l X.Γ _ _ _ _ _) ⟨(new_lt rfl), hf⟩ rfl q1326 q1327 q128 q1328 hy_X28_init (by decide) rfl rfl (Nat.le_of_ble_eq_true rfl) dX0_newRow_55 (fun ad7 χ7 hf hc7 => ?_)
    rw [← hc7.1 23 _ (new_lt rfl)]
    exact g_aret hX rfl (Or.inr ⟨_, rfl⟩) ⟨some _, rfl, (fun x e => by cases e; exact (Nat.lt_of_lt_of_le (new_lt rfl) (hc7.2 23))), hf⟩ dX0_newRow_58
  replace hf := hf.2
  by_cases z3 : x0 = (3 : Int32)
  · replace hf := hf.1 z3
    refine g_tableIn hX 59 dX0_newRow_1 (by rw [z3]; decide) (by rw [z3]; decide) (by rw [z3] <;> rfl) (by decide) ?_
    refine g_new hX hna (c := 23) (t := 11) tyX29 rfl rfl (by decide) rfl in_X29 tyX29_ok df_X29 q1334 q1335 q129 hf.1 hf.2.1 dX0_newRow_59 (fun ad8 hE8 => ?_)
    replace hf := hf.2.2 _ rfl
    refine g_dup hX dX0_newRow_62 rfl ?_
    refine g_iload_n hX 1 dX0_newRow_63 rfl rfl ?_
    refine g_callIAv hX hna (n := 1) (mt_X29_init X.l X.Γ _ _ _ _ _) ⟨(new_lt rfl), hf⟩ rfl q1336 q1337 q129 q1338 hy_X29_init (by decide) rfl rfl (Nat.le_of_ble_eq_true rfl) dX0_newRow_64 (fun ad9 χ9 hf hc9 => ?_)
    rw [← hc9.1 23 _ (new_lt rfl)]
    exact g_aret hX rfl (Or.inr ⟨_, rfl⟩) ⟨some _, rfl, (fun x e => by cases e; exact (Nat.lt_of_lt_of_le (new_lt rfl) (hc9.2 23))), hf⟩ dX0_newRow_67
  replace hf := hf.2
  replace hf := hf z0 z1 z2 z3
  refine g_tableOut hX 68 dX0_newRow_1 (tb_out (fun v h1 h2 => ?_)) (by decide) ?_
  · have h3 : v = 0 ∨ v = 1 ∨ v = 2 ∨ v = 3 := by omega
    rcases h3 with rfl | rfl | rfl | rfl
    · exact z0
    · exact z1
    · exact z2
    · exact z3
  refine g_new hX hna (c := 23) (t := 12) tyX30 rfl rfl (by decide) rfl in_X30 tyX30_ok df_X30 q1344 q1345 q130 hf.1 hf.2.1 dX0_newRow_68 (fun ad10 hE10 => ?_)
  replace hf := hf.2.2 _ rfl
  refine g_dup hX dX0_newRow_71 rfl ?_
  refine g_iload_n hX 1 dX0_newRow_72 rfl rfl ?_
  refine g_callIAv hX hna (n := 1) (mt_X30_init X.l X.Γ _ _ _ _ _) ⟨(new_lt rfl), hf⟩ rfl q1346 q1347 q130 q1348 hy_X30_init (by decide) rfl rfl (Nat.le_of_ble_eq_true rfl) dX0_newRow_73 (fun ad11 χ11 hf hc11 => ?_)
  rw [← hc11.1 23 _ (new_lt rfl)]
  exact g_aret hX rfl (Or.inr ⟨_, rfl⟩) ⟨some _, rfl, (fun x e => by cases e; exact (Nat.lt_of_lt_of_le (new_lt rfl) (hc11.2 23))), hf⟩ dX0_newRow_76

def wx_C_newRow (x0 : Int32) (x1 : Int32) (χ : St) (Q : St → Prop) : Prop := (∀ v1 : Int32, v1 = x0 → ((v1 = (0 : Int32) → (uC χ + 1 ≤ 603072) ∧ (uS χ + 1 ≤ 7262314) ∧ ((∀ χ2 : St, χ2 = (alo χ 23 8 1) → (wx_X26_init (nO χ 23) x1 χ2 (fun χ3 => (Q χ3)))))) ∧ (v1 = (1 : Int32) → (uC χ + 1 ≤ 603072) ∧ (uS χ + 1 ≤ 7262314) ∧ ((∀ χ4 : St, χ4 = (alo χ 23 9 1) → (wx_X27_init (nO χ 23) x1 χ4 (fun χ5 => (Q χ5)))))) ∧ (v1 = (2 : Int32) → (uC χ + 1 ≤ 603072) ∧ (uS χ + 1 ≤ 7262314) ∧ ((∀ χ6 : St, χ6 = (alo χ 23 10 1) → (wx_X28_init (nO χ 23) x1 χ6 (fun χ7 => (Q χ7)))))) ∧ (v1 = (3 : Int32) → (uC χ + 1 ≤ 603072) ∧ (uS χ + 1 ≤ 7262314) ∧ ((∀ χ8 : St, χ8 = (alo χ 23 11 1) → (wx_X29_init (nO χ 23) x1 χ8 (fun χ9 => (Q χ9)))))) ∧ (¬ v1 = (0 : Int32) → ¬ v1 = (1 : Int32) → ¬ v1 = (2 : Int32) → ¬ v1 = (3 : Int32) → (uC χ + 1 ≤ 603072) ∧ (uS χ + 1 ≤ 7262314) ∧ ((∀ χ10 : St, χ10 = (alo χ 23 12 1) → (wx_X30_init (nO χ 23) x1 χ10 (fun χ11 => (Q χ11))))))))
set_option maxHeartbeats 4000000 in
theorem mx_C_newRow (l : Launch) (hl : l.stackTraces = false) (Γ : Gh) (ad : Nat → Nat → Nat) (x0 : Int32) (x1 : Int32) (χ : St) (Q : St → Prop) : MtX l yX0_newRow (ws_ yX0_newRow cX0_newRow 2 (some (.object "ChairOld$Row"))) (rmO (9) (10269) χ) (Pm Γ ad χ [.int x0, .int x1] (wx_C_newRow x0 x1 χ Q)) (Qx Γ false ad χ nNS (fun _ χ => Q χ)) (frB Γ) := by
  refine MtX.start hl (by decide) RX0 rfl (Nat.le_of_ble_eq_true rfl) ?_
  intro X hX hT hO hG _ _ hna _ hf
  unfold wx_C_newRow at hf
  refine g_iload_n hX 0 dX0_newRow_0 rfl rfl ?_
  replace hf := hf _ rfl
  by_cases z0 : x0 = (0 : Int32)
  · replace hf := hf.1 z0
    refine g_tableIn hX 32 dX0_newRow_1 (by rw [z0]; decide) (by rw [z0]; decide) (by rw [z0] <;> rfl) (by decide) ?_
    refine g_new hX hna (c := 23) (t := 8) tyX26 rfl rfl (by decide) rfl in_X26 tyX26_ok df_X26 q445 q1301 q126 hf.1 hf.2.1 dX0_newRow_32 (fun ad2 hE2 => ?_)
    replace hf := hf.2.2 _ rfl
    refine g_dup hX dX0_newRow_35 rfl ?_
    refine g_iload_n hX 1 dX0_newRow_36 rfl rfl ?_
    refine g_callIX hX (n := 1) (mx_X26_init X.l hT.2 X.Γ _ _ _ _ (fun χ3 => (Q χ3))) ⟨(new_lt rfl), hf⟩ (fun h => by rw [hna] at h; cases h) rfl q1302 q1303 q126 q1304 hy_X26_init (by decide) rfl rfl (Nat.le_of_ble_eq_true rfl) dX0_newRow_37 (fun ad3 χ3 hf _ hE3 => ?_)
    exact hO hf
  replace hf := hf.2
  by_cases z1 : x0 = (1 : Int32)
  · replace hf := hf.1 z1
    refine g_tableIn hX 41 dX0_newRow_1 (by rw [z1]; decide) (by rw [z1]; decide) (by rw [z1] <;> rfl) (by decide) ?_
    refine g_new hX hna (c := 23) (t := 9) tyX27 rfl rfl (by decide) rfl in_X27 tyX27_ok df_X27 q1313 q1314 q127 hf.1 hf.2.1 dX0_newRow_41 (fun ad4 hE4 => ?_)
    replace hf := hf.2.2 _ rfl
    refine g_dup hX dX0_newRow_44 rfl ?_
    refine g_iload_n hX 1 dX0_newRow_45 rfl rfl ?_
    refine g_callIX hX (n := 1) (mx_X27_init X.l hT.2 X.Γ _ _ _ _ (fun χ5 => (Q χ5))) ⟨(new_lt rfl), hf⟩ (fun h => by rw [hna] at h; cases h) rfl q1315 q1316 q127 q1317 hy_X27_init (by decide) rfl rfl (Nat.le_of_ble_eq_true rfl) dX0_newRow_46 (fun ad5 χ5 hf _ hE5 => ?_)
    exact hO hf
  replace hf := hf.2
  by_cases z2 : x0 = (2 : Int32)
  · replace hf := hf.1 z2
    refine g_tableIn hX 50 dX0_newRow_1 (by rw [z2]; decide) (by rw [z2]; decide) (by rw [z2] <;> rfl) (by decide) ?_
    refine g_new hX hna (c := 23) (t := 10) tyX28 rfl rfl (by decide) rfl in_X28 tyX28_ok df_X28 q1324 q1325 q128 hf.1 hf.2.1 dX0_newRow_50 (fun ad6 hE6 => ?_)
    replace hf := hf.2.2 _ rfl
    refine g_dup hX dX0_newRow_53 rfl ?_
    refine g_iload_n hX 1 dX0_newRow_54 rfl rfl ?_
    refine g_callIX hX (n := 1) (mx_X28_init X.l hT.2 X.Γ _ _ _ _ (fun χ7 => (Q χ7))) ⟨(new_lt rfl), hf⟩ (fun h => by rw [hna] at h; cases h) rfl q1326 q1327 q128 q1328 hy_X28_init (by decide) rfl rfl (Nat.le_of_ble_eq_true rfl) dX0_newRow_55 (fun ad7 χ7 hf _ hE7 => ?_)
    exact hO hf
  replace hf := hf.2
  by_cases z3 : x0 = (3 : Int32)
  · replace hf := hf.1 z3
    refine g_tableIn hX 59 dX0_newRow_1 (by rw [z3]; decide) (by rw [z3]; decide) (by rw [z3] <;> rfl) (by decide) ?_
    refine g_new hX hna (c := 23) (t := 11) tyX29 rfl rfl (by decide) rfl in_X29 tyX29_ok df_X29 q1334 q1335 q129 hf.1 hf.2.1 dX0_newRow_59 (fun ad8 hE8 => ?_)
    replace hf := hf.2.2 _ rfl
    refine g_dup hX dX0_newRow_62 rfl ?_
    refine g_iload_n hX 1 dX0_newRow_63 rfl rfl ?_
    refine g_callIX hX (n := 1) (mx_X29_init X.l hT.2 X.Γ _ _ _ _ (fun χ9 => (Q χ9))) ⟨(new_lt rfl), hf⟩ (fun h => by rw [hna] at h; cases h) rfl q1336 q1337 q129 q1338 hy_X29_init (by decide) rfl rfl (Nat.le_of_ble_eq_true rfl) dX0_newRow_64 (fun ad9 χ9 hf _ hE9 => ?_)
    exact hO hf
  replace hf := hf.2
  replace hf := hf z0 z1 z2 z3
  refine g_tableOut hX 68 dX0_newRow_1 (tb_out (fun v h1 h2 => ?_)) (by decide) ?_
  · have h3 : v = 0 ∨ v = 1 ∨ v = 2 ∨ v = 3 := by omega
    rcases h3 with rfl | rfl | rfl | rfl
    · exact z0
    · exact z1
    · exact z2
    · exact z3
  refine g_new hX hna (c := 23) (t := 12) tyX30 rfl rfl (by decide) rfl in_X30 tyX30_ok df_X30 q1344 q1345 q130 hf.1 hf.2.1 dX0_newRow_68 (fun ad10 hE10 => ?_)
  replace hf := hf.2.2 _ rfl
  refine g_dup hX dX0_newRow_71 rfl ?_
  refine g_iload_n hX 1 dX0_newRow_72 rfl rfl ?_
  refine g_callIX hX (n := 1) (mx_X30_init X.l hT.2 X.Γ _ _ _ _ (fun χ11 => (Q χ11))) ⟨(new_lt rfl), hf⟩ (fun h => by rw [hna] at h; cases h) rfl q1346 q1347 q130 q1348 hy_X30_init (by decide) rfl rfl (Nat.le_of_ble_eq_true rfl) dX0_newRow_73 (fun ad11 χ11 hf _ hE11 => ?_)
  exact hO hf

def w_X26_at (x0 : Nat) (x1 : Int32) (χ : St) (Q : Int64 → St → Prop) : Prop := (tg χ 23 x0 = 8) ∧ ((∃ z2, (gR χ 2410 x0 0) = some z2 ∧ ((vp_in x1 (tg χ 25 z2)) ∧ ((Q (gI χ 25 z2 x1.toNatClampNeg).toInt64 χ)))))
set_option maxHeartbeats 4000000 in
theorem mt_X26_at (l : Launch) (Γ : Gh) (ad : Nat → Nat → Nat) (x0 : Nat) (x1 : Int32) (χ : St) (Q : Int64 → St → Prop) : Mt l yX26_at (ws_ yX26_at cX26_at 2 (some .long)) (rmO (0) (0) χ) (Pm Γ ad χ [.ref (ad 23 x0), .int x1] (x0 < cn χ 23 ∧ w_X26_at x0 x1 χ Q)) (Qm Γ true ad χ (pL Q)) (frB Γ) := by
  refine Mt.start (by decide) RX26 rfl (Nat.le_of_ble_eq_true rfl) ?_
  intro X hX hG _ _ hna _ ⟨hv0, hf⟩
  unfold w_X26_at at hf
  refine g_aload_n hX 0 dX26_at_0 rfl rfl ?_
  have hg1 := hf.1
  replace hf := hf.2
  obtain ⟨z2, hz2, hf⟩ := hf
  refine g_getE hX (k := 0) hv0 (ff23_8 hg1) rfl (by decide) (by decide) rfl rfl rfl in_X26 (by decide) q1309 dX26_at_1 hz2 (fun hvz2 => ?_)
  refine g_iload_n hX 1 dX26_at_4 rfl rfl ?_
  refine g_bald hX hvz2 ff25 rfl hf.1 dX26_at_5 ?_
  replace hf := hf.2
  refine g_i2l hX dX26_at_6 ?_
  exact g_lret hX ⟨_, rfl, hf⟩ dX26_at_7

def wx_X26_at (x0 : Nat) (x1 : Int32) (χ : St) (Q : St → Prop) : Prop := (tg χ 23 x0 = 8) ∧ ((∃ z2, (gR χ 2410 x0 0) = some z2 ∧ (((¬ vp_in x1 (tg χ 25 z2)) ∧ ((tg χ 25 z2) < 2147483648) ∧ (uC χ + 3 ≤ 603072) ∧ (uS χ + 222 ≤ 7262314) ∧ (∀ n4, n4 ≤ 222 → ∀ χ3, χ3 = brn χ 3 n4 → (Q χ3))))))
set_option maxHeartbeats 4000000 in
theorem mx_X26_at (l : Launch) (hl : l.stackTraces = false) (Γ : Gh) (ad : Nat → Nat → Nat) (x0 : Nat) (x1 : Int32) (χ : St) (Q : St → Prop) : MtX l yX26_at (ws_ yX26_at cX26_at 2 (some .long)) (rmO (8) (10248) χ) (Pm Γ ad χ [.ref (ad 23 x0), .int x1] (x0 < cn χ 23 ∧ wx_X26_at x0 x1 χ Q)) (Qx Γ true ad χ nAI (fun _ χ => Q χ)) (frB Γ) := by
  refine MtX.start hl (by decide) RX26 rfl (Nat.le_of_ble_eq_true rfl) ?_
  intro X hX hT hO hG _ _ hna _ ⟨hv0, hf⟩
  unfold wx_X26_at at hf
  refine g_aload_n hX 0 dX26_at_0 rfl rfl ?_
  have hg1 := hf.1
  replace hf := hf.2
  obtain ⟨z2, hz2, hf⟩ := hf
  refine g_getE hX (k := 0) hv0 (ff23_8 hg1) rfl (by decide) (by decide) rfl rfl rfl in_X26 (by decide) q1309 dX26_at_1 hz2 (fun hvz2 => ?_)
  refine g_iload_n hX 1 dX26_at_4 rfl rfl ?_
  refine g_baldX hX hT hvz2 ff25 rfl hf.2.1 hf.1 ⟨by decide, by decide⟩ hf.2.2.1 hf.2.2.2.1 (Nat.le_of_ble_eq_true rfl) dX26_at_5 (fun n4 hn4 => ?_)
  replace hf := hf.2.2.2.2
  replace hf := hf n4 hn4 _ rfl
  exact hO hf

def w_X26_put (x0 : Nat) (x1 : Int32) (x2 : Int64) (χ : St) (Q : Int32 → St → Prop) : Prop := (tg χ 23 x0 = 8) ∧ ((∃ z2, (gR χ 2410 x0 0) = some z2 ∧ ((vp_in x1 (tg χ 25 z2)) ∧ ((∀ χ3 : St, χ3 = (sI χ 25 z2 x1.toNatClampNeg (vp_nar .byte x2.toInt32.toInt8.toInt32)) → (Q (1 : Int32) χ3))))))
set_option maxHeartbeats 4000000 in
theorem mt_X26_put (l : Launch) (Γ : Gh) (ad : Nat → Nat → Nat) (x0 : Nat) (x1 : Int32) (x2 : Int64) (χ : St) (Q : Int32 → St → Prop) : Mt l yX26_put (ws_ yX26_put cX26_put 4 (some .boolean)) (rmO (0) (0) χ) (Pm Γ ad χ [.ref (ad 23 x0), .int x1, .long x2] (x0 < cn χ 23 ∧ w_X26_put x0 x1 x2 χ Q)) (Qm Γ true ad χ (pI Q)) (frB Γ) := by
  refine Mt.start (by decide) RX26 rfl (Nat.le_of_ble_eq_true rfl) ?_
  intro X hX hG _ _ hna _ ⟨hv0, hf⟩
  unfold w_X26_put at hf
  refine g_aload_n hX 0 dX26_put_0 rfl rfl ?_
  have hg1 := hf.1
  replace hf := hf.2
  obtain ⟨z2, hz2, hf⟩ := hf
  refine g_getE hX (k := 0) hv0 (ff23_8 hg1) rfl (by decide) (by decide) rfl rfl rfl in_X26 (by decide) q1309 dX26_put_1 hz2 (fun hvz2 => ?_)
  refine g_iload_n hX 1 dX26_put_4 rfl rfl ?_
  refine g_lload_n hX 2 dX26_put_5 rfl rfl ?_
  refine g_l2i hX dX26_put_6 ?_
  refine g_i2b hX dX26_put_7 ?_
  refine g_bast hX hvz2 ff25 rfl hf.1 dX26_put_8 ?_
  replace hf := hf.2
  replace hf := hf _ rfl
  refine g_iconst hX (v := (1 : Int32)) dX26_put_9 rfl ?_
  exact g_zret hX rfl ⟨_, rfl, hf⟩ dX26_put_10

def wx_X26_put (x0 : Nat) (x1 : Int32) (x2 : Int64) (χ : St) (Q : St → Prop) : Prop := (tg χ 23 x0 = 8) ∧ ((∃ z2, (gR χ 2410 x0 0) = some z2 ∧ (((¬ vp_in x1 (tg χ 25 z2)) ∧ ((tg χ 25 z2) < 2147483648) ∧ (uC χ + 3 ≤ 603072) ∧ (uS χ + 222 ≤ 7262314) ∧ (∀ n4, n4 ≤ 222 → ∀ χ3, χ3 = brn χ 3 n4 → (Q χ3))))))
set_option maxHeartbeats 4000000 in
theorem mx_X26_put (l : Launch) (hl : l.stackTraces = false) (Γ : Gh) (ad : Nat → Nat → Nat) (x0 : Nat) (x1 : Int32) (x2 : Int64) (χ : St) (Q : St → Prop) : MtX l yX26_put (ws_ yX26_put cX26_put 4 (some .boolean)) (rmO (8) (10248) χ) (Pm Γ ad χ [.ref (ad 23 x0), .int x1, .long x2] (x0 < cn χ 23 ∧ wx_X26_put x0 x1 x2 χ Q)) (Qx Γ true ad χ nAI (fun _ χ => Q χ)) (frB Γ) := by
  refine MtX.start hl (by decide) RX26 rfl (Nat.le_of_ble_eq_true rfl) ?_
  intro X hX hT hO hG _ _ hna _ ⟨hv0, hf⟩
  unfold wx_X26_put at hf
  refine g_aload_n hX 0 dX26_put_0 rfl rfl ?_
  have hg1 := hf.1
  replace hf := hf.2
  obtain ⟨z2, hz2, hf⟩ := hf
  refine g_getE hX (k := 0) hv0 (ff23_8 hg1) rfl (by decide) (by decide) rfl rfl rfl in_X26 (by decide) q1309 dX26_put_1 hz2 (fun hvz2 => ?_)
  refine g_iload_n hX 1 dX26_put_4 rfl rfl ?_
  refine g_lload_n hX 2 dX26_put_5 rfl rfl ?_
  refine g_l2i hX dX26_put_6 ?_
  refine g_i2b hX dX26_put_7 ?_
  refine g_bastX hX hT hvz2 ff25 rfl hf.2.1 hf.1 ⟨by decide, by decide⟩ hf.2.2.1 hf.2.2.2.1 (Nat.le_of_ble_eq_true rfl) dX26_put_8 (fun n4 hn4 => ?_)
  replace hf := hf.2.2.2.2
  replace hf := hf n4 hn4 _ rfl
  exact hO hf

def w_X27_at (x0 : Nat) (x1 : Int32) (χ : St) (Q : Int64 → St → Prop) : Prop := (tg χ 23 x0 = 9) ∧ ((∃ z2, (gR χ 2411 x0 0) = some z2 ∧ ((vp_in x1 (tg χ 26 z2)) ∧ ((Q (gI χ 26 z2 x1.toNatClampNeg).toInt64 χ)))))
set_option maxHeartbeats 4000000 in
theorem mt_X27_at (l : Launch) (Γ : Gh) (ad : Nat → Nat → Nat) (x0 : Nat) (x1 : Int32) (χ : St) (Q : Int64 → St → Prop) : Mt l yX27_at (ws_ yX27_at cX27_at 2 (some .long)) (rmO (0) (0) χ) (Pm Γ ad χ [.ref (ad 23 x0), .int x1] (x0 < cn χ 23 ∧ w_X27_at x0 x1 χ Q)) (Qm Γ true ad χ (pL Q)) (frB Γ) := by
  refine Mt.start (by decide) RX27 rfl (Nat.le_of_ble_eq_true rfl) ?_
  intro X hX hG _ _ hna _ ⟨hv0, hf⟩
  unfold w_X27_at at hf
  refine g_aload_n hX 0 dX27_at_0 rfl rfl ?_
  have hg1 := hf.1
  replace hf := hf.2
  obtain ⟨z2, hz2, hf⟩ := hf
  refine g_getE hX (k := 0) hv0 (ff23_9 hg1) rfl (by decide) (by decide) rfl rfl rfl in_X27 (by decide) q1319 dX27_at_1 hz2 (fun hvz2 => ?_)
  refine g_iload_n hX 1 dX27_at_4 rfl rfl ?_
  refine g_sald hX hvz2 ff26 rfl hf.1 dX27_at_5 ?_
  replace hf := hf.2
  refine g_i2l hX dX27_at_6 ?_
  exact g_lret hX ⟨_, rfl, hf⟩ dX27_at_7

def wx_X27_at (x0 : Nat) (x1 : Int32) (χ : St) (Q : St → Prop) : Prop := (tg χ 23 x0 = 9) ∧ ((∃ z2, (gR χ 2411 x0 0) = some z2 ∧ (((¬ vp_in x1 (tg χ 26 z2)) ∧ ((tg χ 26 z2) < 2147483648) ∧ (uC χ + 3 ≤ 603072) ∧ (uS χ + 222 ≤ 7262314) ∧ (∀ n4, n4 ≤ 222 → ∀ χ3, χ3 = brn χ 3 n4 → (Q χ3))))))
set_option maxHeartbeats 4000000 in
theorem mx_X27_at (l : Launch) (hl : l.stackTraces = false) (Γ : Gh) (ad : Nat → Nat → Nat) (x0 : Nat) (x1 : Int32) (χ : St) (Q : St → Prop) : MtX l yX27_at (ws_ yX27_at cX27_at 2 (some .long)) (rmO (8) (10248) χ) (Pm Γ ad χ [.ref (ad 23 x0), .int x1] (x0 < cn χ 23 ∧ wx_X27_at x0 x1 χ Q)) (Qx Γ true ad χ nAI (fun _ χ => Q χ)) (frB Γ) := by
  refine MtX.start hl (by decide) RX27 rfl (Nat.le_of_ble_eq_true rfl) ?_
  intro X hX hT hO hG _ _ hna _ ⟨hv0, hf⟩
  unfold wx_X27_at at hf
  refine g_aload_n hX 0 dX27_at_0 rfl rfl ?_
  have hg1 := hf.1
  replace hf := hf.2
  obtain ⟨z2, hz2, hf⟩ := hf
  refine g_getE hX (k := 0) hv0 (ff23_9 hg1) rfl (by decide) (by decide) rfl rfl rfl in_X27 (by decide) q1319 dX27_at_1 hz2 (fun hvz2 => ?_)
  refine g_iload_n hX 1 dX27_at_4 rfl rfl ?_
  refine g_saldX hX hT hvz2 ff26 rfl hf.2.1 hf.1 ⟨by decide, by decide⟩ hf.2.2.1 hf.2.2.2.1 (Nat.le_of_ble_eq_true rfl) dX27_at_5 (fun n4 hn4 => ?_)
  replace hf := hf.2.2.2.2
  replace hf := hf n4 hn4 _ rfl
  exact hO hf

def w_X27_put (x0 : Nat) (x1 : Int32) (x2 : Int64) (χ : St) (Q : Int32 → St → Prop) : Prop := (tg χ 23 x0 = 9) ∧ ((∃ z2, (gR χ 2411 x0 0) = some z2 ∧ ((vp_in x1 (tg χ 26 z2)) ∧ ((∀ χ3 : St, χ3 = (sI χ 26 z2 x1.toNatClampNeg (vp_nar .short x2.toInt32.toInt16.toInt32)) → (Q (1 : Int32) χ3))))))
set_option maxHeartbeats 4000000 in
theorem mt_X27_put (l : Launch) (Γ : Gh) (ad : Nat → Nat → Nat) (x0 : Nat) (x1 : Int32) (x2 : Int64) (χ : St) (Q : Int32 → St → Prop) : Mt l yX27_put (ws_ yX27_put cX27_put 4 (some .boolean)) (rmO (0) (0) χ) (Pm Γ ad χ [.ref (ad 23 x0), .int x1, .long x2] (x0 < cn χ 23 ∧ w_X27_put x0 x1 x2 χ Q)) (Qm Γ true ad χ (pI Q)) (frB Γ) := by
  refine Mt.start (by decide) RX27 rfl (Nat.le_of_ble_eq_true rfl) ?_
  intro X hX hG _ _ hna _ ⟨hv0, hf⟩
  unfold w_X27_put at hf
  refine g_aload_n hX 0 dX27_put_0 rfl rfl ?_
  have hg1 := hf.1
  replace hf := hf.2
  obtain ⟨z2, hz2, hf⟩ := hf
  refine g_getE hX (k := 0) hv0 (ff23_9 hg1) rfl (by decide) (by decide) rfl rfl rfl in_X27 (by decide) q1319 dX27_put_1 hz2 (fun hvz2 => ?_)
  refine g_iload_n hX 1 dX27_put_4 rfl rfl ?_
  refine g_lload_n hX 2 dX27_put_5 rfl rfl ?_
  refine g_l2i hX dX27_put_6 ?_
  refine g_i2s hX dX27_put_7 ?_
  refine g_sast hX hvz2 ff26 rfl hf.1 dX27_put_8 ?_
  replace hf := hf.2
  replace hf := hf _ rfl
  refine g_iconst hX (v := (1 : Int32)) dX27_put_9 rfl ?_
  exact g_zret hX rfl ⟨_, rfl, hf⟩ dX27_put_10

def wx_X27_put (x0 : Nat) (x1 : Int32) (x2 : Int64) (χ : St) (Q : St → Prop) : Prop := (tg χ 23 x0 = 9) ∧ ((∃ z2, (gR χ 2411 x0 0) = some z2 ∧ (((¬ vp_in x1 (tg χ 26 z2)) ∧ ((tg χ 26 z2) < 2147483648) ∧ (uC χ + 3 ≤ 603072) ∧ (uS χ + 222 ≤ 7262314) ∧ (∀ n4, n4 ≤ 222 → ∀ χ3, χ3 = brn χ 3 n4 → (Q χ3))))))
set_option maxHeartbeats 4000000 in
theorem mx_X27_put (l : Launch) (hl : l.stackTraces = false) (Γ : Gh) (ad : Nat → Nat → Nat) (x0 : Nat) (x1 : Int32) (x2 : Int64) (χ : St) (Q : St → Prop) : MtX l yX27_put (ws_ yX27_put cX27_put 4 (some .boolean)) (rmO (8) (10248) χ) (Pm Γ ad χ [.ref (ad 23 x0), .int x1, .long x2] (x0 < cn χ 23 ∧ wx_X27_put x0 x1 x2 χ Q)) (Qx Γ true ad χ nAI (fun _ χ => Q χ)) (frB Γ) := by
  refine MtX.start hl (by decide) RX27 rfl (Nat.le_of_ble_eq_true rfl) ?_
  intro X hX hT hO hG _ _ hna _ ⟨hv0, hf⟩
  unfold wx_X27_put at hf
  refine g_aload_n hX 0 dX27_put_0 rfl rfl ?_
  have hg1 := hf.1
  replace hf := hf.2
  obtain ⟨z2, hz2, hf⟩ := hf
  refine g_getE hX (k := 0) hv0 (ff23_9 hg1) rfl (by decide) (by decide) rfl rfl rfl in_X27 (by decide) q1319 dX27_put_1 hz2 (fun hvz2 => ?_)
  refine g_iload_n hX 1 dX27_put_4 rfl rfl ?_
  refine g_lload_n hX 2 dX27_put_5 rfl rfl ?_
  refine g_l2i hX dX27_put_6 ?_
  refine g_i2s hX dX27_put_7 ?_
  refine g_sastX hX hT hvz2 ff26 rfl hf.2.1 hf.1 ⟨by decide, by decide⟩ hf.2.2.1 hf.2.2.2.1 (Nat.le_of_ble_eq_true rfl) dX27_put_8 (fun n4 hn4 => ?_)
  replace hf := hf.2.2.2.2
  replace hf := hf n4 hn4 _ rfl
  exact hO hf

def w_X28_at (x0 : Nat) (x1 : Int32) (χ : St) (Q : Int64 → St → Prop) : Prop := (tg χ 23 x0 = 10) ∧ ((∃ z2, (gR χ 2412 x0 0) = some z2 ∧ ((vp_in x1 (tg χ 27 z2)) ∧ ((Q (gI χ 27 z2 x1.toNatClampNeg).toInt64 χ)))))
set_option maxHeartbeats 4000000 in
theorem mt_X28_at (l : Launch) (Γ : Gh) (ad : Nat → Nat → Nat) (x0 : Nat) (x1 : Int32) (χ : St) (Q : Int64 → St → Prop) : Mt l yX28_at (ws_ yX28_at cX28_at 2 (some .long)) (rmO (0) (0) χ) (Pm Γ ad χ [.ref (ad 23 x0), .int x1] (x0 < cn χ 23 ∧ w_X28_at x0 x1 χ Q)) (Qm Γ true ad χ (pL Q)) (frB Γ) := by
  refine Mt.start (by decide) RX28 rfl (Nat.le_of_ble_eq_true rfl) ?_
  intro X hX hG _ _ hna _ ⟨hv0, hf⟩
  unfold w_X28_at at hf
  refine g_aload_n hX 0 dX28_at_0 rfl rfl ?_
  have hg1 := hf.1
  replace hf := hf.2
  obtain ⟨z2, hz2, hf⟩ := hf
  refine g_getE hX (k := 0) hv0 (ff23_10 hg1) rfl (by decide) (by decide) rfl rfl rfl in_X28 (by decide) q1330 dX28_at_1 hz2 (fun hvz2 => ?_)
  refine g_iload_n hX 1 dX28_at_4 rfl rfl ?_
  refine g_iald hX hvz2 ff27 rfl hf.1 dX28_at_5 ?_
  replace hf := hf.2
  refine g_i2l hX dX28_at_6 ?_
  exact g_lret hX ⟨_, rfl, hf⟩ dX28_at_7

def wx_X28_at (x0 : Nat) (x1 : Int32) (χ : St) (Q : St → Prop) : Prop := (tg χ 23 x0 = 10) ∧ ((∃ z2, (gR χ 2412 x0 0) = some z2 ∧ (((¬ vp_in x1 (tg χ 27 z2)) ∧ ((tg χ 27 z2) < 2147483648) ∧ (uC χ + 3 ≤ 603072) ∧ (uS χ + 222 ≤ 7262314) ∧ (∀ n4, n4 ≤ 222 → ∀ χ3, χ3 = brn χ 3 n4 → (Q χ3))))))
set_option maxHeartbeats 4000000 in
theorem mx_X28_at (l : Launch) (hl : l.stackTraces = false) (Γ : Gh) (ad : Nat → Nat → Nat) (x0 : Nat) (x1 : Int32) (χ : St) (Q : St → Prop) : MtX l yX28_at (ws_ yX28_at cX28_at 2 (some .long)) (rmO (8) (10248) χ) (Pm Γ ad χ [.ref (ad 23 x0), .int x1] (x0 < cn χ 23 ∧ wx_X28_at x0 x1 χ Q)) (Qx Γ true ad χ nAI (fun _ χ => Q χ)) (frB Γ) := by
  refine MtX.start hl (by decide) RX28 rfl (Nat.le_of_ble_eq_true rfl) ?_
  intro X hX hT hO hG _ _ hna _ ⟨hv0, hf⟩
  unfold wx_X28_at at hf
  refine g_aload_n hX 0 dX28_at_0 rfl rfl ?_
  have hg1 := hf.1
  replace hf := hf.2
  obtain ⟨z2, hz2, hf⟩ := hf
  refine g_getE hX (k := 0) hv0 (ff23_10 hg1) rfl (by decide) (by decide) rfl rfl rfl in_X28 (by decide) q1330 dX28_at_1 hz2 (fun hvz2 => ?_)
  refine g_iload_n hX 1 dX28_at_4 rfl rfl ?_
  refine g_ialdX hX hT hvz2 ff27 rfl hf.2.1 hf.1 ⟨by decide, by decide⟩ hf.2.2.1 hf.2.2.2.1 (Nat.le_of_ble_eq_true rfl) dX28_at_5 (fun n4 hn4 => ?_)
  replace hf := hf.2.2.2.2
  replace hf := hf n4 hn4 _ rfl
  exact hO hf

def w_X28_put (x0 : Nat) (x1 : Int32) (x2 : Int64) (χ : St) (Q : Int32 → St → Prop) : Prop := (tg χ 23 x0 = 10) ∧ ((∃ z2, (gR χ 2412 x0 0) = some z2 ∧ ((vp_in x1 (tg χ 27 z2)) ∧ ((∀ χ3 : St, χ3 = (sI χ 27 z2 x1.toNatClampNeg x2.toInt32) → (Q (1 : Int32) χ3))))))
set_option maxHeartbeats 4000000 in
theorem mt_X28_put (l : Launch) (Γ : Gh) (ad : Nat → Nat → Nat) (x0 : Nat) (x1 : Int32) (x2 : Int64) (χ : St) (Q : Int32 → St → Prop) : Mt l yX28_put (ws_ yX28_put cX28_put 4 (some .boolean)) (rmO (0) (0) χ) (Pm Γ ad χ [.ref (ad 23 x0), .int x1, .long x2] (x0 < cn χ 23 ∧ w_X28_put x0 x1 x2 χ Q)) (Qm Γ true ad χ (pI Q)) (frB Γ) := by
  refine Mt.start (by decide) RX28 rfl (Nat.le_of_ble_eq_true rfl) ?_
  intro X hX hG _ _ hna _ ⟨hv0, hf⟩
  unfold w_X28_put at hf
  refine g_aload_n hX 0 dX28_put_0 rfl rfl ?_
  have hg1 := hf.1
  replace hf := hf.2
  obtain ⟨z2, hz2, hf⟩ := hf
  refine g_getE hX (k := 0) hv0 (ff23_10 hg1) rfl (by decide) (by decide) rfl rfl rfl in_X28 (by decide) q1330 dX28_put_1 hz2 (fun hvz2 => ?_)
  refine g_iload_n hX 1 dX28_put_4 rfl rfl ?_
  refine g_lload_n hX 2 dX28_put_5 rfl rfl ?_
  refine g_l2i hX dX28_put_6 ?_
  refine g_iast hX hvz2 ff27 rfl hf.1 dX28_put_7 ?_
  replace hf := hf.2
  replace hf := hf _ rfl
  refine g_iconst hX (v := (1 : Int32)) dX28_put_8 rfl ?_
  exact g_zret hX rfl ⟨_, rfl, hf⟩ dX28_put_9

def wx_X28_put (x0 : Nat) (x1 : Int32) (x2 : Int64) (χ : St) (Q : St → Prop) : Prop := (tg χ 23 x0 = 10) ∧ ((∃ z2, (gR χ 2412 x0 0) = some z2 ∧ (((¬ vp_in x1 (tg χ 27 z2)) ∧ ((tg χ 27 z2) < 2147483648) ∧ (uC χ + 3 ≤ 603072) ∧ (uS χ + 222 ≤ 7262314) ∧ (∀ n4, n4 ≤ 222 → ∀ χ3, χ3 = brn χ 3 n4 → (Q χ3))))))
set_option maxHeartbeats 4000000 in
theorem mx_X28_put (l : Launch) (hl : l.stackTraces = false) (Γ : Gh) (ad : Nat → Nat → Nat) (x0 : Nat) (x1 : Int32) (x2 : Int64) (χ : St) (Q : St → Prop) : MtX l yX28_put (ws_ yX28_put cX28_put 4 (some .boolean)) (rmO (8) (10248) χ) (Pm Γ ad χ [.ref (ad 23 x0), .int x1, .long x2] (x0 < cn χ 23 ∧ wx_X28_put x0 x1 x2 χ Q)) (Qx Γ true ad χ nAI (fun _ χ => Q χ)) (frB Γ) := by
  refine MtX.start hl (by decide) RX28 rfl (Nat.le_of_ble_eq_true rfl) ?_
  intro X hX hT hO hG _ _ hna _ ⟨hv0, hf⟩
  unfold wx_X28_put at hf
  refine g_aload_n hX 0 dX28_put_0 rfl rfl ?_
  have hg1 := hf.1
  replace hf := hf.2
  obtain ⟨z2, hz2, hf⟩ := hf
  refine g_getE hX (k := 0) hv0 (ff23_10 hg1) rfl (by decide) (by decide) rfl rfl rfl in_X28 (by decide) q1330 dX28_put_1 hz2 (fun hvz2 => ?_)
  refine g_iload_n hX 1 dX28_put_4 rfl rfl ?_
  refine g_lload_n hX 2 dX28_put_5 rfl rfl ?_
  refine g_l2i hX dX28_put_6 ?_
  refine g_iastX hX hT hvz2 ff27 rfl hf.2.1 hf.1 ⟨by decide, by decide⟩ hf.2.2.1 hf.2.2.2.1 (Nat.le_of_ble_eq_true rfl) dX28_put_7 (fun n4 hn4 => ?_)
  replace hf := hf.2.2.2.2
  replace hf := hf n4 hn4 _ rfl
  exact hO hf

def w_X29_at (x0 : Nat) (x1 : Int32) (χ : St) (Q : Int64 → St → Prop) : Prop := (tg χ 23 x0 = 11) ∧ ((∃ z2, (gR χ 2413 x0 0) = some z2 ∧ ((vp_in x1 (tg χ 28 z2)) ∧ ((Q (gL χ 28 z2 x1.toNatClampNeg) χ)))))
set_option maxHeartbeats 4000000 in
theorem mt_X29_at (l : Launch) (Γ : Gh) (ad : Nat → Nat → Nat) (x0 : Nat) (x1 : Int32) (χ : St) (Q : Int64 → St → Prop) : Mt l yX29_at (ws_ yX29_at cX29_at 2 (some .long)) (rmO (0) (0) χ) (Pm Γ ad χ [.ref (ad 23 x0), .int x1] (x0 < cn χ 23 ∧ w_X29_at x0 x1 χ Q)) (Qm Γ true ad χ (pL Q)) (frB Γ) := by
  refine Mt.start (by decide) RX29 rfl (Nat.le_of_ble_eq_true rfl) ?_
  intro X hX hG _ _ hna _ ⟨hv0, hf⟩
  unfold w_X29_at at hf
  refine g_aload_n hX 0 dX29_at_0 rfl rfl ?_
  have hg1 := hf.1
  replace hf := hf.2
  obtain ⟨z2, hz2, hf⟩ := hf
  refine g_getE hX (k := 0) hv0 (ff23_11 hg1) rfl (by decide) (by decide) rfl rfl rfl in_X29 (by decide) q1340 dX29_at_1 hz2 (fun hvz2 => ?_)
  refine g_iload_n hX 1 dX29_at_4 rfl rfl ?_
  refine g_lald hX hvz2 ff28 rfl hf.1 dX29_at_5 ?_
  replace hf := hf.2
  exact g_lret hX ⟨_, rfl, hf⟩ dX29_at_6

def wx_X29_at (x0 : Nat) (x1 : Int32) (χ : St) (Q : St → Prop) : Prop := (tg χ 23 x0 = 11) ∧ ((∃ z2, (gR χ 2413 x0 0) = some z2 ∧ (((¬ vp_in x1 (tg χ 28 z2)) ∧ ((tg χ 28 z2) < 2147483648) ∧ (uC χ + 3 ≤ 603072) ∧ (uS χ + 222 ≤ 7262314) ∧ (∀ n4, n4 ≤ 222 → ∀ χ3, χ3 = brn χ 3 n4 → (Q χ3))))))
set_option maxHeartbeats 4000000 in
theorem mx_X29_at (l : Launch) (hl : l.stackTraces = false) (Γ : Gh) (ad : Nat → Nat → Nat) (x0 : Nat) (x1 : Int32) (χ : St) (Q : St → Prop) : MtX l yX29_at (ws_ yX29_at cX29_at 2 (some .long)) (rmO (8) (10248) χ) (Pm Γ ad χ [.ref (ad 23 x0), .int x1] (x0 < cn χ 23 ∧ wx_X29_at x0 x1 χ Q)) (Qx Γ true ad χ nAI (fun _ χ => Q χ)) (frB Γ) := by
  refine MtX.start hl (by decide) RX29 rfl (Nat.le_of_ble_eq_true rfl) ?_
  intro X hX hT hO hG _ _ hna _ ⟨hv0, hf⟩
  unfold wx_X29_at at hf
  refine g_aload_n hX 0 dX29_at_0 rfl rfl ?_
  have hg1 := hf.1
  replace hf := hf.2
  obtain ⟨z2, hz2, hf⟩ := hf
  refine g_getE hX (k := 0) hv0 (ff23_11 hg1) rfl (by decide) (by decide) rfl rfl rfl in_X29 (by decide) q1340 dX29_at_1 hz2 (fun hvz2 => ?_)
  refine g_iload_n hX 1 dX29_at_4 rfl rfl ?_
  refine g_laldX hX hT hvz2 ff28 rfl hf.2.1 hf.1 ⟨by decide, by decide⟩ hf.2.2.1 hf.2.2.2.1 (Nat.le_of_ble_eq_true rfl) dX29_at_5 (fun n4 hn4 => ?_)
  replace hf := hf.2.2.2.2
  replace hf := hf n4 hn4 _ rfl
  exact hO hf

def w_X29_put (x0 : Nat) (x1 : Int32) (x2 : Int64) (χ : St) (Q : Int32 → St → Prop) : Prop := (tg χ 23 x0 = 11) ∧ ((∃ z2, (gR χ 2413 x0 0) = some z2 ∧ ((vp_in x1 (tg χ 28 z2)) ∧ ((∀ χ3 : St, χ3 = (sL χ 28 z2 x1.toNatClampNeg x2) → (Q (1 : Int32) χ3))))))
set_option maxHeartbeats 4000000 in
theorem mt_X29_put (l : Launch) (Γ : Gh) (ad : Nat → Nat → Nat) (x0 : Nat) (x1 : Int32) (x2 : Int64) (χ : St) (Q : Int32 → St → Prop) : Mt l yX29_put (ws_ yX29_put cX29_put 4 (some .boolean)) (rmO (0) (0) χ) (Pm Γ ad χ [.ref (ad 23 x0), .int x1, .long x2] (x0 < cn χ 23 ∧ w_X29_put x0 x1 x2 χ Q)) (Qm Γ true ad χ (pI Q)) (frB Γ) := by
  refine Mt.start (by decide) RX29 rfl (Nat.le_of_ble_eq_true rfl) ?_
  intro X hX hG _ _ hna _ ⟨hv0, hf⟩
  unfold w_X29_put at hf
  refine g_aload_n hX 0 dX29_put_0 rfl rfl ?_
  have hg1 := hf.1
  replace hf := hf.2
  obtain ⟨z2, hz2, hf⟩ := hf
  refine g_getE hX (k := 0) hv0 (ff23_11 hg1) rfl (by decide) (by decide) rfl rfl rfl in_X29 (by decide) q1340 dX29_put_1 hz2 (fun hvz2 => ?_)
  refine g_iload_n hX 1 dX29_put_4 rfl rfl ?_
  refine g_lload_n hX 2 dX29_put_5 rfl rfl ?_
  refine g_last hX hvz2 ff28 rfl hf.1 dX29_put_6 ?_
  replace hf := hf.2
  replace hf := hf _ rfl
  refine g_iconst hX (v := (1 : Int32)) dX29_put_7 rfl ?_
  exact g_zret hX rfl ⟨_, rfl, hf⟩ dX29_put_8

def wx_X29_put (x0 : Nat) (x1 : Int32) (x2 : Int64) (χ : St) (Q : St → Prop) : Prop := (tg χ 23 x0 = 11) ∧ ((∃ z2, (gR χ 2413 x0 0) = some z2 ∧ (((¬ vp_in x1 (tg χ 28 z2)) ∧ ((tg χ 28 z2) < 2147483648) ∧ (uC χ + 3 ≤ 603072) ∧ (uS χ + 222 ≤ 7262314) ∧ (∀ n4, n4 ≤ 222 → ∀ χ3, χ3 = brn χ 3 n4 → (Q χ3))))))
set_option maxHeartbeats 4000000 in
theorem mx_X29_put (l : Launch) (hl : l.stackTraces = false) (Γ : Gh) (ad : Nat → Nat → Nat) (x0 : Nat) (x1 : Int32) (x2 : Int64) (χ : St) (Q : St → Prop) : MtX l yX29_put (ws_ yX29_put cX29_put 4 (some .boolean)) (rmO (8) (10248) χ) (Pm Γ ad χ [.ref (ad 23 x0), .int x1, .long x2] (x0 < cn χ 23 ∧ wx_X29_put x0 x1 x2 χ Q)) (Qx Γ true ad χ nAI (fun _ χ => Q χ)) (frB Γ) := by
  refine MtX.start hl (by decide) RX29 rfl (Nat.le_of_ble_eq_true rfl) ?_
  intro X hX hT hO hG _ _ hna _ ⟨hv0, hf⟩
  unfold wx_X29_put at hf
  refine g_aload_n hX 0 dX29_put_0 rfl rfl ?_
  have hg1 := hf.1
  replace hf := hf.2
  obtain ⟨z2, hz2, hf⟩ := hf
  refine g_getE hX (k := 0) hv0 (ff23_11 hg1) rfl (by decide) (by decide) rfl rfl rfl in_X29 (by decide) q1340 dX29_put_1 hz2 (fun hvz2 => ?_)
  refine g_iload_n hX 1 dX29_put_4 rfl rfl ?_
  refine g_lload_n hX 2 dX29_put_5 rfl rfl ?_
  refine g_lastX hX hT hvz2 ff28 rfl hf.2.1 hf.1 ⟨by decide, by decide⟩ hf.2.2.1 hf.2.2.2.1 (Nat.le_of_ble_eq_true rfl) dX29_put_6 (fun n4 hn4 => ?_)
  replace hf := hf.2.2.2.2
  replace hf := hf n4 hn4 _ rfl
  exact hO hf

def w_X30_at (x0 : Nat) (x1 : Int32) (χ : St) (Q : Int64 → St → Prop) : Prop := (tg χ 23 x0 = 12) ∧ ((∃ z2, (gR χ 2414 x0 0) = some z2 ∧ ((vp_in x1 (tg χ 29 z2)) ∧ ((((gI χ 29 z2 x1.toNatClampNeg) = 0 → (Q (0 : Int64) χ)) ∧ (¬ (gI χ 29 z2 x1.toNatClampNeg) = 0 → (Q (1 : Int64) χ)))))))
set_option maxHeartbeats 4000000 in
theorem mt_X30_at (l : Launch) (Γ : Gh) (ad : Nat → Nat → Nat) (x0 : Nat) (x1 : Int32) (χ : St) (Q : Int64 → St → Prop) : Mt l yX30_at (ws_ yX30_at cX30_at 2 (some .long)) (rmO (0) (0) χ) (Pm Γ ad χ [.ref (ad 23 x0), .int x1] (x0 < cn χ 23 ∧ w_X30_at x0 x1 χ Q)) (Qm Γ true ad χ (pL Q)) (frB Γ) := by
  refine Mt.start (by decide) RX30 rfl (Nat.le_of_ble_eq_true rfl) ?_
  intro X hX hG _ _ hna _ ⟨hv0, hf⟩
  unfold w_X30_at at hf
  refine g_aload_n hX 0 dX30_at_0 rfl rfl ?_
  have hg1 := hf.1
  replace hf := hf.2
  obtain ⟨z2, hz2, hf⟩ := hf
  refine g_getE hX (k := 0) hv0 (ff23_12 hg1) rfl (by decide) (by decide) rfl rfl rfl in_X30 (by decide) q1350 dX30_at_1 hz2 (fun hvz2 => ?_)
  refine g_iload_n hX 1 dX30_at_4 rfl rfl ?_
  refine g_zald hX hvz2 ff29 rfl hf.1 dX30_at_5 ?_
  replace hf := hf.2
  refine g_if_eq hX 13 dX30_at_6 (by decide) (fun z => ?_) (fun z => ?_)
  · replace hf := hf.1 z
    refine g_lconst hX (v := (0 : Int64)) dX30_at_13 rfl ?_
    exact g_lret hX ⟨_, rfl, hf⟩ dX30_at_14
  · replace hf := hf.2 z
    refine g_lconst hX (v := (1 : Int64)) dX30_at_9 rfl ?_
    refine g_goto hX 14 dX30_at_10 (by decide) ?_
    exact g_lret hX ⟨_, rfl, hf⟩ dX30_at_14

def wx_X30_at (x0 : Nat) (x1 : Int32) (χ : St) (Q : St → Prop) : Prop := (tg χ 23 x0 = 12) ∧ ((∃ z2, (gR χ 2414 x0 0) = some z2 ∧ (((¬ vp_in x1 (tg χ 29 z2)) ∧ ((tg χ 29 z2) < 2147483648) ∧ (uC χ + 3 ≤ 603072) ∧ (uS χ + 222 ≤ 7262314) ∧ (∀ n4, n4 ≤ 222 → ∀ χ3, χ3 = brn χ 3 n4 → (Q χ3))))))
set_option maxHeartbeats 4000000 in
theorem mx_X30_at (l : Launch) (hl : l.stackTraces = false) (Γ : Gh) (ad : Nat → Nat → Nat) (x0 : Nat) (x1 : Int32) (χ : St) (Q : St → Prop) : MtX l yX30_at (ws_ yX30_at cX30_at 2 (some .long)) (rmO (8) (10248) χ) (Pm Γ ad χ [.ref (ad 23 x0), .int x1] (x0 < cn χ 23 ∧ wx_X30_at x0 x1 χ Q)) (Qx Γ true ad χ nAI (fun _ χ => Q χ)) (frB Γ) := by
  refine MtX.start hl (by decide) RX30 rfl (Nat.le_of_ble_eq_true rfl) ?_
  intro X hX hT hO hG _ _ hna _ ⟨hv0, hf⟩
  unfold wx_X30_at at hf
  refine g_aload_n hX 0 dX30_at_0 rfl rfl ?_
  have hg1 := hf.1
  replace hf := hf.2
  obtain ⟨z2, hz2, hf⟩ := hf
  refine g_getE hX (k := 0) hv0 (ff23_12 hg1) rfl (by decide) (by decide) rfl rfl rfl in_X30 (by decide) q1350 dX30_at_1 hz2 (fun hvz2 => ?_)
  refine g_iload_n hX 1 dX30_at_4 rfl rfl ?_
  refine g_baldX hX hT hvz2 ff29 rfl hf.2.1 hf.1 ⟨by decide, by decide⟩ hf.2.2.1 hf.2.2.2.1 (Nat.le_of_ble_eq_true rfl) dX30_at_5 (fun n4 hn4 => ?_)
  replace hf := hf.2.2.2.2
  replace hf := hf n4 hn4 _ rfl
  exact hO hf

def w_X30_put (x0 : Nat) (x1 : Int32) (x2 : Int64) (χ : St) (Q : Int32 → St → Prop) : Prop := (tg χ 23 x0 = 12) ∧ ((∃ z2, (gR χ 2414 x0 0) = some z2 ∧ ((((lg_cmp x2 (0 : Int64)) = 0 → (vp_in x1 (tg χ 29 z2)) ∧ ((∀ χ3 : St, χ3 = (sI χ 29 z2 x1.toNatClampNeg (vp_nar .boolean (0 : Int32))) → (Q (1 : Int32) χ3)))) ∧ (¬ (lg_cmp x2 (0 : Int64)) = 0 → (vp_in x1 (tg χ 29 z2)) ∧ ((∀ χ4 : St, χ4 = (sI χ 29 z2 x1.toNatClampNeg (vp_nar .boolean (1 : Int32))) → (Q (1 : Int32) χ4))))))))
set_option maxHeartbeats 4000000 in
theorem mt_X30_put (l : Launch) (Γ : Gh) (ad : Nat → Nat → Nat) (x0 : Nat) (x1 : Int32) (x2 : Int64) (χ : St) (Q : Int32 → St → Prop) : Mt l yX30_put (ws_ yX30_put cX30_put 4 (some .boolean)) (rmO (0) (0) χ) (Pm Γ ad χ [.ref (ad 23 x0), .int x1, .long x2] (x0 < cn χ 23 ∧ w_X30_put x0 x1 x2 χ Q)) (Qm Γ true ad χ (pI Q)) (frB Γ) := by
  refine Mt.start (by decide) RX30 rfl (Nat.le_of_ble_eq_true rfl) ?_
  intro X hX hG _ _ hna _ ⟨hv0, hf⟩
  unfold w_X30_put at hf
  refine g_aload_n hX 0 dX30_put_0 rfl rfl ?_
  have hg1 := hf.1
  replace hf := hf.2
  obtain ⟨z2, hz2, hf⟩ := hf
  refine g_getE hX (k := 0) hv0 (ff23_12 hg1) rfl (by decide) (by decide) rfl rfl rfl in_X30 (by decide) q1350 dX30_put_1 hz2 (fun hvz2 => ?_)
  refine g_iload_n hX 1 dX30_put_4 rfl rfl ?_
  refine g_lload_n hX 2 dX30_put_5 rfl rfl ?_
  refine g_lconst hX (v := (0 : Int64)) dX30_put_6 rfl ?_
  refine g_lcmp hX dX30_put_7 ?_
  refine g_if_eq hX 15 dX30_put_8 (by decide) (fun z => ?_) (fun z => ?_)
  · replace hf := hf.1 z
    refine g_iconst hX (v := (0 : Int32)) dX30_put_15 rfl ?_
    refine g_zast hX hvz2 ff29 rfl hf.1 dX30_put_16 ?_
    replace hf := hf.2
    replace hf := hf _ rfl
    refine g_iconst hX (v := (1 : Int32)) dX30_put_17 rfl ?_
    exact g_zret hX rfl ⟨_, rfl, hf⟩ dX30_put_18
  · replace hf := hf.2 z
    refine g_iconst hX (v := (1 : Int32)) dX30_put_11 rfl ?_
    refine g_goto hX 16 dX30_put_12 (by decide) ?_
    refine g_zast hX hvz2 ff29 rfl hf.1 dX30_put_16 ?_
    replace hf := hf.2
    replace hf := hf _ rfl
    refine g_iconst hX (v := (1 : Int32)) dX30_put_17 rfl ?_
    exact g_zret hX rfl ⟨_, rfl, hf⟩ dX30_put_18

def wx_X30_put (x0 : Nat) (x1 : Int32) (x2 : Int64) (χ : St) (Q : St → Prop) : Prop := (tg χ 23 x0 = 12) ∧ ((∃ z2, (gR χ 2414 x0 0) = some z2 ∧ ((((lg_cmp x2 (0 : Int64)) = 0 → ((¬ vp_in x1 (tg χ 29 z2)) ∧ ((tg χ 29 z2) < 2147483648) ∧ (uC χ + 3 ≤ 603072) ∧ (uS χ + 222 ≤ 7262314) ∧ (∀ n4, n4 ≤ 222 → ∀ χ3, χ3 = brn χ 3 n4 → (Q χ3)))) ∧ (¬ (lg_cmp x2 (0 : Int64)) = 0 → ((¬ vp_in x1 (tg χ 29 z2)) ∧ ((tg χ 29 z2) < 2147483648) ∧ (uC χ + 3 ≤ 603072) ∧ (uS χ + 222 ≤ 7262314) ∧ (∀ n6, n6 ≤ 222 → ∀ χ5, χ5 = brn χ 3 n6 → (Q χ5))))))))
set_option maxHeartbeats 4000000 in
theorem mx_X30_put (l : Launch) (hl : l.stackTraces = false) (Γ : Gh) (ad : Nat → Nat → Nat) (x0 : Nat) (x1 : Int32) (x2 : Int64) (χ : St) (Q : St → Prop) : MtX l yX30_put (ws_ yX30_put cX30_put 4 (some .boolean)) (rmO (8) (10248) χ) (Pm Γ ad χ [.ref (ad 23 x0), .int x1, .long x2] (x0 < cn χ 23 ∧ wx_X30_put x0 x1 x2 χ Q)) (Qx Γ true ad χ nAI (fun _ χ => Q χ)) (frB Γ) := by
  refine MtX.start hl (by decide) RX30 rfl (Nat.le_of_ble_eq_true rfl) ?_
  intro X hX hT hO hG _ _ hna _ ⟨hv0, hf⟩
  unfold wx_X30_put at hf
  refine g_aload_n hX 0 dX30_put_0 rfl rfl ?_
  have hg1 := hf.1
  replace hf := hf.2
  obtain ⟨z2, hz2, hf⟩ := hf
  refine g_getE hX (k := 0) hv0 (ff23_12 hg1) rfl (by decide) (by decide) rfl rfl rfl in_X30 (by decide) q1350 dX30_put_1 hz2 (fun hvz2 => ?_)
  refine g_iload_n hX 1 dX30_put_4 rfl rfl ?_
  refine g_lload_n hX 2 dX30_put_5 rfl rfl ?_
  refine g_lconst hX (v := (0 : Int64)) dX30_put_6 rfl ?_
  refine g_lcmp hX dX30_put_7 ?_
  refine g_if_eq hX 15 dX30_put_8 (by decide) (fun z => ?_) (fun z => ?_)
  · replace hf := hf.1 z
    refine g_iconst hX (v := (0 : Int32)) dX30_put_15 rfl ?_
    refine g_bastX hX hT hvz2 ff29 rfl hf.2.1 hf.1 ⟨by decide, by decide⟩ hf.2.2.1 hf.2.2.2.1 (Nat.le_of_ble_eq_true rfl) dX30_put_16 (fun n4 hn4 => ?_)
    replace hf := hf.2.2.2.2
    replace hf := hf n4 hn4 _ rfl
    exact hO hf
  · replace hf := hf.2 z
    refine g_iconst hX (v := (1 : Int32)) dX30_put_11 rfl ?_
    refine g_goto hX 16 dX30_put_12 (by decide) ?_
    refine g_bastX hX hT hvz2 ff29 rfl hf.2.1 hf.1 ⟨by decide, by decide⟩ hf.2.2.1 hf.2.2.2.1 (Nat.le_of_ble_eq_true rfl) dX30_put_16 (fun n6 hn6 => ?_)
    replace hf := hf.2.2.2.2
    replace hf := hf n6 hn6 _ rfl
    exact hO hf

theorem hy_X26_copy : yX26_copy.cls ≠ "java/lang/invoke/MethodHandle" ∧ yX26_copy.cls ≠ "java/lang/invoke/VarHandle" ∧ (parseMethodDescriptor yX26_copy.desc).map (fun d => d.parameters.length) = some 4 := by decide +kernel
def w_X26_copy (x0 : Nat) (x1 : Int32) (x2 : Nat) (x3 : Int32) (x4 : Int32) (χ : St) (Q : St → Prop) : Prop := (tg χ 23 x0 = 8) ∧ ((∃ z2, (gR χ 2410 x0 0) = some z2 ∧ ((tg χ 23 x2 = 8) ∧ ((tg χ 23 x2 = 8) ∧ ((∃ z4, (gR χ 2410 x2 0) = some z4 ∧ ((¬ x1 < 0) ∧ (¬ x3 < 0) ∧ (¬ x4 < 0) ∧ (x1.toNatClampNeg + x4.toNatClampNeg ≤ (tg χ 25 z2)) ∧ (x3.toNatClampNeg + x4.toNatClampNeg ≤ (tg χ 25 z4)) ∧ (∀ k, k < x4.toNatClampNeg → fits .byte (.int (gI χ 25 z2 (x1.toNatClampNeg + k))) = true) ∧ ((∀ χ5 : St, χ5 = (cpI χ 25 z2 z4 x1.toNatClampNeg x3.toNatClampNeg x4.toNatClampNeg) → (Q χ5))))))))))
set_option maxHeartbeats 4000000 in
theorem mt_X26_copy (l : Launch) (Γ : Gh) (ad : Nat → Nat → Nat) (x0 : Nat) (x1 : Int32) (x2 : Nat) (x3 : Int32) (x4 : Int32) (χ : St) (Q : St → Prop) : Mt l yX26_copy (ws_ yX26_copy cX26_copy 5 (none)) (rmO (1) (30) χ) (Pm Γ ad χ [.ref (ad 23 x0), .int x1, .ref (ad 23 x2), .int x3, .int x4] (x0 < cn χ 23 ∧ x2 < cn χ 23 ∧ w_X26_copy x0 x1 x2 x3 x4 χ Q)) (Qm Γ true ad χ (pV Q)) (frB Γ) := by
  refine Mt.start (by decide) RX26 rfl (Nat.le_of_ble_eq_true rfl) ?_
  intro X hX hG _ _ hna _ ⟨hv0, hv2, hf⟩
  unfold w_X26_copy at hf
  refine g_aload_n hX 0 dX26_copy_0 rfl rfl ?_
  have hg1 := hf.1
  replace hf := hf.2
  obtain ⟨z2, hz2, hf⟩ := hf
  refine g_getE hX (k := 0) hv0 (ff23_8 hg1) rfl (by decide) (by decide) rfl rfl rfl in_X26 (by decide) q1309 dX26_copy_1 hz2 (fun hvz2 => ?_)
  refine g_iload_n hX 1 dX26_copy_4 rfl rfl ?_
  refine g_aload_n hX 2 dX26_copy_5 rfl rfl ?_
  refine g_cast_ByteRow_p hX q1415 hf.1 hv2 dX26_copy_6 ?_
  replace hf := hf.2
  have hg3 := hf.1
  replace hf := hf.2
  obtain ⟨z4, hz4, hf⟩ := hf
  refine g_getE hX (k := 0) hv2 (ff23_8 hg3) rfl (by decide) (by decide) rfl rfl rfl in_X26 (by decide) q1309 dX26_copy_9 hz4 (fun hvz4 => ?_)
  refine g_iload_n hX 3 dX26_copy_12 rfl rfl ?_
  refine g_iload hX 4 dX26_copy_13 rfl ?_
  refine g_cpyI hX q1416 hvz2 hvz4 ff25 ff25 rfl rfl hf.1 hf.2.1 hf.2.2.1 hf.2.2.2.1 hf.2.2.2.2.1 hf.2.2.2.2.2.1 (by decide) (Nat.le_of_ble_eq_true rfl) dX26_copy_15 ?_
  replace hf := hf.2.2.2.2.2.2
  replace hf := hf _ rfl
  exact g_vret hX ⟨rfl, hf⟩ dX26_copy_18

def wx_X26_copy (x0 : Nat) (x1 : Int32) (x2 : Nat) (x3 : Int32) (x4 : Int32) (χ : St) (Q : St → Prop) : Prop := (tg χ 23 x0 = 8) ∧ ((∃ z2, (gR χ 2410 x0 0) = some z2 ∧ ((tg χ 23 x2 = 8) ∧ ((tg χ 23 x2 = 8) ∧ ((∃ z4, (gR χ 2410 x2 0) = some z4 ∧ (((cpBad x1 x3 x4 (tg χ 25 z2) (tg χ 25 z4)) ∧ ((tg χ 25 z2) < 2147483648) ∧ ((tg χ 25 z4) < 2147483648) ∧ (uC χ + 3 ≤ 603072) ∧ (uS χ + 460 ≤ 7262314) ∧ (∀ n6, n6 ≤ 460 → ∀ χ5, χ5 = brn χ 3 n6 → (Q χ5))))))))))
set_option maxHeartbeats 4000000 in
theorem mx_X26_copy (l : Launch) (hl : l.stackTraces = false) (Γ : Gh) (ad : Nat → Nat → Nat) (x0 : Nat) (x1 : Int32) (x2 : Nat) (x3 : Int32) (x4 : Int32) (χ : St) (Q : St → Prop) : MtX l yX26_copy (ws_ yX26_copy cX26_copy 5 (none)) (rmO (9) (10260) χ) (Pm Γ ad χ [.ref (ad 23 x0), .int x1, .ref (ad 23 x2), .int x3, .int x4] (x0 < cn χ 23 ∧ x2 < cn χ 23 ∧ wx_X26_copy x0 x1 x2 x3 x4 χ Q)) (Qx Γ true ad χ nAI (fun _ χ => Q χ)) (frB Γ) := by
  refine MtX.start hl (by decide) RX26 rfl (Nat.le_of_ble_eq_true rfl) ?_
  intro X hX hT hO hG _ _ hna _ ⟨hv0, hv2, hf⟩
  unfold wx_X26_copy at hf
  refine g_aload_n hX 0 dX26_copy_0 rfl rfl ?_
  have hg1 := hf.1
  replace hf := hf.2
  obtain ⟨z2, hz2, hf⟩ := hf
  refine g_getE hX (k := 0) hv0 (ff23_8 hg1) rfl (by decide) (by decide) rfl rfl rfl in_X26 (by decide) q1309 dX26_copy_1 hz2 (fun hvz2 => ?_)
  refine g_iload_n hX 1 dX26_copy_4 rfl rfl ?_
  refine g_aload_n hX 2 dX26_copy_5 rfl rfl ?_
  refine g_cast_ByteRow_p hX q1415 hf.1 hv2 dX26_copy_6 ?_
  replace hf := hf.2
  have hg3 := hf.1
  replace hf := hf.2
  obtain ⟨z4, hz4, hf⟩ := hf
  refine g_getE hX (k := 0) hv2 (ff23_8 hg3) rfl (by decide) (by decide) rfl rfl rfl in_X26 (by decide) q1309 dX26_copy_9 hz4 (fun hvz4 => ?_)
  refine g_iload_n hX 3 dX26_copy_12 rfl rfl ?_
  refine g_iload hX 4 dX26_copy_13 rfl ?_
  refine g_cpyIX hX hT q1416 hvz2 hvz4 ff25 ff25 rfl rfl hf.2.1 hf.2.2.1 hf.1 ⟨by decide, by decide⟩ hf.2.2.2.1 hf.2.2.2.2.1 (Nat.le_of_ble_eq_true rfl) dX26_copy_15 (fun n6 hn6 => ?_)
  replace hf := hf.2.2.2.2.2
  replace hf := hf n6 hn6 _ rfl
  exact hO hf

def wy_X26_copy (x0 : Nat) (x1 : Int32) (x2 : Nat) (x3 : Int32) (x4 : Int32) (χ : St) (Q : St → Prop) : Prop := (tg χ 23 x0 = 8) ∧ ((∃ z2, (gR χ 2410 x0 0) = some z2 ∧ (((tg χ 23 x2 = 9 ∨ tg χ 23 x2 = 10 ∨ tg χ 23 x2 = 11 ∨ tg χ 23 x2 = 12) ∧ (uC χ + 3 ≤ 603072) ∧ (uS χ + 1610 ≤ 7262314) ∧ (∀ n4, n4 ≤ 1610 → ∀ χ3, χ3 = brn χ 3 n4 → (Q χ3))))))
set_option maxHeartbeats 4000000 in
theorem my_X26_copy (l : Launch) (hl : l.stackTraces = false) (Γ : Gh) (ad : Nat → Nat → Nat) (x0 : Nat) (x1 : Int32) (x2 : Nat) (x3 : Int32) (x4 : Int32) (χ : St) (Q : St → Prop) : MtX l yX26_copy (ws_ yX26_copy cX26_copy 5 (none)) (rmO (8) (10248) χ) (Pm Γ ad χ [.ref (ad 23 x0), .int x1, .ref (ad 23 x2), .int x3, .int x4] (x0 < cn χ 23 ∧ x2 < cn χ 23 ∧ wy_X26_copy x0 x1 x2 x3 x4 χ Q)) (Qx Γ true ad χ nCC (fun _ χ => Q χ)) (frB Γ) := by
  refine MtX.start hl (by decide) RX26 rfl (Nat.le_of_ble_eq_true rfl) ?_
  intro X hX hT hO hG _ _ hna _ ⟨hv0, hv2, hf⟩
  unfold wy_X26_copy at hf
  refine g_aload_n hX 0 dX26_copy_0 rfl rfl ?_
  have hg1 := hf.1
  replace hf := hf.2
  obtain ⟨z2, hz2, hf⟩ := hf
  refine g_getE hX (k := 0) hv0 (ff23_8 hg1) rfl (by decide) (by decide) rfl rfl rfl in_X26 (by decide) q1309 dX26_copy_1 hz2 (fun hvz2 => ?_)
  refine g_iload_n hX 1 dX26_copy_4 rfl rfl ?_
  refine g_aload_n hX 2 dX26_copy_5 rfl rfl ?_
  refine g_cast_ByteRow_x hX hT q1415 hf.1 hv2 ⟨by decide, by decide⟩ hf.2.1 hf.2.2.1 (Nat.le_of_ble_eq_true rfl) dX26_copy_6 (fun n4 hn4 => ?_)
  replace hf := hf.2.2.2
  replace hf := hf n4 hn4 _ rfl
  exact hO hf

theorem hy_X27_copy : yX27_copy.cls ≠ "java/lang/invoke/MethodHandle" ∧ yX27_copy.cls ≠ "java/lang/invoke/VarHandle" ∧ (parseMethodDescriptor yX27_copy.desc).map (fun d => d.parameters.length) = some 4 := by decide +kernel
def w_X27_copy (x0 : Nat) (x1 : Int32) (x2 : Nat) (x3 : Int32) (x4 : Int32) (χ : St) (Q : St → Prop) : Prop := (tg χ 23 x0 = 9) ∧ ((∃ z2, (gR χ 2411 x0 0) = some z2 ∧ ((tg χ 23 x2 = 9) ∧ ((tg χ 23 x2 = 9) ∧ ((∃ z4, (gR χ 2411 x2 0) = some z4 ∧ ((¬ x1 < 0) ∧ (¬ x3 < 0) ∧ (¬ x4 < 0) ∧ (x1.toNatClampNeg + x4.toNatClampNeg ≤ (tg χ 26 z2)) ∧ (x3.toNatClampNeg + x4.toNatClampNeg ≤ (tg χ 26 z4)) ∧ (∀ k, k < x4.toNatClampNeg → fits .short (.int (gI χ 26 z2 (x1.toNatClampNeg + k))) = true) ∧ ((∀ χ5 : St, χ5 = (cpI χ 26 z2 z4 x1.toNatClampNeg x3.toNatClampNeg x4.toNatClampNeg) → (Q χ5))))))))))
set_option maxHeartbeats 4000000 in
theorem mt_X27_copy (l : Launch) (Γ : Gh) (ad : Nat → Nat → Nat) (x0 : Nat) (x1 : Int32) (x2 : Nat) (x3 : Int32) (x4 : Int32) (χ : St) (Q : St → Prop) : Mt l yX27_copy (ws_ yX27_copy cX27_copy 5 (none)) (rmO (1) (30) χ) (Pm Γ ad χ [.ref (ad 23 x0), .int x1, .ref (ad 23 x2), .int x3, .int x4] (x0 < cn χ 23 ∧ x2 < cn χ 23 ∧ w_X27_copy x0 x1 x2 x3 x4 χ Q)) (Qm Γ true ad χ (pV Q)) (frB Γ) := by
  refine Mt.start (by decide) RX27 rfl (Nat.le_of_ble_eq_true rfl) ?_
  intro X hX hG _ _ hna _ ⟨hv0, hv2, hf⟩
  unfold w_X27_copy at hf
  refine g_aload_n hX 0 dX27_copy_0 rfl rfl ?_
  have hg1 := hf.1
  replace hf := hf.2
  obtain ⟨z2, hz2, hf⟩ := hf
  refine g_getE hX (k := 0) hv0 (ff23_9 hg1) rfl (by decide) (by decide) rfl rfl rfl in_X27 (by decide) q1319 dX27_copy_1 hz2 (fun hvz2 => ?_)
  refine g_iload_n hX 1 dX27_copy_4 rfl rfl ?_
  refine g_aload_n hX 2 dX27_copy_5 rfl rfl ?_
  refine g_cast_ShortRow_p hX q1430 hf.1 hv2 dX27_copy_6 ?_
  replace hf := hf.2
  have hg3 := hf.1
  replace hf := hf.2
  obtain ⟨z4, hz4, hf⟩ := hf
  refine g_getE hX (k := 0) hv2 (ff23_9 hg3) rfl (by decide) (by decide) rfl rfl rfl in_X27 (by decide) q1319 dX27_copy_9 hz4 (fun hvz4 => ?_)
  refine g_iload_n hX 3 dX27_copy_12 rfl rfl ?_
  refine g_iload hX 4 dX27_copy_13 rfl ?_
  refine g_cpyI hX q1431 hvz2 hvz4 ff26 ff26 rfl rfl hf.1 hf.2.1 hf.2.2.1 hf.2.2.2.1 hf.2.2.2.2.1 hf.2.2.2.2.2.1 (by decide) (Nat.le_of_ble_eq_true rfl) dX27_copy_15 ?_
  replace hf := hf.2.2.2.2.2.2
  replace hf := hf _ rfl
  exact g_vret hX ⟨rfl, hf⟩ dX27_copy_18

def wx_X27_copy (x0 : Nat) (x1 : Int32) (x2 : Nat) (x3 : Int32) (x4 : Int32) (χ : St) (Q : St → Prop) : Prop := (tg χ 23 x0 = 9) ∧ ((∃ z2, (gR χ 2411 x0 0) = some z2 ∧ ((tg χ 23 x2 = 9) ∧ ((tg χ 23 x2 = 9) ∧ ((∃ z4, (gR χ 2411 x2 0) = some z4 ∧ (((cpBad x1 x3 x4 (tg χ 26 z2) (tg χ 26 z4)) ∧ ((tg χ 26 z2) < 2147483648) ∧ ((tg χ 26 z4) < 2147483648) ∧ (uC χ + 3 ≤ 603072) ∧ (uS χ + 460 ≤ 7262314) ∧ (∀ n6, n6 ≤ 460 → ∀ χ5, χ5 = brn χ 3 n6 → (Q χ5))))))))))
set_option maxHeartbeats 4000000 in
theorem mx_X27_copy (l : Launch) (hl : l.stackTraces = false) (Γ : Gh) (ad : Nat → Nat → Nat) (x0 : Nat) (x1 : Int32) (x2 : Nat) (x3 : Int32) (x4 : Int32) (χ : St) (Q : St → Prop) : MtX l yX27_copy (ws_ yX27_copy cX27_copy 5 (none)) (rmO (9) (10260) χ) (Pm Γ ad χ [.ref (ad 23 x0), .int x1, .ref (ad 23 x2), .int x3, .int x4] (x0 < cn χ 23 ∧ x2 < cn χ 23 ∧ wx_X27_copy x0 x1 x2 x3 x4 χ Q)) (Qx Γ true ad χ nAI (fun _ χ => Q χ)) (frB Γ) := by
  refine MtX.start hl (by decide) RX27 rfl (Nat.le_of_ble_eq_true rfl) ?_
  intro X hX hT hO hG _ _ hna _ ⟨hv0, hv2, hf⟩
  unfold wx_X27_copy at hf
  refine g_aload_n hX 0 dX27_copy_0 rfl rfl ?_
  have hg1 := hf.1
  replace hf := hf.2
  obtain ⟨z2, hz2, hf⟩ := hf
  refine g_getE hX (k := 0) hv0 (ff23_9 hg1) rfl (by decide) (by decide) rfl rfl rfl in_X27 (by decide) q1319 dX27_copy_1 hz2 (fun hvz2 => ?_)
  refine g_iload_n hX 1 dX27_copy_4 rfl rfl ?_
  refine g_aload_n hX 2 dX27_copy_5 rfl rfl ?_
  refine g_cast_ShortRow_p hX q1430 hf.1 hv2 dX27_copy_6 ?_
  replace hf := hf.2
  have hg3 := hf.1
  replace hf := hf.2
  obtain ⟨z4, hz4, hf⟩ := hf
  refine g_getE hX (k := 0) hv2 (ff23_9 hg3) rfl (by decide) (by decide) rfl rfl rfl in_X27 (by decide) q1319 dX27_copy_9 hz4 (fun hvz4 => ?_)
  refine g_iload_n hX 3 dX27_copy_12 rfl rfl ?_
  refine g_iload hX 4 dX27_copy_13 rfl ?_
  refine g_cpyIX hX hT q1431 hvz2 hvz4 ff26 ff26 rfl rfl hf.2.1 hf.2.2.1 hf.1 ⟨by decide, by decide⟩ hf.2.2.2.1 hf.2.2.2.2.1 (Nat.le_of_ble_eq_true rfl) dX27_copy_15 (fun n6 hn6 => ?_)
  replace hf := hf.2.2.2.2.2
  replace hf := hf n6 hn6 _ rfl
  exact hO hf

def wy_X27_copy (x0 : Nat) (x1 : Int32) (x2 : Nat) (x3 : Int32) (x4 : Int32) (χ : St) (Q : St → Prop) : Prop := (tg χ 23 x0 = 9) ∧ ((∃ z2, (gR χ 2411 x0 0) = some z2 ∧ (((tg χ 23 x2 = 8 ∨ tg χ 23 x2 = 10 ∨ tg χ 23 x2 = 11 ∨ tg χ 23 x2 = 12) ∧ (uC χ + 3 ≤ 603072) ∧ (uS χ + 1610 ≤ 7262314) ∧ (∀ n4, n4 ≤ 1610 → ∀ χ3, χ3 = brn χ 3 n4 → (Q χ3))))))
set_option maxHeartbeats 4000000 in
theorem my_X27_copy (l : Launch) (hl : l.stackTraces = false) (Γ : Gh) (ad : Nat → Nat → Nat) (x0 : Nat) (x1 : Int32) (x2 : Nat) (x3 : Int32) (x4 : Int32) (χ : St) (Q : St → Prop) : MtX l yX27_copy (ws_ yX27_copy cX27_copy 5 (none)) (rmO (8) (10248) χ) (Pm Γ ad χ [.ref (ad 23 x0), .int x1, .ref (ad 23 x2), .int x3, .int x4] (x0 < cn χ 23 ∧ x2 < cn χ 23 ∧ wy_X27_copy x0 x1 x2 x3 x4 χ Q)) (Qx Γ true ad χ nCC (fun _ χ => Q χ)) (frB Γ) := by
  refine MtX.start hl (by decide) RX27 rfl (Nat.le_of_ble_eq_true rfl) ?_
  intro X hX hT hO hG _ _ hna _ ⟨hv0, hv2, hf⟩
  unfold wy_X27_copy at hf
  refine g_aload_n hX 0 dX27_copy_0 rfl rfl ?_
  have hg1 := hf.1
  replace hf := hf.2
  obtain ⟨z2, hz2, hf⟩ := hf
  refine g_getE hX (k := 0) hv0 (ff23_9 hg1) rfl (by decide) (by decide) rfl rfl rfl in_X27 (by decide) q1319 dX27_copy_1 hz2 (fun hvz2 => ?_)
  refine g_iload_n hX 1 dX27_copy_4 rfl rfl ?_
  refine g_aload_n hX 2 dX27_copy_5 rfl rfl ?_
  refine g_cast_ShortRow_x hX hT q1430 hf.1 hv2 ⟨by decide, by decide⟩ hf.2.1 hf.2.2.1 (Nat.le_of_ble_eq_true rfl) dX27_copy_6 (fun n4 hn4 => ?_)
  replace hf := hf.2.2.2
  replace hf := hf n4 hn4 _ rfl
  exact hO hf

theorem hy_X28_copy : yX28_copy.cls ≠ "java/lang/invoke/MethodHandle" ∧ yX28_copy.cls ≠ "java/lang/invoke/VarHandle" ∧ (parseMethodDescriptor yX28_copy.desc).map (fun d => d.parameters.length) = some 4 := by decide +kernel
def w_X28_copy (x0 : Nat) (x1 : Int32) (x2 : Nat) (x3 : Int32) (x4 : Int32) (χ : St) (Q : St → Prop) : Prop := (tg χ 23 x0 = 10) ∧ ((∃ z2, (gR χ 2412 x0 0) = some z2 ∧ ((tg χ 23 x2 = 10) ∧ ((tg χ 23 x2 = 10) ∧ ((∃ z4, (gR χ 2412 x2 0) = some z4 ∧ ((¬ x1 < 0) ∧ (¬ x3 < 0) ∧ (¬ x4 < 0) ∧ (x1.toNatClampNeg + x4.toNatClampNeg ≤ (tg χ 27 z2)) ∧ (x3.toNatClampNeg + x4.toNatClampNeg ≤ (tg χ 27 z4)) ∧ (∀ k, k < x4.toNatClampNeg → fits .int (.int (gI χ 27 z2 (x1.toNatClampNeg + k))) = true) ∧ ((∀ χ5 : St, χ5 = (cpI χ 27 z2 z4 x1.toNatClampNeg x3.toNatClampNeg x4.toNatClampNeg) → (Q χ5))))))))))
set_option maxHeartbeats 4000000 in
theorem mt_X28_copy (l : Launch) (Γ : Gh) (ad : Nat → Nat → Nat) (x0 : Nat) (x1 : Int32) (x2 : Nat) (x3 : Int32) (x4 : Int32) (χ : St) (Q : St → Prop) : Mt l yX28_copy (ws_ yX28_copy cX28_copy 5 (none)) (rmO (1) (30) χ) (Pm Γ ad χ [.ref (ad 23 x0), .int x1, .ref (ad 23 x2), .int x3, .int x4] (x0 < cn χ 23 ∧ x2 < cn χ 23 ∧ w_X28_copy x0 x1 x2 x3 x4 χ Q)) (Qm Γ true ad χ (pV Q)) (frB Γ) := by
  refine Mt.start (by decide) RX28 rfl (Nat.le_of_ble_eq_true rfl) ?_
  intro X hX hG _ _ hna _ ⟨hv0, hv2, hf⟩
  unfold w_X28_copy at hf
  refine g_aload_n hX 0 dX28_copy_0 rfl rfl ?_
  have hg1 := hf.1
  replace hf := hf.2
  obtain ⟨z2, hz2, hf⟩ := hf
  refine g_getE hX (k := 0) hv0 (ff23_10 hg1) rfl (by decide) (by decide) rfl rfl rfl in_X28 (by decide) q1330 dX28_copy_1 hz2 (fun hvz2 => ?_)
  refine g_iload_n hX 1 dX28_copy_4 rfl rfl ?_
  refine g_aload_n hX 2 dX28_copy_5 rfl rfl ?_
  refine g_cast_IntRow_p hX q1420 hf.1 hv2 dX28_copy_6 ?_
  replace hf := hf.2
  have hg3 := hf.1
  replace hf := hf.2
  obtain ⟨z4, hz4, hf⟩ := hf
  refine g_getE hX (k := 0) hv2 (ff23_10 hg3) rfl (by decide) (by decide) rfl rfl rfl in_X28 (by decide) q1330 dX28_copy_9 hz4 (fun hvz4 => ?_)
  refine g_iload_n hX 3 dX28_copy_12 rfl rfl ?_
  refine g_iload hX 4 dX28_copy_13 rfl ?_
  refine g_cpyI hX q1421 hvz2 hvz4 ff27 ff27 rfl rfl hf.1 hf.2.1 hf.2.2.1 hf.2.2.2.1 hf.2.2.2.2.1 hf.2.2.2.2.2.1 (by decide) (Nat.le_of_ble_eq_true rfl) dX28_copy_15 ?_
  replace hf := hf.2.2.2.2.2.2
  replace hf := hf _ rfl
  exact g_vret hX ⟨rfl, hf⟩ dX28_copy_18

def wx_X28_copy (x0 : Nat) (x1 : Int32) (x2 : Nat) (x3 : Int32) (x4 : Int32) (χ : St) (Q : St → Prop) : Prop := (tg χ 23 x0 = 10) ∧ ((∃ z2, (gR χ 2412 x0 0) = some z2 ∧ ((tg χ 23 x2 = 10) ∧ ((tg χ 23 x2 = 10) ∧ ((∃ z4, (gR χ 2412 x2 0) = some z4 ∧ (((cpBad x1 x3 x4 (tg χ 27 z2) (tg χ 27 z4)) ∧ ((tg χ 27 z2) < 2147483648) ∧ ((tg χ 27 z4) < 2147483648) ∧ (uC χ + 3 ≤ 603072) ∧ (uS χ + 460 ≤ 7262314) ∧ (∀ n6, n6 ≤ 460 → ∀ χ5, χ5 = brn χ 3 n6 → (Q χ5))))))))))
set_option maxHeartbeats 4000000 in
theorem mx_X28_copy (l : Launch) (hl : l.stackTraces = false) (Γ : Gh) (ad : Nat → Nat → Nat) (x0 : Nat) (x1 : Int32) (x2 : Nat) (x3 : Int32) (x4 : Int32) (χ : St) (Q : St → Prop) : MtX l yX28_copy (ws_ yX28_copy cX28_copy 5 (none)) (rmO (9) (10260) χ) (Pm Γ ad χ [.ref (ad 23 x0), .int x1, .ref (ad 23 x2), .int x3, .int x4] (x0 < cn χ 23 ∧ x2 < cn χ 23 ∧ wx_X28_copy x0 x1 x2 x3 x4 χ Q)) (Qx Γ true ad χ nAI (fun _ χ => Q χ)) (frB Γ) := by
  refine MtX.start hl (by decide) RX28 rfl (Nat.le_of_ble_eq_true rfl) ?_
  intro X hX hT hO hG _ _ hna _ ⟨hv0, hv2, hf⟩
  unfold wx_X28_copy at hf
  refine g_aload_n hX 0 dX28_copy_0 rfl rfl ?_
  have hg1 := hf.1
  replace hf := hf.2
  obtain ⟨z2, hz2, hf⟩ := hf
  refine g_getE hX (k := 0) hv0 (ff23_10 hg1) rfl (by decide) (by decide) rfl rfl rfl in_X28 (by decide) q1330 dX28_copy_1 hz2 (fun hvz2 => ?_)
  refine g_iload_n hX 1 dX28_copy_4 rfl rfl ?_
  refine g_aload_n hX 2 dX28_copy_5 rfl rfl ?_
  refine g_cast_IntRow_p hX q1420 hf.1 hv2 dX28_copy_6 ?_
  replace hf := hf.2
  have hg3 := hf.1
  replace hf := hf.2
  obtain ⟨z4, hz4, hf⟩ := hf
  refine g_getE hX (k := 0) hv2 (ff23_10 hg3) rfl (by decide) (by decide) rfl rfl rfl in_X28 (by decide) q1330 dX28_copy_9 hz4 (fun hvz4 => ?_)
  refine g_iload_n hX 3 dX28_copy_12 rfl rfl ?_
  refine g_iload hX 4 dX28_copy_13 rfl ?_
  refine g_cpyIX hX hT q1421 hvz2 hvz4 ff27 ff27 rfl rfl hf.2.1 hf.2.2.1 hf.1 ⟨by decide, by decide⟩ hf.2.2.2.1 hf.2.2.2.2.1 (Nat.le_of_ble_eq_true rfl) dX28_copy_15 (fun n6 hn6 => ?_)
  replace hf := hf.2.2.2.2.2
  replace hf := hf n6 hn6 _ rfl
  exact hO hf

def wy_X28_copy (x0 : Nat) (x1 : Int32) (x2 : Nat) (x3 : Int32) (x4 : Int32) (χ : St) (Q : St → Prop) : Prop := (tg χ 23 x0 = 10) ∧ ((∃ z2, (gR χ 2412 x0 0) = some z2 ∧ (((tg χ 23 x2 = 8 ∨ tg χ 23 x2 = 9 ∨ tg χ 23 x2 = 11 ∨ tg χ 23 x2 = 12) ∧ (uC χ + 3 ≤ 603072) ∧ (uS χ + 1610 ≤ 7262314) ∧ (∀ n4, n4 ≤ 1610 → ∀ χ3, χ3 = brn χ 3 n4 → (Q χ3))))))
set_option maxHeartbeats 4000000 in
theorem my_X28_copy (l : Launch) (hl : l.stackTraces = false) (Γ : Gh) (ad : Nat → Nat → Nat) (x0 : Nat) (x1 : Int32) (x2 : Nat) (x3 : Int32) (x4 : Int32) (χ : St) (Q : St → Prop) : MtX l yX28_copy (ws_ yX28_copy cX28_copy 5 (none)) (rmO (8) (10248) χ) (Pm Γ ad χ [.ref (ad 23 x0), .int x1, .ref (ad 23 x2), .int x3, .int x4] (x0 < cn χ 23 ∧ x2 < cn χ 23 ∧ wy_X28_copy x0 x1 x2 x3 x4 χ Q)) (Qx Γ true ad χ nCC (fun _ χ => Q χ)) (frB Γ) := by
  refine MtX.start hl (by decide) RX28 rfl (Nat.le_of_ble_eq_true rfl) ?_
  intro X hX hT hO hG _ _ hna _ ⟨hv0, hv2, hf⟩
  unfold wy_X28_copy at hf
  refine g_aload_n hX 0 dX28_copy_0 rfl rfl ?_
  have hg1 := hf.1
  replace hf := hf.2
  obtain ⟨z2, hz2, hf⟩ := hf
  refine g_getE hX (k := 0) hv0 (ff23_10 hg1) rfl (by decide) (by decide) rfl rfl rfl in_X28 (by decide) q1330 dX28_copy_1 hz2 (fun hvz2 => ?_)
  refine g_iload_n hX 1 dX28_copy_4 rfl rfl ?_
  refine g_aload_n hX 2 dX28_copy_5 rfl rfl ?_
  refine g_cast_IntRow_x hX hT q1420 hf.1 hv2 ⟨by decide, by decide⟩ hf.2.1 hf.2.2.1 (Nat.le_of_ble_eq_true rfl) dX28_copy_6 (fun n4 hn4 => ?_)
  replace hf := hf.2.2.2
  replace hf := hf n4 hn4 _ rfl
  exact hO hf

theorem hy_X29_copy : yX29_copy.cls ≠ "java/lang/invoke/MethodHandle" ∧ yX29_copy.cls ≠ "java/lang/invoke/VarHandle" ∧ (parseMethodDescriptor yX29_copy.desc).map (fun d => d.parameters.length) = some 4 := by decide +kernel
def w_X29_copy (x0 : Nat) (x1 : Int32) (x2 : Nat) (x3 : Int32) (x4 : Int32) (χ : St) (Q : St → Prop) : Prop := (tg χ 23 x0 = 11) ∧ ((∃ z2, (gR χ 2413 x0 0) = some z2 ∧ ((tg χ 23 x2 = 11) ∧ ((tg χ 23 x2 = 11) ∧ ((∃ z4, (gR χ 2413 x2 0) = some z4 ∧ ((¬ x1 < 0) ∧ (¬ x3 < 0) ∧ (¬ x4 < 0) ∧ (x1.toNatClampNeg + x4.toNatClampNeg ≤ (tg χ 28 z2)) ∧ (x3.toNatClampNeg + x4.toNatClampNeg ≤ (tg χ 28 z4)) ∧ (∀ k, k < x4.toNatClampNeg → fits .long (.long (gL χ 28 z2 (x1.toNatClampNeg + k))) = true) ∧ ((∀ χ5 : St, χ5 = (cpL χ 28 z2 z4 x1.toNatClampNeg x3.toNatClampNeg x4.toNatClampNeg) → (Q χ5))))))))))
set_option maxHeartbeats 4000000 in
theorem mt_X29_copy (l : Launch) (Γ : Gh) (ad : Nat → Nat → Nat) (x0 : Nat) (x1 : Int32) (x2 : Nat) (x3 : Int32) (x4 : Int32) (χ : St) (Q : St → Prop) : Mt l yX29_copy (ws_ yX29_copy cX29_copy 5 (none)) (rmO (1) (30) χ) (Pm Γ ad χ [.ref (ad 23 x0), .int x1, .ref (ad 23 x2), .int x3, .int x4] (x0 < cn χ 23 ∧ x2 < cn χ 23 ∧ w_X29_copy x0 x1 x2 x3 x4 χ Q)) (Qm Γ true ad χ (pV Q)) (frB Γ) := by
  refine Mt.start (by decide) RX29 rfl (Nat.le_of_ble_eq_true rfl) ?_
  intro X hX hG _ _ hna _ ⟨hv0, hv2, hf⟩
  unfold w_X29_copy at hf
  refine g_aload_n hX 0 dX29_copy_0 rfl rfl ?_
  have hg1 := hf.1
  replace hf := hf.2
  obtain ⟨z2, hz2, hf⟩ := hf
  refine g_getE hX (k := 0) hv0 (ff23_11 hg1) rfl (by decide) (by decide) rfl rfl rfl in_X29 (by decide) q1340 dX29_copy_1 hz2 (fun hvz2 => ?_)
  refine g_iload_n hX 1 dX29_copy_4 rfl rfl ?_
  refine g_aload_n hX 2 dX29_copy_5 rfl rfl ?_
  refine g_cast_LongRow_p hX q1425 hf.1 hv2 dX29_copy_6 ?_
  replace hf := hf.2
  have hg3 := hf.1
  replace hf := hf.2
  obtain ⟨z4, hz4, hf⟩ := hf
  refine g_getE hX (k := 0) hv2 (ff23_11 hg3) rfl (by decide) (by decide) rfl rfl rfl in_X29 (by decide) q1340 dX29_copy_9 hz4 (fun hvz4 => ?_)
  refine g_iload_n hX 3 dX29_copy_12 rfl rfl ?_
  refine g_iload hX 4 dX29_copy_13 rfl ?_
  refine g_cpyL hX q1426 hvz2 hvz4 ff28 ff28 rfl rfl hf.1 hf.2.1 hf.2.2.1 hf.2.2.2.1 hf.2.2.2.2.1 hf.2.2.2.2.2.1 (by decide) (Nat.le_of_ble_eq_true rfl) dX29_copy_15 ?_
  replace hf := hf.2.2.2.2.2.2
  replace hf := hf _ rfl
  exact g_vret hX ⟨rfl, hf⟩ dX29_copy_18

def wx_X29_copy (x0 : Nat) (x1 : Int32) (x2 : Nat) (x3 : Int32) (x4 : Int32) (χ : St) (Q : St → Prop) : Prop := (tg χ 23 x0 = 11) ∧ ((∃ z2, (gR χ 2413 x0 0) = some z2 ∧ ((tg χ 23 x2 = 11) ∧ ((tg χ 23 x2 = 11) ∧ ((∃ z4, (gR χ 2413 x2 0) = some z4 ∧ (((cpBad x1 x3 x4 (tg χ 28 z2) (tg χ 28 z4)) ∧ ((tg χ 28 z2) < 2147483648) ∧ ((tg χ 28 z4) < 2147483648) ∧ (uC χ + 3 ≤ 603072) ∧ (uS χ + 460 ≤ 7262314) ∧ (∀ n6, n6 ≤ 460 → ∀ χ5, χ5 = brn χ 3 n6 → (Q χ5))))))))))
set_option maxHeartbeats 4000000 in
theorem mx_X29_copy (l : Launch) (hl : l.stackTraces = false) (Γ : Gh) (ad : Nat → Nat → Nat) (x0 : Nat) (x1 : Int32) (x2 : Nat) (x3 : Int32) (x4 : Int32) (χ : St) (Q : St → Prop) : MtX l yX29_copy (ws_ yX29_copy cX29_copy 5 (none)) (rmO (9) (10260) χ) (Pm Γ ad χ [.ref (ad 23 x0), .int x1, .ref (ad 23 x2), .int x3, .int x4] (x0 < cn χ 23 ∧ x2 < cn χ 23 ∧ wx_X29_copy x0 x1 x2 x3 x4 χ Q)) (Qx Γ true ad χ nAI (fun _ χ => Q χ)) (frB Γ) := by
  refine MtX.start hl (by decide) RX29 rfl (Nat.le_of_ble_eq_true rfl) ?_
  intro X hX hT hO hG _ _ hna _ ⟨hv0, hv2, hf⟩
  unfold wx_X29_copy at hf
  refine g_aload_n hX 0 dX29_copy_0 rfl rfl ?_
  have hg1 := hf.1
  replace hf := hf.2
  obtain ⟨z2, hz2, hf⟩ := hf
  refine g_getE hX (k := 0) hv0 (ff23_11 hg1) rfl (by decide) (by decide) rfl rfl rfl in_X29 (by decide) q1340 dX29_copy_1 hz2 (fun hvz2 => ?_)
  refine g_iload_n hX 1 dX29_copy_4 rfl rfl ?_
  refine g_aload_n hX 2 dX29_copy_5 rfl rfl ?_
  refine g_cast_LongRow_p hX q1425 hf.1 hv2 dX29_copy_6 ?_
  replace hf := hf.2
  have hg3 := hf.1
  replace hf := hf.2
  obtain ⟨z4, hz4, hf⟩ := hf
  refine g_getE hX (k := 0) hv2 (ff23_11 hg3) rfl (by decide) (by decide) rfl rfl rfl in_X29 (by decide) q1340 dX29_copy_9 hz4 (fun hvz4 => ?_)
  refine g_iload_n hX 3 dX29_copy_12 rfl rfl ?_
  refine g_iload hX 4 dX29_copy_13 rfl ?_
  refine g_cpyLX hX hT q1426 hvz2 hvz4 ff28 ff28 rfl rfl hf.2.1 hf.2.2.1 hf.1 ⟨by decide, by decide⟩ hf.2.2.2.1 hf.2.2.2.2.1 (Nat.le_of_ble_eq_true rfl) dX29_copy_15 (fun n6 hn6 => ?_)
  replace hf := hf.2.2.2.2.2
  replace hf := hf n6 hn6 _ rfl
  exact hO hf

def wy_X29_copy (x0 : Nat) (x1 : Int32) (x2 : Nat) (x3 : Int32) (x4 : Int32) (χ : St) (Q : St → Prop) : Prop := (tg χ 23 x0 = 11) ∧ ((∃ z2, (gR χ 2413 x0 0) = some z2 ∧ (((tg χ 23 x2 = 8 ∨ tg χ 23 x2 = 9 ∨ tg χ 23 x2 = 10 ∨ tg χ 23 x2 = 12) ∧ (uC χ + 3 ≤ 603072) ∧ (uS χ + 1610 ≤ 7262314) ∧ (∀ n4, n4 ≤ 1610 → ∀ χ3, χ3 = brn χ 3 n4 → (Q χ3))))))
set_option maxHeartbeats 4000000 in
theorem my_X29_copy (l : Launch) (hl : l.stackTraces = false) (Γ : Gh) (ad : Nat → Nat → Nat) (x0 : Nat) (x1 : Int32) (x2 : Nat) (x3 : Int32) (x4 : Int32) (χ : St) (Q : St → Prop) : MtX l yX29_copy (ws_ yX29_copy cX29_copy 5 (none)) (rmO (8) (10248) χ) (Pm Γ ad χ [.ref (ad 23 x0), .int x1, .ref (ad 23 x2), .int x3, .int x4] (x0 < cn χ 23 ∧ x2 < cn χ 23 ∧ wy_X29_copy x0 x1 x2 x3 x4 χ Q)) (Qx Γ true ad χ nCC (fun _ χ => Q χ)) (frB Γ) := by
  refine MtX.start hl (by decide) RX29 rfl (Nat.le_of_ble_eq_true rfl) ?_
  intro X hX hT hO hG _ _ hna _ ⟨hv0, hv2, hf⟩
  unfold wy_X29_copy at hf
  refine g_aload_n hX 0 dX29_copy_0 rfl rfl ?_
  have hg1 := hf.1
  replace hf := hf.2
  obtain ⟨z2, hz2, hf⟩ := hf
  refine g_getE hX (k := 0) hv0 (ff23_11 hg1) rfl (by decide) (by decide) rfl rfl rfl in_X29 (by decide) q1340 dX29_copy_1 hz2 (fun hvz2 => ?_)
  refine g_iload_n hX 1 dX29_copy_4 rfl rfl ?_
  refine g_aload_n hX 2 dX29_copy_5 rfl rfl ?_
  refine g_cast_LongRow_x hX hT q1425 hf.1 hv2 ⟨by decide, by decide⟩ hf.2.1 hf.2.2.1 (Nat.le_of_ble_eq_true rfl) dX29_copy_6 (fun n4 hn4 => ?_)
  replace hf := hf.2.2.2
  replace hf := hf n4 hn4 _ rfl
  exact hO hf

theorem hy_X30_copy : yX30_copy.cls ≠ "java/lang/invoke/MethodHandle" ∧ yX30_copy.cls ≠ "java/lang/invoke/VarHandle" ∧ (parseMethodDescriptor yX30_copy.desc).map (fun d => d.parameters.length) = some 4 := by decide +kernel
def w_X30_copy (x0 : Nat) (x1 : Int32) (x2 : Nat) (x3 : Int32) (x4 : Int32) (χ : St) (Q : St → Prop) : Prop := (tg χ 23 x0 = 12) ∧ ((∃ z2, (gR χ 2414 x0 0) = some z2 ∧ ((tg χ 23 x2 = 12) ∧ ((tg χ 23 x2 = 12) ∧ ((∃ z4, (gR χ 2414 x2 0) = some z4 ∧ ((¬ x1 < 0) ∧ (¬ x3 < 0) ∧ (¬ x4 < 0) ∧ (x1.toNatClampNeg + x4.toNatClampNeg ≤ (tg χ 29 z2)) ∧ (x3.toNatClampNeg + x4.toNatClampNeg ≤ (tg χ 29 z4)) ∧ (∀ k, k < x4.toNatClampNeg → fits .boolean (.int (gI χ 29 z2 (x1.toNatClampNeg + k))) = true) ∧ ((∀ χ5 : St, χ5 = (cpI χ 29 z2 z4 x1.toNatClampNeg x3.toNatClampNeg x4.toNatClampNeg) → (Q χ5))))))))))
set_option maxHeartbeats 4000000 in
theorem mt_X30_copy (l : Launch) (Γ : Gh) (ad : Nat → Nat → Nat) (x0 : Nat) (x1 : Int32) (x2 : Nat) (x3 : Int32) (x4 : Int32) (χ : St) (Q : St → Prop) : Mt l yX30_copy (ws_ yX30_copy cX30_copy 5 (none)) (rmO (1) (30) χ) (Pm Γ ad χ [.ref (ad 23 x0), .int x1, .ref (ad 23 x2), .int x3, .int x4] (x0 < cn χ 23 ∧ x2 < cn χ 23 ∧ w_X30_copy x0 x1 x2 x3 x4 χ Q)) (Qm Γ true ad χ (pV Q)) (frB Γ) := by
  refine Mt.start (by decide) RX30 rfl (Nat.le_of_ble_eq_true rfl) ?_
  intro X hX hG _ _ hna _ ⟨hv0, hv2, hf⟩
  unfold w_X30_copy at hf
  refine g_aload_n hX 0 dX30_copy_0 rfl rfl ?_
  have hg1 := hf.1
  replace hf := hf.2
  obtain ⟨z2, hz2, hf⟩ := hf
  refine g_getE hX (k := 0) hv0 (ff23_12 hg1) rfl (by decide) (by decide) rfl rfl rfl in_X30 (by decide) q1350 dX30_copy_1 hz2 (fun hvz2 => ?_)
  refine g_iload_n hX 1 dX30_copy_4 rfl rfl ?_
  refine g_aload_n hX 2 dX30_copy_5 rfl rfl ?_
  refine g_cast_BooleanRow_p hX q1408 hf.1 hv2 dX30_copy_6 ?_
  replace hf := hf.2
  have hg3 := hf.1
  replace hf := hf.2
  obtain ⟨z4, hz4, hf⟩ := hf
  refine g_getE hX (k := 0) hv2 (ff23_12 hg3) rfl (by decide) (by decide) rfl rfl rfl in_X30 (by decide) q1350 dX30_copy_9 hz4 (fun hvz4 => ?_)
  refine g_iload_n hX 3 dX30_copy_12 rfl rfl ?_
  refine g_iload hX 4 dX30_copy_13 rfl ?_
  refine g_cpyI hX q1409 hvz2 hvz4 ff29 ff29 rfl rfl hf.1 hf.2.1 hf.2.2.1 hf.2.2.2.1 hf.2.2.2.2.1 hf.2.2.2.2.2.1 (by decide) (Nat.le_of_ble_eq_true rfl) dX30_copy_15 ?_
  replace hf := hf.2.2.2.2.2.2
  replace hf := hf _ rfl
  exact g_vret hX ⟨rfl, hf⟩ dX30_copy_18

def wx_X30_copy (x0 : Nat) (x1 : Int32) (x2 : Nat) (x3 : Int32) (x4 : Int32) (χ : St) (Q : St → Prop) : Prop := (tg χ 23 x0 = 12) ∧ ((∃ z2, (gR χ 2414 x0 0) = some z2 ∧ ((tg χ 23 x2 = 12) ∧ ((tg χ 23 x2 = 12) ∧ ((∃ z4, (gR χ 2414 x2 0) = some z4 ∧ (((cpBad x1 x3 x4 (tg χ 29 z2) (tg χ 29 z4)) ∧ ((tg χ 29 z2) < 2147483648) ∧ ((tg χ 29 z4) < 2147483648) ∧ (uC χ + 3 ≤ 603072) ∧ (uS χ + 460 ≤ 7262314) ∧ (∀ n6, n6 ≤ 460 → ∀ χ5, χ5 = brn χ 3 n6 → (Q χ5))))))))))
set_option maxHeartbeats 4000000 in
theorem mx_X30_copy (l : Launch) (hl : l.stackTraces = false) (Γ : Gh) (ad : Nat → Nat → Nat) (x0 : Nat) (x1 : Int32) (x2 : Nat) (x3 : Int32) (x4 : Int32) (χ : St) (Q : St → Prop) : MtX l yX30_copy (ws_ yX30_copy cX30_copy 5 (none)) (rmO (9) (10260) χ) (Pm Γ ad χ [.ref (ad 23 x0), .int x1, .ref (ad 23 x2), .int x3, .int x4] (x0 < cn χ 23 ∧ x2 < cn χ 23 ∧ wx_X30_copy x0 x1 x2 x3 x4 χ Q)) (Qx Γ true ad χ nAI (fun _ χ => Q χ)) (frB Γ) := by
  refine MtX.start hl (by decide) RX30 rfl (Nat.le_of_ble_eq_true rfl) ?_
  intro X hX hT hO hG _ _ hna _ ⟨hv0, hv2, hf⟩
  unfold wx_X30_copy at hf
  refine g_aload_n hX 0 dX30_copy_0 rfl rfl ?_
  have hg1 := hf.1
  replace hf := hf.2
  obtain ⟨z2, hz2, hf⟩ := hf
  refine g_getE hX (k := 0) hv0 (ff23_12 hg1) rfl (by decide) (by decide) rfl rfl rfl in_X30 (by decide) q1350 dX30_copy_1 hz2 (fun hvz2 => ?_)
  refine g_iload_n hX 1 dX30_copy_4 rfl rfl ?_
  refine g_aload_n hX 2 dX30_copy_5 rfl rfl ?_
  refine g_cast_BooleanRow_p hX q1408 hf.1 hv2 dX30_copy_6 ?_
  replace hf := hf.2
  have hg3 := hf.1
  replace hf := hf.2
  obtain ⟨z4, hz4, hf⟩ := hf
  refine g_getE hX (k := 0) hv2 (ff23_12 hg3) rfl (by decide) (by decide) rfl rfl rfl in_X30 (by decide) q1350 dX30_copy_9 hz4 (fun hvz4 => ?_)
  refine g_iload_n hX 3 dX30_copy_12 rfl rfl ?_
  refine g_iload hX 4 dX30_copy_13 rfl ?_
  refine g_cpyIX hX hT q1409 hvz2 hvz4 ff29 ff29 rfl rfl hf.2.1 hf.2.2.1 hf.1 ⟨by decide, by decide⟩ hf.2.2.2.1 hf.2.2.2.2.1 (Nat.le_of_ble_eq_true rfl) dX30_copy_15 (fun n6 hn6 => ?_)
  replace hf := hf.2.2.2.2.2
  replace hf := hf n6 hn6 _ rfl
  exact hO hf

def wy_X30_copy (x0 : Nat) (x1 : Int32) (x2 : Nat) (x3 : Int32) (x4 : Int32) (χ : St) (Q : St → Prop) : Prop := (tg χ 23 x0 = 12) ∧ ((∃ z2, (gR χ 2414 x0 0) = some z2 ∧ (((tg χ 23 x2 = 8 ∨ tg χ 23 x2 = 9 ∨ tg χ 23 x2 = 10 ∨ tg χ 23 x2 = 11) ∧ (uC χ + 3 ≤ 603072) ∧ (uS χ + 1610 ≤ 7262314) ∧ (∀ n4, n4 ≤ 1610 → ∀ χ3, χ3 = brn χ 3 n4 → (Q χ3))))))
set_option maxHeartbeats 4000000 in
theorem my_X30_copy (l : Launch) (hl : l.stackTraces = false) (Γ : Gh) (ad : Nat → Nat → Nat) (x0 : Nat) (x1 : Int32) (x2 : Nat) (x3 : Int32) (x4 : Int32) (χ : St) (Q : St → Prop) : MtX l yX30_copy (ws_ yX30_copy cX30_copy 5 (none)) (rmO (8) (10248) χ) (Pm Γ ad χ [.ref (ad 23 x0), .int x1, .ref (ad 23 x2), .int x3, .int x4] (x0 < cn χ 23 ∧ x2 < cn χ 23 ∧ wy_X30_copy x0 x1 x2 x3 x4 χ Q)) (Qx Γ true ad χ nCC (fun _ χ => Q χ)) (frB Γ) := by
  refine MtX.start hl (by decide) RX30 rfl (Nat.le_of_ble_eq_true rfl) ?_
  intro X hX hT hO hG _ _ hna _ ⟨hv0, hv2, hf⟩
  unfold wy_X30_copy at hf
  refine g_aload_n hX 0 dX30_copy_0 rfl rfl ?_
  have hg1 := hf.1
  replace hf := hf.2
  obtain ⟨z2, hz2, hf⟩ := hf
  refine g_getE hX (k := 0) hv0 (ff23_12 hg1) rfl (by decide) (by decide) rfl rfl rfl in_X30 (by decide) q1350 dX30_copy_1 hz2 (fun hvz2 => ?_)
  refine g_iload_n hX 1 dX30_copy_4 rfl rfl ?_
  refine g_aload_n hX 2 dX30_copy_5 rfl rfl ?_
  refine g_cast_BooleanRow_x hX hT q1408 hf.1 hv2 ⟨by decide, by decide⟩ hf.2.1 hf.2.2.1 (Nat.le_of_ble_eq_true rfl) dX30_copy_6 (fun n4 hn4 => ?_)
  replace hf := hf.2.2.2
  replace hf := hf n4 hn4 _ rfl
  exact hO hf

def w_D_copy (i : Nat) (a0 : Int32) (a1 : Nat) (a2 : Int32) (a3 : Int32) (χ : St) (Q : St → Prop) (Qx : St → Prop) (Qy : St → Prop) : Prop := (tg χ 23 i = 8 ∨ tg χ 23 i = 9 ∨ tg χ 23 i = 10 ∨ tg χ 23 i = 11 ∨ tg χ 23 i = 12) ∧ (tg χ 23 i = 8 → (w_X26_copy i a0 a1 a2 a3 χ Q ∨ wx_X26_copy i a0 a1 a2 a3 χ Qx ∨ wy_X26_copy i a0 a1 a2 a3 χ Qy)) ∧ (tg χ 23 i = 9 → (w_X27_copy i a0 a1 a2 a3 χ Q ∨ wx_X27_copy i a0 a1 a2 a3 χ Qx ∨ wy_X27_copy i a0 a1 a2 a3 χ Qy)) ∧ (tg χ 23 i = 10 → (w_X28_copy i a0 a1 a2 a3 χ Q ∨ wx_X28_copy i a0 a1 a2 a3 χ Qx ∨ wy_X28_copy i a0 a1 a2 a3 χ Qy)) ∧ (tg χ 23 i = 11 → (w_X29_copy i a0 a1 a2 a3 χ Q ∨ wx_X29_copy i a0 a1 a2 a3 χ Qx ∨ wy_X29_copy i a0 a1 a2 a3 χ Qy)) ∧ (tg χ 23 i = 12 → (w_X30_copy i a0 a1 a2 a3 χ Q ∨ wx_X30_copy i a0 a1 a2 a3 χ Qx ∨ wy_X30_copy i a0 a1 a2 a3 χ Qy))
theorem hyR_copy : (⟨"ChairOld$Row", "copy", "(ILChairOld$Row;II)V"⟩ : MethodName).cls ≠ "java/lang/invoke/MethodHandle" ∧ (⟨"ChairOld$Row", "copy", "(ILChairOld$Row;II)V"⟩ : MethodName).cls ≠ "java/lang/invoke/VarHandle" ∧ (parseMethodDescriptor (⟨"ChairOld$Row", "copy", "(ILChairOld$Row;II)V"⟩ : MethodName).desc).map (fun d => d.parameters.length) = some 4 := by decide +kernel
set_option maxHeartbeats 4000000 in
theorem g_D_copy {X : Cx} {cc : ByteArray} {own : String} {ret : Option FieldType} {y0 : MethodName} {nL F Lo : Nat} {Pst : Option Value → (Nat → Nat → Nat) → St → Prop} {ad : Nat → Nat → Nat} {χ : St} {pc i index : Nat} {lv : List (Nat × Value)} {st : List Value} {a0 : Int32} {a1 : Nat} {a2 : Int32} {a3 : Int32} {Q : St → Prop} {Qx Qy : St → Prop} (h : Ok X cc own ret y0 nL F Lo Pst) (th : Th X) (hw : w_D_copy i a0 a1 a2 a3 χ Q Qx Qy) (q1 : Cond.methodLink own index ⟨"ChairOld$Row", "copy", "(ILChairOld$Row;II)V"⟩ ∈ lw_all) (hF : 10 ≤ F ∧ 10284 ≤ Lo) (hi : i < cn χ 23) (hi2 : a1 < cn χ 23) (hst : (st.map fun v => v.category).sum ≤ 8) (hd : decode cc pc = .ok (.invokevirtual index, 3)) (kk : ∀ χ', Q χ' → (∀ c, cn χ c ≤ cn χ' c) → G X ad χ' (pc + 3) lv (st)) (kx : ∀ χ', Qx χ' → (∀ c, cn χ c ≤ cn χ' c) → GT X ad χ' pc lv nAI) (ky : ∀ χ', Qy χ' → (∀ c, cn χ c ≤ cn χ' c) → GT X ad χ' pc lv nCC) : G X ad χ pc lv (.int a3 :: .int a2 :: .ref (ad 23 a1) :: .int a0 :: .ref (ad 23 i) :: st) := by
  have hts := h.2.2.2.2.2.2.1
  have hK := h.2.2.2.2.2.2.2.1
  have hR := h.2.2.2.2.2.2.2.2.1
  obtain ⟨hF1, hF2⟩ := hF
  have kk2 : ∀ v ad' χ', pV Q v ad' χ' → (true = true → ad' = ad) → Ext χ χ' ad ad' → G X ad' χ' (pc + 3) lv (v.toList ++ st) := fun v ad' χ' hP hna hE => by
    obtain ⟨rfl, hf⟩ := hP
    obtain rfl := hna rfl
    exact kk χ' hf hE.2
  have kx2 : ∀ ad' χ', (fun (_ : Nat → Nat → Nat) χ => Qx χ) ad' χ' → (true = true → ad' = ad) → Ext χ χ' ad ad' → GT X ad' χ' pc lv nAI := fun ad' χ' hP hna hE => by
    obtain rfl := hna rfl
    exact kx χ' hP hE.2
  have ky2 : ∀ ad' χ', (fun (_ : Nat → Nat → Nat) χ => Qy χ) ad' χ' → (true = true → ad' = ad) → Ext χ χ' ad ad' → GT X ad' χ' pc lv nCC := fun ad' χ' hP hna hE => by
    obtain rfl := hna rfl
    exact ky χ' hP hE.2
  obtain ⟨ht, h8, h9, h10, h11, h12⟩ := hw
  rcases ht with ht | ht | ht | ht | ht
  · rcases h8 ht with hw | hw | hw
    · exact g_callU0 h (mt_X26_copy X.l X.Γ ad i a0 a1 a2 a3 χ Q) ⟨hi, hi2, hw⟩ (fun _ => rfl) (va_cwA 4 hts (lw_U (owner := "ChairOld$Row") (C := "ChairOld$ByteRow") q1 q1404 q1412 q1413 q126 q1414) rfl rfl rfl (hK.2.1 _ q1403 rfl) ⟨by decide, by decide, hyR_copy.2.2⟩ (by rw [hR]; exact ⟨by show 1 + 1 ≤ F; omega, by show 8 + (5 + 11) + 30 ≤ Lo; omega⟩)) hi (ff23_8 ht) rfl rfl rfl hst hd kk2
    · exact g_callUX h (mx_X26_copy X.l th.2 X.Γ ad i a0 a1 a2 a3 χ Qx) ⟨hi, hi2, hw⟩ (fun _ => rfl) (va_cwA 4 hts (lw_U (owner := "ChairOld$Row") (C := "ChairOld$ByteRow") q1 q1404 q1412 q1413 q126 q1414) rfl rfl rfl (hK.2.1 _ q1403 rfl) ⟨by decide, by decide, hyR_copy.2.2⟩ (by rw [hR]; exact ⟨by show 9 + 1 ≤ F; omega, by show 8 + (5 + 11) + 10260 ≤ Lo; omega⟩)) hi (ff23_8 ht) rfl rfl rfl hst hd kx2
    · exact g_callUX h (my_X26_copy X.l th.2 X.Γ ad i a0 a1 a2 a3 χ Qy) ⟨hi, hi2, hw⟩ (fun _ => rfl) (va_cwA 4 hts (lw_U (owner := "ChairOld$Row") (C := "ChairOld$ByteRow") q1 q1404 q1412 q1413 q126 q1414) rfl rfl rfl (hK.2.1 _ q1403 rfl) ⟨by decide, by decide, hyR_copy.2.2⟩ (by rw [hR]; exact ⟨by show 8 + 1 ≤ F; omega, by show 8 + (5 + 11) + 10248 ≤ Lo; omega⟩)) hi (ff23_8 ht) rfl rfl rfl hst hd ky2
  · rcases h9 ht with hw | hw | hw
    · exact g_callU0 h (mt_X27_copy X.l X.Γ ad i a0 a1 a2 a3 χ Q) ⟨hi, hi2, hw⟩ (fun _ => rfl) (va_cwA 4 hts (lw_U (owner := "ChairOld$Row") (C := "ChairOld$ShortRow") q1 q1404 q1427 q1428 q127 q1429) rfl rfl rfl (hK.2.1 _ q1403 rfl) ⟨by decide, by decide, hyR_copy.2.2⟩ (by rw [hR]; exact ⟨by show 1 + 1 ≤ F; omega, by show 8 + (5 + 11) + 30 ≤ Lo; omega⟩)) hi (ff23_9 ht) rfl rfl rfl hst hd kk2
    · exact g_callUX h (mx_X27_copy X.l th.2 X.Γ ad i a0 a1 a2 a3 χ Qx) ⟨hi, hi2, hw⟩ (fun _ => rfl) (va_cwA 4 hts (lw_U (owner := "ChairOld$Row") (C := "ChairOld$ShortRow") q1 q1404 q1427 q1428 q127 q1429) rfl rfl rfl (hK.2.1 _ q1403 rfl) ⟨by decide, by decide, hyR_copy.2.2⟩ (by rw [hR]; exact ⟨by show 9 + 1 ≤ F; omega, by show 8 + (5 + 11) + 10260 ≤ Lo; omega⟩)) hi (ff23_9 ht) rfl rfl rfl hst hd kx2
    · exact g_callUX h (my_X27_copy X.l th.2 X.Γ ad i a0 a1 a2 a3 χ Qy) ⟨hi, hi2, hw⟩ (fun _ => rfl) (va_cwA 4 hts (lw_U (owner := "ChairOld$Row") (C := "ChairOld$ShortRow") q1 q1404 q1427 q1428 q127 q1429) rfl rfl rfl (hK.2.1 _ q1403 rfl) ⟨by decide, by decide, hyR_copy.2.2⟩ (by rw [hR]; exact ⟨by show 8 + 1 ≤ F; omega, by show 8 + (5 + 11) + 10248 ≤ Lo; omega⟩)) hi (ff23_9 ht) rfl rfl rfl hst hd ky2
  · rcases h10 ht with hw | hw | hw
    · exact g_callU0 h (mt_X28_copy X.l X.Γ ad i a0 a1 a2 a3 χ Q) ⟨hi, hi2, hw⟩ (fun _ => rfl) (va_cwA 4 hts (lw_U (owner := "ChairOld$Row") (C := "ChairOld$IntRow") q1 q1404 q1417 q1418 q128 q1419) rfl rfl rfl (hK.2.1 _ q1403 rfl) ⟨by decide, by decide, hyR_copy.2.2⟩ (by rw [hR]; exact ⟨by show 1 + 1 ≤ F; omega, by show 8 + (5 + 11) + 30 ≤ Lo; omega⟩)) hi (ff23_10 ht) rfl rfl rfl hst hd kk2
    · exact g_callUX h (mx_X28_copy X.l th.2 X.Γ ad i a0 a1 a2 a3 χ Qx) ⟨hi, hi2, hw⟩ (fun _ => rfl) (va_cwA 4 hts (lw_U (owner := "ChairOld$Row") (C := "ChairOld$IntRow") q1 q1404 q1417 q1418 q128 q1419) rfl rfl rfl (hK.2.1 _ q1403 rfl) ⟨by decide, by decide, hyR_copy.2.2⟩ (by rw [hR]; exact ⟨by show 9 + 1 ≤ F; omega, by show 8 + (5 + 11) + 10260 ≤ Lo; omega⟩)) hi (ff23_10 ht) rfl rfl rfl hst hd kx2
    · exact g_callUX h (my_X28_copy X.l th.2 X.Γ ad i a0 a1 a2 a3 χ Qy) ⟨hi, hi2, hw⟩ (fun _ => rfl) (va_cwA 4 hts (lw_U (owner := "ChairOld$Row") (C := "ChairOld$IntRow") q1 q1404 q1417 q1418 q128 q1419) rfl rfl rfl (hK.2.1 _ q1403 rfl) ⟨by decide, by decide, hyR_copy.2.2⟩ (by rw [hR]; exact ⟨by show 8 + 1 ≤ F; omega, by show 8 + (5 + 11) + 10248 ≤ Lo; omega⟩)) hi (ff23_10 ht) rfl rfl rfl hst hd ky2
  · rcases h11 ht with hw | hw | hw
    · exact g_callU0 h (mt_X29_copy X.l X.Γ ad i a0 a1 a2 a3 χ Q) ⟨hi, hi2, hw⟩ (fun _ => rfl) (va_cwA 4 hts (lw_U (owner := "ChairOld$Row") (C := "ChairOld$LongRow") q1 q1404 q1422 q1423 q129 q1424) rfl rfl rfl (hK.2.1 _ q1403 rfl) ⟨by decide, by decide, hyR_copy.2.2⟩ (by rw [hR]; exact ⟨by show 1 + 1 ≤ F; omega, by show 8 + (5 + 11) + 30 ≤ Lo; omega⟩)) hi (ff23_11 ht) rfl rfl rfl hst hd kk2
    · exact g_callUX h (mx_X29_copy X.l th.2 X.Γ ad i a0 a1 a2 a3 χ Qx) ⟨hi, hi2, hw⟩ (fun _ => rfl) (va_cwA 4 hts (lw_U (owner := "ChairOld$Row") (C := "ChairOld$LongRow") q1 q1404 q1422 q1423 q129 q1424) rfl rfl rfl (hK.2.1 _ q1403 rfl) ⟨by decide, by decide, hyR_copy.2.2⟩ (by rw [hR]; exact ⟨by show 9 + 1 ≤ F; omega, by show 8 + (5 + 11) + 10260 ≤ Lo; omega⟩)) hi (ff23_11 ht) rfl rfl rfl hst hd kx2
    · exact g_callUX h (my_X29_copy X.l th.2 X.Γ ad i a0 a1 a2 a3 χ Qy) ⟨hi, hi2, hw⟩ (fun _ => rfl) (va_cwA 4 hts (lw_U (owner := "ChairOld$Row") (C := "ChairOld$LongRow") q1 q1404 q1422 q1423 q129 q1424) rfl rfl rfl (hK.2.1 _ q1403 rfl) ⟨by decide, by decide, hyR_copy.2.2⟩ (by rw [hR]; exact ⟨by show 8 + 1 ≤ F; omega, by show 8 + (5 + 11) + 10248 ≤ Lo; omega⟩)) hi (ff23_11 ht) rfl rfl rfl hst hd ky2
  · rcases h12 ht with hw | hw | hw
    · exact g_callU0 h (mt_X30_copy X.l X.Γ ad i a0 a1 a2 a3 χ Q) ⟨hi, hi2, hw⟩ (fun _ => rfl) (va_cwA 4 hts (lw_U (owner := "ChairOld$Row") (C := "ChairOld$BooleanRow") q1 q1404 q1405 q1406 q130 q1407) rfl rfl rfl (hK.2.1 _ q1403 rfl) ⟨by decide, by decide, hyR_copy.2.2⟩ (by rw [hR]; exact ⟨by show 1 + 1 ≤ F; omega, by show 8 + (5 + 11) + 30 ≤ Lo; omega⟩)) hi (ff23_12 ht) rfl rfl rfl hst hd kk2
    · exact g_callUX h (mx_X30_copy X.l th.2 X.Γ ad i a0 a1 a2 a3 χ Qx) ⟨hi, hi2, hw⟩ (fun _ => rfl) (va_cwA 4 hts (lw_U (owner := "ChairOld$Row") (C := "ChairOld$BooleanRow") q1 q1404 q1405 q1406 q130 q1407) rfl rfl rfl (hK.2.1 _ q1403 rfl) ⟨by decide, by decide, hyR_copy.2.2⟩ (by rw [hR]; exact ⟨by show 9 + 1 ≤ F; omega, by show 8 + (5 + 11) + 10260 ≤ Lo; omega⟩)) hi (ff23_12 ht) rfl rfl rfl hst hd kx2
    · exact g_callUX h (my_X30_copy X.l th.2 X.Γ ad i a0 a1 a2 a3 χ Qy) ⟨hi, hi2, hw⟩ (fun _ => rfl) (va_cwA 4 hts (lw_U (owner := "ChairOld$Row") (C := "ChairOld$BooleanRow") q1 q1404 q1405 q1406 q130 q1407) rfl rfl rfl (hK.2.1 _ q1403 rfl) ⟨by decide, by decide, hyR_copy.2.2⟩ (by rw [hR]; exact ⟨by show 8 + 1 ≤ F; omega, by show 8 + (5 + 11) + 10248 ≤ Lo; omega⟩)) hi (ff23_12 ht) rfl rfl rfl hst hd ky2

def w_D_at (i : Nat) (a0 : Int32) (χ : St) (Q : Int64 → St → Prop) (Qx : St → Prop) : Prop := (tg χ 23 i = 8 ∨ tg χ 23 i = 9 ∨ tg χ 23 i = 10 ∨ tg χ 23 i = 11 ∨ tg χ 23 i = 12) ∧ (tg χ 23 i = 8 → (w_X26_at i a0 χ Q ∨ wx_X26_at i a0 χ Qx)) ∧ (tg χ 23 i = 9 → (w_X27_at i a0 χ Q ∨ wx_X27_at i a0 χ Qx)) ∧ (tg χ 23 i = 10 → (w_X28_at i a0 χ Q ∨ wx_X28_at i a0 χ Qx)) ∧ (tg χ 23 i = 11 → (w_X29_at i a0 χ Q ∨ wx_X29_at i a0 χ Qx)) ∧ (tg χ 23 i = 12 → (w_X30_at i a0 χ Q ∨ wx_X30_at i a0 χ Qx))
theorem hyR_at : (⟨"ChairOld$Row", "at", "(I)J"⟩ : MethodName).cls ≠ "java/lang/invoke/MethodHandle" ∧ (⟨"ChairOld$Row", "at", "(I)J"⟩ : MethodName).cls ≠ "java/lang/invoke/VarHandle" ∧ (parseMethodDescriptor (⟨"ChairOld$Row", "at", "(I)J"⟩ : MethodName).desc).map (fun d => d.parameters.length) = some 1 := by decide +kernel
set_option maxHeartbeats 4000000 in
theorem g_D_at {X : Cx} {cc : ByteArray} {own : String} {ret : Option FieldType} {y0 : MethodName} {nL F Lo : Nat} {Pst : Option Value → (Nat → Nat → Nat) → St → Prop} {ad : Nat → Nat → Nat} {χ : St} {pc i index : Nat} {lv : List (Nat × Value)} {st : List Value} {a0 : Int32} {Q : Int64 → St → Prop} {Qx : St → Prop} (h : Ok X cc own ret y0 nL F Lo Pst) (th : Th X) (hw : w_D_at i a0 χ Q Qx) (q1 : Cond.methodLink own index ⟨"ChairOld$Row", "at", "(I)J"⟩ ∈ lw_all) (hF : 9 ≤ F ∧ 10269 ≤ Lo) (hi : i < cn χ 23) (hst : (st.map fun v => v.category).sum ≤ 8) (hd : decode cc pc = .ok (.invokevirtual index, 3)) (kk : ∀ r χ', Q r χ' → (∀ c, cn χ c ≤ cn χ' c) → G X ad χ' (pc + 3) lv (.long r :: st)) (kx : ∀ χ', Qx χ' → (∀ c, cn χ c ≤ cn χ' c) → GT X ad χ' pc lv nAI) : G X ad χ pc lv (.int a0 :: .ref (ad 23 i) :: st) := by
  have hts := h.2.2.2.2.2.2.1
  have hK := h.2.2.2.2.2.2.2.1
  have hR := h.2.2.2.2.2.2.2.2.1
  obtain ⟨hF1, hF2⟩ := hF
  have kk2 : ∀ v ad' χ', pL Q v ad' χ' → (true = true → ad' = ad) → Ext χ χ' ad ad' → G X ad' χ' (pc + 3) lv (v.toList ++ st) := fun v ad' χ' hP hna hE => by
    obtain ⟨r, rfl, hf⟩ := hP
    obtain rfl := hna rfl
    exact kk r χ' hf hE.2
  have kx2 : ∀ ad' χ', (fun (_ : Nat → Nat → Nat) χ => Qx χ) ad' χ' → (true = true → ad' = ad) → Ext χ χ' ad ad' → GT X ad' χ' pc lv nAI := fun ad' χ' hP hna hE => by
    obtain rfl := hna rfl
    exact kx χ' hP hE.2
  obtain ⟨ht, h8, h9, h10, h11, h12⟩ := hw
  rcases ht with ht | ht | ht | ht | ht
  · rcases h8 ht with hw | hw
    · exact g_callU0 h (mt_X26_at X.l X.Γ ad i a0 χ Q) ⟨hi, hw⟩ (fun _ => rfl) (va_cwA 1 hts (lw_U (owner := "ChairOld$Row") (C := "ChairOld$ByteRow") q1 q1384 q1388 q447 q126 q449) rfl rfl rfl (hK.2.1 _ q1383 rfl) ⟨by decide, by decide, hyR_at.2.2⟩ (by rw [hR]; exact ⟨by show 0 + 1 ≤ F; omega, by show 8 + (2 + 11) + 0 ≤ Lo; omega⟩)) hi (ff23_8 ht) rfl rfl rfl hst hd kk2
    · exact g_callUX h (mx_X26_at X.l th.2 X.Γ ad i a0 χ Qx) ⟨hi, hw⟩ (fun _ => rfl) (va_cwA 1 hts (lw_U (owner := "ChairOld$Row") (C := "ChairOld$ByteRow") q1 q1384 q1388 q447 q126 q449) rfl rfl rfl (hK.2.1 _ q1383 rfl) ⟨by decide, by decide, hyR_at.2.2⟩ (by rw [hR]; exact ⟨by show 8 + 1 ≤ F; omega, by show 8 + (2 + 11) + 10248 ≤ Lo; omega⟩)) hi (ff23_8 ht) rfl rfl rfl hst hd kx2
  · rcases h9 ht with hw | hw
    · exact g_callU0 h (mt_X27_at X.l X.Γ ad i a0 χ Q) ⟨hi, hw⟩ (fun _ => rfl) (va_cwA 1 hts (lw_U (owner := "ChairOld$Row") (C := "ChairOld$ShortRow") q1 q1384 q1395 q1396 q127 q1397) rfl rfl rfl (hK.2.1 _ q1383 rfl) ⟨by decide, by decide, hyR_at.2.2⟩ (by rw [hR]; exact ⟨by show 0 + 1 ≤ F; omega, by show 8 + (2 + 11) + 0 ≤ Lo; omega⟩)) hi (ff23_9 ht) rfl rfl rfl hst hd kk2
    · exact g_callUX h (mx_X27_at X.l th.2 X.Γ ad i a0 χ Qx) ⟨hi, hw⟩ (fun _ => rfl) (va_cwA 1 hts (lw_U (owner := "ChairOld$Row") (C := "ChairOld$ShortRow") q1 q1384 q1395 q1396 q127 q1397) rfl rfl rfl (hK.2.1 _ q1383 rfl) ⟨by decide, by decide, hyR_at.2.2⟩ (by rw [hR]; exact ⟨by show 8 + 1 ≤ F; omega, by show 8 + (2 + 11) + 10248 ≤ Lo; omega⟩)) hi (ff23_9 ht) rfl rfl rfl hst hd kx2
  · rcases h10 ht with hw | hw
    · exact g_callU0 h (mt_X28_at X.l X.Γ ad i a0 χ Q) ⟨hi, hw⟩ (fun _ => rfl) (va_cwA 1 hts (lw_U (owner := "ChairOld$Row") (C := "ChairOld$IntRow") q1 q1384 q1389 q1390 q128 q1391) rfl rfl rfl (hK.2.1 _ q1383 rfl) ⟨by decide, by decide, hyR_at.2.2⟩ (by rw [hR]; exact ⟨by show 0 + 1 ≤ F; omega, by show 8 + (2 + 11) + 0 ≤ Lo; omega⟩)) hi (ff23_10 ht) rfl rfl rfl hst hd kk2
    · exact g_callUX h (mx_X28_at X.l th.2 X.Γ ad i a0 χ Qx) ⟨hi, hw⟩ (fun _ => rfl) (va_cwA 1 hts (lw_U (owner := "ChairOld$Row") (C := "ChairOld$IntRow") q1 q1384 q1389 q1390 q128 q1391) rfl rfl rfl (hK.2.1 _ q1383 rfl) ⟨by decide, by decide, hyR_at.2.2⟩ (by rw [hR]; exact ⟨by show 8 + 1 ≤ F; omega, by show 8 + (2 + 11) + 10248 ≤ Lo; omega⟩)) hi (ff23_10 ht) rfl rfl rfl hst hd kx2
  · rcases h11 ht with hw | hw
    · exact g_callU0 h (mt_X29_at X.l X.Γ ad i a0 χ Q) ⟨hi, hw⟩ (fun _ => rfl) (va_cwA 1 hts (lw_U (owner := "ChairOld$Row") (C := "ChairOld$LongRow") q1 q1384 q1392 q1393 q129 q1394) rfl rfl rfl (hK.2.1 _ q1383 rfl) ⟨by decide, by decide, hyR_at.2.2⟩ (by rw [hR]; exact ⟨by show 0 + 1 ≤ F; omega, by show 8 + (2 + 11) + 0 ≤ Lo; omega⟩)) hi (ff23_11 ht) rfl rfl rfl hst hd kk2
    · exact g_callUX h (mx_X29_at X.l th.2 X.Γ ad i a0 χ Qx) ⟨hi, hw⟩ (fun _ => rfl) (va_cwA 1 hts (lw_U (owner := "ChairOld$Row") (C := "ChairOld$LongRow") q1 q1384 q1392 q1393 q129 q1394) rfl rfl rfl (hK.2.1 _ q1383 rfl) ⟨by decide, by decide, hyR_at.2.2⟩ (by rw [hR]; exact ⟨by show 8 + 1 ≤ F; omega, by show 8 + (2 + 11) + 10248 ≤ Lo; omega⟩)) hi (ff23_11 ht) rfl rfl rfl hst hd kx2
  · rcases h12 ht with hw | hw
    · exact g_callU0 h (mt_X30_at X.l X.Γ ad i a0 χ Q) ⟨hi, hw⟩ (fun _ => rfl) (va_cwA 1 hts (lw_U (owner := "ChairOld$Row") (C := "ChairOld$BooleanRow") q1 q1384 q1385 q1386 q130 q1387) rfl rfl rfl (hK.2.1 _ q1383 rfl) ⟨by decide, by decide, hyR_at.2.2⟩ (by rw [hR]; exact ⟨by show 0 + 1 ≤ F; omega, by show 8 + (2 + 11) + 0 ≤ Lo; omega⟩)) hi (ff23_12 ht) rfl rfl rfl hst hd kk2
    · exact g_callUX h (mx_X30_at X.l th.2 X.Γ ad i a0 χ Qx) ⟨hi, hw⟩ (fun _ => rfl) (va_cwA 1 hts (lw_U (owner := "ChairOld$Row") (C := "ChairOld$BooleanRow") q1 q1384 q1385 q1386 q130 q1387) rfl rfl rfl (hK.2.1 _ q1383 rfl) ⟨by decide, by decide, hyR_at.2.2⟩ (by rw [hR]; exact ⟨by show 8 + 1 ≤ F; omega, by show 8 + (2 + 11) + 10248 ≤ Lo; omega⟩)) hi (ff23_12 ht) rfl rfl rfl hst hd kx2

def w_D_put (i : Nat) (a0 : Int32) (a1 : Int64) (χ : St) (Q : Int32 → St → Prop) (Qx : St → Prop) : Prop := (tg χ 23 i = 8 ∨ tg χ 23 i = 9 ∨ tg χ 23 i = 10 ∨ tg χ 23 i = 11 ∨ tg χ 23 i = 12) ∧ (tg χ 23 i = 8 → (w_X26_put i a0 a1 χ Q ∨ wx_X26_put i a0 a1 χ Qx)) ∧ (tg χ 23 i = 9 → (w_X27_put i a0 a1 χ Q ∨ wx_X27_put i a0 a1 χ Qx)) ∧ (tg χ 23 i = 10 → (w_X28_put i a0 a1 χ Q ∨ wx_X28_put i a0 a1 χ Qx)) ∧ (tg χ 23 i = 11 → (w_X29_put i a0 a1 χ Q ∨ wx_X29_put i a0 a1 χ Qx)) ∧ (tg χ 23 i = 12 → (w_X30_put i a0 a1 χ Q ∨ wx_X30_put i a0 a1 χ Qx))
theorem hyR_put : (⟨"ChairOld$Row", "put", "(IJ)Z"⟩ : MethodName).cls ≠ "java/lang/invoke/MethodHandle" ∧ (⟨"ChairOld$Row", "put", "(IJ)Z"⟩ : MethodName).cls ≠ "java/lang/invoke/VarHandle" ∧ (parseMethodDescriptor (⟨"ChairOld$Row", "put", "(IJ)Z"⟩ : MethodName).desc).map (fun d => d.parameters.length) = some 2 := by decide +kernel
set_option maxHeartbeats 4000000 in
theorem g_D_put {X : Cx} {cc : ByteArray} {own : String} {ret : Option FieldType} {y0 : MethodName} {nL F Lo : Nat} {Pst : Option Value → (Nat → Nat → Nat) → St → Prop} {ad : Nat → Nat → Nat} {χ : St} {pc i index : Nat} {lv : List (Nat × Value)} {st : List Value} {a0 : Int32} {a1 : Int64} {Q : Int32 → St → Prop} {Qx : St → Prop} (h : Ok X cc own ret y0 nL F Lo Pst) (th : Th X) (hw : w_D_put i a0 a1 χ Q Qx) (q1 : Cond.methodLink own index ⟨"ChairOld$Row", "put", "(IJ)Z"⟩ ∈ lw_all) (hF : 9 ≤ F ∧ 10271 ≤ Lo) (hi : i < cn χ 23) (hst : (st.map fun v => v.category).sum ≤ 8) (hd : decode cc pc = .ok (.invokevirtual index, 3)) (kk : ∀ r χ', Q r χ' → (∀ c, cn χ c ≤ cn χ' c) → G X ad χ' (pc + 3) lv (.int r :: st)) (kx : ∀ χ', Qx χ' → (∀ c, cn χ c ≤ cn χ' c) → GT X ad χ' pc lv nAI) : G X ad χ pc lv (.long a1 :: .int a0 :: .ref (ad 23 i) :: st) := by
  have hts := h.2.2.2.2.2.2.1
  have hK := h.2.2.2.2.2.2.2.1
  have hR := h.2.2.2.2.2.2.2.2.1
  obtain ⟨hF1, hF2⟩ := hF
  have kk2 : ∀ v ad' χ', pI Q v ad' χ' → (true = true → ad' = ad) → Ext χ χ' ad ad' → G X ad' χ' (pc + 3) lv (v.toList ++ st) := fun v ad' χ' hP hna hE => by
    obtain ⟨r, rfl, hf⟩ := hP
    obtain rfl := hna rfl
    exact kk r χ' hf hE.2
  have kx2 : ∀ ad' χ', (fun (_ : Nat → Nat → Nat) χ => Qx χ) ad' χ' → (true = true → ad' = ad) → Ext χ χ' ad ad' → GT X ad' χ' pc lv nAI := fun ad' χ' hP hna hE => by
    obtain rfl := hna rfl
    exact kx χ' hP hE.2
  obtain ⟨ht, h8, h9, h10, h11, h12⟩ := hw
  rcases ht with ht | ht | ht | ht | ht
  · rcases h8 ht with hw | hw
    · exact g_callU0 h (mt_X26_put X.l X.Γ ad i a0 a1 χ Q) ⟨hi, hw⟩ (fun _ => rfl) (va_cwA 2 hts (lw_U (owner := "ChairOld$Row") (C := "ChairOld$ByteRow") q1 q1362 q1366 q1367 q126 q1368) rfl rfl rfl (hK.2.1 _ q1361 rfl) ⟨by decide, by decide, hyR_put.2.2⟩ (by rw [hR]; exact ⟨by show 0 + 1 ≤ F; omega, by show 8 + (4 + 11) + 0 ≤ Lo; omega⟩)) hi (ff23_8 ht) rfl rfl rfl hst hd kk2
    · exact g_callUX h (mx_X26_put X.l th.2 X.Γ ad i a0 a1 χ Qx) ⟨hi, hw⟩ (fun _ => rfl) (va_cwA 2 hts (lw_U (owner := "ChairOld$Row") (C := "ChairOld$ByteRow") q1 q1362 q1366 q1367 q126 q1368) rfl rfl rfl (hK.2.1 _ q1361 rfl) ⟨by decide, by decide, hyR_put.2.2⟩ (by rw [hR]; exact ⟨by show 8 + 1 ≤ F; omega, by show 8 + (4 + 11) + 10248 ≤ Lo; omega⟩)) hi (ff23_8 ht) rfl rfl rfl hst hd kx2
  · rcases h9 ht with hw | hw
    · exact g_callU0 h (mt_X27_put X.l X.Γ ad i a0 a1 χ Q) ⟨hi, hw⟩ (fun _ => rfl) (va_cwA 2 hts (lw_U (owner := "ChairOld$Row") (C := "ChairOld$ShortRow") q1 q1362 q1375 q1376 q127 q1377) rfl rfl rfl (hK.2.1 _ q1361 rfl) ⟨by decide, by decide, hyR_put.2.2⟩ (by rw [hR]; exact ⟨by show 0 + 1 ≤ F; omega, by show 8 + (4 + 11) + 0 ≤ Lo; omega⟩)) hi (ff23_9 ht) rfl rfl rfl hst hd kk2
    · exact g_callUX h (mx_X27_put X.l th.2 X.Γ ad i a0 a1 χ Qx) ⟨hi, hw⟩ (fun _ => rfl) (va_cwA 2 hts (lw_U (owner := "ChairOld$Row") (C := "ChairOld$ShortRow") q1 q1362 q1375 q1376 q127 q1377) rfl rfl rfl (hK.2.1 _ q1361 rfl) ⟨by decide, by decide, hyR_put.2.2⟩ (by rw [hR]; exact ⟨by show 8 + 1 ≤ F; omega, by show 8 + (4 + 11) + 10248 ≤ Lo; omega⟩)) hi (ff23_9 ht) rfl rfl rfl hst hd kx2
  · rcases h10 ht with hw | hw
    · exact g_callU0 h (mt_X28_put X.l X.Γ ad i a0 a1 χ Q) ⟨hi, hw⟩ (fun _ => rfl) (va_cwA 2 hts (lw_U (owner := "ChairOld$Row") (C := "ChairOld$IntRow") q1 q1362 q1369 q1370 q128 q1371) rfl rfl rfl (hK.2.1 _ q1361 rfl) ⟨by decide, by decide, hyR_put.2.2⟩ (by rw [hR]; exact ⟨by show 0 + 1 ≤ F; omega, by show 8 + (4 + 11) + 0 ≤ Lo; omega⟩)) hi (ff23_10 ht) rfl rfl rfl hst hd kk2
    · exact g_callUX h (mx_X28_put X.l th.2 X.Γ ad i a0 a1 χ Qx) ⟨hi, hw⟩ (fun _ => rfl) (va_cwA 2 hts (lw_U (owner := "ChairOld$Row") (C := "ChairOld$IntRow") q1 q1362 q1369 q1370 q128 q1371) rfl rfl rfl (hK.2.1 _ q1361 rfl) ⟨by decide, by decide, hyR_put.2.2⟩ (by rw [hR]; exact ⟨by show 8 + 1 ≤ F; omega, by show 8 + (4 + 11) + 10248 ≤ Lo; omega⟩)) hi (ff23_10 ht) rfl rfl rfl hst hd kx2
  · rcases h11 ht with hw | hw
    · exact g_callU0 h (mt_X29_put X.l X.Γ ad i a0 a1 χ Q) ⟨hi, hw⟩ (fun _ => rfl) (va_cwA 2 hts (lw_U (owner := "ChairOld$Row") (C := "ChairOld$LongRow") q1 q1362 q1372 q1373 q129 q1374) rfl rfl rfl (hK.2.1 _ q1361 rfl) ⟨by decide, by decide, hyR_put.2.2⟩ (by rw [hR]; exact ⟨by show 0 + 1 ≤ F; omega, by show 8 + (4 + 11) + 0 ≤ Lo; omega⟩)) hi (ff23_11 ht) rfl rfl rfl hst hd kk2
    · exact g_callUX h (mx_X29_put X.l th.2 X.Γ ad i a0 a1 χ Qx) ⟨hi, hw⟩ (fun _ => rfl) (va_cwA 2 hts (lw_U (owner := "ChairOld$Row") (C := "ChairOld$LongRow") q1 q1362 q1372 q1373 q129 q1374) rfl rfl rfl (hK.2.1 _ q1361 rfl) ⟨by decide, by decide, hyR_put.2.2⟩ (by rw [hR]; exact ⟨by show 8 + 1 ≤ F; omega, by show 8 + (4 + 11) + 10248 ≤ Lo; omega⟩)) hi (ff23_11 ht) rfl rfl rfl hst hd kx2
  · rcases h12 ht with hw | hw
    · exact g_callU0 h (mt_X30_put X.l X.Γ ad i a0 a1 χ Q) ⟨hi, hw⟩ (fun _ => rfl) (va_cwA 2 hts (lw_U (owner := "ChairOld$Row") (C := "ChairOld$BooleanRow") q1 q1362 q1363 q1364 q130 q1365) rfl rfl rfl (hK.2.1 _ q1361 rfl) ⟨by decide, by decide, hyR_put.2.2⟩ (by rw [hR]; exact ⟨by show 0 + 1 ≤ F; omega, by show 8 + (4 + 11) + 0 ≤ Lo; omega⟩)) hi (ff23_12 ht) rfl rfl rfl hst hd kk2
    · exact g_callUX h (mx_X30_put X.l th.2 X.Γ ad i a0 a1 χ Qx) ⟨hi, hw⟩ (fun _ => rfl) (va_cwA 2 hts (lw_U (owner := "ChairOld$Row") (C := "ChairOld$BooleanRow") q1 q1362 q1363 q1364 q130 q1365) rfl rfl rfl (hK.2.1 _ q1361 rfl) ⟨by decide, by decide, hyR_put.2.2⟩ (by rw [hR]; exact ⟨by show 8 + 1 ≤ F; omega, by show 8 + (4 + 11) + 10248 ≤ Lo; omega⟩)) hi (ff23_12 ht) rfl rfl rfl hst hd kx2

def w_C_element (x1 : Int32) (x2 : Int32) (χ : St) (Q : Int64 → St → Prop) : Prop := (w_C_isShelf x1 χ (fun r1 χ2 => ((¬ r1 = 0 → (vp_in x1 6) ∧ ((((gR χ2 17 0 x1.toNatClampNeg) = none → ((uC χ2 + 1 ≤ 603072) ∧ (uS χ2 + 8 ≤ 7262314) ∧ ∀ χ5, χ5 = brn χ2 1 8 → (Q (-9223372036854775808 : Int64) χ5))) ∧ (∀ z4, (gR χ2 17 0 x1.toNatClampNeg) = some z4 → ((tg χ2 23 z4 < 13) ∧ ((tg χ2 23 z4 = 8 ∨ tg χ2 23 z4 = 9 ∨ tg χ2 23 z4 = 10 ∨ tg χ2 23 z4 = 11 ∨ tg χ2 23 z4 = 12) → (w_D_at z4 x2 χ2 (fun r8 χ7 => (Q r8 χ7)) (fun χ9 => (Q (-9223372036854775808 : Int64) χ9)))) ∧ ((tg χ2 23 z4 = 0 ∨ tg χ2 23 z4 = 1 ∨ tg χ2 23 z4 = 2 ∨ tg χ2 23 z4 = 3 ∨ tg χ2 23 z4 = 4 ∨ tg χ2 23 z4 = 5 ∨ tg χ2 23 z4 = 6 ∨ tg χ2 23 z4 = 7) → ((uC χ2 + 3 ≤ 603072) ∧ (uS χ2 + 1610 ≤ 7262314) ∧ (∀ n14, n14 ≤ 1610 → ∀ χ12, χ12 = brn χ2 3 n14 → (Q (-9223372036854775808 : Int64) χ12))))))))) ∧ (r1 = 0 → (Q (-9223372036854775808 : Int64) χ2)))))
set_option maxHeartbeats 4000000 in
theorem mt_C_element (l : Launch) (hl : l.stackTraces = false) (Γ : Gh) (ad : Nat → Nat → Nat) (x1 : Int32) (x2 : Int32) (χ : St) (Q : Int64 → St → Prop) : Mt l yX0_element (wsW yX0_element cX0_element 4 (some .long) [(11, 24, 25, 126), (11, 24, 30, 124), (11, 24, 35, 128)]) (rmO (9) (10269) χ) (Pm Γ ad χ [.ref (ad 0 0), .int x1, .int x2] (w_C_element x1 x2 χ Q)) (Qm Γ true ad χ (pL Q)) (frB Γ) := by
  refine Mt.startW hl (by decide) RX0 rfl (Nat.le_of_ble_eq_true rfl) ?_
  intro X hX hT hB hG _ _ hna _ hf
  unfold w_C_element at hf
  refine g_iload_n hX 1 dX0_element_0 rfl rfl ?_
  refine g_callSi hX (n := 1) (mt_C_isShelf X.l X.Γ _ _ _ _) hf q442 q443 q85 q444 hy_C_isShelf (by decide) rfl rfl (Nat.le_of_ble_eq_true rfl) dX0_element_1 (fun r1 χ2 hf hc2 => ?_)
  refine g_if_ne hX 11 dX0_element_4 (by decide) (fun z => ?_) (fun z => ?_)
  · replace hf := hf.1 z
    refine g_aload_n hX 0 dX0_element_11 rfl rfl ?_
    refine g_getK hX (k := 24) (d := 17) (fc0 _) ff0 rfl (by decide) rfl rfl in_X0 (by decide) q224 dX0_element_12 ?_
    refine g_iload_n hX 1 dX0_element_15 rfl rfl ?_
    have hg3 := hf.1
    replace hf := hf.2
    refine g_aaldS hX (fc17 _) ff17 rfl rfl hg3 dX0_element_16 (fun z => ?_) (fun z4 hz4 hvz4 => ?_)
    · replace hf := hf.1 z
      refine g_castN hX dX0_element_17 ?_
      refine g_iload_n hX 2 dX0_element_20 rfl rfl ?_
      refine g_nullX hX hT (As := [.int x2]) (st := []) (NulOk.dec hX q1382 q1383 q1384 hyR_at) rfl rfl ⟨by decide, by decide⟩ hf.1 hf.2.1 (Nat.le_of_ble_eq_true rfl) dX0_element_21 ?_
      replace hf := hf.2.2 _ rfl
      refine g_thrCatch hB (Fnd.hit hX.2.2.2.2.2.1 (by decide) (by decide) (hX.2.2.2.2.2.2.1 _ q398) (th_yes hX kq420) rfl) (fun ea6 => ?_)
      refine g_astore_n hX dX0_element_25 rfl (by decide) rfl ?_
      refine g_ldc2 hX q815 dX0_element_26 ?_
      exact g_lret hX ⟨_, rfl, hf⟩ dX0_element_29
    · replace hf := hf.2 _ hz4
      have ht := hf.1
      replace hf := hf.2
      rcases (show (tg χ2 23 z4 = 8 ∨ tg χ2 23 z4 = 9 ∨ tg χ2 23 z4 = 10 ∨ tg χ2 23 z4 = 11 ∨ tg χ2 23 z4 = 12) ∨ (tg χ2 23 z4 = 0 ∨ tg χ2 23 z4 = 1 ∨ tg χ2 23 z4 = 2 ∨ tg χ2 23 z4 = 3 ∨ tg χ2 23 z4 = 4 ∨ tg χ2 23 z4 = 5 ∨ tg χ2 23 z4 = 6 ∨ tg χ2 23 z4 = 7) by omega) with z | z
      · replace hf := hf.1 z
        refine g_cast_Row_p hX q1359 z hvz4 dX0_element_17 ?_
        refine g_iload_n hX 2 dX0_element_20 rfl rfl ?_
        refine g_D_at hX hT hf q1382 (by decide) hvz4 (Nat.le_of_ble_eq_true rfl) dX0_element_21 (fun r8 χ7 hf hc7 => ?_) (fun χ9 hf hc9 => ?_)
        · exact g_lret hX ⟨_, rfl, hf⟩ dX0_element_24
        · refine g_thrCatch hB (Fnd.pass hX.2.2.2.2.2.1 (by decide) (by decide) (hX.2.2.2.2.2.2.1 _ q398) (th_no hX (by decide)) (Fnd.pass hX.2.2.2.2.2.1 (by decide) (by decide) (hX.2.2.2.2.2.2.1 _ q314) (th_no hX (by decide)) (Fnd.hit hX.2.2.2.2.2.1 (by decide) (by decide) (hX.2.2.2.2.2.2.1 _ q423) (th_yes hX kq2023) rfl))) (fun ea11 => ?_)
          refine g_astore_n hX dX0_element_35 rfl (by decide) rfl ?_
          refine g_ldc2 hX q815 dX0_element_36 ?_
          exact g_lret hX ⟨_, rfl, hf⟩ dX0_element_39
      · replace hf := hf.2 z
        refine g_cast_Row_x hX hT q1359 z hvz4 ⟨by decide, by decide⟩ hf.1 hf.2.1 (Nat.le_of_ble_eq_true rfl) dX0_element_17 (fun n14 hn14 => ?_)
        replace hf := hf.2.2
        replace hf := hf n14 hn14 _ rfl
        refine g_thrCatch hB (Fnd.pass hX.2.2.2.2.2.1 (by decide) (by decide) (hX.2.2.2.2.2.2.1 _ q398) (th_no hX (by decide)) (Fnd.hit hX.2.2.2.2.2.1 (by decide) (by decide) (hX.2.2.2.2.2.2.1 _ q314) (th_yes hX kq376) rfl)) (fun ea13 => ?_)
        refine g_astore_n hX dX0_element_30 rfl (by decide) rfl ?_
        refine g_ldc2 hX q815 dX0_element_31 ?_
        exact g_lret hX ⟨_, rfl, hf⟩ dX0_element_34
  · replace hf := hf.2 z
    refine g_ldc2 hX q815 dX0_element_7 ?_
    exact g_lret hX ⟨_, rfl, hf⟩ dX0_element_10

def w_C_put (x1 : Int32) (x2 : Int32) (x3 : Int64) (χ : St) (Q : Int32 → St → Prop) : Prop := (w_C_isShelf x1 χ (fun r1 χ2 => ((¬ r1 = 0 → (vp_in x1 6) ∧ ((((gR χ2 17 0 x1.toNatClampNeg) = none → ((uC χ2 + 1 ≤ 603072) ∧ (uS χ2 + 8 ≤ 7262314) ∧ ∀ χ5, χ5 = brn χ2 1 8 → (Q (-11 : Int32) χ5))) ∧ (∀ z4, (gR χ2 17 0 x1.toNatClampNeg) = some z4 → ((tg χ2 23 z4 < 13) ∧ ((tg χ2 23 z4 = 8 ∨ tg χ2 23 z4 = 9 ∨ tg χ2 23 z4 = 10 ∨ tg χ2 23 z4 = 11 ∨ tg χ2 23 z4 = 12) → (w_D_put z4 x2 x3 χ2 (fun r8 χ7 => ((r8 = 0 → (Q (-1 : Int32) χ7)) ∧ (¬ r8 = 0 → (Q (1 : Int32) χ7)))) (fun χ9 => (Q (-13 : Int32) χ9)))) ∧ ((tg χ2 23 z4 = 0 ∨ tg χ2 23 z4 = 1 ∨ tg χ2 23 z4 = 2 ∨ tg χ2 23 z4 = 3 ∨ tg χ2 23 z4 = 4 ∨ tg χ2 23 z4 = 5 ∨ tg χ2 23 z4 = 6 ∨ tg χ2 23 z4 = 7) → ((uC χ2 + 3 ≤ 603072) ∧ (uS χ2 + 1610 ≤ 7262314) ∧ (∀ n14, n14 ≤ 1610 → ∀ χ12, χ12 = brn χ2 3 n14 → (Q (-12 : Int32) χ12))))))))) ∧ (r1 = 0 → (Q (-1 : Int32) χ2)))))
set_option maxHeartbeats 4000000 in
theorem mt_C_put (l : Launch) (hl : l.stackTraces = false) (Γ : Gh) (ad : Nat → Nat → Nat) (x1 : Int32) (x2 : Int32) (x3 : Int64) (χ : St) (Q : Int32 → St → Prop) : Mt l yX0_put (wsW yX0_put cX0_put 6 (some .int) [(9, 31, 32, 126), (9, 31, 37, 124), (9, 31, 42, 128)]) (rmO (9) (10271) χ) (Pm Γ ad χ [.ref (ad 0 0), .int x1, .int x2, .long x3] (w_C_put x1 x2 x3 χ Q)) (Qm Γ true ad χ (pI Q)) (frB Γ) := by
  refine Mt.startW hl (by decide) RX0 rfl (Nat.le_of_ble_eq_true rfl) ?_
  intro X hX hT hB hG _ _ hna _ hf
  unfold w_C_put at hf
  refine g_iload_n hX 1 dX0_put_0 rfl rfl ?_
  refine g_callSi hX (n := 1) (mt_C_isShelf X.l X.Γ _ _ _ _) hf q442 q443 q85 q444 hy_C_isShelf (by decide) rfl rfl (Nat.le_of_ble_eq_true rfl) dX0_put_1 (fun r1 χ2 hf hc2 => ?_)
  refine g_if_ne hX 9 dX0_put_4 (by decide) (fun z => ?_) (fun z => ?_)
  · replace hf := hf.1 z
    refine g_aload_n hX 0 dX0_put_9 rfl rfl ?_
    refine g_getK hX (k := 24) (d := 17) (fc0 _) ff0 rfl (by decide) rfl rfl in_X0 (by decide) q224 dX0_put_10 ?_
    refine g_iload_n hX 1 dX0_put_13 rfl rfl ?_
    have hg3 := hf.1
    replace hf := hf.2
    refine g_aaldS hX (fc17 _) ff17 rfl rfl hg3 dX0_put_14 (fun z => ?_) (fun z4 hz4 hvz4 => ?_)
    · replace hf := hf.1 z
      refine g_castN hX dX0_put_15 ?_
      refine g_iload_n hX 2 dX0_put_18 rfl rfl ?_
      refine g_lload_n hX 3 dX0_put_19 rfl rfl ?_
      refine g_nullX hX hT (As := [.int x2, .long x3]) (st := []) (NulOk.dec hX q1360 q1361 q1362 hyR_put) rfl rfl ⟨by decide, by decide⟩ hf.1 hf.2.1 (Nat.le_of_ble_eq_true rfl) dX0_put_20 ?_
      replace hf := hf.2.2 _ rfl
      refine g_thrCatch hB (Fnd.hit hX.2.2.2.2.2.1 (by decide) (by decide) (hX.2.2.2.2.2.2.1 _ q398) (th_yes hX kq420) rfl) (fun ea6 => ?_)
      refine g_astore hX dX0_put_32 (by decide) rfl ?_
      refine g_bipush hX (v := (-11 : Int32)) dX0_put_34 rfl ?_
      exact g_iret hX ⟨_, rfl, hf⟩ dX0_put_36
    · replace hf := hf.2 _ hz4
      have ht := hf.1
      replace hf := hf.2
      rcases (show (tg χ2 23 z4 = 8 ∨ tg χ2 23 z4 = 9 ∨ tg χ2 23 z4 = 10 ∨ tg χ2 23 z4 = 11 ∨ tg χ2 23 z4 = 12) ∨ (tg χ2 23 z4 = 0 ∨ tg χ2 23 z4 = 1 ∨ tg χ2 23 z4 = 2 ∨ tg χ2 23 z4 = 3 ∨ tg χ2 23 z4 = 4 ∨ tg χ2 23 z4 = 5 ∨ tg χ2 23 z4 = 6 ∨ tg χ2 23 z4 = 7) by omega) with z | z
      · replace hf := hf.1 z
        refine g_cast_Row_p hX q1359 z hvz4 dX0_put_15 ?_
        refine g_iload_n hX 2 dX0_put_18 rfl rfl ?_
        refine g_lload_n hX 3 dX0_put_19 rfl rfl ?_
        refine g_D_put hX hT hf q1360 (by decide) hvz4 (Nat.le_of_ble_eq_true rfl) dX0_put_20 (fun r8 χ7 hf hc7 => ?_) (fun χ9 hf hc9 => ?_)
        · refine g_if_eq hX 30 dX0_put_23 (by decide) (fun z => ?_) (fun z => ?_)
          · replace hf := hf.1 z
            refine g_iconst hX (v := (-1 : Int32)) dX0_put_30 rfl ?_
            exact g_iret hX ⟨_, rfl, hf⟩ dX0_put_31
          · replace hf := hf.2 z
            refine g_iconst hX (v := (1 : Int32)) dX0_put_26 rfl ?_
            refine g_goto hX 31 dX0_put_27 (by decide) ?_
            exact g_iret hX ⟨_, rfl, hf⟩ dX0_put_31
        · refine g_thrCatch hB (Fnd.pass hX.2.2.2.2.2.1 (by decide) (by decide) (hX.2.2.2.2.2.2.1 _ q398) (th_no hX (by decide)) (Fnd.pass hX.2.2.2.2.2.1 (by decide) (by decide) (hX.2.2.2.2.2.2.1 _ q314) (th_no hX (by decide)) (Fnd.hit hX.2.2.2.2.2.1 (by decide) (by decide) (hX.2.2.2.2.2.2.1 _ q423) (th_yes hX kq2023) rfl))) (fun ea11 => ?_)
          refine g_astore hX dX0_put_42 (by decide) rfl ?_
          refine g_bipush hX (v := (-13 : Int32)) dX0_put_44 rfl ?_
          exact g_iret hX ⟨_, rfl, hf⟩ dX0_put_46
      · replace hf := hf.2 z
        refine g_cast_Row_x hX hT q1359 z hvz4 ⟨by decide, by decide⟩ hf.1 hf.2.1 (Nat.le_of_ble_eq_true rfl) dX0_put_15 (fun n14 hn14 => ?_)
        replace hf := hf.2.2
        replace hf := hf n14 hn14 _ rfl
        refine g_thrCatch hB (Fnd.pass hX.2.2.2.2.2.1 (by decide) (by decide) (hX.2.2.2.2.2.2.1 _ q398) (th_no hX (by decide)) (Fnd.hit hX.2.2.2.2.2.1 (by decide) (by decide) (hX.2.2.2.2.2.2.1 _ q314) (th_yes hX kq376) rfl)) (fun ea13 => ?_)
        refine g_astore hX dX0_put_37 (by decide) rfl ?_
        refine g_bipush hX (v := (-12 : Int32)) dX0_put_39 rfl ?_
        exact g_iret hX ⟨_, rfl, hf⟩ dX0_put_41
  · replace hf := hf.2 z
    refine g_iconst hX (v := (-1 : Int32)) dX0_put_7 rfl ?_
    exact g_iret hX ⟨_, rfl, hf⟩ dX0_put_8

set_option maxHeartbeats 4000000 in
theorem gs_C_taken_31 {X : Cx} {cc : ByteArray} {ret : Option FieldType} {y0 : MethodName} {nL F Lo : Nat} {Pst : Option Value → (Nat → Nat → Nat) → St → Prop} {ad : Nat → Nat → Nat} {χ : St} {pc i : Nat} {lv : List (Nat × Value)} {st : List Value} {a0 : Int32} {Q : Int32 → St → Prop} (h : Ok X cc RX0 ret y0 nL F Lo Pst) (hw : w_D_isUnder i a0 χ Q) (ht : tg χ 23 i = 0 ∨ tg χ 23 i = 1 ∨ tg χ 23 i = 2 ∨ tg χ 23 i = 3 ∨ tg χ 23 i = 4 ∨ tg χ 23 i = 5 ∨ tg χ 23 i = 6 ∨ tg χ 23 i = 7) (hF : 4 ≤ F ∧ 83 ≤ Lo) (hi : i < cn χ 23) (hst : (st.map fun v => v.category).sum ≤ 8) (hd : decode cc pc = .ok (.invokevirtual 451, 3)) (kk : ∀ r χ', Q r χ' → (∀ c, cn χ c ≤ cn χ' c) → G X ad χ' (pc + 3) lv (.int r :: st)) : G X ad χ pc lv (.int a0 :: .ref (ad 23 i) :: st) := by
  have hts := h.2.2.2.2.2.2.1
  have hR := h.2.2.2.2.2.2.2.2.1
  have kk2 : ∀ v ad' χ', pI Q v ad' χ' → (true = true → ad' = ad) → Ext χ χ' ad ad' → G X ad' χ' (pc + 3) lv (v.toList ++ st) := fun v ad' χ' hP hna hE => by
    obtain ⟨r, rfl, hf⟩ := hP
    obtain rfl := hna rfl
    exact kk r χ' hf hE.2
  rcases ht with ht | ht | ht | ht | ht | ht | ht | ht
  · exact g_callU0 h (mt_X17_isUnder X.l X.Γ ad i a0 χ Q) ⟨hi, hw.1 ht⟩ (fun _ => rfl) (va_cwU 1 hts (lw_U (C := "ChairOld$Plain") q1436 q1439 q1438 q1437 q116 q1459) rfl rfl rfl rfl ⟨by decide, by decide, hy_X17_isUnder.2.2⟩ (by rw [hR]; exact ⟨by show 1 + 1 ≤ F; omega, by show 8 + (2 + 11) + 20 ≤ Lo; omega⟩)) hi (ff23_0 ht) rfl rfl rfl hst hd kk2
  · exact g_callU0 h (mt_X18_isUnder X.l X.Γ ad i a0 χ Q) ⟨hi, hw.2.1 ht⟩ (fun _ => rfl) (va_cwO 1 hts (lw_O (C := "ChairOld$Old") q1436 q1439 q1437 q1457 q1452 q117 q1453) rfl rfl rfl q1459 ⟨by decide, by decide, hy_X18_isUnder.2.2⟩ (by rw [hR]; exact ⟨by show 2 + 1 ≤ F; omega, by show 8 + (2 + 11) + 41 ≤ Lo; omega⟩)) hi (ff23_1 ht) rfl rfl rfl hst hd kk2
  · exact g_callU0 h (mt_X19_isUnder X.l X.Γ ad i a0 χ Q) ⟨hi, hw.2.2.1 ht⟩ (fun _ => rfl) (va_cwO 1 hts (lw_O (C := "ChairOld$Mended") q1436 q1439 q1437 q1456 q1444 q118 q1445) rfl rfl rfl q1459 ⟨by decide, by decide, hy_X19_isUnder.2.2⟩ (by rw [hR]; exact ⟨by show 2 + 1 ≤ F; omega, by show 8 + (2 + 11) + 41 ≤ Lo; omega⟩)) hi (ff23_2 ht) rfl rfl rfl hst hd kk2
  · exact g_callU0 h (mt_X20_isUnder X.l X.Γ ad i a0 χ Q) ⟨hi, hw.2.2.2.1 ht⟩ (fun _ => rfl) (va_cwO 1 hts (lw_O (C := "ChairOld$Aged") q1436 q1439 q1437 q1440 q1441 q119 q1442) rfl rfl rfl q1459 ⟨by decide, by decide, hy_X20_isUnder.2.2⟩ (by rw [hR]; exact ⟨by show 3 + 1 ≤ F; omega, by show 8 + (2 + 11) + 62 ≤ Lo; omega⟩)) hi (ff23_3 ht) rfl rfl rfl hst hd kk2
  · exact g_callU0 h (mt_X21_isUnder X.l X.Γ ad i a0 χ Q) ⟨hi, hw.2.2.2.2.1 ht⟩ (fun _ => rfl) (va_cwO 1 hts (lw_O (C := "ChairOld$Split") q1436 q1439 q1437 q1458 q1449 q120 q1450) rfl rfl rfl q1459 ⟨by decide, by decide, hy_X21_isUnder.2.2⟩ (by rw [hR]; exact ⟨by show 3 + 1 ≤ F; omega, by show 8 + (2 + 11) + 62 ≤ Lo; omega⟩)) hi (ff23_4 ht) rfl rfl rfl hst hd kk2
  · exact g_callU0 h (mt_X20_isUnder X.l X.Γ ad i a0 χ Q) ⟨hi, hw.2.2.2.2.2.1 ht⟩ (fun _ => rfl) (va_cwO 1 hts (lw_O (C := "ChairOld$Cut") q1436 q1439 q1437 q1447 q1441 q119 q1442) rfl rfl rfl q1459 ⟨by decide, by decide, hy_X20_isUnder.2.2⟩ (by rw [hR]; exact ⟨by show 3 + 1 ≤ F; omega, by show 8 + (2 + 11) + 62 ≤ Lo; omega⟩)) hi (ff23_5 ht) rfl rfl rfl hst hd kk2
  · exact g_callU0 h (mt_X17_isUnder X.l X.Γ ad i a0 χ Q) ⟨hi, hw.2.2.2.2.2.2.1 ht⟩ (fun _ => rfl) (va_cwU 1 hts (lw_U (C := "ChairOld$Fresh") q1436 q1439 q1455 q1437 q116 q1459) rfl rfl rfl rfl ⟨by decide, by decide, hy_X17_isUnder.2.2⟩ (by rw [hR]; exact ⟨by show 1 + 1 ≤ F; omega, by show 8 + (2 + 11) + 20 ≤ Lo; omega⟩)) hi (ff23_6 ht) rfl rfl rfl hst hd kk2
  · exact g_callU0 h (mt_X21_isUnder X.l X.Γ ad i a0 χ Q) ⟨hi, hw.2.2.2.2.2.2.2 ht⟩ (fun _ => rfl) (va_cwO 1 hts (lw_O (C := "ChairOld$Foreign") q1436 q1439 q1437 q1448 q1449 q120 q1450) rfl rfl rfl q1459 ⟨by decide, by decide, hy_X21_isUnder.2.2⟩ (by rw [hR]; exact ⟨by show 3 + 1 ≤ F; omega, by show 8 + (2 + 11) + 62 ≤ Lo; omega⟩)) hi (ff23_7 ht) rfl rfl rfl hst hd kk2
set_option maxHeartbeats 4000000 in
theorem gs_C_taken_38 {X : Cx} {cc : ByteArray} {ret : Option FieldType} {y0 : MethodName} {nL F Lo : Nat} {Pst : Option Value → (Nat → Nat → Nat) → St → Prop} {ad : Nat → Nat → Nat} {χ : St} {pc i : Nat} {lv : List (Nat × Value)} {st : List Value} {Q : Int32 → St → Prop} (h : Ok X cc RX0 ret y0 nL F Lo Pst) (hw : w_D_kind i χ Q) (ht : tg χ 23 i = 0 ∨ tg χ 23 i = 1 ∨ tg χ 23 i = 2 ∨ tg χ 23 i = 3 ∨ tg χ 23 i = 4 ∨ tg χ 23 i = 5 ∨ tg χ 23 i = 6 ∨ tg χ 23 i = 7) (hF : 1 ≤ F ∧ 20 ≤ Lo) (hi : i < cn χ 23) (hst : (st.map fun v => v.category).sum ≤ 8) (hd : decode cc pc = .ok (.invokevirtual 454, 3)) (kk : ∀ r χ', Q r χ' → (∀ c, cn χ c ≤ cn χ' c) → G X ad χ' (pc + 3) lv (.int r :: st)) : G X ad χ pc lv (.ref (ad 23 i) :: st) := by
  have hts := h.2.2.2.2.2.2.1
  have hR := h.2.2.2.2.2.2.2.2.1
  have kk2 : ∀ v ad' χ', pI Q v ad' χ' → (true = true → ad' = ad) → Ext χ χ' ad ad' → G X ad' χ' (pc + 3) lv (v.toList ++ st) := fun v ad' χ' hP hna hE => by
    obtain ⟨r, rfl, hf⟩ := hP
    obtain rfl := hna rfl
    exact kk r χ' hf hE.2
  rcases ht with ht | ht | ht | ht | ht | ht | ht | ht
  · exact g_callU0 h (mt_X17_kind X.l X.Γ ad i χ Q) ⟨hi, hw.1 ht⟩ (fun _ => rfl) (va_cwU 0 hts (lw_U (C := "ChairOld$Plain") q1486 q1463 q1462 q1461 q116 q1485) rfl rfl rfl rfl ⟨by decide, by decide, hy_X17_kind.2.2⟩ (by rw [hR]; exact ⟨by show 0 + 1 ≤ F; omega, by show 8 + (1 + 11) + 0 ≤ Lo; omega⟩)) hi (ff23_0 ht) rfl rfl rfl hst hd kk2
  · exact g_callU0 h (mt_X18_kind X.l X.Γ ad i χ Q) ⟨hi, hw.2.1 ht⟩ (fun _ => rfl) (va_cwO 0 hts (lw_O (C := "ChairOld$Old") q1486 q1463 q1461 q1479 q1480 q117 q1481) rfl rfl rfl q1485 ⟨by decide, by decide, hy_X18_kind.2.2⟩ (by rw [hR]; exact ⟨by show 0 + 1 ≤ F; omega, by show 8 + (1 + 11) + 0 ≤ Lo; omega⟩)) hi (ff23_1 ht) rfl rfl rfl hst hd kk2
  · exact g_callU0 h (mt_X19_kind X.l X.Γ ad i χ Q) ⟨hi, hw.2.2.1 ht⟩ (fun _ => rfl) (va_cwO 0 hts (lw_O (C := "ChairOld$Mended") q1486 q1463 q1461 q1476 q1477 q118 q1478) rfl rfl rfl q1485 ⟨by decide, by decide, hy_X19_kind.2.2⟩ (by rw [hR]; exact ⟨by show 0 + 1 ≤ F; omega, by show 8 + (1 + 11) + 0 ≤ Lo; omega⟩)) hi (ff23_2 ht) rfl rfl rfl hst hd kk2
  · exact g_callU0 h (mt_X20_kind X.l X.Γ ad i χ Q) ⟨hi, hw.2.2.2.1 ht⟩ (fun _ => rfl) (va_cwO 0 hts (lw_O (C := "ChairOld$Aged") q1486 q1463 q1461 q1464 q1465 q119 q1466) rfl rfl rfl q1485 ⟨by decide, by decide, hy_X20_kind.2.2⟩ (by rw [hR]; exact ⟨by show 0 + 1 ≤ F; omega, by show 8 + (1 + 11) + 0 ≤ Lo; omega⟩)) hi (ff23_3 ht) rfl rfl rfl hst hd kk2
  · exact g_callU0 h (mt_X21_kind X.l X.Γ ad i χ Q) ⟨hi, hw.2.2.2.2.1 ht⟩ (fun _ => rfl) (va_cwO 0 hts (lw_O (C := "ChairOld$Split") q1486 q1463 q1461 q1482 q1483 q120 q1484) rfl rfl rfl q1485 ⟨by decide, by decide, hy_X21_kind.2.2⟩ (by rw [hR]; exact ⟨by show 0 + 1 ≤ F; omega, by show 8 + (1 + 11) + 0 ≤ Lo; omega⟩)) hi (ff23_4 ht) rfl rfl rfl hst hd kk2
  · exact g_callU0 h (mt_X22_kind X.l X.Γ ad i χ Q) ⟨hi, hw.2.2.2.2.2.1 ht⟩ (fun _ => rfl) (va_cwO 0 hts (lw_O (C := "ChairOld$Cut") q1486 q1463 q1461 q1467 q1468 q121 q1469) rfl rfl rfl q1485 ⟨by decide, by decide, hy_X22_kind.2.2⟩ (by rw [hR]; exact ⟨by show 0 + 1 ≤ F; omega, by show 8 + (1 + 11) + 0 ≤ Lo; omega⟩)) hi (ff23_5 ht) rfl rfl rfl hst hd kk2
  · exact g_callU0 h (mt_X23_kind X.l X.Γ ad i χ Q) ⟨hi, hw.2.2.2.2.2.2.1 ht⟩ (fun _ => rfl) (va_cwO 0 hts (lw_O (C := "ChairOld$Fresh") q1486 q1463 q1461 q1473 q1474 q122 q1475) rfl rfl rfl q1485 ⟨by decide, by decide, hy_X23_kind.2.2⟩ (by rw [hR]; exact ⟨by show 0 + 1 ≤ F; omega, by show 8 + (1 + 11) + 0 ≤ Lo; omega⟩)) hi (ff23_6 ht) rfl rfl rfl hst hd kk2
  · exact g_callU0 h (mt_X24_kind X.l X.Γ ad i χ Q) ⟨hi, hw.2.2.2.2.2.2.2 ht⟩ (fun _ => rfl) (va_cwO 0 hts (lw_O (C := "ChairOld$Foreign") q1486 q1463 q1461 q1470 q1471 q123 q1472) rfl rfl rfl q1485 ⟨by decide, by decide, hy_X24_kind.2.2⟩ (by rw [hR]; exact ⟨by show 0 + 1 ≤ F; omega, by show 8 + (1 + 11) + 0 ≤ Lo; omega⟩)) hi (ff23_7 ht) rfl rfl rfl hst hd kk2
def w_C_taken (x1 : Int32) (x2 : Int32) (χ : St) (Q : Int32 → St → Prop) : Prop := (w_C_isShelf x1 χ (fun r1 χ2 => ((r1 = 0 → (Q (-1 : Int32) χ2)) ∧ (¬ r1 = 0 → (w_C_in x2 (0 : Int32) (7 : Int32) χ2 (fun r3 χ4 => ((¬ r3 = 0 → (vp_in x1 6) ∧ ((((gR χ4 17 0 x1.toNatClampNeg) = none → ((uC χ4 + 1 ≤ 603072) ∧ (uS χ4 + 8 ≤ 7262314) ∧ ∀ χ7, χ7 = brn χ4 1 8 → (Q (-11 : Int32) χ7))) ∧ (∀ z6, (gR χ4 17 0 x1.toNatClampNeg) = some z6 → ((tg χ4 23 z6 < 13) ∧ ((tg χ4 23 z6 = 0 ∨ tg χ4 23 z6 = 1 ∨ tg χ4 23 z6 = 2 ∨ tg χ4 23 z6 = 3 ∨ tg χ4 23 z6 = 4 ∨ tg χ4 23 z6 = 5 ∨ tg χ4 23 z6 = 6 ∨ tg χ4 23 z6 = 7) → (tg χ4 23 z6 = 0 ∨ tg χ4 23 z6 = 1 ∨ tg χ4 23 z6 = 2 ∨ tg χ4 23 z6 = 3 ∨ tg χ4 23 z6 = 4 ∨ tg χ4 23 z6 = 5 ∨ tg χ4 23 z6 = 6 ∨ tg χ4 23 z6 = 7) ∧ ((w_D_isUnder z6 x2 χ4 (fun r9 χ10 => ((r9 = 0 → (Q (-12 : Int32) χ10)) ∧ (¬ r9 = 0 → (tg χ10 23 z6 = 0 ∨ tg χ10 23 z6 = 1 ∨ tg χ10 23 z6 = 2 ∨ tg χ10 23 z6 = 3 ∨ tg χ10 23 z6 = 4 ∨ tg χ10 23 z6 = 5 ∨ tg χ10 23 z6 = 6 ∨ tg χ10 23 z6 = 7) ∧ ((w_D_kind z6 χ10 (fun r12 χ13 => (Q r12 χ13)))))))))) ∧ ((tg χ4 23 z6 = 8 ∨ tg χ4 23 z6 = 9 ∨ tg χ4 23 z6 = 10 ∨ tg χ4 23 z6 = 11 ∨ tg χ4 23 z6 = 12) → ((uC χ4 + 3 ≤ 603072) ∧ (uS χ4 + 1610 ≤ 7262314) ∧ (∀ n17, n17 ≤ 1610 → ∀ χ15, χ15 = brn χ4 3 n17 → (Q (-12 : Int32) χ15))))))))) ∧ (r3 = 0 → (Q (-1 : Int32) χ4)))))))))
set_option maxHeartbeats 4000000 in
theorem mt_C_taken (l : Launch) (hl : l.stackTraces = false) (Γ : Gh) (ad : Nat → Nat → Nat) (x1 : Int32) (x2 : Int32) (χ : St) (Q : Int32 → St → Prop) : Mt l yX0_taken (wsW yX0_taken cX0_taken 4 (some .int) [(19, 46, 47, 126), (19, 46, 51, 124)]) (rmO (8) (10248) χ) (Pm Γ ad χ [.ref (ad 0 0), .int x1, .int x2] (w_C_taken x1 x2 χ Q)) (Qm Γ true ad χ (pI Q)) (frB Γ) := by
  refine Mt.startW hl (by decide) RX0 rfl (Nat.le_of_ble_eq_true rfl) ?_
  intro X hX hT hB hG _ _ hna _ hf
  unfold w_C_taken at hf
  refine g_iload_n hX 1 dX0_taken_0 rfl rfl ?_
  refine g_callSi hX (n := 1) (mt_C_isShelf X.l X.Γ _ _ _ _) hf q442 q443 q85 q444 hy_C_isShelf (by decide) rfl rfl (Nat.le_of_ble_eq_true rfl) dX0_taken_1 (fun r1 χ2 hf hc2 => ?_)
  refine g_if_eq hX 17 dX0_taken_4 (by decide) (fun z => ?_) (fun z => ?_)
  · replace hf := hf.1 z
    refine g_iconst hX (v := (-1 : Int32)) dX0_taken_17 rfl ?_
    exact g_iret hX ⟨_, rfl, hf⟩ dX0_taken_18
  · replace hf := hf.2 z
    refine g_iload_n hX 2 dX0_taken_7 rfl rfl ?_
    refine g_iconst hX (v := (0 : Int32)) dX0_taken_8 rfl ?_
    refine g_bipush hX (v := (7 : Int32)) dX0_taken_9 rfl ?_
    refine g_callSi hX (n := 3) (mt_C_in X.l X.Γ _ _ _ _ _ _) hf q281 q282 q85 q283 hy_C_in (by decide) rfl rfl (Nat.le_of_ble_eq_true rfl) dX0_taken_11 (fun r3 χ4 hf hc4 => ?_)
    refine g_if_ne hX 19 dX0_taken_14 (by decide) (fun z => ?_) (fun z => ?_)
    · replace hf := hf.1 z
      refine g_aload_n hX 0 dX0_taken_19 rfl rfl ?_
      refine g_getK hX (k := 24) (d := 17) (fc0 _) ff0 rfl (by decide) rfl rfl in_X0 (by decide) q224 dX0_taken_20 ?_
      refine g_iload_n hX 1 dX0_taken_23 rfl rfl ?_
      have hg5 := hf.1
      replace hf := hf.2
      refine g_aaldS hX (fc17 _) ff17 rfl rfl hg5 dX0_taken_24 (fun z => ?_) (fun z6 hz6 hvz6 => ?_)
      · replace hf := hf.1 z
        refine g_castN hX dX0_taken_25 ?_
        refine g_astore_nN hX dX0_taken_28 rfl (by decide) rfl ?_
        refine g_aload_nN hX 0 dX0_taken_29 rfl rfl ?_
        refine g_iload_n hX 3 dX0_taken_30 rfl rfl ?_
        refine g_nullX hX hT (As := [.int x2]) (st := []) (NulOk.sel hX q1436 q1437 q1438 q1459 hy_X17_isUnder) rfl rfl ⟨by decide, by decide⟩ hf.1 hf.2.1 (Nat.le_of_ble_eq_true rfl) dX0_taken_31 ?_
        replace hf := hf.2.2 _ rfl
        refine g_thrCatch hB (Fnd.hit hX.2.2.2.2.2.1 (by decide) (by decide) (hX.2.2.2.2.2.2.1 _ q398) (th_yes hX kq420) rfl) (fun ea8 => ?_)
        refine g_astore_n hX dX0_taken_47 rfl (by decide) rfl ?_
        refine g_bipush hX (v := (-11 : Int32)) dX0_taken_48 rfl ?_
        exact g_iret hX ⟨_, rfl, hf⟩ dX0_taken_50
      · replace hf := hf.2 _ hz6
        have ht := hf.1
        replace hf := hf.2
        rcases (show (tg χ4 23 z6 = 0 ∨ tg χ4 23 z6 = 1 ∨ tg χ4 23 z6 = 2 ∨ tg χ4 23 z6 = 3 ∨ tg χ4 23 z6 = 4 ∨ tg χ4 23 z6 = 5 ∨ tg χ4 23 z6 = 6 ∨ tg χ4 23 z6 = 7) ∨ (tg χ4 23 z6 = 8 ∨ tg χ4 23 z6 = 9 ∨ tg χ4 23 z6 = 10 ∨ tg χ4 23 z6 = 11 ∨ tg χ4 23 z6 = 12) by omega) with z | z
        · replace hf := hf.1 z
          refine g_cast_Plain_p hX q194 z hvz6 dX0_taken_25 ?_
          refine g_astore_n hX dX0_taken_28 rfl (by decide) rfl ?_
          refine g_aload_n hX 0 dX0_taken_29 rfl rfl ?_
          refine g_iload_n hX 3 dX0_taken_30 rfl rfl ?_
          have hg11 := hf.1
          replace hf := hf.2
          refine gs_C_taken_31 hX hf hg11 (by decide) hvz6 (Nat.le_of_ble_eq_true rfl) dX0_taken_31 (fun r9 χ10 hf hc10 => ?_)
          refine g_if_eq hX 44 dX0_taken_34 (by decide) (fun z => ?_) (fun z => ?_)
          · replace hf := hf.1 z
            refine g_bipush hX (v := (-12 : Int32)) dX0_taken_44 rfl ?_
            exact g_iret hX ⟨_, rfl, hf⟩ dX0_taken_46
          · replace hf := hf.2 z
            refine g_aload_n hX 0 dX0_taken_37 rfl rfl ?_
            have hg14 := hf.1
            replace hf := hf.2
            refine gs_C_taken_38 hX hf hg14 (by decide) (Nat.lt_of_lt_of_le hvz6 (hc10 23)) (Nat.le_of_ble_eq_true rfl) dX0_taken_38 (fun r12 χ13 hf hc13 => ?_)
            refine g_goto hX 46 dX0_taken_41 (by decide) ?_
            exact g_iret hX ⟨_, rfl, hf⟩ dX0_taken_46
        · replace hf := hf.2 z
          refine g_cast_Plain_x hX hT q194 z hvz6 ⟨by decide, by decide⟩ hf.1 hf.2.1 (Nat.le_of_ble_eq_true rfl) dX0_taken_25 (fun n17 hn17 => ?_)
          replace hf := hf.2.2
          replace hf := hf n17 hn17 _ rfl
          refine g_thrCatch hB (Fnd.pass hX.2.2.2.2.2.1 (by decide) (by decide) (hX.2.2.2.2.2.2.1 _ q398) (th_no hX (by decide)) (Fnd.hit hX.2.2.2.2.2.1 (by decide) (by decide) (hX.2.2.2.2.2.2.1 _ q314) (th_yes hX kq376) rfl)) (fun ea16 => ?_)
          refine g_astore_n hX dX0_taken_51 rfl (by decide) rfl ?_
          refine g_bipush hX (v := (-12 : Int32)) dX0_taken_52 rfl ?_
          exact g_iret hX ⟨_, rfl, hf⟩ dX0_taken_54
    · replace hf := hf.2 z
      refine g_iconst hX (v := (-1 : Int32)) dX0_taken_17 rfl ?_
      exact g_iret hX ⟨_, rfl, hf⟩ dX0_taken_18

def w_C_row (x1 : Int32) (x2 : Int32) (x3 : Int32) (χ : St) (Q : Int32 → St → Prop) : Prop := (w_C_isShelf x1 χ (fun r1 χ2 => ((r1 = 0 → (Q (-1 : Int32) χ2)) ∧ (¬ r1 = 0 → (w_C_in x2 (0 : Int32) (4 : Int32) χ2 (fun r3 χ4 => ((r3 = 0 → (Q (-1 : Int32) χ4)) ∧ (¬ r3 = 0 → ((x3 ≤ (60 : Int32) → (w_C_newRow x2 x3 χ4 (fun o6 χ5 => (∃ z7, o6 = some z7 ∧ (vp_in x1 6) ∧ ((tg χ5 23 z7 = 8 ∨ tg χ5 23 z7 = 9 ∨ tg χ5 23 z7 = 10 ∨ tg χ5 23 z7 = 11 ∨ tg χ5 23 z7 = 12) ∧ ((∀ χ9 : St, χ9 = (sR χ5 17 0 x1.toNatClampNeg (some z7)) → (Q (1 : Int32) χ9)))))) ∨ wx_C_newRow x2 x3 χ4 (fun χ8 => (Q (-14 : Int32) χ8)))) ∧ (¬ x3 ≤ (60 : Int32) → (Q (-1 : Int32) χ4)))))))))))
set_option maxHeartbeats 4000000 in
theorem mt_C_row (l : Launch) (hl : l.stackTraces = false) (Γ : Gh) (ad : Nat → Nat → Nat) (x1 : Int32) (x2 : Int32) (x3 : Int32) (χ : St) (Q : Int32 → St → Prop) : Mt l yX0_row (wsW yX0_row cX0_row 5 (some .int) [(24, 35, 38, 438)]) (rmO (10) (10290) χ) (Pm Γ ad χ [.ref (ad 0 0), .int x1, .int x2, .int x3] (w_C_row x1 x2 x3 χ Q)) (Qm Γ false ad χ (pI Q)) (frB Γ) := by
  refine Mt.startW hl (by decide) RX0 rfl (Nat.le_of_ble_eq_true rfl) ?_
  intro X hX hT hB hG _ _ hna _ hf
  unfold w_C_row at hf
  refine g_iload_n hX 1 dX0_row_0 rfl rfl ?_
  refine g_callSi hX (n := 1) (mt_C_isShelf X.l X.Γ _ _ _ _) hf q442 q443 q85 q444 hy_C_isShelf (by decide) rfl rfl (Nat.le_of_ble_eq_true rfl) dX0_row_1 (fun r1 χ2 hf hc2 => ?_)
  refine g_if_eq hX 22 dX0_row_4 (by decide) (fun z => ?_) (fun z => ?_)
  · replace hf := hf.1 z
    refine g_iconst hX (v := (-1 : Int32)) dX0_row_22 rfl ?_
    exact g_iret hX ⟨_, rfl, hf⟩ dX0_row_23
  · replace hf := hf.2 z
    refine g_iload_n hX 2 dX0_row_7 rfl rfl ?_
    refine g_iconst hX (v := (0 : Int32)) dX0_row_8 rfl ?_
    refine g_iconst hX (v := (4 : Int32)) dX0_row_9 rfl ?_
    refine g_callSi hX (n := 3) (mt_C_in X.l X.Γ _ _ _ _ _ _) hf q281 q282 q85 q283 hy_C_in (by decide) rfl rfl (Nat.le_of_ble_eq_true rfl) dX0_row_10 (fun r3 χ4 hf hc4 => ?_)
    refine g_if_eq hX 22 dX0_row_13 (by decide) (fun z => ?_) (fun z => ?_)
    · replace hf := hf.1 z
      refine g_iconst hX (v := (-1 : Int32)) dX0_row_22 rfl ?_
      exact g_iret hX ⟨_, rfl, hf⟩ dX0_row_23
    · replace hf := hf.2 z
      refine g_iload_n hX 3 dX0_row_16 rfl rfl ?_
      refine g_bipush hX (v := (60 : Int32)) dX0_row_17 rfl ?_
      refine g_icmp_le hX 24 dX0_row_19 (by decide) (fun z => ?_) (fun z => ?_)
      · replace hf := hf.1 z
        refine g_aload_n hX 0 dX0_row_24 rfl rfl ?_
        refine g_getK hX (k := 24) (d := 17) (fc0 _) ff0 rfl (by decide) rfl rfl in_X0 (by decide) q224 dX0_row_25 ?_
        refine g_iload_n hX 1 dX0_row_28 rfl rfl ?_
        refine g_iload_n hX 2 dX0_row_29 rfl rfl ?_
        refine g_iload_n hX 3 dX0_row_30 rfl rfl ?_
        rcases hf with hf | hf
        · refine g_callSAr hX hna 23 (n := 2) (mt_C_newRow X.l X.Γ _ _ _ _ _) hf q1298 q1299 q85 q1300 hy_C_newRow (by decide) rfl rfl (Nat.le_of_ble_eq_true rfl) dX0_row_31 (fun o6 ad5 χ5 hv5 hf hc5 => ?_)
          rw [← hc5.1 0 0 (fc0 _)]
          rw [← hc5.1 17 0 (fc17 _)]
          obtain ⟨z7, rfl, hf⟩ := hf
          refine g_aast_Held_r hX hf.1 hf.2.1 (hv5 _ rfl) dX0_row_34 ?_
          replace hf := hf.2.2
          replace hf := hf _ rfl
          refine g_goto hX 43 dX0_row_35 (by decide) ?_
          refine g_iconst hX (v := (1 : Int32)) dX0_row_43 rfl ?_
          exact g_iret hX ⟨_, rfl, hf⟩ dX0_row_44
        · refine g_callSX hX (n := 2) (mx_C_newRow X.l hT.2 X.Γ _ _ _ _ _) hf (fun h => by rw [hna] at h; cases h) q1298 q1299 q85 q1300 hy_C_newRow (by decide) rfl rfl (Nat.le_of_ble_eq_true rfl) dX0_row_31 (fun ad8 χ8 hf _ hc8 => ?_)
          rw [← hc8.1 0 0 (fc0 _)]
          refine g_thrCatch hB (Fnd.hit hX.2.2.2.2.2.1 (by decide) (by decide) (hX.2.2.2.2.2.2.1 _ q1284) (th_yes hX kq1296) rfl) (fun ea10 => ?_)
          refine g_astore hX dX0_row_38 (by decide) rfl ?_
          refine g_bipush hX (v := (-14 : Int32)) dX0_row_40 rfl ?_
          exact g_iret hX ⟨_, rfl, hf⟩ dX0_row_42
      · replace hf := hf.2 z
        refine g_iconst hX (v := (-1 : Int32)) dX0_row_22 rfl ?_
        exact g_iret hX ⟨_, rfl, hf⟩ dX0_row_23

def w_C_parts_36 (Q : Int32 → St → Prop) : Nat → Int32 → Int32 → Int32 → Option Nat → Int32 → St → Prop
  | 0 => fun _ _ _ _ _ _ => False
  | n + 1 => fun x2 x3 x4 x5 x6 χ => ((x3 ≤ x6 → (Q x4 χ)) ∧ (¬ x3 ≤ x6 → (((8 : Int32) ≤ (gI χ 103 0 0) → (Q x4 χ)) ∧ (¬ (8 : Int32) ≤ (gI χ 103 0 0) → ((x5 = none → ((uC χ + 1 ≤ 603072) ∧ (uS χ + 8 ≤ 7262314) ∧ ∀ χ8, χ8 = brn χ 1 8 → (Q x4 χ8))) ∧ (∀ z7, x5 = some z7 → ((tg χ 23 z7 = 8) ∧ (w_X26_at z7 (x2 + ((2 : Int32) * x6)) χ (fun r11 χ10 => ((tg χ10 23 z7 = 8) ∧ (w_X26_at z7 ((x2 + ((2 : Int32) * x6)) + (1 : Int32)) χ10 (fun r15 χ14 => (w_C_in r11.toInt32 (0 : Int32) (9 : Int32) χ14 (fun r18 χ19 => ((r18 = 0 → (Q x4 χ19)) ∧ (¬ r18 = 0 → (w_C_in r15.toInt32 (0 : Int32) (9 : Int32) χ19 (fun r20 χ21 => ((¬ r20 = 0 → (w_C_addPart r11.toInt32 r15.toInt32 χ21 (fun r22 χ23 => (w_C_parts_36 Q n x2 x3 (x4 + (1 : Int32)) (some z7) (x6 + (1 : Int32)) χ23)))) ∧ (r20 = 0 → (Q x4 χ21)))))))))) ∨ wx_X26_at z7 ((x2 + ((2 : Int32) * x6)) + (1 : Int32)) χ10 (fun χ16 => (Q x4 χ16))))) ∨ wx_X26_at z7 (x2 + ((2 : Int32) * x6)) χ (fun χ12 => (Q x4 χ12))))))))))
def w_C_parts (x1 : Int32) (x2 : Int32) (x3 : Int32) (χ : St) (Q : Int32 → St → Prop) : Prop := (w_C_isShelf x1 χ (fun r1 χ2 => ((r1 = 0 → (Q (-1 : Int32) χ2)) ∧ (¬ r1 = 0 → (w_C_in x3 (1 : Int32) (8 : Int32) χ2 (fun r3 χ4 => ((¬ r3 = 0 → (vp_in x1 6) ∧ ((((gR χ4 17 0 x1.toNatClampNeg) = none → (∃ k36, w_C_parts_36 Q k36 x2 x3 (0 : Int32) none (0 : Int32) χ4)) ∧ (∀ z6, (gR χ4 17 0 x1.toNatClampNeg) = some z6 → ((tg χ4 23 z6 < 13) ∧ ((tg χ4 23 z6 = 8) → (∃ k36, w_C_parts_36 Q k36 x2 x3 (0 : Int32) (some z6) (0 : Int32) χ4)) ∧ ((tg χ4 23 z6 = 0 ∨ tg χ4 23 z6 = 1 ∨ tg χ4 23 z6 = 2 ∨ tg χ4 23 z6 = 3 ∨ tg χ4 23 z6 = 4 ∨ tg χ4 23 z6 = 5 ∨ tg χ4 23 z6 = 6 ∨ tg χ4 23 z6 = 7 ∨ tg χ4 23 z6 = 9 ∨ tg χ4 23 z6 = 10 ∨ tg χ4 23 z6 = 11 ∨ tg χ4 23 z6 = 12) → ((uC χ4 + 3 ≤ 603072) ∧ (uS χ4 + 1610 ≤ 7262314) ∧ (∀ n30, n30 ≤ 1610 → ∀ χ28, χ28 = brn χ4 3 n30 → (Q (-12 : Int32) χ28))))))))) ∧ (r3 = 0 → (Q (-1 : Int32) χ4)))))))))
set_option maxHeartbeats 4000000 in
theorem mt_C_parts (l : Launch) (hl : l.stackTraces = false) (Γ : Gh) (ad : Nat → Nat → Nat) (x1 : Int32) (x2 : Int32) (x3 : Int32) (χ : St) (Q : Int32 → St → Prop) : Mt l yX0_parts (wsW yX0_parts cX0_parts 9 (some .int) [(22, 105, 127, 124), (106, 124, 127, 124), (22, 105, 132, 126), (106, 124, 132, 126), (22, 105, 137, 128), (106, 124, 137, 128)]) (rmO (9) (10269) χ) (Pm Γ ad χ [.ref (ad 0 0), .int x1, .int x2, .int x3] (w_C_parts x1 x2 x3 χ Q)) (Qm Γ false ad χ (pI Q)) (frB Γ) := by
  refine Mt.startW hl (by decide) RX0 rfl (Nat.le_of_ble_eq_true rfl) ?_
  intro X hX hT hB hG _ _ hna _ hf
  have B36 : ∀ (n : Nat) (ad : Nat → Nat → Nat) (x2 : Int32) (x3 : Int32) (x4 : Int32) (x5 : Option Nat) (x6 : Int32) (χ : St), (∀ x, x5 = some x → x < cn χ 23) → w_C_parts_36 Q n x2 x3 x4 x5 x6 χ → G X ad χ 36 [(0, .ref (ad 0 0)), (2, .int x2), (3, .int x3), (4, .int x4), (5, va_rf (x5.map (ad 23))), (6, .int x6)] [] := by
    intro n
    induction n with
    | zero => intro ad x2 x3 x4 x5 x6 χ hv_x5 hf; exact hf.elim
    | succ n hK36 =>
      intro ad x2 x3 x4 x5 x6 χ hv_x5 hf
      unfold w_C_parts_36 at hf
      refine g_iload hX 5 dX0_parts_36 rfl ?_
      refine g_iload_n hX 2 dX0_parts_38 rfl rfl ?_
      refine g_icmp_ge hX 124 dX0_parts_39 (by decide) (fun z => ?_) (fun z => ?_)
      · replace hf := hf.1 z
        refine g_goto hX 142 dX0_parts_124 (by decide) ?_
        refine g_iload hX 3 dX0_parts_142 rfl ?_
        exact g_iret hX ⟨_, rfl, hf⟩ dX0_parts_144
      · replace hf := hf.2 z
        refine g_aload_n hX 0 dX0_parts_42 rfl rfl ?_
        refine g_getI hX (k := 3) (fc0 _) ff0 rfl rfl in_X0 (by decide) q201 dX0_parts_43 ?_
        refine g_bipush hX (v := (8 : Int32)) dX0_parts_46 rfl ?_
        refine g_icmp_ge hX 124 dX0_parts_48 (by decide) (fun z => ?_) (fun z => ?_)
        · replace hf := hf.1 z
          refine g_goto hX 142 dX0_parts_124 (by decide) ?_
          refine g_iload hX 3 dX0_parts_142 rfl ?_
          exact g_iret hX ⟨_, rfl, hf⟩ dX0_parts_144
        · replace hf := hf.2 z
          refine g_aloadO hX 4 dX0_parts_51 rfl ?_
          refine g_iload_n hX 1 dX0_parts_53 rfl rfl ?_
          refine g_iconst hX (v := (2 : Int32)) dX0_parts_54 rfl ?_
          refine g_iload hX 5 dX0_parts_55 rfl ?_
          refine g_imul hX dX0_parts_57 ?_
          refine g_iadd hX dX0_parts_58 ?_
          cases x5 with
          | none =>
            replace hf := hf.1 rfl
            refine g_nullX hX hT (As := [.int (x2 + ((2 : Int32) * x6))]) (st := []) (NulOk.sel hX q446 q447 q448 q449 hy_X26_at) rfl rfl ⟨by decide, by decide⟩ hf.1 hf.2.1 (Nat.le_of_ble_eq_true rfl) dX0_parts_59 ?_
            replace hf := hf.2.2 _ rfl
            refine g_thrCatch hB (Fnd.pass hX.2.2.2.2.2.1 (by decide) (by decide) (hX.2.2.2.2.2.2.1 _ q314) (th_no hX (by decide)) (Fnd.skip (by decide) (Fnd.hit hX.2.2.2.2.2.1 (by decide) (by decide) (hX.2.2.2.2.2.2.1 _ q398) (th_yes hX kq420) rfl))) (fun ea9 => ?_)
            refine g_astore hX dX0_parts_132 (by decide) rfl ?_
            refine g_iload hX 4 dX0_parts_134 rfl ?_
            exact g_iret hX ⟨_, rfl, hf⟩ dX0_parts_136
          | some z7 =>
            replace hf := hf.2 _ rfl
            rw [show ∀ a : Nat → Nat, va_rf (Option.map a (some z7)) = .ref (a z7) from fun _ => rfl]
            have hg27 := hf.1
            rcases hf.2 with hf | hf
            · refine g_callVl hX (n := 1) (mt_X26_at X.l X.Γ _ _ _ _ _) ⟨(hv_x5 _ rfl), hf⟩ q446 q447 q448 q126 q449 ⟨rfl, hy_X26_at⟩ (by decide) (hv_x5 _ rfl) (ff23_8 hg27) rfl rfl rfl (Nat.le_of_ble_eq_true rfl) dX0_parts_59 (fun r11 χ10 hf hc10 => ?_)
              refine g_l2i hX dX0_parts_62 ?_
              refine g_istore hX dX0_parts_63 (by decide) rfl ?_
              refine g_aload hX 5 dX0_parts_65 rfl ?_
              refine g_iload_n hX 2 dX0_parts_67 rfl rfl ?_
              refine g_iconst hX (v := (2 : Int32)) dX0_parts_68 rfl ?_
              refine g_iload hX 6 dX0_parts_69 rfl ?_
              refine g_imul hX dX0_parts_71 ?_
              refine g_iadd hX dX0_parts_72 ?_
              refine g_iconst hX (v := (1 : Int32)) dX0_parts_73 rfl ?_
              refine g_iadd hX dX0_parts_74 ?_
              have hg25 := hf.1
              rcases hf.2 with hf | hf
              · refine g_callVl hX (n := 1) (mt_X26_at X.l X.Γ _ _ _ _ _) ⟨(Nat.lt_of_lt_of_le (hv_x5 _ rfl) (hc10 23)), hf⟩ q446 q447 q448 q126 q449 ⟨rfl, hy_X26_at⟩ (by decide) (Nat.lt_of_lt_of_le (hv_x5 _ rfl) (hc10 23)) (ff23_8 hg25) rfl rfl rfl (Nat.le_of_ble_eq_true rfl) dX0_parts_75 (fun r15 χ14 hf hc14 => ?_)
                refine g_l2i hX dX0_parts_78 ?_
                refine g_istore hX dX0_parts_79 (by decide) rfl ?_
                refine g_iload hX 1 dX0_parts_81 rfl ?_
                refine g_iconst hX (v := (0 : Int32)) dX0_parts_83 rfl ?_
                refine g_bipush hX (v := (9 : Int32)) dX0_parts_84 rfl ?_
                refine g_callSi hX (n := 3) (mt_C_in X.l X.Γ _ _ _ _ _ _) hf q281 q282 q85 q283 hy_C_in (by decide) rfl rfl (Nat.le_of_ble_eq_true rfl) dX0_parts_86 (fun r18 χ19 hf hc19 => ?_)
                refine g_if_eq hX 103 dX0_parts_89 (by decide) (fun z => ?_) (fun z => ?_)
                · replace hf := hf.1 z
                  refine g_iload hX 5 dX0_parts_103 rfl ?_
                  exact g_iret hX ⟨_, rfl, hf⟩ dX0_parts_105
                · replace hf := hf.2 z
                  refine g_iload hX 0 dX0_parts_92 rfl ?_
                  refine g_iconst hX (v := (0 : Int32)) dX0_parts_94 rfl ?_
                  refine g_bipush hX (v := (9 : Int32)) dX0_parts_95 rfl ?_
                  refine g_callSi hX (n := 3) (mt_C_in X.l X.Γ _ _ _ _ _ _) hf q281 q282 q85 q283 hy_C_in (by decide) rfl rfl (Nat.le_of_ble_eq_true rfl) dX0_parts_97 (fun r20 χ21 hf hc21 => ?_)
                  refine g_if_ne hX 106 dX0_parts_100 (by decide) (fun z => ?_) (fun z => ?_)
                  · replace hf := hf.1 z
                    refine g_aload_n hX 2 dX0_parts_106 rfl rfl ?_
                    refine g_iload hX 1 dX0_parts_107 rfl ?_
                    refine g_iload hX 0 dX0_parts_109 rfl ?_
                    refine g_callVAi hX hna (n := 2) (mt_C_addPart X.l X.Γ _ _ _ _ _) hf q284 q286 qs0 q85 q287 ⟨rfl, hy_C_addPart⟩ (by decide) (fc0 _) ff0 rfl rfl rfl (Nat.le_of_ble_eq_true rfl) dX0_parts_111 (fun r22 ad23 χ23 hf hc23 => ?_)
                    rw [← hc23.1 0 0 (fc0 _)]
                    rw [← hc23.1 23 _ (Nat.lt_of_lt_of_le (Nat.lt_of_lt_of_le (Nat.lt_of_lt_of_le (Nat.lt_of_lt_of_le (hv_x5 _ rfl) (hc10 23)) (hc14 23)) (hc19 23)) (hc21 23))]
                    refine g_pop hX dX0_parts_114 rfl ?_
                    refine g_iinc hX (v := _) 5 dX0_parts_115 rfl rfl (by decide) rfl ?_
                    refine g_iinc hX (v := _) 7 dX0_parts_118 rfl rfl (by decide) rfl ?_
                    refine g_goto hX 36 dX0_parts_121 (by decide) ?_
                    refine g_sub [4, 5, 6, 1, 7, 0] rfl ?_
                    exact hK36 _ _ _ _ _ _ _ ((fun x e => by cases e; exact (Nat.lt_of_lt_of_le (Nat.lt_of_lt_of_le (Nat.lt_of_lt_of_le (Nat.lt_of_lt_of_le (Nat.lt_of_lt_of_le (hv_x5 _ rfl) (hc10 23)) (hc14 23)) (hc19 23)) (hc21 23)) (hc23.2 23)))) hf
                  · replace hf := hf.2 z
                    refine g_iload hX 5 dX0_parts_103 rfl ?_
                    exact g_iret hX ⟨_, rfl, hf⟩ dX0_parts_105
              · refine g_callVX hX (n := 1) (mx_X26_at X.l hT.2 X.Γ _ _ _ _ _) ⟨(Nat.lt_of_lt_of_le (hv_x5 _ rfl) (hc10 23)), hf⟩ (fun _ => rfl) q446 q447 q448 q126 q449 ⟨rfl, hy_X26_at⟩ (by decide) (Nat.lt_of_lt_of_le (hv_x5 _ rfl) (hc10 23)) (ff23_8 hg25) rfl rfl rfl (Nat.le_of_ble_eq_true rfl) dX0_parts_75 (fun ad2 χ16 hf h0 hc16 => ?_)
                obtain rfl := h0 rfl
                replace hc16 := hc16.2
                refine g_thrCatch hB (Fnd.pass hX.2.2.2.2.2.1 (by decide) (by decide) (hX.2.2.2.2.2.2.1 _ q314) (th_no hX (by decide)) (Fnd.skip (by decide) (Fnd.pass hX.2.2.2.2.2.1 (by decide) (by decide) (hX.2.2.2.2.2.2.1 _ q398) (th_no hX (by decide)) (Fnd.skip (by decide) (Fnd.hit hX.2.2.2.2.2.1 (by decide) (by decide) (hX.2.2.2.2.2.2.1 _ q423) (th_yes hX kq2023) rfl))))) (fun ea24 => ?_)
                refine g_astore hX dX0_parts_137 (by decide) rfl ?_
                refine g_iload hX 5 dX0_parts_139 rfl ?_
                exact g_iret hX ⟨_, rfl, hf⟩ dX0_parts_141
            · refine g_callVX hX (n := 1) (mx_X26_at X.l hT.2 X.Γ _ _ _ _ _) ⟨(hv_x5 _ rfl), hf⟩ (fun _ => rfl) q446 q447 q448 q126 q449 ⟨rfl, hy_X26_at⟩ (by decide) (hv_x5 _ rfl) (ff23_8 hg27) rfl rfl rfl (Nat.le_of_ble_eq_true rfl) dX0_parts_59 (fun ad2 χ12 hf h0 hc12 => ?_)
              obtain rfl := h0 rfl
              replace hc12 := hc12.2
              refine g_thrCatch hB (Fnd.pass hX.2.2.2.2.2.1 (by decide) (by decide) (hX.2.2.2.2.2.2.1 _ q314) (th_no hX (by decide)) (Fnd.skip (by decide) (Fnd.pass hX.2.2.2.2.2.1 (by decide) (by decide) (hX.2.2.2.2.2.2.1 _ q398) (th_no hX (by decide)) (Fnd.skip (by decide) (Fnd.hit hX.2.2.2.2.2.1 (by decide) (by decide) (hX.2.2.2.2.2.2.1 _ q423) (th_yes hX kq2023) rfl))))) (fun ea26 => ?_)
              refine g_astore hX dX0_parts_137 (by decide) rfl ?_
              refine g_iload hX 4 dX0_parts_139 rfl ?_
              exact g_iret hX ⟨_, rfl, hf⟩ dX0_parts_141
  unfold w_C_parts at hf
  refine g_iload_n hX 1 dX0_parts_0 rfl rfl ?_
  refine g_callSi hX (n := 1) (mt_C_isShelf X.l X.Γ _ _ _ _) hf q442 q443 q85 q444 hy_C_isShelf (by decide) rfl rfl (Nat.le_of_ble_eq_true rfl) dX0_parts_1 (fun r1 χ2 hf hc2 => ?_)
  refine g_if_eq hX 17 dX0_parts_4 (by decide) (fun z => ?_) (fun z => ?_)
  · replace hf := hf.1 z
    refine g_iconst hX (v := (-1 : Int32)) dX0_parts_17 rfl ?_
    exact g_iret hX ⟨_, rfl, hf⟩ dX0_parts_18
  · replace hf := hf.2 z
    refine g_iload_n hX 3 dX0_parts_7 rfl rfl ?_
    refine g_iconst hX (v := (1 : Int32)) dX0_parts_8 rfl ?_
    refine g_bipush hX (v := (8 : Int32)) dX0_parts_9 rfl ?_
    refine g_callSi hX (n := 3) (mt_C_in X.l X.Γ _ _ _ _ _ _) hf q281 q282 q85 q283 hy_C_in (by decide) rfl rfl (Nat.le_of_ble_eq_true rfl) dX0_parts_11 (fun r3 χ4 hf hc4 => ?_)
    refine g_if_ne hX 19 dX0_parts_14 (by decide) (fun z => ?_) (fun z => ?_)
    · replace hf := hf.1 z
      refine g_iconst hX (v := (0 : Int32)) dX0_parts_19 rfl ?_
      refine g_istore hX dX0_parts_20 (by decide) rfl ?_
      refine g_aload_n hX 1 dX0_parts_22 rfl rfl ?_
      refine g_getK hX (k := 24) (d := 17) (fc0 _) ff0 rfl (by decide) rfl rfl in_X0 (by decide) q224 dX0_parts_23 ?_
      refine g_iload_n hX 2 dX0_parts_26 rfl rfl ?_
      have hg5 := hf.1
      replace hf := hf.2
      refine g_aaldS hX (fc17 _) ff17 rfl rfl hg5 dX0_parts_27 (fun z => ?_) (fun z6 hz6 hvz6 => ?_)
      · replace hf := hf.1 z
        refine g_castN hX dX0_parts_28 ?_
        refine g_astoreN hX dX0_parts_31 (by decide) rfl ?_
        refine g_iconst hX (v := (0 : Int32)) dX0_parts_33 rfl ?_
        refine g_istore hX dX0_parts_34 (by decide) rfl ?_
        obtain ⟨n0, hf⟩ := hf
        refine g_sub [3, 5, 6, 2, 1, 0] rfl ?_
        exact B36 n0 _ _ _ _ _ _ _ ((fun x e => by cases e)) hf
      · replace hf := hf.2 _ hz6
        have ht := hf.1
        replace hf := hf.2
        rcases (show (tg χ4 23 z6 = 8) ∨ (tg χ4 23 z6 = 0 ∨ tg χ4 23 z6 = 1 ∨ tg χ4 23 z6 = 2 ∨ tg χ4 23 z6 = 3 ∨ tg χ4 23 z6 = 4 ∨ tg χ4 23 z6 = 5 ∨ tg χ4 23 z6 = 6 ∨ tg χ4 23 z6 = 7 ∨ tg χ4 23 z6 = 9 ∨ tg χ4 23 z6 = 10 ∨ tg χ4 23 z6 = 11 ∨ tg χ4 23 z6 = 12) by omega) with z | z
        · replace hf := hf.1 z
          refine g_cast_ByteRow0_p hX q445 z hvz6 dX0_parts_28 ?_
          refine g_astore hX dX0_parts_31 (by decide) rfl ?_
          refine g_iconst hX (v := (0 : Int32)) dX0_parts_33 rfl ?_
          refine g_istore hX dX0_parts_34 (by decide) rfl ?_
          obtain ⟨n0, hf⟩ := hf
          refine g_sub [3, 5, 6, 2, 1, 0] rfl ?_
          exact B36 n0 _ _ _ _ _ _ _ ((fun x e => by cases e; exact hvz6)) hf
        · replace hf := hf.2 z
          refine g_cast_ByteRow0_x hX hT q445 z hvz6 ⟨by decide, by decide⟩ hf.1 hf.2.1 (Nat.le_of_ble_eq_true rfl) dX0_parts_28 (fun n30 hn30 => ?_)
          replace hf := hf.2.2
          replace hf := hf n30 hn30 _ rfl
          refine g_thrCatch hB (Fnd.hit hX.2.2.2.2.2.1 (by decide) (by decide) (hX.2.2.2.2.2.2.1 _ q314) (th_yes hX kq376) rfl) (fun ea29 => ?_)
          refine g_astore hX dX0_parts_127 (by decide) rfl ?_
          refine g_bipush hX (v := (-12 : Int32)) dX0_parts_129 rfl ?_
          exact g_iret hX ⟨_, rfl, hf⟩ dX0_parts_131
    · replace hf := hf.2 z
      refine g_iconst hX (v := (-1 : Int32)) dX0_parts_17 rfl ?_
      exact g_iret hX ⟨_, rfl, hf⟩ dX0_parts_18

def w_C_shift (x1 : Int32) (x2 : Int32) (x3 : Int32) (x4 : Int32) (x5 : Int32) (χ : St) (Q : Int32 → St → Prop) : Prop := (w_C_isShelf x1 χ (fun r1 χ2 => ((r1 = 0 → (Q (-1 : Int32) χ2)) ∧ (¬ r1 = 0 → (w_C_isShelf x3 χ2 (fun r3 χ4 => ((¬ r3 = 0 → (vp_in x1 6) ∧ ((((gR χ4 17 0 x1.toNatClampNeg) = none → (Q (-11 : Int32) χ4)) ∧ (∀ z6, (gR χ4 17 0 x1.toNatClampNeg) = some z6 → (vp_in x3 6) ∧ ((((gR χ4 17 0 x3.toNatClampNeg) = none → (Q (-11 : Int32) χ4)) ∧ (∀ z8, (gR χ4 17 0 x3.toNatClampNeg) = some z8 → (vp_in x1 6) ∧ ((∃ z10, (gR χ4 17 0 x1.toNatClampNeg) = some z10 ∧ (((tg χ4 23 z10 < 13) ∧ ((tg χ4 23 z10 = 8 ∨ tg χ4 23 z10 = 9 ∨ tg χ4 23 z10 = 10 ∨ tg χ4 23 z10 = 11 ∨ tg χ4 23 z10 = 12) → (vp_in x3 6) ∧ ((∃ z12, (gR χ4 17 0 x3.toNatClampNeg) = some z12 ∧ (((tg χ4 23 z12 < 13) ∧ ((tg χ4 23 z12 = 8 ∨ tg χ4 23 z12 = 9 ∨ tg χ4 23 z12 = 10 ∨ tg χ4 23 z12 = 11 ∨ tg χ4 23 z12 = 12) → (w_D_copy z10 x2 z12 x4 x5 χ4 (fun χ13 => (Q x5 χ13)) (fun χ14 => (Q (-13 : Int32) χ14)) (fun χ15 => (Q (-12 : Int32) χ15)))) ∧ ((tg χ4 23 z12 = 0 ∨ tg χ4 23 z12 = 1 ∨ tg χ4 23 z12 = 2 ∨ tg χ4 23 z12 = 3 ∨ tg χ4 23 z12 = 4 ∨ tg χ4 23 z12 = 5 ∨ tg χ4 23 z12 = 6 ∨ tg χ4 23 z12 = 7) → ((uC χ4 + 3 ≤ 603072) ∧ (uS χ4 + 1610 ≤ 7262314) ∧ (∀ n20, n20 ≤ 1610 → ∀ χ18, χ18 = brn χ4 3 n20 → (Q (-12 : Int32) χ18))))))))) ∧ ((tg χ4 23 z10 = 0 ∨ tg χ4 23 z10 = 1 ∨ tg χ4 23 z10 = 2 ∨ tg χ4 23 z10 = 3 ∨ tg χ4 23 z10 = 4 ∨ tg χ4 23 z10 = 5 ∨ tg χ4 23 z10 = 6 ∨ tg χ4 23 z10 = 7) → ((uC χ4 + 3 ≤ 603072) ∧ (uS χ4 + 1610 ≤ 7262314) ∧ (∀ n23, n23 ≤ 1610 → ∀ χ21, χ21 = brn χ4 3 n23 → (Q (-12 : Int32) χ21))))))))))))))) ∧ (r3 = 0 → (Q (-1 : Int32) χ4)))))))))
set_option maxHeartbeats 4000000 in
theorem mt_C_shift (l : Launch) (hl : l.stackTraces = false) (Γ : Gh) (ad : Nat → Nat → Nat) (x1 : Int32) (x2 : Int32) (x3 : Int32) (x4 : Int32) (x5 : Int32) (χ : St) (Q : Int32 → St → Prop) : Mt l yX0_shift (wsW yX0_shift cX0_shift 7 (some .int) [(37, 63, 66, 124), (37, 63, 71, 128)]) (rmO (10) (10284) χ) (Pm Γ ad χ [.ref (ad 0 0), .int x1, .int x2, .int x3, .int x4, .int x5] (w_C_shift x1 x2 x3 x4 x5 χ Q)) (Qm Γ true ad χ (pI Q)) (frB Γ) := by
  refine Mt.startW hl (by decide) RX0 rfl (Nat.le_of_ble_eq_true rfl) ?_
  intro X hX hT hB hG _ _ hna _ hf
  unfold w_C_shift at hf
  refine g_iload_n hX 1 dX0_shift_0 rfl rfl ?_
  refine g_callSi hX (n := 1) (mt_C_isShelf X.l X.Γ _ _ _ _) hf q442 q443 q85 q444 hy_C_isShelf (by decide) rfl rfl (Nat.le_of_ble_eq_true rfl) dX0_shift_1 (fun r1 χ2 hf hc2 => ?_)
  refine g_if_eq hX 14 dX0_shift_4 (by decide) (fun z => ?_) (fun z => ?_)
  · replace hf := hf.1 z
    refine g_iconst hX (v := (-1 : Int32)) dX0_shift_14 rfl ?_
    exact g_iret hX ⟨_, rfl, hf⟩ dX0_shift_15
  · replace hf := hf.2 z
    refine g_iload_n hX 3 dX0_shift_7 rfl rfl ?_
    refine g_callSi hX (n := 1) (mt_C_isShelf X.l X.Γ _ _ _ _) hf q442 q443 q85 q444 hy_C_isShelf (by decide) rfl rfl (Nat.le_of_ble_eq_true rfl) dX0_shift_8 (fun r3 χ4 hf hc4 => ?_)
    refine g_if_ne hX 16 dX0_shift_11 (by decide) (fun z => ?_) (fun z => ?_)
    · replace hf := hf.1 z
      refine g_aload_n hX 0 dX0_shift_16 rfl rfl ?_
      refine g_getK hX (k := 24) (d := 17) (fc0 _) ff0 rfl (by decide) rfl rfl in_X0 (by decide) q224 dX0_shift_17 ?_
      refine g_iload_n hX 1 dX0_shift_20 rfl rfl ?_
      have hg5 := hf.1
      replace hf := hf.2
      refine g_aaldS hX (fc17 _) ff17 rfl rfl hg5 dX0_shift_21 (fun z => ?_) (fun z6 hz6 hvz6 => ?_)
      · replace hf := hf.1 z
        refine g_ifnullN hX 34 dX0_shift_22 (by decide) ?_
        refine g_bipush hX (v := (-11 : Int32)) dX0_shift_34 rfl ?_
        exact g_iret hX ⟨_, rfl, hf⟩ dX0_shift_36
      · replace hf := hf.2 _ hz6
        refine g_ifnull hX dX0_shift_22 ?_
        refine g_aload_n hX 0 dX0_shift_25 rfl rfl ?_
        refine g_getK hX (k := 24) (d := 17) (fc0 _) ff0 rfl (by decide) rfl rfl in_X0 (by decide) q224 dX0_shift_26 ?_
        refine g_iload_n hX 3 dX0_shift_29 rfl rfl ?_
        have hg7 := hf.1
        replace hf := hf.2
        refine g_aaldS hX (fc17 _) ff17 rfl rfl hg7 dX0_shift_30 (fun z => ?_) (fun z8 hz8 hvz8 => ?_)
        · replace hf := hf.1 z
          refine g_ifnonnullN hX dX0_shift_31 ?_
          refine g_bipush hX (v := (-11 : Int32)) dX0_shift_34 rfl ?_
          exact g_iret hX ⟨_, rfl, hf⟩ dX0_shift_36
        · replace hf := hf.2 _ hz8
          refine g_ifnonnull hX 37 dX0_shift_31 (by decide) ?_
          refine g_aload_n hX 0 dX0_shift_37 rfl rfl ?_
          refine g_getK hX (k := 24) (d := 17) (fc0 _) ff0 rfl (by decide) rfl rfl in_X0 (by decide) q224 dX0_shift_38 ?_
          refine g_iload_n hX 1 dX0_shift_41 rfl rfl ?_
          have hg9 := hf.1
          replace hf := hf.2
          obtain ⟨z10, hz10, hf⟩ := hf
          refine g_aaldE hX (fc17 _) ff17 rfl rfl hg9 dX0_shift_42 hz10 (fun hvz10 => ?_)
          have ht := hf.1
          replace hf := hf.2
          rcases (show (tg χ4 23 z10 = 8 ∨ tg χ4 23 z10 = 9 ∨ tg χ4 23 z10 = 10 ∨ tg χ4 23 z10 = 11 ∨ tg χ4 23 z10 = 12) ∨ (tg χ4 23 z10 = 0 ∨ tg χ4 23 z10 = 1 ∨ tg χ4 23 z10 = 2 ∨ tg χ4 23 z10 = 3 ∨ tg χ4 23 z10 = 4 ∨ tg χ4 23 z10 = 5 ∨ tg χ4 23 z10 = 6 ∨ tg χ4 23 z10 = 7) by omega) with z | z
          · replace hf := hf.1 z
            refine g_cast_Row_p hX q1359 z hvz10 dX0_shift_43 ?_
            refine g_iload_n hX 2 dX0_shift_46 rfl rfl ?_
            refine g_aload_n hX 0 dX0_shift_47 rfl rfl ?_
            refine g_getK hX (k := 24) (d := 17) (fc0 _) ff0 rfl (by decide) rfl rfl in_X0 (by decide) q224 dX0_shift_48 ?_
            refine g_iload_n hX 3 dX0_shift_51 rfl rfl ?_
            have hg11 := hf.1
            replace hf := hf.2
            obtain ⟨z12, hz12, hf⟩ := hf
            refine g_aaldE hX (fc17 _) ff17 rfl rfl hg11 dX0_shift_52 hz12 (fun hvz12 => ?_)
            have ht := hf.1
            replace hf := hf.2
            rcases (show (tg χ4 23 z12 = 8 ∨ tg χ4 23 z12 = 9 ∨ tg χ4 23 z12 = 10 ∨ tg χ4 23 z12 = 11 ∨ tg χ4 23 z12 = 12) ∨ (tg χ4 23 z12 = 0 ∨ tg χ4 23 z12 = 1 ∨ tg χ4 23 z12 = 2 ∨ tg χ4 23 z12 = 3 ∨ tg χ4 23 z12 = 4 ∨ tg χ4 23 z12 = 5 ∨ tg χ4 23 z12 = 6 ∨ tg χ4 23 z12 = 7) by omega) with z | z
            · replace hf := hf.1 z
              refine g_cast_Row_p hX q1359 z hvz12 dX0_shift_53 ?_
              refine g_iload hX 4 dX0_shift_56 rfl ?_
              refine g_iload hX 5 dX0_shift_58 rfl ?_
              refine g_D_copy hX hT hf q1402 (by decide) hvz10 hvz12 (Nat.le_of_ble_eq_true rfl) dX0_shift_60 (fun χ13 hf hc13 => ?_) (fun χ14 hf hc14 => ?_) (fun χ15 hf hc15 => ?_)
              · refine g_goto hX 76 dX0_shift_63 (by decide) ?_
                refine g_iload hX 5 dX0_shift_76 rfl ?_
                exact g_iret hX ⟨_, rfl, hf⟩ dX0_shift_78
              · refine g_thrCatch hB (Fnd.pass hX.2.2.2.2.2.1 (by decide) (by decide) (hX.2.2.2.2.2.2.1 _ q314) (th_no hX (by decide)) (Fnd.hit hX.2.2.2.2.2.1 (by decide) (by decide) (hX.2.2.2.2.2.2.1 _ q423) (th_yes hX kq2023) rfl)) (fun ea16 => ?_)
                refine g_astore hX dX0_shift_71 (by decide) rfl ?_
                refine g_bipush hX (v := (-13 : Int32)) dX0_shift_73 rfl ?_
                exact g_iret hX ⟨_, rfl, hf⟩ dX0_shift_75
              · refine g_thrCatch hB (Fnd.hit hX.2.2.2.2.2.1 (by decide) (by decide) (hX.2.2.2.2.2.2.1 _ q314) (th_yes hX kq376) rfl) (fun ea17 => ?_)
                refine g_astore hX dX0_shift_66 (by decide) rfl ?_
                refine g_bipush hX (v := (-12 : Int32)) dX0_shift_68 rfl ?_
                exact g_iret hX ⟨_, rfl, hf⟩ dX0_shift_70
            · replace hf := hf.2 z
              refine g_cast_Row_x hX hT q1359 z hvz12 ⟨by decide, by decide⟩ hf.1 hf.2.1 (Nat.le_of_ble_eq_true rfl) dX0_shift_53 (fun n20 hn20 => ?_)
              replace hf := hf.2.2
              replace hf := hf n20 hn20 _ rfl
              refine g_thrCatch hB (Fnd.hit hX.2.2.2.2.2.1 (by decide) (by decide) (hX.2.2.2.2.2.2.1 _ q314) (th_yes hX kq376) rfl) (fun ea19 => ?_)
              refine g_astore hX dX0_shift_66 (by decide) rfl ?_
              refine g_bipush hX (v := (-12 : Int32)) dX0_shift_68 rfl ?_
              exact g_iret hX ⟨_, rfl, hf⟩ dX0_shift_70
          · replace hf := hf.2 z
            refine g_cast_Row_x hX hT q1359 z hvz10 ⟨by decide, by decide⟩ hf.1 hf.2.1 (Nat.le_of_ble_eq_true rfl) dX0_shift_43 (fun n23 hn23 => ?_)
            replace hf := hf.2.2
            replace hf := hf n23 hn23 _ rfl
            refine g_thrCatch hB (Fnd.hit hX.2.2.2.2.2.1 (by decide) (by decide) (hX.2.2.2.2.2.2.1 _ q314) (th_yes hX kq376) rfl) (fun ea22 => ?_)
            refine g_astore hX dX0_shift_66 (by decide) rfl ?_
            refine g_bipush hX (v := (-12 : Int32)) dX0_shift_68 rfl ?_
            exact g_iret hX ⟨_, rfl, hf⟩ dX0_shift_70
    · replace hf := hf.2 z
      refine g_iconst hX (v := (-1 : Int32)) dX0_shift_14 rfl ?_
      exact g_iret hX ⟨_, rfl, hf⟩ dX0_shift_15
