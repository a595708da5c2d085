theorem new_lt {χ : St} {c t w : Nat} (h : fcn c = 0) : nO χ c < cn (alo χ c t w) c := by rw [cn_alo h]; exact Nat.lt_succ_self _
theorem vp_lt {j : Int32} {L : Nat} (h : vp_in j L) : j.toNatClampNeg < L := Nat.not_le.mp fun q => h (Or.inr q)
theorem rf_or {r : Option Nat} : va_rf r = .null ∨ ∃ a, va_rf r = .ref a := by cases r with | none => exact Or.inl rfl | some a => exact Or.inr ⟨a, rfl⟩
theorem rf_ext {χ χ' : St} {ad ad' : Nat → Nat → Nat} (h : Ext χ χ' ad ad') {o : Option Nat} {d : Nat} (hv : ∀ x, o = some x → x < cn χ d) : va_rf (o.map (ad d)) = va_rf (o.map (ad' d)) := by
  cases o with
  | none => rfl
  | some x => simp only [Option.map_some]; rw [h.1 d x (hv x rfl)]
section GO
variable {X : Cx} {cc : ByteArray} {own host : String} {ret : Option FieldType} {y0 : MethodName} {nL F Lo : Nat} {Pst : Option Value → (Nat → Nat → Nat) → St → Prop} {ad : Nat → Nat → Nat} {χ : St} {pc : Nat} {lv lv2 : List (Nat × Value)} {st : List Value}
variable {c i k ci index : Nat} {ft : List (Nat × Nat)} {C : String} {T : u_T} {N : Nat} {K e d L x : Nat} {j : Int32}
theorem g_aastO (h : Ok X cc own ret y0 nL F Lo Pst) {E : String} {v : Option Nat} {ci2 : Nat} {ft2 : List (Nat × Nat)} {C2 : String} {T2 : u_T} {N2 : Nat} (hi : i < cn χ c) (hf : fam c (tg χ c i) = (4, e, [(d, L)])) (htg : tgF c = d) (he : (vtys X.Γ.2.2.2)[e]? = some (X.Γ.2.2.2 e, .object E)) (hj : vp_in j L) (hz : ∀ z, v = some z → z < cn χ d) (hf2 : ∀ z, fam d (tg χ d z) = (1, ci2, ft2)) (hc2 : vcl[ci2]? = some (C2, T2, N2)) (has : AsOk X ci2 E) (hd : decode cc pc = .ok (.aastore, 1))
    (kk : G X ad (sR χ c i j.toNatClampNeg v) (pc + 1) lv st) : G X ad χ pc lv (va_rf (v.map (ad d)) :: .int j :: .ref (ad c i) :: st) := by
  cases v with
  | none => exact g_aastN h hi hf he hj hd kk
  | some z => exact g_aast h hi hf htg he hj (hz z rfl) (hf2 z) hc2 has hd kk
end GO
section GMA
variable {X : Cx} {cc : ByteArray} {own host : String} {ret : Option FieldType} {y0 : MethodName} {nL F Lo : Nat} {Pst : Option Value → (Nat → Nat → Nat) → St → Prop} {ad : Nat → Nat → Nat} {χ : St} {pc index : Nat} {lv lv2 : List (Nat × Value)} {st : List Value}
theorem g_mmax (h : Ok X cc own ret y0 nL F Lo Pst) {x y : Int32} (q1 : Cond.methodLink own index Lib.Math.max.name ∈ lw_all) (q2 : Cond.static Lib.Math.max.name ∈ lw_all) (q3 : Cond.initialized "java/lang/Math" ∈ lw_all) (q4 : Cond.code Lib.Math.max.name Lib.Math.max.code 2 (some .int) ∈ lw_all) (hF : 1 ≤ F ∧ 23 ≤ Lo) (hst : (st.map fun v => v.category).sum ≤ 8) (hd : decode cc pc = .ok (.invokestatic index, 3)) (k : G X ad χ (pc + 3) lv (.int (if x < y then y else x) :: st)) : G X ad χ pc lv (.int y :: .int x :: st) := by
  intro ls H locs cells slots hl hI
  have hts := h.2.2.2.2.2.2.1
  have hR := h.2.2.2.2.2.2.2.2.1
  have hr := hI.room h (F' := 0) (Lo' := 0)
  refine va_mmax h.1 h.2.1 (h.2.2.2.2.1.1.trans hl.1.symm) h.2.2.2.2.2.1 (hts _ q1) (hts _ q2) (hts _ q3) (hts _ q4) (by rw [hR]; exact hF.1) (by rw [hR]; show _ + 13 ≤ Lo; have := hF.2; omega) (Nat.le_trans (Nat.le_add_right _ _) hr.1) (Nat.le_trans (Nat.le_add_right _ _) hr.2) hd (k ls H locs cells slots hl hI)
theorem g_mmin (h : Ok X cc own ret y0 nL F Lo Pst) {x y : Int32} (q1 : Cond.methodLink own index Lib.Math.min.name ∈ lw_all) (q2 : Cond.static Lib.Math.min.name ∈ lw_all) (q3 : Cond.initialized "java/lang/Math" ∈ lw_all) (q4 : Cond.code Lib.Math.min.name Lib.Math.min.code 2 (some .int) ∈ lw_all) (hF : 1 ≤ F ∧ 23 ≤ Lo) (hst : (st.map fun v => v.category).sum ≤ 8) (hd : decode cc pc = .ok (.invokestatic index, 3)) (k : G X ad χ (pc + 3) lv (.int (if y < x then y else x) :: st)) : G X ad χ pc lv (.int y :: .int x :: st) := by
  intro ls H locs cells slots hl hI
  have hts := h.2.2.2.2.2.2.1
  have hR := h.2.2.2.2.2.2.2.2.1
  have hr := hI.room h (F' := 0) (Lo' := 0)
  refine va_mmin h.1 h.2.1 (h.2.2.2.2.1.1.trans hl.1.symm) h.2.2.2.2.2.1 (hts _ q1) (hts _ q2) (hts _ q3) (hts _ q4) (by rw [hR]; exact hF.1) (by rw [hR]; show _ + 13 ≤ Lo; have := hF.2; omega) (Nat.le_trans (Nat.le_add_right _ _) hr.1) (Nat.le_trans (Nat.le_add_right _ _) hr.2) hd (k ls H locs cells slots hl hI)
theorem g_mabs (h : Ok X cc own ret y0 nL F Lo Pst) {x : Int32} (q1 : Cond.methodLink own index Lib.Math.abs.name ∈ lw_all) (q2 : Cond.static Lib.Math.abs.name ∈ lw_all) (q3 : Cond.initialized "java/lang/Math" ∈ lw_all) (q4 : Cond.code Lib.Math.abs.name Lib.Math.abs.code 1 (some .int) ∈ lw_all) (hF : 1 ≤ F ∧ 23 ≤ Lo) (hst : (st.map fun v => v.category).sum ≤ 8) (hd : decode cc pc = .ok (.invokestatic index, 3)) (k : G X ad χ (pc + 3) lv (.int (if 0 ≤ x then x else 0 - x) :: st)) : G X ad χ pc lv (.int x :: st) := by
  intro ls H locs cells slots hl hI
  have hts := h.2.2.2.2.2.2.1
  have hR := h.2.2.2.2.2.2.2.2.1
  have hr := hI.room h (F' := 0) (Lo' := 0)
  refine va_mabs h.1 h.2.1 (h.2.2.2.2.1.1.trans hl.1.symm) h.2.2.2.2.2.1 (hts _ q1) (hts _ q2) (hts _ q3) (hts _ q4) (by rw [hR]; exact hF.1) (by rw [hR]; show _ + 13 ≤ Lo; have := hF.2; omega) (Nat.le_trans (Nat.le_add_right _ _) hr.1) (Nat.le_trans (Nat.le_add_right _ _) hr.2) hd (k ls H locs cells slots hl hI)
theorem g_mmaxl (h : Ok X cc own ret y0 nL F Lo Pst) {x y : Int64} (q1 : Cond.methodLink own index Lib.MathLoose.max_long.x ∈ lw_all) (q2 : Cond.static Lib.MathLoose.max_long.x ∈ lw_all) (q3 : Cond.initialized "java/lang/Math" ∈ lw_all) (q4 : Cond.code Lib.MathLoose.max_long.x Lib.MathLoose.max_long.code 4 (some .long) ∈ lw_all) (hF : 1 ≤ F ∧ 23 ≤ Lo) (hst : (st.map fun v => v.category).sum ≤ 8) (hd : decode cc pc = .ok (.invokestatic index, 3)) (k : G X ad χ (pc + 3) lv (.long (if y < x then x else y) :: st)) : G X ad χ pc lv (.long y :: .long x :: st) := by
  intro ls H locs cells slots hl hI
  have hts := h.2.2.2.2.2.2.1
  have hR := h.2.2.2.2.2.2.2.2.1
  have hr := hI.room h (F' := 0) (Lo' := 0)
  refine va_mmax_long h.1 h.2.1 (h.2.2.2.2.1.1.trans hl.1.symm) h.2.2.2.2.2.1 (hts _ q1) (hts _ q2) (hts _ q3) (hts _ q4) (by rw [hR]; exact hF.1) (by rw [hR]; show _ + 15 ≤ Lo; have := hF.2; omega) (Nat.le_trans (Nat.le_add_right _ _) hr.1) (Nat.le_trans (Nat.le_add_right _ _) hr.2) hd (k ls H locs cells slots hl hI)
end GMA
