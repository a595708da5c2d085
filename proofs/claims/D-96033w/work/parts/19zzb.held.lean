set_option maxRecDepth 100000
theorem u_apartF {args : Array Value} {s : State} {C O f d O' f' d' : String} (h : (Cond.laysFinal C O f d).before args s = true) (h' : (Cond.laysFinal C O' f' d').before args s = true)
    {cf kf fi fd cf' kf' fi' fd'} (hi : s.fieldFound? O f d = some (cf, kf, fi, fd)) (hi' : s.fieldFound? O' f' d' = some (cf', kf', fi', fd')) (hne : O ≠ O') : fd.slot ≠ fd'.slot := by
  obtain ⟨c1, k1, c1', k1', i1, f1, a1, a2, a3, -, -, -, a4, -, d1, a5, a6, -⟩ := Cond.laysFinal_spec h
  obtain ⟨c2, k2, c2', k2', i2, f2, b1, b2, b3, -, -, -, b4, -, d2, b5, b6, -⟩ := Cond.laysFinal_spec h'
  cases hi.symm.trans a3
  cases hi'.symm.trans b3
  cases a1.symm.trans b1
  intro e
  rw [e] at a5
  cases a5.symm.trans b5
  obtain ⟨kk, hk1, hk2⟩ := Vm.findClass_spec a4
  obtain ⟨kk', hk1', hk2'⟩ := Vm.findClass_spec b4
  have e1 := State.fieldFound?_class hi
  have e2 := State.fieldFound?_class hi'
  cases hk1.symm.trans e1
  cases hk1'.symm.trans e2
  exact hne (hk2.symm.trans (a6.symm.trans (b6.trans hk2')))
theorem va_apart2 {args : Array Value} {s : State} {D : va_G} {tys : List (ClassId × FieldType)} {C : String} {T : u_T} {N ci : Nat} {Ts : List Cond} (hts : ∀ w ∈ Ts, w.before args s = true) (hin : ∀ w ∈ u_ws C T N, w ∈ Ts) (ty : Nat → FieldType) (hty : ∀ k, k < N → parseFieldDescriptor (T k).2.2.1 = some (ty k)) (hnm : ∀ a, a < N → ∀ b, b < N → a ≠ b → (T a).2.1 ≠ (T b).2.1 ∨ (T a).1 ≠ (T b).1) (hfin : ∀ a, a < N → (T a).2.2.2 = true) (hK : va_K D vcl tys s) (hc : vcl[ci]? = some (C, T, N)) : ∀ x y, x < N → y < N → x ≠ y → (D.2 ci) x ≠ (D.2 ci) y := by
  intro x y hx hy hne
  obtain ⟨hS, -⟩ := hK.1 ci _ hc
  obtain ⟨_, _, _, fa, hia, ea⟩ := hS x hx
  obtain ⟨_, _, _, fb, hib, eb⟩ := hS y hy
  rw [← ea, ← eb]
  have lf : ∀ k, k < N → (Cond.laysFinal C (T k).1 (T k).2.1 (T k).2.2.1).before args s = true := by
    intro k hk
    have h := hts _ (hin _ (u_in_lay hk))
    unfold u_lay at h
    rw [if_pos (hfin k hk)] at h
    exact h
  rcases hnm x hx y hy hne with h | h
  · refine u_apart (Or.inr (lf x hx)) (Or.inr (lf y hy)) hia hib ?_
    rw [(State.fieldFound?_type hia (hty x hx)).1, (State.fieldFound?_type hib (hty y hy)).1]
    exact h
  · exact u_apartF (lf x hx) (lf y hy) hia hib h
section GHE
variable {X : Cx} {cc : ByteArray} {own host : String} {ret : Option FieldType} {y0 : MethodName} {nL F Lo : Nat} {Pst : Option Value → (Nat → Nat → Nat) → St → Prop} {ad : Nat → Nat → Nat} {χ : St} {pc : Nat} {lv lv2 : List (Nat × Value)} {st : List Value}
variable {c i k ci index : Nat} {ft : List (Nat × Nat)} {C : String} {T : u_T} {N : Nat} {K e d L x : Nat} {j : Int32}
theorem g_putIF2 (h : Ok X cc own ret y0 nL F Lo Pst) (hin2 : y0.name = "<init>") {v : Int32} {ty : FieldType} (hi : i < cn χ c) (hf : fam c (tg χ c i) = (1, ci, ft)) (hq : ft[k]? = some (0, K)) (hc : vcl[ci]? = some (C, T, N)) (hin : ∀ w ∈ u_ws C T N, w ∈ lw_all) (hap : ∀ D : va_G, va_K D vcl (vtys X.Γ.2.2.2) X.s → ∀ x y, x < N → y < N → x ≠ y → (D.2 ci) x ≠ (D.2 ci) y) (hk : k < N)
    (hlink : Cond.fieldLink own index (T k).1 (T k).2.1 (T k).2.2.1 ∈ lw_all) (hfin : (T k).2.2.2 = true) (hdecl : (T k).1 = own) (ht : parseFieldDescriptor (T k).2.2.1 = some ty) (hnr : narrow ty (.int v) = .int v) (hfit : fits ty (.int v) = true)
    (hd : decode cc pc = .ok (.putfield index, 3)) (kk : G X ad (sI χ K i 0 v) (pc + 3) lv st) : G X ad χ pc lv (.int v :: .ref (ad c i) :: st) := by
  have hone : (fam c (tg χ c i)).1 = 1 := by rw [hf]
  have hnd := fam_nd c (tg χ c i) hone
  have how := fam_own c (tg χ c i) hone
  rw [hf] at hnd how
  have hown : ownF K = c := how (0, K) (List.mem_of_getElem? hq)
  refine g_putvF (χ' := sI χ K i 0 v) h hin2 hi hf (List.getElem?_eq_some_iff.mp hq).1 hc hin hap hk hlink hfin hdecl ht hnr hfit (fun _ => rfl) rfl rfl (fun H hH => hH.2.2.2.2.2.2) (fun c' i' hne => cE_sI (by rw [hown]; exact hne)) ?_ hd kk
  rw [cE_o (χ := sI χ K i 0 v) (show fam c (tg (sI χ K i 0 v) c i) = (1, ci, ft) from hf)]
  rw [map_set (f := fvl ad χ i) (g := fvl ad (sI χ K i 0 v) i) hq (show _ = Value.int v by rw [fvl_I, gI_self]) (fun a q' hq' hne => fvl_oI (fun e => hne (nd_inj hnd hq' hq e)))]
theorem g_putRF2 (h : Ok X cc own ret y0 nL F Lo Pst) (hin2 : y0.name = "<init>") {x : Nat} {v : Option Nat} {ty : FieldType} (hi : i < cn χ c) (hf : fam c (tg χ c i) = (1, ci, ft)) (hq : ft[k]? = some (x, K)) (hc : vcl[ci]? = some (C, T, N)) (hin : ∀ w ∈ u_ws C T N, w ∈ lw_all) (hap : ∀ D : va_G, va_K D vcl (vtys X.Γ.2.2.2) X.s → ∀ x y, x < N → y < N → x ≠ y → (D.2 ci) x ≠ (D.2 ci) y) (hk : k < N)
    (h1 : 100 ≤ x) (h2 : x < 200) (hd0 : x - 100 = d) (htg : tgF K = d) (hlink : Cond.fieldLink own index (T k).1 (T k).2.1 (T k).2.2.1 ∈ lw_all) (hfin : (T k).2.2.2 = true) (hdecl : (T k).1 = own) (ht : parseFieldDescriptor (T k).2.2.1 = some ty) (hnr : narrow ty (va_rf (v.map (ad d))) = va_rf (v.map (ad d))) (hfit : fits ty (va_rf (v.map (ad d))) = true) (hv : ∀ x, v = some x → x < cn χ d)
    (hd : decode cc pc = .ok (.putfield index, 3)) (kk : G X ad (sR χ K i 0 v) (pc + 3) lv st) : G X ad χ pc lv (va_rf (v.map (ad d)) :: .ref (ad c i) :: st) := by
  subst hd0
  have hone : (fam c (tg χ c i)).1 = 1 := by rw [hf]
  have hnd := fam_nd c (tg χ c i) hone
  have how := fam_own c (tg χ c i) hone
  rw [hf] at hnd how
  have hown : ownF K = c := how (x, K) (List.mem_of_getElem? hq)
  refine g_putvF (χ' := sR χ K i 0 v) h hin2 hi hf (List.getElem?_eq_some_iff.mp hq).1 hc hin hap hk hlink hfin hdecl ht hnr hfit (fun _ => rfl) rfl rfl (fun H hH => clo_sR hH.2.2.2.2.2.2 (by rw [htg]; exact hv)) (fun c' i' hne => cE_sR (by rw [hown]; exact hne)) ?_ hd kk
  rw [cE_o (χ := sR χ K i 0 v) (show fam c (tg (sR χ K i 0 v) c i) = (1, ci, ft) from hf)]
  rw [map_set (f := fvl ad χ i) (g := fvl ad (sR χ K i 0 v) i) hq (show _ = va_rf (v.map (ad (x - 100))) by rw [fvl_R h1 h2, gR_self]) (fun a q' hq' hne => fvl_oR (fun e => hne (nd_inj hnd hq' hq e)))]
theorem nm2_X17 : ∀ a, a < 2 → ∀ b, b < 2 → a ≠ b → (TX17 a).2.1 ≠ (TX17 b).2.1 ∨ (TX17 a).1 ≠ (TX17 b).1 := by decide +kernel
theorem fin_X17 : ∀ a, a < 2 → (TX17 a).2.2.2 = true := by decide +kernel
theorem ap_X17 (h : Ok X cc own ret y0 nL F Lo Pst) : ∀ D : va_G, va_K D vcl (vtys X.Γ.2.2.2) X.s → ∀ x y, x < 2 → y < 2 → x ≠ y → (D.2 15) x ≠ (D.2 15) y := fun D hK => va_apart2 h.2.2.2.2.2.2.1 in_X17 tyX17 tyX17_ok nm2_X17 fin_X17 hK rfl
theorem nm2_X18 : ∀ a, a < 3 → ∀ b, b < 3 → a ≠ b → (TX18 a).2.1 ≠ (TX18 b).2.1 ∨ (TX18 a).1 ≠ (TX18 b).1 := by decide +kernel
theorem fin_X18 : ∀ a, a < 3 → (TX18 a).2.2.2 = true := by decide +kernel
theorem ap_X18 (h : Ok X cc own ret y0 nL F Lo Pst) : ∀ D : va_G, va_K D vcl (vtys X.Γ.2.2.2) X.s → ∀ x y, x < 3 → y < 3 → x ≠ y → (D.2 16) x ≠ (D.2 16) y := fun D hK => va_apart2 h.2.2.2.2.2.2.1 in_X18 tyX18 tyX18_ok nm2_X18 fin_X18 hK rfl
theorem nm2_X19 : ∀ a, a < 3 → ∀ b, b < 3 → a ≠ b → (TX19 a).2.1 ≠ (TX19 b).2.1 ∨ (TX19 a).1 ≠ (TX19 b).1 := by decide +kernel
theorem fin_X19 : ∀ a, a < 3 → (TX19 a).2.2.2 = true := by decide +kernel
theorem ap_X19 (h : Ok X cc own ret y0 nL F Lo Pst) : ∀ D : va_G, va_K D vcl (vtys X.Γ.2.2.2) X.s → ∀ x y, x < 3 → y < 3 → x ≠ y → (D.2 17) x ≠ (D.2 17) y := fun D hK => va_apart2 h.2.2.2.2.2.2.1 in_X19 tyX19 tyX19_ok nm2_X19 fin_X19 hK rfl
theorem nm2_X20 : ∀ a, a < 4 → ∀ b, b < 4 → a ≠ b → (TX20 a).2.1 ≠ (TX20 b).2.1 ∨ (TX20 a).1 ≠ (TX20 b).1 := by decide +kernel
theorem fin_X20 : ∀ a, a < 4 → (TX20 a).2.2.2 = true := by decide +kernel
theorem ap_X20 (h : Ok X cc own ret y0 nL F Lo Pst) : ∀ D : va_G, va_K D vcl (vtys X.Γ.2.2.2) X.s → ∀ x y, x < 4 → y < 4 → x ≠ y → (D.2 18) x ≠ (D.2 18) y := fun D hK => va_apart2 h.2.2.2.2.2.2.1 in_X20 tyX20 tyX20_ok nm2_X20 fin_X20 hK rfl
theorem nm2_X21 : ∀ a, a < 4 → ∀ b, b < 4 → a ≠ b → (TX21 a).2.1 ≠ (TX21 b).2.1 ∨ (TX21 a).1 ≠ (TX21 b).1 := by decide +kernel
theorem fin_X21 : ∀ a, a < 4 → (TX21 a).2.2.2 = true := by decide +kernel
theorem ap_X21 (h : Ok X cc own ret y0 nL F Lo Pst) : ∀ D : va_G, va_K D vcl (vtys X.Γ.2.2.2) X.s → ∀ x y, x < 4 → y < 4 → x ≠ y → (D.2 19) x ≠ (D.2 19) y := fun D hK => va_apart2 h.2.2.2.2.2.2.1 in_X21 tyX21 tyX21_ok nm2_X21 fin_X21 hK rfl
theorem nm2_X22 : ∀ a, a < 5 → ∀ b, b < 5 → a ≠ b → (TX22 a).2.1 ≠ (TX22 b).2.1 ∨ (TX22 a).1 ≠ (TX22 b).1 := by decide +kernel
theorem fin_X22 : ∀ a, a < 5 → (TX22 a).2.2.2 = true := by decide +kernel
theorem ap_X22 (h : Ok X cc own ret y0 nL F Lo Pst) : ∀ D : va_G, va_K D vcl (vtys X.Γ.2.2.2) X.s → ∀ x y, x < 5 → y < 5 → x ≠ y → (D.2 20) x ≠ (D.2 20) y := fun D hK => va_apart2 h.2.2.2.2.2.2.1 in_X22 tyX22 tyX22_ok nm2_X22 fin_X22 hK rfl
theorem nm2_X23 : ∀ a, a < 3 → ∀ b, b < 3 → a ≠ b → (TX23 a).2.1 ≠ (TX23 b).2.1 ∨ (TX23 a).1 ≠ (TX23 b).1 := by decide +kernel
theorem fin_X23 : ∀ a, a < 3 → (TX23 a).2.2.2 = true := by decide +kernel
theorem ap_X23 (h : Ok X cc own ret y0 nL F Lo Pst) : ∀ D : va_G, va_K D vcl (vtys X.Γ.2.2.2) X.s → ∀ x y, x < 3 → y < 3 → x ≠ y → (D.2 21) x ≠ (D.2 21) y := fun D hK => va_apart2 h.2.2.2.2.2.2.1 in_X23 tyX23 tyX23_ok nm2_X23 fin_X23 hK rfl
theorem nm2_X24 : ∀ a, a < 5 → ∀ b, b < 5 → a ≠ b → (TX24 a).2.1 ≠ (TX24 b).2.1 ∨ (TX24 a).1 ≠ (TX24 b).1 := by decide +kernel
theorem fin_X24 : ∀ a, a < 5 → (TX24 a).2.2.2 = true := by decide +kernel
theorem ap_X24 (h : Ok X cc own ret y0 nL F Lo Pst) : ∀ D : va_G, va_K D vcl (vtys X.Γ.2.2.2) X.s → ∀ x y, x < 5 → y < 5 → x ≠ y → (D.2 22) x ≠ (D.2 22) y := fun D hK => va_apart2 h.2.2.2.2.2.2.1 in_X24 tyX24 tyX24_ok nm2_X24 fin_X24 hK rfl
theorem g_hnum (h : Ok X cc own ret y0 nL F Lo Pst) (hi : i < cn χ 23) (ht : tg χ 23 i = 0 ∨ tg χ 23 i = 1 ∨ tg χ 23 i = 2 ∨ tg χ 23 i = 3 ∨ tg χ 23 i = 4 ∨ tg χ 23 i = 5 ∨ tg χ 23 i = 6 ∨ tg χ 23 i = 7) (hlink : Cond.fieldLink own index "ChairOld$Plain" "number" "I" ∈ lw_all) (hd : decode cc pc = .ok (.getfield index, 3)) (kk : G X ad χ (pc + 3) lv (.int (gI χ 2400 i 0) :: st)) : G X ad χ pc lv (.ref (ad 23 i) :: st) := by
  rcases ht with ht | ht | ht | ht | ht | ht | ht | ht
  · exact g_getI h (k := 0) hi (ff23_0 ht) rfl rfl in_X17 (by decide) hlink hd kk
  · exact g_getI h (k := 0) hi (ff23_1 ht) rfl rfl in_X18 (by decide) hlink hd kk
  · exact g_getI h (k := 0) hi (ff23_2 ht) rfl rfl in_X19 (by decide) hlink hd kk
  · exact g_getI h (k := 0) hi (ff23_3 ht) rfl rfl in_X20 (by decide) hlink hd kk
  · exact g_getI h (k := 0) hi (ff23_4 ht) rfl rfl in_X21 (by decide) hlink hd kk
  · exact g_getI h (k := 0) hi (ff23_5 ht) rfl rfl in_X22 (by decide) hlink hd kk
  · exact g_getI h (k := 0) hi (ff23_6 ht) rfl rfl in_X23 (by decide) hlink hd kk
  · exact g_getI h (k := 0) hi (ff23_7 ht) rfl rfl in_X24 (by decide) hlink hd kk
theorem g_hthis_Plain (h : Ok X cc own ret y0 nL F Lo Pst) (hi : i < cn χ 23) (ht : tg χ 23 i = 0 ∨ tg χ 23 i = 1 ∨ tg χ 23 i = 2 ∨ tg χ 23 i = 3 ∨ tg χ 23 i = 4 ∨ tg χ 23 i = 5 ∨ tg χ 23 i = 6 ∨ tg χ 23 i = 7) (hlink : Cond.fieldLink own index "ChairOld$Plain" "this$0" "LChairOld;" ∈ lw_all) (hd : decode cc pc = .ok (.getfield index, 3)) {z : Nat} (hz : gR χ 2401 i 0 = some z) (kk : z < cn χ 0 → G X ad χ (pc + 3) lv (.ref (ad 0 z) :: st)) : G X ad χ pc lv (.ref (ad 23 i) :: st) := by
  rcases ht with ht | ht | ht | ht | ht | ht | ht | ht
  · exact g_getE h (k := 1) hi (ff23_0 ht) rfl (by decide) (by decide) rfl rfl rfl in_X17 (by decide) hlink hd hz kk
  · exact g_getE h (k := 1) hi (ff23_1 ht) rfl (by decide) (by decide) rfl rfl rfl in_X18 (by decide) hlink hd hz kk
  · exact g_getE h (k := 1) hi (ff23_2 ht) rfl (by decide) (by decide) rfl rfl rfl in_X19 (by decide) hlink hd hz kk
  · exact g_getE h (k := 1) hi (ff23_3 ht) rfl (by decide) (by decide) rfl rfl rfl in_X20 (by decide) hlink hd hz kk
  · exact g_getE h (k := 1) hi (ff23_4 ht) rfl (by decide) (by decide) rfl rfl rfl in_X21 (by decide) hlink hd hz kk
  · exact g_getE h (k := 1) hi (ff23_5 ht) rfl (by decide) (by decide) rfl rfl rfl in_X22 (by decide) hlink hd hz kk
  · exact g_getE h (k := 1) hi (ff23_6 ht) rfl (by decide) (by decide) rfl rfl rfl in_X23 (by decide) hlink hd hz kk
  · exact g_getE h (k := 1) hi (ff23_7 ht) rfl (by decide) (by decide) rfl rfl rfl in_X24 (by decide) hlink hd hz kk
theorem g_hthis_Old (h : Ok X cc own ret y0 nL F Lo Pst) (hi : i < cn χ 23) (ht : tg χ 23 i = 1 ∨ tg χ 23 i = 4 ∨ tg χ 23 i = 7) (hlink : Cond.fieldLink own index "ChairOld$Old" "this$0" "LChairOld;" ∈ lw_all) (hd : decode cc pc = .ok (.getfield index, 3)) {z : Nat} (hz : gR χ 2402 i 0 = some z) (kk : z < cn χ 0 → G X ad χ (pc + 3) lv (.ref (ad 0 z) :: st)) : G X ad χ pc lv (.ref (ad 23 i) :: st) := by
  rcases ht with ht | ht | ht
  · exact g_getE h (k := 2) hi (ff23_1 ht) rfl (by decide) (by decide) rfl rfl rfl in_X18 (by decide) hlink hd hz kk
  · exact g_getE h (k := 2) hi (ff23_4 ht) rfl (by decide) (by decide) rfl rfl rfl in_X21 (by decide) hlink hd hz kk
  · exact g_getE h (k := 2) hi (ff23_7 ht) rfl (by decide) (by decide) rfl rfl rfl in_X24 (by decide) hlink hd hz kk
theorem g_hthis_Mended (h : Ok X cc own ret y0 nL F Lo Pst) (hi : i < cn χ 23) (ht : tg χ 23 i = 2 ∨ tg χ 23 i = 3 ∨ tg χ 23 i = 5) (hlink : Cond.fieldLink own index "ChairOld$Mended" "this$0" "LChairOld;" ∈ lw_all) (hd : decode cc pc = .ok (.getfield index, 3)) {z : Nat} (hz : gR χ 2403 i 0 = some z) (kk : z < cn χ 0 → G X ad χ (pc + 3) lv (.ref (ad 0 z) :: st)) : G X ad χ pc lv (.ref (ad 23 i) :: st) := by
  rcases ht with ht | ht | ht
  · exact g_getE h (k := 2) hi (ff23_2 ht) rfl (by decide) (by decide) rfl rfl rfl in_X19 (by decide) hlink hd hz kk
  · exact g_getE h (k := 2) hi (ff23_3 ht) rfl (by decide) (by decide) rfl rfl rfl in_X20 (by decide) hlink hd hz kk
  · exact g_getE h (k := 2) hi (ff23_5 ht) rfl (by decide) (by decide) rfl rfl rfl in_X22 (by decide) hlink hd hz kk
theorem g_hthis_Aged (h : Ok X cc own ret y0 nL F Lo Pst) (hi : i < cn χ 23) (ht : tg χ 23 i = 3 ∨ tg χ 23 i = 5) (hlink : Cond.fieldLink own index "ChairOld$Aged" "this$0" "LChairOld;" ∈ lw_all) (hd : decode cc pc = .ok (.getfield index, 3)) {z : Nat} (hz : gR χ 2404 i 0 = some z) (kk : z < cn χ 0 → G X ad χ (pc + 3) lv (.ref (ad 0 z) :: st)) : G X ad χ pc lv (.ref (ad 23 i) :: st) := by
  rcases ht with ht | ht
  · exact g_getE h (k := 3) hi (ff23_3 ht) rfl (by decide) (by decide) rfl rfl rfl in_X20 (by decide) hlink hd hz kk
  · exact g_getE h (k := 3) hi (ff23_5 ht) rfl (by decide) (by decide) rfl rfl rfl in_X22 (by decide) hlink hd hz kk
theorem g_hthis_Split (h : Ok X cc own ret y0 nL F Lo Pst) (hi : i < cn χ 23) (ht : tg χ 23 i = 4 ∨ tg χ 23 i = 7) (hlink : Cond.fieldLink own index "ChairOld$Split" "this$0" "LChairOld;" ∈ lw_all) (hd : decode cc pc = .ok (.getfield index, 3)) {z : Nat} (hz : gR χ 2405 i 0 = some z) (kk : z < cn χ 0 → G X ad χ (pc + 3) lv (.ref (ad 0 z) :: st)) : G X ad χ pc lv (.ref (ad 23 i) :: st) := by
  rcases ht with ht | ht
  · exact g_getE h (k := 3) hi (ff23_4 ht) rfl (by decide) (by decide) rfl rfl rfl in_X21 (by decide) hlink hd hz kk
  · exact g_getE h (k := 3) hi (ff23_7 ht) rfl (by decide) (by decide) rfl rfl rfl in_X24 (by decide) hlink hd hz kk
theorem g_hthis_Cut (h : Ok X cc own ret y0 nL F Lo Pst) (hi : i < cn χ 23) (ht : tg χ 23 i = 5) (hlink : Cond.fieldLink own index "ChairOld$Cut" "this$0" "LChairOld;" ∈ lw_all) (hd : decode cc pc = .ok (.getfield index, 3)) {z : Nat} (hz : gR χ 2406 i 0 = some z) (kk : z < cn χ 0 → G X ad χ (pc + 3) lv (.ref (ad 0 z) :: st)) : G X ad χ pc lv (.ref (ad 23 i) :: st) := by
  exact g_getE h (k := 4) hi (ff23_5 ht) rfl (by decide) (by decide) rfl rfl rfl in_X22 (by decide) hlink hd hz kk
theorem g_hthis_Fresh (h : Ok X cc own ret y0 nL F Lo Pst) (hi : i < cn χ 23) (ht : tg χ 23 i = 6) (hlink : Cond.fieldLink own index "ChairOld$Fresh" "this$0" "LChairOld;" ∈ lw_all) (hd : decode cc pc = .ok (.getfield index, 3)) {z : Nat} (hz : gR χ 2407 i 0 = some z) (kk : z < cn χ 0 → G X ad χ (pc + 3) lv (.ref (ad 0 z) :: st)) : G X ad χ pc lv (.ref (ad 23 i) :: st) := by
  exact g_getE h (k := 2) hi (ff23_6 ht) rfl (by decide) (by decide) rfl rfl rfl in_X23 (by decide) hlink hd hz kk
theorem g_hthis_Foreign (h : Ok X cc own ret y0 nL F Lo Pst) (hi : i < cn χ 23) (ht : tg χ 23 i = 7) (hlink : Cond.fieldLink own index "ChairOld$Foreign" "this$0" "LChairOld;" ∈ lw_all) (hd : decode cc pc = .ok (.getfield index, 3)) {z : Nat} (hz : gR χ 2408 i 0 = some z) (kk : z < cn χ 0 → G X ad χ (pc + 3) lv (.ref (ad 0 z) :: st)) : G X ad χ pc lv (.ref (ad 23 i) :: st) := by
  exact g_getE h (k := 4) hi (ff23_7 ht) rfl (by decide) (by decide) rfl rfl rfl in_X24 (by decide) hlink hd hz kk
theorem g_hputnum (h : Ok X cc "ChairOld$Plain" ret y0 nL F Lo Pst) (hin2 : y0.name = "<init>") {v : Int32} (hi : i < cn χ 23) (ht : tg χ 23 i = 0 ∨ tg χ 23 i = 1 ∨ tg χ 23 i = 2 ∨ tg χ 23 i = 3 ∨ tg χ 23 i = 4 ∨ tg χ 23 i = 5 ∨ tg χ 23 i = 6 ∨ tg χ 23 i = 7) (hlink : Cond.fieldLink "ChairOld$Plain" index "ChairOld$Plain" "number" "I" ∈ lw_all) (hd : decode cc pc = .ok (.putfield index, 3)) (kk : G X ad (sI χ 2400 i 0 v) (pc + 3) lv st) : G X ad χ pc lv (.int v :: .ref (ad 23 i) :: st) := by
  rcases ht with ht | ht | ht | ht | ht | ht | ht | ht
  · exact g_putIF2 h hin2 (k := 0) hi (ff23_0 ht) rfl rfl in_X17 (ap_X17 h) (by decide) hlink rfl rfl rfl rfl rfl hd kk
  · exact g_putIF2 h hin2 (k := 0) hi (ff23_1 ht) rfl rfl in_X18 (ap_X18 h) (by decide) hlink rfl rfl rfl rfl rfl hd kk
  · exact g_putIF2 h hin2 (k := 0) hi (ff23_2 ht) rfl rfl in_X19 (ap_X19 h) (by decide) hlink rfl rfl rfl rfl rfl hd kk
  · exact g_putIF2 h hin2 (k := 0) hi (ff23_3 ht) rfl rfl in_X20 (ap_X20 h) (by decide) hlink rfl rfl rfl rfl rfl hd kk
  · exact g_putIF2 h hin2 (k := 0) hi (ff23_4 ht) rfl rfl in_X21 (ap_X21 h) (by decide) hlink rfl rfl rfl rfl rfl hd kk
  · exact g_putIF2 h hin2 (k := 0) hi (ff23_5 ht) rfl rfl in_X22 (ap_X22 h) (by decide) hlink rfl rfl rfl rfl rfl hd kk
  · exact g_putIF2 h hin2 (k := 0) hi (ff23_6 ht) rfl rfl in_X23 (ap_X23 h) (by decide) hlink rfl rfl rfl rfl rfl hd kk
  · exact g_putIF2 h hin2 (k := 0) hi (ff23_7 ht) rfl rfl in_X24 (ap_X24 h) (by decide) hlink rfl rfl rfl rfl rfl hd kk
theorem g_hputthis_Plain (h : Ok X cc "ChairOld$Plain" ret y0 nL F Lo Pst) (hin2 : y0.name = "<init>") (hi : i < cn χ 23) (ht : tg χ 23 i = 0 ∨ tg χ 23 i = 1 ∨ tg χ 23 i = 2 ∨ tg χ 23 i = 3 ∨ tg χ 23 i = 4 ∨ tg χ 23 i = 5 ∨ tg χ 23 i = 6 ∨ tg χ 23 i = 7) (hlink : Cond.fieldLink "ChairOld$Plain" index "ChairOld$Plain" "this$0" "LChairOld;" ∈ lw_all) (hd : decode cc pc = .ok (.putfield index, 3)) (kk : G X ad (sR χ 2401 i 0 (some 0)) (pc + 3) lv st) : G X ad χ pc lv (.ref (ad 0 0) :: .ref (ad 23 i) :: st) := by
  rcases ht with ht | ht | ht | ht | ht | ht | ht | ht
  · exact g_putRF2 h hin2 (v := some 0) (k := 1) hi (ff23_0 ht) rfl rfl in_X17 (ap_X17 h) (by decide) (by decide) (by decide) rfl rfl hlink rfl rfl rfl nar_rf fits_rf (fun x e => by cases e; exact fc0 _) hd kk
  · exact g_putRF2 h hin2 (v := some 0) (k := 1) hi (ff23_1 ht) rfl rfl in_X18 (ap_X18 h) (by decide) (by decide) (by decide) rfl rfl hlink rfl rfl rfl nar_rf fits_rf (fun x e => by cases e; exact fc0 _) hd kk
  · exact g_putRF2 h hin2 (v := some 0) (k := 1) hi (ff23_2 ht) rfl rfl in_X19 (ap_X19 h) (by decide) (by decide) (by decide) rfl rfl hlink rfl rfl rfl nar_rf fits_rf (fun x e => by cases e; exact fc0 _) hd kk
  · exact g_putRF2 h hin2 (v := some 0) (k := 1) hi (ff23_3 ht) rfl rfl in_X20 (ap_X20 h) (by decide) (by decide) (by decide) rfl rfl hlink rfl rfl rfl nar_rf fits_rf (fun x e => by cases e; exact fc0 _) hd kk
  · exact g_putRF2 h hin2 (v := some 0) (k := 1) hi (ff23_4 ht) rfl rfl in_X21 (ap_X21 h) (by decide) (by decide) (by decide) rfl rfl hlink rfl rfl rfl nar_rf fits_rf (fun x e => by cases e; exact fc0 _) hd kk
  · exact g_putRF2 h hin2 (v := some 0) (k := 1) hi (ff23_5 ht) rfl rfl in_X22 (ap_X22 h) (by decide) (by decide) (by decide) rfl rfl hlink rfl rfl rfl nar_rf fits_rf (fun x e => by cases e; exact fc0 _) hd kk
  · exact g_putRF2 h hin2 (v := some 0) (k := 1) hi (ff23_6 ht) rfl rfl in_X23 (ap_X23 h) (by decide) (by decide) (by decide) rfl rfl hlink rfl rfl rfl nar_rf fits_rf (fun x e => by cases e; exact fc0 _) hd kk
  · exact g_putRF2 h hin2 (v := some 0) (k := 1) hi (ff23_7 ht) rfl rfl in_X24 (ap_X24 h) (by decide) (by decide) (by decide) rfl rfl hlink rfl rfl rfl nar_rf fits_rf (fun x e => by cases e; exact fc0 _) hd kk
theorem g_hputthis_Old (h : Ok X cc "ChairOld$Old" ret y0 nL F Lo Pst) (hin2 : y0.name = "<init>") (hi : i < cn χ 23) (ht : tg χ 23 i = 1 ∨ tg χ 23 i = 4 ∨ tg χ 23 i = 7) (hlink : Cond.fieldLink "ChairOld$Old" index "ChairOld$Old" "this$0" "LChairOld;" ∈ lw_all) (hd : decode cc pc = .ok (.putfield index, 3)) (kk : G X ad (sR χ 2402 i 0 (some 0)) (pc + 3) lv st) : G X ad χ pc lv (.ref (ad 0 0) :: .ref (ad 23 i) :: st) := by
  rcases ht with ht | ht | ht
  · exact g_putRF2 h hin2 (v := some 0) (k := 2) hi (ff23_1 ht) rfl rfl in_X18 (ap_X18 h) (by decide) (by decide) (by decide) rfl rfl hlink rfl rfl rfl nar_rf fits_rf (fun x e => by cases e; exact fc0 _) hd kk
  · exact g_putRF2 h hin2 (v := some 0) (k := 2) hi (ff23_4 ht) rfl rfl in_X21 (ap_X21 h) (by decide) (by decide) (by decide) rfl rfl hlink rfl rfl rfl nar_rf fits_rf (fun x e => by cases e; exact fc0 _) hd kk
  · exact g_putRF2 h hin2 (v := some 0) (k := 2) hi (ff23_7 ht) rfl rfl in_X24 (ap_X24 h) (by decide) (by decide) (by decide) rfl rfl hlink rfl rfl rfl nar_rf fits_rf (fun x e => by cases e; exact fc0 _) hd kk
theorem g_hputthis_Mended (h : Ok X cc "ChairOld$Mended" ret y0 nL F Lo Pst) (hin2 : y0.name = "<init>") (hi : i < cn χ 23) (ht : tg χ 23 i = 2 ∨ tg χ 23 i = 3 ∨ tg χ 23 i = 5) (hlink : Cond.fieldLink "ChairOld$Mended" index "ChairOld$Mended" "this$0" "LChairOld;" ∈ lw_all) (hd : decode cc pc = .ok (.putfield index, 3)) (kk : G X ad (sR χ 2403 i 0 (some 0)) (pc + 3) lv st) : G X ad χ pc lv (.ref (ad 0 0) :: .ref (ad 23 i) :: st) := by
  rcases ht with ht | ht | ht
  · exact g_putRF2 h hin2 (v := some 0) (k := 2) hi (ff23_2 ht) rfl rfl in_X19 (ap_X19 h) (by decide) (by decide) (by decide) rfl rfl hlink rfl rfl rfl nar_rf fits_rf (fun x e => by cases e; exact fc0 _) hd kk
  · exact g_putRF2 h hin2 (v := some 0) (k := 2) hi (ff23_3 ht) rfl rfl in_X20 (ap_X20 h) (by decide) (by decide) (by decide) rfl rfl hlink rfl rfl rfl nar_rf fits_rf (fun x e => by cases e; exact fc0 _) hd kk
  · exact g_putRF2 h hin2 (v := some 0) (k := 2) hi (ff23_5 ht) rfl rfl in_X22 (ap_X22 h) (by decide) (by decide) (by decide) rfl rfl hlink rfl rfl rfl nar_rf fits_rf (fun x e => by cases e; exact fc0 _) hd kk
theorem g_hputthis_Aged (h : Ok X cc "ChairOld$Aged" ret y0 nL F Lo Pst) (hin2 : y0.name = "<init>") (hi : i < cn χ 23) (ht : tg χ 23 i = 3 ∨ tg χ 23 i = 5) (hlink : Cond.fieldLink "ChairOld$Aged" index "ChairOld$Aged" "this$0" "LChairOld;" ∈ lw_all) (hd : decode cc pc = .ok (.putfield index, 3)) (kk : G X ad (sR χ 2404 i 0 (some 0)) (pc + 3) lv st) : G X ad χ pc lv (.ref (ad 0 0) :: .ref (ad 23 i) :: st) := by
  rcases ht with ht | ht
  · exact g_putRF2 h hin2 (v := some 0) (k := 3) hi (ff23_3 ht) rfl rfl in_X20 (ap_X20 h) (by decide) (by decide) (by decide) rfl rfl hlink rfl rfl rfl nar_rf fits_rf (fun x e => by cases e; exact fc0 _) hd kk
  · exact g_putRF2 h hin2 (v := some 0) (k := 3) hi (ff23_5 ht) rfl rfl in_X22 (ap_X22 h) (by decide) (by decide) (by decide) rfl rfl hlink rfl rfl rfl nar_rf fits_rf (fun x e => by cases e; exact fc0 _) hd kk
theorem g_hputthis_Split (h : Ok X cc "ChairOld$Split" ret y0 nL F Lo Pst) (hin2 : y0.name = "<init>") (hi : i < cn χ 23) (ht : tg χ 23 i = 4 ∨ tg χ 23 i = 7) (hlink : Cond.fieldLink "ChairOld$Split" index "ChairOld$Split" "this$0" "LChairOld;" ∈ lw_all) (hd : decode cc pc = .ok (.putfield index, 3)) (kk : G X ad (sR χ 2405 i 0 (some 0)) (pc + 3) lv st) : G X ad χ pc lv (.ref (ad 0 0) :: .ref (ad 23 i) :: st) := by
  rcases ht with ht | ht
  · exact g_putRF2 h hin2 (v := some 0) (k := 3) hi (ff23_4 ht) rfl rfl in_X21 (ap_X21 h) (by decide) (by decide) (by decide) rfl rfl hlink rfl rfl rfl nar_rf fits_rf (fun x e => by cases e; exact fc0 _) hd kk
  · exact g_putRF2 h hin2 (v := some 0) (k := 3) hi (ff23_7 ht) rfl rfl in_X24 (ap_X24 h) (by decide) (by decide) (by decide) rfl rfl hlink rfl rfl rfl nar_rf fits_rf (fun x e => by cases e; exact fc0 _) hd kk
theorem g_hputthis_Cut (h : Ok X cc "ChairOld$Cut" ret y0 nL F Lo Pst) (hin2 : y0.name = "<init>") (hi : i < cn χ 23) (ht : tg χ 23 i = 5) (hlink : Cond.fieldLink "ChairOld$Cut" index "ChairOld$Cut" "this$0" "LChairOld;" ∈ lw_all) (hd : decode cc pc = .ok (.putfield index, 3)) (kk : G X ad (sR χ 2406 i 0 (some 0)) (pc + 3) lv st) : G X ad χ pc lv (.ref (ad 0 0) :: .ref (ad 23 i) :: st) := by
  exact g_putRF2 h hin2 (v := some 0) (k := 4) hi (ff23_5 ht) rfl rfl in_X22 (ap_X22 h) (by decide) (by decide) (by decide) rfl rfl hlink rfl rfl rfl nar_rf fits_rf (fun x e => by cases e; exact fc0 _) hd kk
theorem g_hputthis_Fresh (h : Ok X cc "ChairOld$Fresh" ret y0 nL F Lo Pst) (hin2 : y0.name = "<init>") (hi : i < cn χ 23) (ht : tg χ 23 i = 6) (hlink : Cond.fieldLink "ChairOld$Fresh" index "ChairOld$Fresh" "this$0" "LChairOld;" ∈ lw_all) (hd : decode cc pc = .ok (.putfield index, 3)) (kk : G X ad (sR χ 2407 i 0 (some 0)) (pc + 3) lv st) : G X ad χ pc lv (.ref (ad 0 0) :: .ref (ad 23 i) :: st) := by
  exact g_putRF2 h hin2 (v := some 0) (k := 2) hi (ff23_6 ht) rfl rfl in_X23 (ap_X23 h) (by decide) (by decide) (by decide) rfl rfl hlink rfl rfl rfl nar_rf fits_rf (fun x e => by cases e; exact fc0 _) hd kk
theorem g_hputthis_Foreign (h : Ok X cc "ChairOld$Foreign" ret y0 nL F Lo Pst) (hin2 : y0.name = "<init>") (hi : i < cn χ 23) (ht : tg χ 23 i = 7) (hlink : Cond.fieldLink "ChairOld$Foreign" index "ChairOld$Foreign" "this$0" "LChairOld;" ∈ lw_all) (hd : decode cc pc = .ok (.putfield index, 3)) (kk : G X ad (sR χ 2408 i 0 (some 0)) (pc + 3) lv st) : G X ad χ pc lv (.ref (ad 0 0) :: .ref (ad 23 i) :: st) := by
  exact g_putRF2 h hin2 (v := some 0) (k := 4) hi (ff23_7 ht) rfl rfl in_X24 (ap_X24 h) (by decide) (by decide) (by decide) rfl rfl hlink rfl rfl rfl nar_rf fits_rf (fun x e => by cases e; exact fc0 _) hd kk
end GHE
