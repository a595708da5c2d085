set_option maxRecDepth 100000
section GX
variable {X : Cx} {cc : ByteArray} {own host : String} {ret : Option FieldType} {y0 : MethodName} {nL F Lo : Nat} {Pst : Option Value → (Nat → Nat → Nat) → St → Prop} {ad : Nat → Nat → Nat} {χ : St} {pc : Nat} {lv lv2 : List (Nat × Value)} {st st0 : List Value}
variable {y : MethodName} {b : ByteArray} {L F' Lo' n index : Nat} {r : Option FieldType} {Wp : Prop} {As : List Value}
variable {c i k ci : Nat} {ft : List (Nat × Nat)} {C : String} {T : u_T} {N : Nat} {K e d x : Nat} {j : Int32}
theorem g_putIF (h : Ok X cc own ret y0 nL F Lo Pst) (hin2 : y0.name = "<init>") {v : Int32} {ty0 : Nat → FieldType} {ty : FieldType} (hi : i < cn χ c) (hf : fam c (tg χ c i) = (1, ci, ft)) (hq : ft[k]? = some (0, K)) (hc : vcl[ci]? = some (C, T, N)) (hin : ∀ w ∈ u_ws C T N, w ∈ lw_all) (hty : ∀ k, k < N → parseFieldDescriptor (T k).2.2.1 = some (ty0 k)) (hnm : ∀ a, a < N → ∀ b, b < N → a ≠ b → (T a).2.1 ≠ (T b).2.1) (hk : k < N)
    (hlink : Cond.fieldLink own index (T k).1 (T k).2.1 (T k).2.2.1 ∈ lw_all) (hfin : (T k).2.2.2 = true) (hdecl : (T k).1 = own) (ht : parseFieldDescriptor (T k).2.2.1 = some ty) (hnr : narrow ty (.int v) = .int v) (hfit : fits ty (.int v) = true)
    (hd : decode cc pc = .ok (.putfield index, 3)) (kk : G X ad (sI χ K i 0 v) (pc + 3) lv st) : G X ad χ pc lv (.int v :: .ref (ad c i) :: st) := by
  have hone : (fam c (tg χ c i)).1 = 1 := by rw [hf]
  have hnd := fam_nd c (tg χ c i) hone
  have how := fam_own c (tg χ c i) hone
  rw [hf] at hnd how
  have hown : ownF K = c := how (0, K) (List.mem_of_getElem? hq)
  have hap : ∀ D : va_G, va_K D vcl (vtys X.Γ.2.2.2) X.s → ∀ x y, x < N → y < N → x ≠ y → (D.2 ci) x ≠ (D.2 ci) y := fun D hK => va_apart (own := own) h.2.2.2.2.2.2.1 hin ty0 hty hnm hK hc
  refine g_putvF (χ' := sI χ K i 0 v) h hin2 hi hf (List.getElem?_eq_some_iff.mp hq).1 hc hin hap hk hlink hfin hdecl ht hnr hfit (fun _ => rfl) rfl rfl (fun H hH => hH.2.2.2.2.2.2) (fun c' i' hne => cE_sI (by rw [hown]; exact hne)) ?_ hd kk
  rw [cE_o (χ := sI χ K i 0 v) (show fam c (tg (sI χ K i 0 v) c i) = (1, ci, ft) from hf)]
  rw [map_set (f := fvl ad χ i) (g := fvl ad (sI χ K i 0 v) i) hq (show _ = Value.int v by rw [fvl_I, gI_self]) (fun a q' hq' hne => fvl_oI (fun e => hne (nd_inj hnd hq' hq e)))]
theorem g_putRF (h : Ok X cc own ret y0 nL F Lo Pst) (hin2 : y0.name = "<init>") {x : Nat} {v : Option Nat} {ty0 : Nat → FieldType} {ty : FieldType} (hi : i < cn χ c) (hf : fam c (tg χ c i) = (1, ci, ft)) (hq : ft[k]? = some (x, K)) (hc : vcl[ci]? = some (C, T, N)) (hin : ∀ w ∈ u_ws C T N, w ∈ lw_all) (hty : ∀ k, k < N → parseFieldDescriptor (T k).2.2.1 = some (ty0 k)) (hnm : ∀ a, a < N → ∀ b, b < N → a ≠ b → (T a).2.1 ≠ (T b).2.1) (hk : k < N)
    (h1 : 100 ≤ x) (h2 : x < 200) (hd0 : x - 100 = d) (htg : tgF K = d) (hlink : Cond.fieldLink own index (T k).1 (T k).2.1 (T k).2.2.1 ∈ lw_all) (hfin : (T k).2.2.2 = true) (hdecl : (T k).1 = own) (ht : parseFieldDescriptor (T k).2.2.1 = some ty) (hnr : narrow ty (va_rf (v.map (ad d))) = va_rf (v.map (ad d))) (hfit : fits ty (va_rf (v.map (ad d))) = true) (hv : ∀ x, v = some x → x < cn χ d)
    (hd : decode cc pc = .ok (.putfield index, 3)) (kk : G X ad (sR χ K i 0 v) (pc + 3) lv st) : G X ad χ pc lv (va_rf (v.map (ad d)) :: .ref (ad c i) :: st) := by
  subst hd0
  have hone : (fam c (tg χ c i)).1 = 1 := by rw [hf]
  have hnd := fam_nd c (tg χ c i) hone
  have how := fam_own c (tg χ c i) hone
  rw [hf] at hnd how
  have hown : ownF K = c := how (x, K) (List.mem_of_getElem? hq)
  have hap : ∀ D : va_G, va_K D vcl (vtys X.Γ.2.2.2) X.s → ∀ x y, x < N → y < N → x ≠ y → (D.2 ci) x ≠ (D.2 ci) y := fun D hK => va_apart (own := own) h.2.2.2.2.2.2.1 hin ty0 hty hnm hK hc
  refine g_putvF (χ' := sR χ K i 0 v) h hin2 hi hf (List.getElem?_eq_some_iff.mp hq).1 hc hin hap hk hlink hfin hdecl ht hnr hfit (fun _ => rfl) rfl rfl (fun H hH => clo_sR hH.2.2.2.2.2.2 (by rw [htg]; exact hv)) (fun c' i' hne => cE_sR (by rw [hown]; exact hne)) ?_ hd kk
  rw [cE_o (χ := sR χ K i 0 v) (show fam c (tg (sR χ K i 0 v) c i) = (1, ci, ft) from hf)]
  rw [map_set (f := fvl ad χ i) (g := fvl ad (sR χ K i 0 v) i) hq (show _ = va_rf (v.map (ad (x - 100))) by rw [fvl_R h1 h2, gR_self]) (fun a q' hq' hne => fvl_oR (fun e => hne (nd_inj hnd hq' hq e)))]
theorem g_aload_nO (h : Ok X cc own ret y0 nL F Lo Pst) {n : Fin 4} {i : Nat} {v : Option Nat} (q : Nat) (hd : decode cc pc = .ok (.aload_n n, 1)) (hi : (n : Nat) = i) (hq : lv[q]? = some (i, va_rf v)) (k : G X ad χ (pc + 1) lv (va_rf v :: st)) : G X ad χ pc lv st := by
  cases v with
  | none => exact g_aload_nN h q hd hi hq k
  | some a => exact g_aload_n h q hd hi hq k
theorem g_aloadO (h : Ok X cc own ret y0 nL F Lo Pst) {i : Nat} {v : Option Nat} (q : Nat) (hd : decode cc pc = .ok (.aload i, 2)) (hq : lv[q]? = some (i, va_rf v)) (k : G X ad χ (pc + 2) lv (va_rf v :: st)) : G X ad χ pc lv st := by
  cases v with
  | none => exact fun ls H locs cells slots hl hI => lv_aloadN h.1 h.2.1 hd (lv_at hl q hq) (k ls H locs cells slots hl hI)
  | some a => exact g_aload h q hd hq k
theorem g_astore_nN (h : Ok X cc own ret y0 nL F Lo Pst) {n : Fin 4} {i : Nat} (hd : decode cc pc = .ok (.astore_n n, 1)) (hi : (n : Nat) = i) (hn : i < nL) (hl2 : (i, Value.null) :: lv.filter (fun q => !(q.1 == i) && !(q.1 + 1 == i && q.2.category == 2)) = lv2) (k : G X ad χ (pc + 1) lv2 st) : G X ad χ pc lv (.null :: st) :=
  fun ls H locs cells slots hl hI => lv_astore_nN h.1 h.2.1 hd hi hl (h.2.2.2.2.1.2.symm ▸ hn) hl2 (fun ls hl => k ls H locs cells slots hl hI)
theorem g_astoreN (h : Ok X cc own ret y0 nL F Lo Pst) {i : Nat} (hd : decode cc pc = .ok (.astore i, 2)) (hn : i < nL) (hl2 : (i, Value.null) :: lv.filter (fun q => !(q.1 == i) && !(q.1 + 1 == i && q.2.category == 2)) = lv2) (k : G X ad χ (pc + 2) lv2 st) : G X ad χ pc lv (.null :: st) :=
  fun ls H locs cells slots hl hI => lv_astoreN h.1 h.2.1 hd hl (h.2.2.2.2.1.2.symm ▸ hn) hl2 (fun ls hl => k ls H locs cells slots hl hI)
theorem g_astore_nO (h : Ok X cc own ret y0 nL F Lo Pst) {n : Fin 4} {i : Nat} {v : Option Nat} (hd : decode cc pc = .ok (.astore_n n, 1)) (hi : (n : Nat) = i) (hn : i < nL) (hl2 : (i, va_rf v) :: lv.filter (fun q => !(q.1 == i) && !(q.1 + 1 == i && q.2.category == 2)) = lv2) (k : G X ad χ (pc + 1) lv2 st) : G X ad χ pc lv (va_rf v :: st) := by
  cases v with
  | none => exact g_astore_nN h hd hi hn hl2 k
  | some a => exact g_astore_n h hd hi hn hl2 k
theorem g_astoreO (h : Ok X cc own ret y0 nL F Lo Pst) {i : Nat} {v : Option Nat} (hd : decode cc pc = .ok (.astore i, 2)) (hn : i < nL) (hl2 : (i, va_rf v) :: lv.filter (fun q => !(q.1 == i) && !(q.1 + 1 == i && q.2.category == 2)) = lv2) (k : G X ad χ (pc + 2) lv2 st) : G X ad χ pc lv (va_rf v :: st) := by
  cases v with
  | none => exact g_astoreN h hd hn hl2 k
  | some a => exact g_astore h hd hn hl2 k
theorem g_callVr (h : Ok X cc own ret y0 nL F Lo Pst) {Q : Option Nat → St → Prop} (dr : Nat) (hM : Mt X.l y (ws_ y b L r) (rmO F' Lo' χ) (Pm X.Γ ad χ (.ref (ad c i) :: As) Wp) (Qm X.Γ true ad χ (pR dr Q)) (frB X.Γ)) (hw : Wp)
    (q1 : Cond.methodLink own index y ∈ lw_all) (q2 : Cond.instanceMethod y ∈ lw_all) (q3 : Cond.selects C y y ∈ lw_all) (q4 : Cond.initialized C ∈ lw_all) (q5 : Cond.code y b L r ∈ lw_all) (hd0 : y.cls = C ∧ y.cls ≠ "java/lang/invoke/MethodHandle" ∧ y.cls ≠ "java/lang/invoke/VarHandle" ∧ (parseMethodDescriptor y.desc).map (fun d => d.parameters.length) = some n) (hF : F' + 1 ≤ F ∧ 8 + (L + 11) + Lo' ≤ Lo) (hi : i < cn χ c) (hf : fam c (tg χ c i) = (1, ci, ft)) (hc : vcl[ci]? = some (C, T, N)) (hn : As.length = n) (hs : st0 = As.reverse ++ .ref (ad c i) :: st) (hst : (st.map fun v => v.category).sum ≤ 8) (hd : decode cc pc = .ok (.invokevirtual index, 3))
    (kk : ∀ r χ', (∀ x, r = some x → x < cn χ' dr) → Q r χ' → (∀ c, cn χ c ≤ cn χ' c) → G X ad χ' (pc + 3) lv (va_rf (r.map (ad dr)) :: st)) : G X ad χ pc lv st0 :=
  g_callV h hM hw (fun _ => rfl) q1 q2 q3 q4 q5 hd0 hF hi hf hc hn hs hst hd (fun v ad' χ' hP hna hE => by
    obtain ⟨r, rfl, hvv, hf⟩ := hP
    obtain rfl := hna rfl
    exact kk r χ' hvv hf hE.2)
theorem g_callVAi (h : Ok X cc own ret y0 nL F Lo Pst) (hnf : X.na = false) {Q : Int32 → St → Prop} (hM : Mt X.l y (ws_ y b L r) (rmO F' Lo' χ) (Pm X.Γ ad χ (.ref (ad c i) :: As) Wp) (Qm X.Γ false ad χ (pI Q)) (frB X.Γ)) (hw : Wp)
    (q1 : Cond.methodLink own index y ∈ lw_all) (q2 : Cond.instanceMethod y ∈ lw_all) (q3 : Cond.selects C y y ∈ lw_all) (q4 : Cond.initialized C ∈ lw_all) (q5 : Cond.code y b L r ∈ lw_all) (hd0 : y.cls = C ∧ y.cls ≠ "java/lang/invoke/MethodHandle" ∧ y.cls ≠ "java/lang/invoke/VarHandle" ∧ (parseMethodDescriptor y.desc).map (fun d => d.parameters.length) = some n) (hF : F' + 1 ≤ F ∧ 8 + (L + 11) + Lo' ≤ Lo) (hi : i < cn χ c) (hf : fam c (tg χ c i) = (1, ci, ft)) (hc : vcl[ci]? = some (C, T, N)) (hn : As.length = n) (hs : st0 = As.reverse ++ .ref (ad c i) :: st) (hst : (st.map fun v => v.category).sum ≤ 8) (hd : decode cc pc = .ok (.invokevirtual index, 3))
    (kk : ∀ r ad' χ', Q r χ' → Ext χ χ' ad ad' → G X ad' χ' (pc + 3) lv (.int r :: st)) : G X ad χ pc lv st0 :=
  g_callV h hM hw (fun z => by rw [hnf] at z; cases z) q1 q2 q3 q4 q5 hd0 hF hi hf hc hn hs hst hd (fun v ad' χ' hP hna hE => by
    obtain ⟨r, rfl, hf⟩ := hP
    exact kk r ad' χ' hf hE)
theorem g_callVAl (h : Ok X cc own ret y0 nL F Lo Pst) (hnf : X.na = false) {Q : Int64 → St → Prop} (hM : Mt X.l y (ws_ y b L r) (rmO F' Lo' χ) (Pm X.Γ ad χ (.ref (ad c i) :: As) Wp) (Qm X.Γ false ad χ (pL Q)) (frB X.Γ)) (hw : Wp)
    (q1 : Cond.methodLink own index y ∈ lw_all) (q2 : Cond.instanceMethod y ∈ lw_all) (q3 : Cond.selects C y y ∈ lw_all) (q4 : Cond.initialized C ∈ lw_all) (q5 : Cond.code y b L r ∈ lw_all) (hd0 : y.cls = C ∧ y.cls ≠ "java/lang/invoke/MethodHandle" ∧ y.cls ≠ "java/lang/invoke/VarHandle" ∧ (parseMethodDescriptor y.desc).map (fun d => d.parameters.length) = some n) (hF : F' + 1 ≤ F ∧ 8 + (L + 11) + Lo' ≤ Lo) (hi : i < cn χ c) (hf : fam c (tg χ c i) = (1, ci, ft)) (hc : vcl[ci]? = some (C, T, N)) (hn : As.length = n) (hs : st0 = As.reverse ++ .ref (ad c i) :: st) (hst : (st.map fun v => v.category).sum ≤ 8) (hd : decode cc pc = .ok (.invokevirtual index, 3))
    (kk : ∀ r ad' χ', Q r χ' → Ext χ χ' ad ad' → G X ad' χ' (pc + 3) lv (.long r :: st)) : G X ad χ pc lv st0 :=
  g_callV h hM hw (fun z => by rw [hnf] at z; cases z) q1 q2 q3 q4 q5 hd0 hF hi hf hc hn hs hst hd (fun v ad' χ' hP hna hE => by
    obtain ⟨r, rfl, hf⟩ := hP
    exact kk r ad' χ' hf hE)
theorem g_callVAv (h : Ok X cc own ret y0 nL F Lo Pst) (hnf : X.na = false) {Q : St → Prop} (hM : Mt X.l y (ws_ y b L r) (rmO F' Lo' χ) (Pm X.Γ ad χ (.ref (ad c i) :: As) Wp) (Qm X.Γ false ad χ (pV Q)) (frB X.Γ)) (hw : Wp)
    (q1 : Cond.methodLink own index y ∈ lw_all) (q2 : Cond.instanceMethod y ∈ lw_all) (q3 : Cond.selects C y y ∈ lw_all) (q4 : Cond.initialized C ∈ lw_all) (q5 : Cond.code y b L r ∈ lw_all) (hd0 : y.cls = C ∧ y.cls ≠ "java/lang/invoke/MethodHandle" ∧ y.cls ≠ "java/lang/invoke/VarHandle" ∧ (parseMethodDescriptor y.desc).map (fun d => d.parameters.length) = some n) (hF : F' + 1 ≤ F ∧ 8 + (L + 11) + Lo' ≤ Lo) (hi : i < cn χ c) (hf : fam c (tg χ c i) = (1, ci, ft)) (hc : vcl[ci]? = some (C, T, N)) (hn : As.length = n) (hs : st0 = As.reverse ++ .ref (ad c i) :: st) (hst : (st.map fun v => v.category).sum ≤ 8) (hd : decode cc pc = .ok (.invokevirtual index, 3))
    (kk : ∀ ad' χ', Q χ' → Ext χ χ' ad ad' → G X ad' χ' (pc + 3) lv (st)) : G X ad χ pc lv st0 :=
  g_callV h hM hw (fun z => by rw [hnf] at z; cases z) q1 q2 q3 q4 q5 hd0 hF hi hf hc hn hs hst hd (fun v ad' χ' hP hna hE => by
    obtain ⟨rfl, hf⟩ := hP
    exact kk ad' χ' hf hE)
theorem g_callVAr (h : Ok X cc own ret y0 nL F Lo Pst) (hnf : X.na = false) {Q : Option Nat → St → Prop} (dr : Nat) (hM : Mt X.l y (ws_ y b L r) (rmO F' Lo' χ) (Pm X.Γ ad χ (.ref (ad c i) :: As) Wp) (Qm X.Γ false ad χ (pR dr Q)) (frB X.Γ)) (hw : Wp)
    (q1 : Cond.methodLink own index y ∈ lw_all) (q2 : Cond.instanceMethod y ∈ lw_all) (q3 : Cond.selects C y y ∈ lw_all) (q4 : Cond.initialized C ∈ lw_all) (q5 : Cond.code y b L r ∈ lw_all) (hd0 : y.cls = C ∧ y.cls ≠ "java/lang/invoke/MethodHandle" ∧ y.cls ≠ "java/lang/invoke/VarHandle" ∧ (parseMethodDescriptor y.desc).map (fun d => d.parameters.length) = some n) (hF : F' + 1 ≤ F ∧ 8 + (L + 11) + Lo' ≤ Lo) (hi : i < cn χ c) (hf : fam c (tg χ c i) = (1, ci, ft)) (hc : vcl[ci]? = some (C, T, N)) (hn : As.length = n) (hs : st0 = As.reverse ++ .ref (ad c i) :: st) (hst : (st.map fun v => v.category).sum ≤ 8) (hd : decode cc pc = .ok (.invokevirtual index, 3))
    (kk : ∀ r ad' χ', (∀ x, r = some x → x < cn χ' dr) → Q r χ' → Ext χ χ' ad ad' → G X ad' χ' (pc + 3) lv (va_rf (r.map (ad' dr)) :: st)) : G X ad χ pc lv st0 :=
  g_callV h hM hw (fun z => by rw [hnf] at z; cases z) q1 q2 q3 q4 q5 hd0 hF hi hf hc hn hs hst hd (fun v ad' χ' hP hna hE => by
    obtain ⟨r, rfl, hvv, hf⟩ := hP
    exact kk r ad' χ' hvv hf hE)
theorem g_callSr (h : Ok X cc own ret y0 nL F Lo Pst) {Q : Option Nat → St → Prop} (dr : Nat) (hM : Mt X.l y (ws_ y b L r) (rmO F' Lo' χ) (Pm X.Γ ad χ (As) Wp) (Qm X.Γ true ad χ (pR dr Q)) (frB X.Γ)) (hw : Wp)
    (q1 : Cond.methodLink own index y ∈ lw_all) (q2 : Cond.static y ∈ lw_all) (q4 : Cond.initialized y.cls ∈ lw_all) (q5 : Cond.code y b L r ∈ lw_all) (hd0 : y.cls ≠ "java/lang/invoke/MethodHandle" ∧ y.cls ≠ "java/lang/invoke/VarHandle" ∧ (parseMethodDescriptor y.desc).map (fun d => d.parameters.length) = some n) (hF : F' + 1 ≤ F ∧ 8 + (L + 11) + Lo' ≤ Lo) (hn : As.length = n) (hs : st0 = As.reverse ++ st) (hst : (st.map fun v => v.category).sum ≤ 8) (hd : decode cc pc = .ok (.invokestatic index, 3))
    (kk : ∀ r χ', (∀ x, r = some x → x < cn χ' dr) → Q r χ' → (∀ c, cn χ c ≤ cn χ' c) → G X ad χ' (pc + 3) lv (va_rf (r.map (ad dr)) :: st)) : G X ad χ pc lv st0 :=
  g_callS h hM hw (fun _ => rfl) q1 q2 q4 q5 hd0 hF hn hs hst hd (fun v ad' χ' hP hna hE => by
    obtain ⟨r, rfl, hvv, hf⟩ := hP
    obtain rfl := hna rfl
    exact kk r χ' hvv hf hE.2)
theorem g_callSAi (h : Ok X cc own ret y0 nL F Lo Pst) (hnf : X.na = false) {Q : Int32 → St → Prop} (hM : Mt X.l y (ws_ y b L r) (rmO F' Lo' χ) (Pm X.Γ ad χ (As) Wp) (Qm X.Γ false ad χ (pI Q)) (frB X.Γ)) (hw : Wp)
    (q1 : Cond.methodLink own index y ∈ lw_all) (q2 : Cond.static y ∈ lw_all) (q4 : Cond.initialized y.cls ∈ lw_all) (q5 : Cond.code y b L r ∈ lw_all) (hd0 : y.cls ≠ "java/lang/invoke/MethodHandle" ∧ y.cls ≠ "java/lang/invoke/VarHandle" ∧ (parseMethodDescriptor y.desc).map (fun d => d.parameters.length) = some n) (hF : F' + 1 ≤ F ∧ 8 + (L + 11) + Lo' ≤ Lo) (hn : As.length = n) (hs : st0 = As.reverse ++ st) (hst : (st.map fun v => v.category).sum ≤ 8) (hd : decode cc pc = .ok (.invokestatic index, 3))
    (kk : ∀ r ad' χ', Q r χ' → Ext χ χ' ad ad' → G X ad' χ' (pc + 3) lv (.int r :: st)) : G X ad χ pc lv st0 :=
  g_callS h hM hw (fun z => by rw [hnf] at z; cases z) q1 q2 q4 q5 hd0 hF hn hs hst hd (fun v ad' χ' hP hna hE => by
    obtain ⟨r, rfl, hf⟩ := hP
    exact kk r ad' χ' hf hE)
theorem g_callSAl (h : Ok X cc own ret y0 nL F Lo Pst) (hnf : X.na = false) {Q : Int64 → St → Prop} (hM : Mt X.l y (ws_ y b L r) (rmO F' Lo' χ) (Pm X.Γ ad χ (As) Wp) (Qm X.Γ false ad χ (pL Q)) (frB X.Γ)) (hw : Wp)
    (q1 : Cond.methodLink own index y ∈ lw_all) (q2 : Cond.static y ∈ lw_all) (q4 : Cond.initialized y.cls ∈ lw_all) (q5 : Cond.code y b L r ∈ lw_all) (hd0 : y.cls ≠ "java/lang/invoke/MethodHandle" ∧ y.cls ≠ "java/lang/invoke/VarHandle" ∧ (parseMethodDescriptor y.desc).map (fun d => d.parameters.length) = some n) (hF : F' + 1 ≤ F ∧ 8 + (L + 11) + Lo' ≤ Lo) (hn : As.length = n) (hs : st0 = As.reverse ++ st) (hst : (st.map fun v => v.category).sum ≤ 8) (hd : decode cc pc = .ok (.invokestatic index, 3))
    (kk : ∀ r ad' χ', Q r χ' → Ext χ χ' ad ad' → G X ad' χ' (pc + 3) lv (.long r :: st)) : G X ad χ pc lv st0 :=
  g_callS h hM hw (fun z => by rw [hnf] at z; cases z) q1 q2 q4 q5 hd0 hF hn hs hst hd (fun v ad' χ' hP hna hE => by
    obtain ⟨r, rfl, hf⟩ := hP
    exact kk r ad' χ' hf hE)
theorem g_callSAv (h : Ok X cc own ret y0 nL F Lo Pst) (hnf : X.na = false) {Q : St → Prop} (hM : Mt X.l y (ws_ y b L r) (rmO F' Lo' χ) (Pm X.Γ ad χ (As) Wp) (Qm X.Γ false ad χ (pV Q)) (frB X.Γ)) (hw : Wp)
    (q1 : Cond.methodLink own index y ∈ lw_all) (q2 : Cond.static y ∈ lw_all) (q4 : Cond.initialized y.cls ∈ lw_all) (q5 : Cond.code y b L r ∈ lw_all) (hd0 : y.cls ≠ "java/lang/invoke/MethodHandle" ∧ y.cls ≠ "java/lang/invoke/VarHandle" ∧ (parseMethodDescriptor y.desc).map (fun d => d.parameters.length) = some n) (hF : F' + 1 ≤ F ∧ 8 + (L + 11) + Lo' ≤ Lo) (hn : As.length = n) (hs : st0 = As.reverse ++ st) (hst : (st.map fun v => v.category).sum ≤ 8) (hd : decode cc pc = .ok (.invokestatic index, 3))
    (kk : ∀ ad' χ', Q χ' → Ext χ χ' ad ad' → G X ad' χ' (pc + 3) lv (st)) : G X ad χ pc lv st0 :=
  g_callS h hM hw (fun z => by rw [hnf] at z; cases z) q1 q2 q4 q5 hd0 hF hn hs hst hd (fun v ad' χ' hP hna hE => by
    obtain ⟨rfl, hf⟩ := hP
    exact kk ad' χ' hf hE)
theorem g_callSAr (h : Ok X cc own ret y0 nL F Lo Pst) (hnf : X.na = false) {Q : Option Nat → St → Prop} (dr : Nat) (hM : Mt X.l y (ws_ y b L r) (rmO F' Lo' χ) (Pm X.Γ ad χ (As) Wp) (Qm X.Γ false ad χ (pR dr Q)) (frB X.Γ)) (hw : Wp)
    (q1 : Cond.methodLink own index y ∈ lw_all) (q2 : Cond.static y ∈ lw_all) (q4 : Cond.initialized y.cls ∈ lw_all) (q5 : Cond.code y b L r ∈ lw_all) (hd0 : y.cls ≠ "java/lang/invoke/MethodHandle" ∧ y.cls ≠ "java/lang/invoke/VarHandle" ∧ (parseMethodDescriptor y.desc).map (fun d => d.parameters.length) = some n) (hF : F' + 1 ≤ F ∧ 8 + (L + 11) + Lo' ≤ Lo) (hn : As.length = n) (hs : st0 = As.reverse ++ st) (hst : (st.map fun v => v.category).sum ≤ 8) (hd : decode cc pc = .ok (.invokestatic index, 3))
    (kk : ∀ r ad' χ', (∀ x, r = some x → x < cn χ' dr) → Q r χ' → Ext χ χ' ad ad' → G X ad' χ' (pc + 3) lv (va_rf (r.map (ad' dr)) :: st)) : G X ad χ pc lv st0 :=
  g_callS h hM hw (fun z => by rw [hnf] at z; cases z) q1 q2 q4 q5 hd0 hF hn hs hst hd (fun v ad' χ' hP hna hE => by
    obtain ⟨r, rfl, hvv, hf⟩ := hP
    exact kk r ad' χ' hvv hf hE)
theorem g_callVNi (h : Ok X cc own ret y0 nL F Lo Pst) {Q : Int32 → St → Prop} (hM : Mt X.l y (ws_ y b L r) (rmO F' Lo' χ) (Pm X.Γ ad χ (.ref (ad c i) :: As) Wp) (Qm X.Γ true ad χ (pI Q)) (frB X.Γ)) (hw : Wp)
    (q1 : Cond.methodLinkNest own index y host ∈ lw_tbl) (q2 : Cond.instanceMethod y ∈ lw_all) (q3 : Cond.selects C y y ∈ lw_all) (q4 : Cond.initialized y.cls ∈ lw_all) (q5 : Cond.code y b L r ∈ lw_all) (hd0 : y.cls ≠ "java/lang/invoke/MethodHandle" ∧ y.cls ≠ "java/lang/invoke/VarHandle" ∧ (parseMethodDescriptor y.desc).map (fun d => d.parameters.length) = some n) (hF : F' + 1 ≤ F ∧ 8 + (L + 11) + Lo' ≤ Lo) (hi : i < cn χ c) (hf : fam c (tg χ c i) = (1, ci, ft)) (hc : vcl[ci]? = some (C, T, N)) (hn : As.length = n) (hs : st0 = As.reverse ++ .ref (ad c i) :: st) (hst : (st.map fun v => v.category).sum ≤ 8) (hd : decode cc pc = .ok (.invokevirtual index, 3))
    (kk : ∀ r χ', Q r χ' → (∀ c, cn χ c ≤ cn χ' c) → G X ad χ' (pc + 3) lv (.int r :: st)) : G X ad χ pc lv st0 :=
  g_callVN h hM hw (fun _ => rfl) q1 q2 q3 q4 q5 hd0 hF hi hf hc hn hs hst hd (fun v ad' χ' hP hna hE => by
    obtain ⟨r, rfl, hf⟩ := hP
    obtain rfl := hna rfl
    exact kk r χ' hf hE.2)
theorem g_callVNl (h : Ok X cc own ret y0 nL F Lo Pst) {Q : Int64 → St → Prop} (hM : Mt X.l y (ws_ y b L r) (rmO F' Lo' χ) (Pm X.Γ ad χ (.ref (ad c i) :: As) Wp) (Qm X.Γ true ad χ (pL Q)) (frB X.Γ)) (hw : Wp)
    (q1 : Cond.methodLinkNest own index y host ∈ lw_tbl) (q2 : Cond.instanceMethod y ∈ lw_all) (q3 : Cond.selects C y y ∈ lw_all) (q4 : Cond.initialized y.cls ∈ lw_all) (q5 : Cond.code y b L r ∈ lw_all) (hd0 : y.cls ≠ "java/lang/invoke/MethodHandle" ∧ y.cls ≠ "java/lang/invoke/VarHandle" ∧ (parseMethodDescriptor y.desc).map (fun d => d.parameters.length) = some n) (hF : F' + 1 ≤ F ∧ 8 + (L + 11) + Lo' ≤ Lo) (hi : i < cn χ c) (hf : fam c (tg χ c i) = (1, ci, ft)) (hc : vcl[ci]? = some (C, T, N)) (hn : As.length = n) (hs : st0 = As.reverse ++ .ref (ad c i) :: st) (hst : (st.map fun v => v.category).sum ≤ 8) (hd : decode cc pc = .ok (.invokevirtual index, 3))
    (kk : ∀ r χ', Q r χ' → (∀ c, cn χ c ≤ cn χ' c) → G X ad χ' (pc + 3) lv (.long r :: st)) : G X ad χ pc lv st0 :=
  g_callVN h hM hw (fun _ => rfl) q1 q2 q3 q4 q5 hd0 hF hi hf hc hn hs hst hd (fun v ad' χ' hP hna hE => by
    obtain ⟨r, rfl, hf⟩ := hP
    obtain rfl := hna rfl
    exact kk r χ' hf hE.2)
theorem g_callVNv (h : Ok X cc own ret y0 nL F Lo Pst) {Q : St → Prop} (hM : Mt X.l y (ws_ y b L r) (rmO F' Lo' χ) (Pm X.Γ ad χ (.ref (ad c i) :: As) Wp) (Qm X.Γ true ad χ (pV Q)) (frB X.Γ)) (hw : Wp)
    (q1 : Cond.methodLinkNest own index y host ∈ lw_tbl) (q2 : Cond.instanceMethod y ∈ lw_all) (q3 : Cond.selects C y y ∈ lw_all) (q4 : Cond.initialized y.cls ∈ lw_all) (q5 : Cond.code y b L r ∈ lw_all) (hd0 : y.cls ≠ "java/lang/invoke/MethodHandle" ∧ y.cls ≠ "java/lang/invoke/VarHandle" ∧ (parseMethodDescriptor y.desc).map (fun d => d.parameters.length) = some n) (hF : F' + 1 ≤ F ∧ 8 + (L + 11) + Lo' ≤ Lo) (hi : i < cn χ c) (hf : fam c (tg χ c i) = (1, ci, ft)) (hc : vcl[ci]? = some (C, T, N)) (hn : As.length = n) (hs : st0 = As.reverse ++ .ref (ad c i) :: st) (hst : (st.map fun v => v.category).sum ≤ 8) (hd : decode cc pc = .ok (.invokevirtual index, 3))
    (kk : ∀ χ', Q χ' → (∀ c, cn χ c ≤ cn χ' c) → G X ad χ' (pc + 3) lv (st)) : G X ad χ pc lv st0 :=
  g_callVN h hM hw (fun _ => rfl) q1 q2 q3 q4 q5 hd0 hF hi hf hc hn hs hst hd (fun v ad' χ' hP hna hE => by
    obtain ⟨rfl, hf⟩ := hP
    obtain rfl := hna rfl
    exact kk χ' hf hE.2)
theorem g_callVNr (h : Ok X cc own ret y0 nL F Lo Pst) {Q : Option Nat → St → Prop} (dr : Nat) (hM : Mt X.l y (ws_ y b L r) (rmO F' Lo' χ) (Pm X.Γ ad χ (.ref (ad c i) :: As) Wp) (Qm X.Γ true ad χ (pR dr Q)) (frB X.Γ)) (hw : Wp)
    (q1 : Cond.methodLinkNest own index y host ∈ lw_tbl) (q2 : Cond.instanceMethod y ∈ lw_all) (q3 : Cond.selects C y y ∈ lw_all) (q4 : Cond.initialized y.cls ∈ lw_all) (q5 : Cond.code y b L r ∈ lw_all) (hd0 : y.cls ≠ "java/lang/invoke/MethodHandle" ∧ y.cls ≠ "java/lang/invoke/VarHandle" ∧ (parseMethodDescriptor y.desc).map (fun d => d.parameters.length) = some n) (hF : F' + 1 ≤ F ∧ 8 + (L + 11) + Lo' ≤ Lo) (hi : i < cn χ c) (hf : fam c (tg χ c i) = (1, ci, ft)) (hc : vcl[ci]? = some (C, T, N)) (hn : As.length = n) (hs : st0 = As.reverse ++ .ref (ad c i) :: st) (hst : (st.map fun v => v.category).sum ≤ 8) (hd : decode cc pc = .ok (.invokevirtual index, 3))
    (kk : ∀ r χ', (∀ x, r = some x → x < cn χ' dr) → Q r χ' → (∀ c, cn χ c ≤ cn χ' c) → G X ad χ' (pc + 3) lv (va_rf (r.map (ad dr)) :: st)) : G X ad χ pc lv st0 :=
  g_callVN h hM hw (fun _ => rfl) q1 q2 q3 q4 q5 hd0 hF hi hf hc hn hs hst hd (fun v ad' χ' hP hna hE => by
    obtain ⟨r, rfl, hvv, hf⟩ := hP
    obtain rfl := hna rfl
    exact kk r χ' hvv hf hE.2)
theorem g_callVNAi (h : Ok X cc own ret y0 nL F Lo Pst) (hnf : X.na = false) {Q : Int32 → St → Prop} (hM : Mt X.l y (ws_ y b L r) (rmO F' Lo' χ) (Pm X.Γ ad χ (.ref (ad c i) :: As) Wp) (Qm X.Γ false ad χ (pI Q)) (frB X.Γ)) (hw : Wp)
    (q1 : Cond.methodLinkNest own index y host ∈ lw_tbl) (q2 : Cond.instanceMethod y ∈ lw_all) (q3 : Cond.selects C y y ∈ lw_all) (q4 : Cond.initialized y.cls ∈ lw_all) (q5 : Cond.code y b L r ∈ lw_all) (hd0 : y.cls ≠ "java/lang/invoke/MethodHandle" ∧ y.cls ≠ "java/lang/invoke/VarHandle" ∧ (parseMethodDescriptor y.desc).map (fun d => d.parameters.length) = some n) (hF : F' + 1 ≤ F ∧ 8 + (L + 11) + Lo' ≤ Lo) (hi : i < cn χ c) (hf : fam c (tg χ c i) = (1, ci, ft)) (hc : vcl[ci]? = some (C, T, N)) (hn : As.length = n) (hs : st0 = As.reverse ++ .ref (ad c i) :: st) (hst : (st.map fun v => v.category).sum ≤ 8) (hd : decode cc pc = .ok (.invokevirtual index, 3))
    (kk : ∀ r ad' χ', Q r χ' → Ext χ χ' ad ad' → G X ad' χ' (pc + 3) lv (.int r :: st)) : G X ad χ pc lv st0 :=
  g_callVN h hM hw (fun z => by rw [hnf] at z; cases z) q1 q2 q3 q4 q5 hd0 hF hi hf hc hn hs hst hd (fun v ad' χ' hP hna hE => by
    obtain ⟨r, rfl, hf⟩ := hP
    exact kk r ad' χ' hf hE)
theorem g_callVNAl (h : Ok X cc own ret y0 nL F Lo Pst) (hnf : X.na = false) {Q : Int64 → St → Prop} (hM : Mt X.l y (ws_ y b L r) (rmO F' Lo' χ) (Pm X.Γ ad χ (.ref (ad c i) :: As) Wp) (Qm X.Γ false ad χ (pL Q)) (frB X.Γ)) (hw : Wp)
    (q1 : Cond.methodLinkNest own index y host ∈ lw_tbl) (q2 : Cond.instanceMethod y ∈ lw_all) (q3 : Cond.selects C y y ∈ lw_all) (q4 : Cond.initialized y.cls ∈ lw_all) (q5 : Cond.code y b L r ∈ lw_all) (hd0 : y.cls ≠ "java/lang/invoke/MethodHandle" ∧ y.cls ≠ "java/lang/invoke/VarHandle" ∧ (parseMethodDescriptor y.desc).map (fun d => d.parameters.length) = some n) (hF : F' + 1 ≤ F ∧ 8 + (L + 11) + Lo' ≤ Lo) (hi : i < cn χ c) (hf : fam c (tg χ c i) = (1, ci, ft)) (hc : vcl[ci]? = some (C, T, N)) (hn : As.length = n) (hs : st0 = As.reverse ++ .ref (ad c i) :: st) (hst : (st.map fun v => v.category).sum ≤ 8) (hd : decode cc pc = .ok (.invokevirtual index, 3))
    (kk : ∀ r ad' χ', Q r χ' → Ext χ χ' ad ad' → G X ad' χ' (pc + 3) lv (.long r :: st)) : G X ad χ pc lv st0 :=
  g_callVN h hM hw (fun z => by rw [hnf] at z; cases z) q1 q2 q3 q4 q5 hd0 hF hi hf hc hn hs hst hd (fun v ad' χ' hP hna hE => by
    obtain ⟨r, rfl, hf⟩ := hP
    exact kk r ad' χ' hf hE)
theorem g_callVNAv (h : Ok X cc own ret y0 nL F Lo Pst) (hnf : X.na = false) {Q : St → Prop} (hM : Mt X.l y (ws_ y b L r) (rmO F' Lo' χ) (Pm X.Γ ad χ (.ref (ad c i) :: As) Wp) (Qm X.Γ false ad χ (pV Q)) (frB X.Γ)) (hw : Wp)
    (q1 : Cond.methodLinkNest own index y host ∈ lw_tbl) (q2 : Cond.instanceMethod y ∈ lw_all) (q3 : Cond.selects C y y ∈ lw_all) (q4 : Cond.initialized y.cls ∈ lw_all) (q5 : Cond.code y b L r ∈ lw_all) (hd0 : y.cls ≠ "java/lang/invoke/MethodHandle" ∧ y.cls ≠ "java/lang/invoke/VarHandle" ∧ (parseMethodDescriptor y.desc).map (fun d => d.parameters.length) = some n) (hF : F' + 1 ≤ F ∧ 8 + (L + 11) + Lo' ≤ Lo) (hi : i < cn χ c) (hf : fam c (tg χ c i) = (1, ci, ft)) (hc : vcl[ci]? = some (C, T, N)) (hn : As.length = n) (hs : st0 = As.reverse ++ .ref (ad c i) :: st) (hst : (st.map fun v => v.category).sum ≤ 8) (hd : decode cc pc = .ok (.invokevirtual index, 3))
    (kk : ∀ ad' χ', Q χ' → Ext χ χ' ad ad' → G X ad' χ' (pc + 3) lv (st)) : G X ad χ pc lv st0 :=
  g_callVN h hM hw (fun z => by rw [hnf] at z; cases z) q1 q2 q3 q4 q5 hd0 hF hi hf hc hn hs hst hd (fun v ad' χ' hP hna hE => by
    obtain ⟨rfl, hf⟩ := hP
    exact kk ad' χ' hf hE)
theorem g_callVNAr (h : Ok X cc own ret y0 nL F Lo Pst) (hnf : X.na = false) {Q : Option Nat → St → Prop} (dr : Nat) (hM : Mt X.l y (ws_ y b L r) (rmO F' Lo' χ) (Pm X.Γ ad χ (.ref (ad c i) :: As) Wp) (Qm X.Γ false ad χ (pR dr Q)) (frB X.Γ)) (hw : Wp)
    (q1 : Cond.methodLinkNest own index y host ∈ lw_tbl) (q2 : Cond.instanceMethod y ∈ lw_all) (q3 : Cond.selects C y y ∈ lw_all) (q4 : Cond.initialized y.cls ∈ lw_all) (q5 : Cond.code y b L r ∈ lw_all) (hd0 : y.cls ≠ "java/lang/invoke/MethodHandle" ∧ y.cls ≠ "java/lang/invoke/VarHandle" ∧ (parseMethodDescriptor y.desc).map (fun d => d.parameters.length) = some n) (hF : F' + 1 ≤ F ∧ 8 + (L + 11) + Lo' ≤ Lo) (hi : i < cn χ c) (hf : fam c (tg χ c i) = (1, ci, ft)) (hc : vcl[ci]? = some (C, T, N)) (hn : As.length = n) (hs : st0 = As.reverse ++ .ref (ad c i) :: st) (hst : (st.map fun v => v.category).sum ≤ 8) (hd : decode cc pc = .ok (.invokevirtual index, 3))
    (kk : ∀ r ad' χ', (∀ x, r = some x → x < cn χ' dr) → Q r χ' → Ext χ χ' ad ad' → G X ad' χ' (pc + 3) lv (va_rf (r.map (ad' dr)) :: st)) : G X ad χ pc lv st0 :=
  g_callVN h hM hw (fun z => by rw [hnf] at z; cases z) q1 q2 q3 q4 q5 hd0 hF hi hf hc hn hs hst hd (fun v ad' χ' hP hna hE => by
    obtain ⟨r, rfl, hvv, hf⟩ := hP
    exact kk r ad' χ' hvv hf hE)
theorem g_callSNi (h : Ok X cc own ret y0 nL F Lo Pst) {Q : Int32 → St → Prop} (hM : Mt X.l y (ws_ y b L r) (rmO F' Lo' χ) (Pm X.Γ ad χ (As) Wp) (Qm X.Γ true ad χ (pI Q)) (frB X.Γ)) (hw : Wp)
    (q1 : Cond.methodLinkNest own index y host ∈ lw_tbl) (q2 : Cond.static y ∈ lw_all) (q4 : Cond.initialized y.cls ∈ lw_all) (q5 : Cond.code y b L r ∈ lw_all) (hd0 : y.cls ≠ "java/lang/invoke/MethodHandle" ∧ y.cls ≠ "java/lang/invoke/VarHandle" ∧ (parseMethodDescriptor y.desc).map (fun d => d.parameters.length) = some n) (hF : F' + 1 ≤ F ∧ 8 + (L + 11) + Lo' ≤ Lo) (hn : As.length = n) (hs : st0 = As.reverse ++ st) (hst : (st.map fun v => v.category).sum ≤ 8) (hd : decode cc pc = .ok (.invokestatic index, 3))
    (kk : ∀ r χ', Q r χ' → (∀ c, cn χ c ≤ cn χ' c) → G X ad χ' (pc + 3) lv (.int r :: st)) : G X ad χ pc lv st0 :=
  g_callSN h hM hw (fun _ => rfl) q1 q2 q4 q5 hd0 hF hn hs hst hd (fun v ad' χ' hP hna hE => by
    obtain ⟨r, rfl, hf⟩ := hP
    obtain rfl := hna rfl
    exact kk r χ' hf hE.2)
theorem g_callSNl (h : Ok X cc own ret y0 nL F Lo Pst) {Q : Int64 → St → Prop} (hM : Mt X.l y (ws_ y b L r) (rmO F' Lo' χ) (Pm X.Γ ad χ (As) Wp) (Qm X.Γ true ad χ (pL Q)) (frB X.Γ)) (hw : Wp)
    (q1 : Cond.methodLinkNest own index y host ∈ lw_tbl) (q2 : Cond.static y ∈ lw_all) (q4 : Cond.initialized y.cls ∈ lw_all) (q5 : Cond.code y b L r ∈ lw_all) (hd0 : y.cls ≠ "java/lang/invoke/MethodHandle" ∧ y.cls ≠ "java/lang/invoke/VarHandle" ∧ (parseMethodDescriptor y.desc).map (fun d => d.parameters.length) = some n) (hF : F' + 1 ≤ F ∧ 8 + (L + 11) + Lo' ≤ Lo) (hn : As.length = n) (hs : st0 = As.reverse ++ st) (hst : (st.map fun v => v.category).sum ≤ 8) (hd : decode cc pc = .ok (.invokestatic index, 3))
    (kk : ∀ r χ', Q r χ' → (∀ c, cn χ c ≤ cn χ' c) → G X ad χ' (pc + 3) lv (.long r :: st)) : G X ad χ pc lv st0 :=
  g_callSN h hM hw (fun _ => rfl) q1 q2 q4 q5 hd0 hF hn hs hst hd (fun v ad' χ' hP hna hE => by
    obtain ⟨r, rfl, hf⟩ := hP
    obtain rfl := hna rfl
    exact kk r χ' hf hE.2)
theorem g_callSNv (h : Ok X cc own ret y0 nL F Lo Pst) {Q : St → Prop} (hM : Mt X.l y (ws_ y b L r) (rmO F' Lo' χ) (Pm X.Γ ad χ (As) Wp) (Qm X.Γ true ad χ (pV Q)) (frB X.Γ)) (hw : Wp)
    (q1 : Cond.methodLinkNest own index y host ∈ lw_tbl) (q2 : Cond.static y ∈ lw_all) (q4 : Cond.initialized y.cls ∈ lw_all) (q5 : Cond.code y b L r ∈ lw_all) (hd0 : y.cls ≠ "java/lang/invoke/MethodHandle" ∧ y.cls ≠ "java/lang/invoke/VarHandle" ∧ (parseMethodDescriptor y.desc).map (fun d => d.parameters.length) = some n) (hF : F' + 1 ≤ F ∧ 8 + (L + 11) + Lo' ≤ Lo) (hn : As.length = n) (hs : st0 = As.reverse ++ st) (hst : (st.map fun v => v.category).sum ≤ 8) (hd : decode cc pc = .ok (.invokestatic index, 3))
    (kk : ∀ χ', Q χ' → (∀ c, cn χ c ≤ cn χ' c) → G X ad χ' (pc + 3) lv (st)) : G X ad χ pc lv st0 :=
  g_callSN h hM hw (fun _ => rfl) q1 q2 q4 q5 hd0 hF hn hs hst hd (fun v ad' χ' hP hna hE => by
    obtain ⟨rfl, hf⟩ := hP
    obtain rfl := hna rfl
    exact kk χ' hf hE.2)
theorem g_callSNr (h : Ok X cc own ret y0 nL F Lo Pst) {Q : Option Nat → St → Prop} (dr : Nat) (hM : Mt X.l y (ws_ y b L r) (rmO F' Lo' χ) (Pm X.Γ ad χ (As) Wp) (Qm X.Γ true ad χ (pR dr Q)) (frB X.Γ)) (hw : Wp)
    (q1 : Cond.methodLinkNest own index y host ∈ lw_tbl) (q2 : Cond.static y ∈ lw_all) (q4 : Cond.initialized y.cls ∈ lw_all) (q5 : Cond.code y b L r ∈ lw_all) (hd0 : y.cls ≠ "java/lang/invoke/MethodHandle" ∧ y.cls ≠ "java/lang/invoke/VarHandle" ∧ (parseMethodDescriptor y.desc).map (fun d => d.parameters.length) = some n) (hF : F' + 1 ≤ F ∧ 8 + (L + 11) + Lo' ≤ Lo) (hn : As.length = n) (hs : st0 = As.reverse ++ st) (hst : (st.map fun v => v.category).sum ≤ 8) (hd : decode cc pc = .ok (.invokestatic index, 3))
    (kk : ∀ r χ', (∀ x, r = some x → x < cn χ' dr) → Q r χ' → (∀ c, cn χ c ≤ cn χ' c) → G X ad χ' (pc + 3) lv (va_rf (r.map (ad dr)) :: st)) : G X ad χ pc lv st0 :=
  g_callSN h hM hw (fun _ => rfl) q1 q2 q4 q5 hd0 hF hn hs hst hd (fun v ad' χ' hP hna hE => by
    obtain ⟨r, rfl, hvv, hf⟩ := hP
    obtain rfl := hna rfl
    exact kk r χ' hvv hf hE.2)
theorem g_callIv (h : Ok X cc own ret y0 nL F Lo Pst) {Q : St → Prop} (hM : Mt X.l y (ws_ y b L none) (rmO F' Lo' χ) (Pm X.Γ ad χ (.ref (ad c i) :: As) Wp) (Qm X.Γ true ad χ (pV Q)) (frB X.Γ)) (hw : Wp)
    (hy1 : y.name = "<init>") (q1 : Cond.methodLink own index y ∈ lw_all) (q2 : Cond.instanceMethod y ∈ lw_all) (q4 : Cond.initialized y.cls ∈ lw_all) (q5 : Cond.code y b L none ∈ lw_all) (hd0 : y.cls ≠ "java/lang/invoke/MethodHandle" ∧ y.cls ≠ "java/lang/invoke/VarHandle" ∧ (parseMethodDescriptor y.desc).map (fun d => d.parameters.length) = some n) (hF : F' + 1 ≤ F ∧ 8 + (L + 11) + Lo' ≤ Lo) (hn : As.length = n) (hs : st0 = As.reverse ++ .ref (ad c i) :: st) (hst : (st.map fun v => v.category).sum ≤ 8) (hd : decode cc pc = .ok (.invokespecial index, 3))
    (kk : ∀ χ', Q χ' → (∀ c, cn χ c ≤ cn χ' c) → G X ad χ' (pc + 3) lv (st)) : G X ad χ pc lv st0 :=
  g_callI h hM hw (fun _ => rfl) hy1 q1 q2 q4 q5 hd0 hF hn hs hst hd (fun v ad' χ' hP hna hE => by
    obtain ⟨rfl, hf⟩ := hP
    obtain rfl := hna rfl
    exact kk χ' hf hE.2)
theorem g_callIAv (h : Ok X cc own ret y0 nL F Lo Pst) (hnf : X.na = false) {Q : St → Prop} (hM : Mt X.l y (ws_ y b L none) (rmO F' Lo' χ) (Pm X.Γ ad χ (.ref (ad c i) :: As) Wp) (Qm X.Γ false ad χ (pV Q)) (frB X.Γ)) (hw : Wp)
    (hy1 : y.name = "<init>") (q1 : Cond.methodLink own index y ∈ lw_all) (q2 : Cond.instanceMethod y ∈ lw_all) (q4 : Cond.initialized y.cls ∈ lw_all) (q5 : Cond.code y b L none ∈ lw_all) (hd0 : y.cls ≠ "java/lang/invoke/MethodHandle" ∧ y.cls ≠ "java/lang/invoke/VarHandle" ∧ (parseMethodDescriptor y.desc).map (fun d => d.parameters.length) = some n) (hF : F' + 1 ≤ F ∧ 8 + (L + 11) + Lo' ≤ Lo) (hn : As.length = n) (hs : st0 = As.reverse ++ .ref (ad c i) :: st) (hst : (st.map fun v => v.category).sum ≤ 8) (hd : decode cc pc = .ok (.invokespecial index, 3))
    (kk : ∀ ad' χ', Q χ' → Ext χ χ' ad ad' → G X ad' χ' (pc + 3) lv (st)) : G X ad χ pc lv st0 :=
  g_callI h hM hw (fun z => by rw [hnf] at z; cases z) hy1 q1 q2 q4 q5 hd0 hF hn hs hst hd (fun v ad' χ' hP hna hE => by
    obtain ⟨rfl, hf⟩ := hP
    exact kk ad' χ' hf hE)
theorem g_callINv (h : Ok X cc own ret y0 nL F Lo Pst) {Q : St → Prop} (hM : Mt X.l y (ws_ y b L none) (rmO F' Lo' χ) (Pm X.Γ ad χ (.ref (ad c i) :: As) Wp) (Qm X.Γ true ad χ (pV Q)) (frB X.Γ)) (hw : Wp)
    (hy1 : y.name = "<init>") (q1 : Cond.methodLinkNest own index y host ∈ lw_tbl) (q2 : Cond.instanceMethod y ∈ lw_all) (q4 : Cond.initialized y.cls ∈ lw_all) (q5 : Cond.code y b L none ∈ lw_all) (hd0 : y.cls ≠ "java/lang/invoke/MethodHandle" ∧ y.cls ≠ "java/lang/invoke/VarHandle" ∧ (parseMethodDescriptor y.desc).map (fun d => d.parameters.length) = some n) (hF : F' + 1 ≤ F ∧ 8 + (L + 11) + Lo' ≤ Lo) (hn : As.length = n) (hs : st0 = As.reverse ++ .ref (ad c i) :: st) (hst : (st.map fun v => v.category).sum ≤ 8) (hd : decode cc pc = .ok (.invokespecial index, 3))
    (kk : ∀ χ', Q χ' → (∀ c, cn χ c ≤ cn χ' c) → G X ad χ' (pc + 3) lv (st)) : G X ad χ pc lv st0 :=
  g_callIN h hM hw (fun _ => rfl) hy1 q1 q2 q4 q5 hd0 hF hn hs hst hd (fun v ad' χ' hP hna hE => by
    obtain ⟨rfl, hf⟩ := hP
    obtain rfl := hna rfl
    exact kk χ' hf hE.2)
theorem g_callINAv (h : Ok X cc own ret y0 nL F Lo Pst) (hnf : X.na = false) {Q : St → Prop} (hM : Mt X.l y (ws_ y b L none) (rmO F' Lo' χ) (Pm X.Γ ad χ (.ref (ad c i) :: As) Wp) (Qm X.Γ false ad χ (pV Q)) (frB X.Γ)) (hw : Wp)
    (hy1 : y.name = "<init>") (q1 : Cond.methodLinkNest own index y host ∈ lw_tbl) (q2 : Cond.instanceMethod y ∈ lw_all) (q4 : Cond.initialized y.cls ∈ lw_all) (q5 : Cond.code y b L none ∈ lw_all) (hd0 : y.cls ≠ "java/lang/invoke/MethodHandle" ∧ y.cls ≠ "java/lang/invoke/VarHandle" ∧ (parseMethodDescriptor y.desc).map (fun d => d.parameters.length) = some n) (hF : F' + 1 ≤ F ∧ 8 + (L + 11) + Lo' ≤ Lo) (hn : As.length = n) (hs : st0 = As.reverse ++ .ref (ad c i) :: st) (hst : (st.map fun v => v.category).sum ≤ 8) (hd : decode cc pc = .ok (.invokespecial index, 3))
    (kk : ∀ ad' χ', Q χ' → Ext χ χ' ad ad' → G X ad' χ' (pc + 3) lv (st)) : G X ad χ pc lv st0 :=
  g_callIN h hM hw (fun z => by rw [hnf] at z; cases z) hy1 q1 q2 q4 q5 hd0 hF hn hs hst hd (fun v ad' χ' hP hna hE => by
    obtain ⟨rfl, hf⟩ := hP
    exact kk ad' χ' hf hE)
end GX
