set_option maxRecDepth 100000
theorem Iv.old {X : Cx} {ad : Nat → Nat → Nat} {χ : St} {H : Heap} {locs : List Loc} {cells slots : Nat} (hI : Iv X ad χ H locs cells slots) {q : Nat} (hq : ¬ X.Γ.1 ≤ q) : H[q]? = X.Γ.2.1[q]? := hI.1.2.2.1 q (Nat.not_le.mp hq)
theorem cat_rf {r : Option Nat} : (va_rf r).category = 1 := by cases r <;> rfl
theorem cat_i {x : Int32} : (Value.int x).category = 1 := rfl
theorem cat_l {x : Int64} : (Value.long x).category = 2 := rfl
theorem cat_r {x : Nat} : (Value.ref x).category = 1 := rfl
theorem cat_n : Value.null.category = 1 := rfl
theorem filt_1 {lv : List (Nat × Value)} {i : Nat} (h : ∀ q ∈ lv, q.2.category = 1) : lv.filter (fun q => !(q.1 == i) && !(q.1 + 1 == i && q.2.category == 2)) = lv.filter (fun q => !(q.1 == i)) := by
  apply List.filter_congr
  intro q hq
  rw [h q hq]
  simp
section GST
variable {X : Cx} {cc : ByteArray} {own host : String} {ret : Option FieldType} {y0 : MethodName} {nL F Lo : Nat} {Pst : Option Value → (Nat → Nat → Nat) → St → Prop} {ad : Nat → Nat → Nat} {χ : St} {pc i index : Nat} {lv lv2 : List (Nat × Value)} {st st0 : List Value} {j : Int32}
theorem g_strO (h : Ok X cc own ret y0 nL F Lo Pst) {o n d : String} {v : Value} {q : Nat} (hE : va_OF o n d v q (fun q => X.Γ.1 ≤ q) X.s X.Γ.2.1) (hlink : Cond.fieldLink own index o n d ∈ lw_all) (hd : decode cc pc = .ok (.getfield index, 3)) (kk : G X ad χ (pc + 3) lv (v :: st)) : G X ad χ pc lv (.ref q :: st) := by
  intro ls H locs cells slots hl hI
  obtain ⟨cf, k, fi, f, cell, h1, h2, h3, h4, h5, h6⟩ := hE
  exact W.getf h.1 h.2.1 h.2.2.2.2.2.1 (h.2.2.2.2.2.2.1 _ hlink) h1 h2 (by rw [hI.old h6]; exact h3) h4 h5 rfl rfl hd (kk ls H locs cells slots hl hI)
theorem g_strValue (h : Ok X cc own ret y0 nL F Lo Pst) (hi : i < 4) (hlink : Cond.fieldLink own index "java/lang/String" "value" "[B" ∈ lw_all) (hd : decode cc pc = .ok (.getfield index, 3)) (kk : G X ad χ (pc + 3) lv (.ref (stV X.Γ i) :: st)) : G X ad χ pc lv (.ref (stA X.Γ i) :: st) := g_strO h (h.2.2.2.2.2.2.2.1.2.2.2.1.1.1 i hi).2.2.1 hlink hd kk
theorem g_strCoder (h : Ok X cc own ret y0 nL F Lo Pst) (hi : i < 4) (hlink : Cond.fieldLink own index "java/lang/String" "coder" "B" ∈ lw_all) (hd : decode cc pc = .ok (.getfield index, 3)) (kk : G X ad χ (pc + 3) lv (.int 0 :: st)) : G X ad χ pc lv (.ref (stA X.Γ i) :: st) := g_strO h (h.2.2.2.2.2.2.2.1.2.2.2.1.1.1 i hi).2.1 hlink hd kk
theorem g_strLen (h : Ok X cc own ret y0 nL F Lo Pst) (hi : i < 4) (hd : decode cc pc = .ok (.arraylength, 1)) (kk : G X ad χ (pc + 1) lv (.int (nI (sLen.getD i 0)) :: st)) : G X ad χ pc lv (.ref (stV X.Γ i) :: st) := by
  intro ls H locs cells slots hl hI
  obtain ⟨cell, h1, h2, h3, h4, h5, h6, h7⟩ := (h.2.2.2.2.2.2.2.1.2.2.2.1.1.1 i hi).2.2.2
  exact W.alen (n := nI (sLen.getD i 0)) h.1 h.2.1 (by rw [hI.old h7]; exact h1) h2 h5 rfl rfl hd (kk ls H locs cells slots hl hI)
theorem g_strAt (h : Ok X cc own ret y0 nL F Lo Pst) (hi : i < 4) (hj : vp_in j (sLen.getD i 0)) (hd : decode cc pc = .ok (.baload, 1)) (kk : G X ad χ (pc + 1) lv (.int ((sByt.getD i []).getD j.toNatClampNeg 0) :: st)) : G X ad χ pc lv (.int j :: .ref (stV X.Γ i) :: st) := by
  intro ls H locs cells slots hl hI
  obtain ⟨cell, h1, h2, h3, h4, h5, h6, h7⟩ := (h.2.2.2.2.2.2.2.1.2.2.2.1.1.1 i hi).2.2.2
  have hlt : j.toNatClampNeg < sLen.getD i 0 := vp_lt hj
  exact W.bald (v := .int ((sByt.getD i []).getD j.toNatClampNeg 0)) h.1 h.2.1 (by rw [hI.old h7]; exact h1) h2 h3 (fun z => hj (z.elim Or.inl (fun z => absurd z (by omega)))) (h6 _ hlt) rfl rfl hd (kk ls H locs cells slots hl hI)
theorem g_compact (h : Ok X cc own ret y0 nL F Lo Pst) (hlink : Cond.fieldLink own index "java/lang/String" "COMPACT_STRINGS" "Z" ∈ lw_all) (hd : decode cc pc = .ok (.getstatic index, 3)) (kk : G X ad χ (pc + 3) lv (.int 1 :: st)) : G X ad χ pc lv st := by
  intro ls H locs cells slots hl hI
  obtain ⟨cf, kf, fi, f, a, cell, h1, h2, h3, h4, h5, h6, h7, h8⟩ := h.2.2.2.2.2.2.2.1.2.2.2.1.2.2
  exact W.gets h.1 h.2.1 h.2.2.2.2.2.1 (h.2.2.2.2.2.2.1 _ hlink) h1 h2 h3 h4 (by rw [hI.old h8]; exact h5) (fun e => by rw [e] at h6; cases h6) h7 rfl hd (kk ls H locs cells slots hl hI)
theorem g_ldcS (h : Ok X cc own ret y0 nL F Lo Pst) {tx : String} {q : Nat} (hZ : vk_R own index tx q X.s) (hd : decode cc pc = .ok (.ldc index, 2)) (kk : G X ad χ (pc + 2) lv (.ref q :: st)) : G X ad χ pc lv st :=
  fun ls H locs cells slots hl hI => va_ldcS h.1 h.2.1 h.2.2.2.2.2.1 hZ hd (kk ls H locs cells slots hl hI)
theorem g_bret (h : Ok X cc own (some .byte) y0 nL F Lo Pst) {v : Int32} (hn : narrow .byte (.int v) = .int v) (hQ : Pst (some (.int v)) ad χ) (hd : decode cc pc = .ok (.ireturn, 1)) : G X ad χ pc lv [.int v] := by
  intro ls H locs cells slots hl hI
  unfold Wx
  
  exact W.imp (fun t ht => h.2.2.2.2.2.2.2.2.2.2 t (MQx.of ht)) (W.zret h.1 h.2.1 h.2.2.1 hn (fun t ht _ => hI.post (cc := cc) (own := own) (ret := some .int) (y0 := y0) (nL := nL) (F := F) (Lo := Lo) hQ t ht) hI.2.2.2.1 hd h.2.2.2.1)
theorem g_istore_n1 (h : Ok X cc own ret y0 nL F Lo Pst) {n : Fin 4} {i : Nat} {x : Int32} (hd : decode cc pc = .ok (.istore_n n, 1)) (hi : (n : Nat) = i) (hn : i < nL) (hc : ∀ q ∈ lv, q.2.category = 1) (hl2 : (i, Value.int x) :: lv.filter (fun q => !(q.1 == i)) = lv2) (k : G X ad χ (pc + 1) lv2 st) : G X ad χ pc lv (.int x :: st) := g_istore_n h hd hi hn (by rw [filt_1 hc]; exact hl2) k
theorem g_istore1 (h : Ok X cc own ret y0 nL F Lo Pst) {i : Nat} {x : Int32} (hd : decode cc pc = .ok (.istore i, 2)) (hn : i < nL) (hc : ∀ q ∈ lv, q.2.category = 1) (hl2 : (i, Value.int x) :: lv.filter (fun q => !(q.1 == i)) = lv2) (k : G X ad χ (pc + 2) lv2 st) : G X ad χ pc lv (.int x :: st) := g_istore h hd hn (by rw [filt_1 hc]; exact hl2) k
theorem g_astore_n1 (h : Ok X cc own ret y0 nL F Lo Pst) {n : Fin 4} {i : Nat} {x : Nat} (hd : decode cc pc = .ok (.astore_n n, 1)) (hi : (n : Nat) = i) (hn : i < nL) (hc : ∀ q ∈ lv, q.2.category = 1) (hl2 : (i, Value.ref x) :: lv.filter (fun q => !(q.1 == i)) = lv2) (k : G X ad χ (pc + 1) lv2 st) : G X ad χ pc lv (.ref x :: st) := g_astore_n h hd hi hn (by rw [filt_1 hc]; exact hl2) k
theorem g_astore1 (h : Ok X cc own ret y0 nL F Lo Pst) {i : Nat} {x : Nat} (hd : decode cc pc = .ok (.astore i, 2)) (hn : i < nL) (hc : ∀ q ∈ lv, q.2.category = 1) (hl2 : (i, Value.ref x) :: lv.filter (fun q => !(q.1 == i)) = lv2) (k : G X ad χ (pc + 2) lv2 st) : G X ad χ pc lv (.ref x :: st) := g_astore h hd hn (by rw [filt_1 hc]; exact hl2) k
variable {y : MethodName} {b : ByteArray} {L F' Lo' n : Nat} {r : Option FieldType} {Wp : Prop} {As : List Value} {Q : Int32 → St → Prop}
theorem g_callVS (h : Ok X cc own ret y0 nL F Lo Pst) (hM : Mt X.l y (ws_ y b L r) (rmO F' Lo' χ) (Pm X.Γ ad χ (.ref (stA X.Γ i) :: As) Wp) (Qm X.Γ true ad χ (pI Q)) (frB X.Γ)) (hw : Wp)
    (q1 : Cond.methodLink own index y ∈ lw_all) (q2 : Cond.instanceMethod y ∈ lw_all) (q3 : Cond.selects "java/lang/String" y y ∈ lw_all) (q4 : Cond.initialized "java/lang/String" ∈ lw_all) (q5 : Cond.code y b L r ∈ lw_all)
    (hd0 : y.cls = "java/lang/String" ∧ y.cls ≠ "java/lang/invoke/MethodHandle" ∧ y.cls ≠ "java/lang/invoke/VarHandle" ∧ (parseMethodDescriptor y.desc).map (fun d => d.parameters.length) = some n) (hF : F' + 1 ≤ F ∧ 8 + (L + 11) + Lo' ≤ Lo)
    (hi : i < 4) (hn : As.length = n) (hs : st0 = As.reverse ++ .ref (stA X.Γ i) :: st) (hst : (st.map fun v => v.category).sum ≤ 8) (hd : decode cc pc = .ok (.invokevirtual index, 3))
    (kk : ∀ r χ', Q r χ' → (∀ c, cn χ c ≤ cn χ' c) → G X ad χ' (pc + 3) lv (.int r :: st)) : G X ad χ pc lv st0 := by
  intro ls H locs cells slots hl hI T' hT XX
  have hts := h.2.2.2.2.2.2.1
  have hK := h.2.2.2.2.2.2.2.1
  have hR := h.2.2.2.2.2.2.2.2.1
  have cw : CallW X.R X.s X.args own "java/lang/String" index y b L r (ws_ y b L r) (rmO F' Lo' χ) (rmO F' Lo' χ).cells (rmO F' Lo' χ).slots n := cwV n hts (lw_V q1 q2 q3 q4 q5) rfl rfl rfl hd0 (by rw [hR]; exact hF)
  obtain ⟨⟨-, -, hfr, hlo, hws, hcw, hcode, hini, hy, hlen, hlk⟩, hin, hse⟩ := cw
  have hB : Back X.l X.R X.p X.e X.below X.s X.args y 3 8 (PreM X.R (rmO F' Lo' χ) (Pm X.Γ ad χ (.ref (stA X.Γ i) :: As) Wp)) (PostM (Qm X.Γ true ad χ (pI Q)) (frB X.Γ)) := hM.back Pm.blind hfr hlo hws hcw hini
  obtain ⟨cellB, hcB, hoB, hclB, hnA⟩ := (hK.2.2.2.1.1.1 i hi).1
  obtain ⟨v, vm₁, ⟨U', l2, c2, s2⟩, hW₁, X', ⟨g', mk, t, Lk, k, n', e1, e2, hq, h1, hL, h2, h3⟩, stp⟩ := callV XX h.1 (C := "java/lang/String") (bytes := b) (maxL := L) (ret := r) h.2.2.2.2.2.1 hlk hin hse hcode hy hB (by rw [hT, hI.old hnA]; exact hcB) hoB hclB (g := F0 X.m pc ls st0) rfl (hl.1.trans h.2.2.2.2.1.1.symm) (argsL := As) (rest := st) (fun sig z => hn.trans (hlen sig z)) hs (lv_room (m := X.m) (pc := pc) (ls := ls) (rest := st0) hst) (by rw [h.2.1]; exact hd)
    (fun vm₁ hW₁ => ⟨(hI.room h).1, (hI.room h).2, rfl, by show HR _ _ _ T'.heap; rw [hT]; exact hI.1, hK.warm hW₁, hw⟩)
  dsimp only [Pt.U, Pt.locs, Pt.cells, Pt.slots] at X' e1 e2 h1 h2 h3 stp
  subst h1; subst h2; subst h3
  obtain ⟨v', ad', χ', hv, ⟨r, rfl, hf⟩, hna1, hE, hH, hu, hu2⟩ := hq
  cases hv
  obtain rfl := hna1 rfl
  obtain ⟨t2, a1, b1⟩ := kk r χ' hf hE.2 ls U'.heap _ _ _ hl (by rw [e1]; exact hI.back (fun _ => rfl) hna1 hE hH hu hu2 hL) U' rfl X'
  exact ⟨t2, stp t2 a1, b1⟩
end GST
