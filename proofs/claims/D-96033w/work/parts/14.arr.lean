set_option maxRecDepth 100000
section GA
variable {X : Cx} {cc : ByteArray} {own : String} {ret : Option FieldType} {y0 : MethodName} {nL F Lo : Nat} {Pst : Option Value → (Nat → Nat → Nat) → St → Prop} {ad : Nat → Nat → Nat} {χ : St} {pc : Nat} {lv lv2 : List (Nat × Value)} {st : List Value}
variable {c i k ci index : Nat} {ft : List (Nat × Nat)} {C : String} {T : u_T} {N : Nat} {K e d L : Nat} {j : Int32}
theorem g_iald (h : Ok X cc own ret y0 nL F Lo Pst) (hi : i < cn χ c) (hf : fam c (tg χ c i) = (2, e, [(d, L)])) (he : (vtys X.Γ.2.2.2)[e]? = some (X.Γ.2.2.2 e, .int)) (hj : vp_in j L) (hd : decode cc pc = .ok (.iaload, 1)) (kk : G X ad χ (pc + 1) lv (.int (gI χ c i j.toNatClampNeg) :: st)) : G X ad χ pc lv (.int j :: .ref (ad c i) :: st) := by
  intro ls H locs cells slots hl hI
  have hat := hI.at hi
  rw [cE_2 hf] at hat
  exact va_iald h.1 h.2.1 h.2.2.2.2.2.2.2.1.1 (P1 hat) 0 e rfl he hj hd (kk ls H locs cells slots hl hI)
theorem g_bald (h : Ok X cc own ret y0 nL F Lo Pst) (hi : i < cn χ c) (hf : fam c (tg χ c i) = (2, e, [(d, L)])) (he : (vtys X.Γ.2.2.2)[e]? = some (X.Γ.2.2.2 e, .byte)) (hj : vp_in j L) (hd : decode cc pc = .ok (.baload, 1)) (kk : G X ad χ (pc + 1) lv (.int (gI χ c i j.toNatClampNeg) :: st)) : G X ad χ pc lv (.int j :: .ref (ad c i) :: st) := by
  intro ls H locs cells slots hl hI
  have hat := hI.at hi
  rw [cE_2 hf] at hat
  exact va_bald h.1 h.2.1 h.2.2.2.2.2.2.2.1.1 (P1 hat) 0 e rfl he hj hd (kk ls H locs cells slots hl hI)
theorem g_sald (h : Ok X cc own ret y0 nL F Lo Pst) (hi : i < cn χ c) (hf : fam c (tg χ c i) = (2, e, [(d, L)])) (he : (vtys X.Γ.2.2.2)[e]? = some (X.Γ.2.2.2 e, .short)) (hj : vp_in j L) (hd : decode cc pc = .ok (.saload, 1)) (kk : G X ad χ (pc + 1) lv (.int (gI χ c i j.toNatClampNeg) :: st)) : G X ad χ pc lv (.int j :: .ref (ad c i) :: st) := by
  intro ls H locs cells slots hl hI
  have hat := hI.at hi
  rw [cE_2 hf] at hat
  exact va_sald h.1 h.2.1 h.2.2.2.2.2.2.2.1.1 (P1 hat) 0 e rfl he hj hd (kk ls H locs cells slots hl hI)
theorem g_zald (h : Ok X cc own ret y0 nL F Lo Pst) (hi : i < cn χ c) (hf : fam c (tg χ c i) = (2, e, [(d, L)])) (he : (vtys X.Γ.2.2.2)[e]? = some (X.Γ.2.2.2 e, .boolean)) (hj : vp_in j L) (hd : decode cc pc = .ok (.baload, 1)) (kk : G X ad χ (pc + 1) lv (.int (gI χ c i j.toNatClampNeg) :: st)) : G X ad χ pc lv (.int j :: .ref (ad c i) :: st) := by
  intro ls H locs cells slots hl hI
  have hat := hI.at hi
  rw [cE_2 hf] at hat
  exact va_zald h.1 h.2.1 h.2.2.2.2.2.2.2.1.1 (P1 hat) 0 e rfl he hj hd (kk ls H locs cells slots hl hI)
theorem g_lald (h : Ok X cc own ret y0 nL F Lo Pst) (hi : i < cn χ c) (hf : fam c (tg χ c i) = (3, e, [(d, L)])) (he : (vtys X.Γ.2.2.2)[e]? = some (X.Γ.2.2.2 e, .long)) (hj : vp_in j L) (hd : decode cc pc = .ok (.laload, 1)) (kk : G X ad χ (pc + 1) lv (.long (gL χ c i j.toNatClampNeg) :: st)) : G X ad χ pc lv (.int j :: .ref (ad c i) :: st) := by
  intro ls H locs cells slots hl hI
  have hat := hI.at hi
  rw [cE_3 hf] at hat
  exact va_lald h.1 h.2.1 h.2.2.2.2.2.2.2.1.1 (P1 hat) 0 e rfl he hj hd (kk ls H locs cells slots hl hI)
theorem g_aald (h : Ok X cc own ret y0 nL F Lo Pst) {E : String} (hi : i < cn χ c) (hf : fam c (tg χ c i) = (4, e, [(d, L)])) (he : (vtys X.Γ.2.2.2)[e]? = some (X.Γ.2.2.2 e, .object E)) (hj : vp_in j L) (hd : decode cc pc = .ok (.aaload, 1)) (kk : G X ad χ (pc + 1) lv (va_rf ((gR χ c i j.toNatClampNeg).map (ad d)) :: st)) : G X ad χ pc lv (.int j :: .ref (ad c i) :: st) := by
  intro ls H locs cells slots hl hI
  have hat := hI.at hi
  rw [cE_4 hf] at hat
  exact va_aldq h.1 h.2.1 h.2.2.2.2.2.2.2.1.1 (P1 hat) 0 e rfl he hj hd (kk ls H locs cells slots hl hI)
theorem g_aaldK (h : Ok X cc own ret y0 nL F Lo Pst) {E : String} (hi : i < cn χ c) (hf : fam c (tg χ c i) = (5, e, [(d, L)])) (he : (vtys X.Γ.2.2.2)[e]? = some (X.Γ.2.2.2 e, .object E)) (hj : vp_in j L) (hd : decode cc pc = .ok (.aaload, 1)) (kk : G X ad χ (pc + 1) lv (.ref (ad d j.toNatClampNeg) :: st)) : G X ad χ pc lv (.int j :: .ref (ad c i) :: st) := by
  intro ls H locs cells slots hl hI
  have hat := hI.at hi
  rw [cE_5 hf] at hat
  exact va_aldq h.1 h.2.1 h.2.2.2.2.2.2.2.1.1 (P1 hat) 0 e rfl he hj hd (kk ls H locs cells slots hl hI)
theorem g_alen (h : Ok X cc own ret y0 nL F Lo Pst) {ty : FieldType} (hi : i < cn χ c) (hf : fam c (tg χ c i) = (2, e, [(d, L)])) (he : (vtys X.Γ.2.2.2)[e]? = some (X.Γ.2.2.2 e, ty)) (hd : decode cc pc = .ok (.arraylength, 1)) (kk : G X ad χ (pc + 1) lv (.int (nI L) :: st)) : G X ad χ pc lv (.ref (ad c i) :: st) := by
  intro ls H locs cells slots hl hI
  have hat := hI.at hi
  rw [cE_2 hf] at hat
  exact va_alen h.1 h.2.1 h.2.2.2.2.2.2.2.1.1 (P1 hat) 0 e rfl he rfl hd (kk ls H locs cells slots hl hI)
theorem own_arr {c t k e : Nat} {l : List (Nat × Nat)} (hf : fam c t = (k + 2, e, l)) : c < 100 := by
  rcases fam_lt c t with h | h
  · rw [hf] at h
    exact absurd h (Nat.succ_ne_zero _)
  · exact h
theorem gI_st {χ : St} {c i j : Nat} {v : Int32} : gI (sI χ c i j v) c i = upd (gI χ c i) j v := by
  funext j'
  show (if c = c ∧ i = i ∧ j' = j then v else χ.2.1 c i j') = if j' = j then v else χ.2.1 c i j'
  by_cases e : j' = j <;> simp [e]
theorem gL_st {χ : St} {c i j : Nat} {v : Int64} : gL (sL χ c i j v) c i = vp_updL (gL χ c i) j v := by
  funext j'
  show (if c = c ∧ i = i ∧ j' = j then v else χ.2.2.1 c i j') = if j' = j then v else χ.2.2.1 c i j'
  by_cases e : j' = j <;> simp [e]
theorem gR_st {χ : St} {c i j : Nat} {v : Option Nat} : gR (sR χ c i j v) c i = va_up (gR χ c i) j v := by
  funext j'
  show (if c = c ∧ i = i ∧ j' = j then v else χ.2.2.2.1 c i j') = if j' = j then v else χ.2.2.2.1 c i j'
  by_cases e : j' = j <;> simp [e]
theorem g_iast (h : Ok X cc own ret y0 nL F Lo Pst) {x : Int32} (hi : i < cn χ c) (hf : fam c (tg χ c i) = (2, e, [(d, L)])) (he : (vtys X.Γ.2.2.2)[e]? = some (X.Γ.2.2.2 e, .int)) (hj : vp_in j L) (hd : decode cc pc = .ok (.iastore, 1)) (kk : G X ad (sI χ c i j.toNatClampNeg x) (pc + 1) lv st) : G X ad χ pc lv (.int x :: .int j :: .ref (ad c i) :: st) := by
  intro ls H locs cells slots hl hI
  have hat := hI.at hi
  rw [cE_2 hf] at hat
  refine W.iast h.1 h.2.1 hat ((h.2.2.2.2.2.2.2.1.1.2 e _ he).1 L (fun j => .int (gI χ c i j))) (fun q => by cases q) (by show ¬ (j < 0 ∨ (arrV _ _ _).slots.size ≤ _); rw [arrV_size]; exact hj) rfl rfl hd fun H1 e1 z oq => ?_
  refine kk ls H1 _ cells slots hl (Iv.upd (χ' := (sI χ c i j.toNatClampNeg x)) hI hi (fun _ => rfl) rfl rfl hI.1.2.2.2.2.2.2 (fun c' i' hne => cE_sI (by rw [own_lt (own_arr hf)]; exact hne)) ?_ z oq _)
  rw [cE_2 (χ := sI χ c i j.toNatClampNeg x) (show fam c (tg (sI χ c i j.toNatClampNeg x) c i) = (2, e, [(d, L)]) from hf), gI_st]
  show H1[ad c i]? = some (vp_cell _ _)
  rw [e1]
  rw [vp_cell_i, vp_cell_i, arrV_store]
  congr 2
  funext q
  by_cases hq : q = j.toNatClampNeg
  · subst hq
    simp [updV, upd]
  · simp [updV, upd, hq]
theorem g_bast (h : Ok X cc own ret y0 nL F Lo Pst) {x : Int32} (hi : i < cn χ c) (hf : fam c (tg χ c i) = (2, e, [(d, L)])) (he : (vtys X.Γ.2.2.2)[e]? = some (X.Γ.2.2.2 e, .byte)) (hj : vp_in j L) (hd : decode cc pc = .ok (.bastore, 1)) (kk : G X ad (sI χ c i j.toNatClampNeg (vp_nar .byte x)) (pc + 1) lv st) : G X ad χ pc lv (.int x :: .int j :: .ref (ad c i) :: st) := by
  intro ls H locs cells slots hl hI
  have hat := hI.at hi
  rw [cE_2 hf] at hat
  refine W.bast h.1 h.2.1 hat ((h.2.2.2.2.2.2.2.1.1.2 e _ he).1 L (fun j => .int (gI χ c i j))) (fun q => by cases q) (by show ¬ (j < 0 ∨ (arrV _ _ _).slots.size ≤ _); rw [arrV_size]; exact hj) rfl rfl hd fun H1 e1 z oq => ?_
  refine kk ls H1 _ cells slots hl (Iv.upd (χ' := (sI χ c i j.toNatClampNeg (vp_nar .byte x))) hI hi (fun _ => rfl) rfl rfl hI.1.2.2.2.2.2.2 (fun c' i' hne => cE_sI (by rw [own_lt (own_arr hf)]; exact hne)) ?_ z oq _)
  rw [cE_2 (χ := sI χ c i j.toNatClampNeg (vp_nar .byte x)) (show fam c (tg (sI χ c i j.toNatClampNeg (vp_nar .byte x)) c i) = (2, e, [(d, L)]) from hf), gI_st]
  show H1[ad c i]? = some (vp_cell _ _)
  rw [e1]
  rw [vp_cell_i, vp_cell_i, arrV_store]
  congr 2
  funext q
  by_cases hq : q = j.toNatClampNeg
  · subst hq
    simp [updV, upd, vp_nar] <;> rfl
  · simp [updV, upd, hq]
theorem g_sast (h : Ok X cc own ret y0 nL F Lo Pst) {x : Int32} (hi : i < cn χ c) (hf : fam c (tg χ c i) = (2, e, [(d, L)])) (he : (vtys X.Γ.2.2.2)[e]? = some (X.Γ.2.2.2 e, .short)) (hj : vp_in j L) (hd : decode cc pc = .ok (.sastore, 1)) (kk : G X ad (sI χ c i j.toNatClampNeg (vp_nar .short x)) (pc + 1) lv st) : G X ad χ pc lv (.int x :: .int j :: .ref (ad c i) :: st) := by
  intro ls H locs cells slots hl hI
  have hat := hI.at hi
  rw [cE_2 hf] at hat
  refine W.sast h.1 h.2.1 hat ((h.2.2.2.2.2.2.2.1.1.2 e _ he).1 L (fun j => .int (gI χ c i j))) (fun q => by cases q) (by show ¬ (j < 0 ∨ (arrV _ _ _).slots.size ≤ _); rw [arrV_size]; exact hj) rfl rfl hd fun H1 e1 z oq => ?_
  refine kk ls H1 _ cells slots hl (Iv.upd (χ' := (sI χ c i j.toNatClampNeg (vp_nar .short x))) hI hi (fun _ => rfl) rfl rfl hI.1.2.2.2.2.2.2 (fun c' i' hne => cE_sI (by rw [own_lt (own_arr hf)]; exact hne)) ?_ z oq _)
  rw [cE_2 (χ := sI χ c i j.toNatClampNeg (vp_nar .short x)) (show fam c (tg (sI χ c i j.toNatClampNeg (vp_nar .short x)) c i) = (2, e, [(d, L)]) from hf), gI_st]
  show H1[ad c i]? = some (vp_cell _ _)
  rw [e1]
  rw [vp_cell_i, vp_cell_i, arrV_store]
  congr 2
  funext q
  by_cases hq : q = j.toNatClampNeg
  · subst hq
    simp [updV, upd, vp_nar] <;> rfl
  · simp [updV, upd, hq]
theorem g_zast (h : Ok X cc own ret y0 nL F Lo Pst) {x : Int32} (hi : i < cn χ c) (hf : fam c (tg χ c i) = (2, e, [(d, L)])) (he : (vtys X.Γ.2.2.2)[e]? = some (X.Γ.2.2.2 e, .boolean)) (hj : vp_in j L) (hd : decode cc pc = .ok (.bastore, 1)) (kk : G X ad (sI χ c i j.toNatClampNeg (vp_nar .boolean x)) (pc + 1) lv st) : G X ad χ pc lv (.int x :: .int j :: .ref (ad c i) :: st) := by
  intro ls H locs cells slots hl hI
  have hat := hI.at hi
  rw [cE_2 hf] at hat
  refine W.zast h.1 h.2.1 hat ((h.2.2.2.2.2.2.2.1.1.2 e _ he).1 L (fun j => .int (gI χ c i j))) (fun q => by cases q) (by show ¬ (j < 0 ∨ (arrV _ _ _).slots.size ≤ _); rw [arrV_size]; exact hj) rfl rfl hd fun H1 e1 z oq => ?_
  refine kk ls H1 _ cells slots hl (Iv.upd (χ' := (sI χ c i j.toNatClampNeg (vp_nar .boolean x))) hI hi (fun _ => rfl) rfl rfl hI.1.2.2.2.2.2.2 (fun c' i' hne => cE_sI (by rw [own_lt (own_arr hf)]; exact hne)) ?_ z oq _)
  rw [cE_2 (χ := sI χ c i j.toNatClampNeg (vp_nar .boolean x)) (show fam c (tg (sI χ c i j.toNatClampNeg (vp_nar .boolean x)) c i) = (2, e, [(d, L)]) from hf), gI_st]
  show H1[ad c i]? = some (vp_cell _ _)
  rw [e1]
  rw [vp_cell_i, vp_cell_i, arrV_store]
  congr 2
  funext q
  by_cases hq : q = j.toNatClampNeg
  · subst hq
    simp [updV, upd, vp_nar] <;> rfl
  · simp [updV, upd, hq]
theorem g_last (h : Ok X cc own ret y0 nL F Lo Pst) {x : Int64} (hi : i < cn χ c) (hf : fam c (tg χ c i) = (3, e, [(d, L)])) (he : (vtys X.Γ.2.2.2)[e]? = some (X.Γ.2.2.2 e, .long)) (hj : vp_in j L) (hd : decode cc pc = .ok (.lastore, 1)) (kk : G X ad (sL χ c i j.toNatClampNeg x) (pc + 1) lv st) : G X ad χ pc lv (.long x :: .int j :: .ref (ad c i) :: st) := by
  intro ls H locs cells slots hl hI
  have hat := hI.at hi
  rw [cE_3 hf] at hat
  refine W.last h.1 h.2.1 hat ((h.2.2.2.2.2.2.2.1.1.2 e _ he).1 L (fun j => .long (gL χ c i j))) (fun q => by cases q) (by show ¬ (j < 0 ∨ (arrV _ _ _).slots.size ≤ _); rw [arrV_size]; exact hj) rfl rfl hd fun H1 e1 z oq => ?_
  refine kk ls H1 _ cells slots hl (Iv.upd (χ' := (sL χ c i j.toNatClampNeg x)) hI hi (fun _ => rfl) rfl rfl hI.1.2.2.2.2.2.2 (fun c' i' hne => cE_sL (by rw [own_lt (own_arr hf)]; exact hne)) ?_ z oq _)
  rw [cE_3 (χ := sL χ c i j.toNatClampNeg x) (show fam c (tg (sL χ c i j.toNatClampNeg x) c i) = (3, e, [(d, L)]) from hf), gL_st]
  show H1[ad c i]? = some (vp_cell _ _)
  rw [e1]
  rw [vp_cell_l, vp_cell_l, arrV_store]
  congr 2
  funext q
  by_cases hq : q = j.toNatClampNeg
  · subst hq
    simp [updV, vp_updL]
  · simp [updV, vp_updL, hq]
/-! ends -/
theorem Iv.post {X : Cx} {cc : ByteArray} {own : String} {ret : Option FieldType} {y0 : MethodName} {nL F Lo : Nat} {Pst : Option Value → (Nat → Nat → Nat) → St → Prop} {ad : Nat → Nat → Nat} {χ : St} {H : Heap} {locs : List Loc} {cells slots : Nat} (hI : Iv X ad χ H locs cells slots) {v : Option Value} (hQ : Pst v ad χ) (t : State) (ht : t.heap = H) : Qm X.Γ X.na X.ad0 X.χ0 Pst X.args X.s (.returned v) t cells slots :=
  ⟨v, ad, χ, rfl, hQ, hI.2.2.1, hI.2.1, by rw [ht]; exact hI.1, hI.2.2.2.2.1, hI.2.2.2.2.2⟩
theorem g_iret (h : Ok X cc own (some .int) y0 nL F Lo Pst) {v : Int32} (hQ : Pst (some (.int v)) ad χ) (hd : decode cc pc = .ok (.ireturn, 1)) : G X ad χ pc lv [.int v] := by
  intro ls H locs cells slots hl hI
  unfold Wx
  
  exact W.imp (fun t ht => h.2.2.2.2.2.2.2.2.2.2 t (MQx.of ht)) (W.iret h.1 h.2.1 h.2.2.1 (fun t ht _ => hI.post (cc := cc) (own := own) (ret := some .int) (y0 := y0) (nL := nL) (F := F) (Lo := Lo) hQ t ht) hI.2.2.2.1 hd h.2.2.2.1)
theorem g_zret (h : Ok X cc own (some .boolean) y0 nL F Lo Pst) {v : Int32} (hn : narrow .boolean (.int v) = .int v) (hQ : Pst (some (.int v)) ad χ) (hd : decode cc pc = .ok (.ireturn, 1)) : G X ad χ pc lv [.int v] := by
  intro ls H locs cells slots hl hI
  unfold Wx
  
  exact W.imp (fun t ht => h.2.2.2.2.2.2.2.2.2.2 t (MQx.of ht)) (W.zret h.1 h.2.1 h.2.2.1 hn (fun t ht _ => hI.post (cc := cc) (own := own) (ret := some .int) (y0 := y0) (nL := nL) (F := F) (Lo := Lo) hQ t ht) hI.2.2.2.1 hd h.2.2.2.1)
theorem g_lret (h : Ok X cc own (some .long) y0 nL F Lo Pst) {v : Int64} (hQ : Pst (some (.long v)) ad χ) (hd : decode cc pc = .ok (.lreturn, 1)) : G X ad χ pc lv [.long v] := by
  intro ls H locs cells slots hl hI
  unfold Wx
  
  exact W.imp (fun t ht => h.2.2.2.2.2.2.2.2.2.2 t (MQx.of ht)) (W.lret h.1 h.2.1 h.2.2.1 (fun t ht _ => hI.post (cc := cc) (own := own) (ret := some .int) (y0 := y0) (nL := nL) (F := F) (Lo := Lo) hQ t ht) hI.2.2.2.1 hd h.2.2.2.1)
theorem g_vret (h : Ok X cc own none y0 nL F Lo Pst) (hQ : Pst none ad χ) (hd : decode cc pc = .ok (.return_, 1)) : G X ad χ pc lv [] := by
  intro ls H locs cells slots hl hI
  unfold Wx
  
  exact W.imp (fun t ht => h.2.2.2.2.2.2.2.2.2.2 t (MQx.of ht)) (W.vret h.1 h.2.1 h.2.2.1 (fun t ht _ => hI.post (cc := cc) (own := own) (ret := some .int) (y0 := y0) (nL := nL) (F := F) (Lo := Lo) hQ t ht) hI.2.2.2.1 hd h.2.2.2.1)
theorem g_aret (h : Ok X cc own ret y0 nL F Lo Pst) {n : String} (hr : ret = some (.object n)) {v : Value} (hv : v = .null ∨ ∃ a, v = .ref a) (hQ : Pst (some v) ad χ) (hd : decode cc pc = .ok (.areturn, 1)) : G X ad χ pc lv [v] := by
  intro ls H locs cells slots hl hI
  unfold Wx
  
  exact W.imp (fun t ht => h.2.2.2.2.2.2.2.2.2.2 t (MQx.of ht)) (W.aret h.1 h.2.1 (h.2.2.1.trans hr) (Or.inl ⟨n, rfl⟩) hv (fun t ht _ => hI.post (cc := cc) (own := own) (ret := some .int) (y0 := y0) (nL := nL) (F := F) (Lo := Lo) hQ t ht) hI.2.2.2.1 hd h.2.2.2.1)
end GA
/-! calls -/
section GC
variable {X : Cx} {cc : ByteArray} {own : String} {ret : Option FieldType} {y0 : MethodName} {nL F Lo : Nat} {Pst : Option Value → (Nat → Nat → Nat) → St → Prop} {ad : Nat → Nat → Nat} {χ : St} {pc : Nat} {lv lv2 : List (Nat × Value)} {st st0 : List Value}
variable {y : MethodName} {b : ByteArray} {L F' Lo' n index : Nat} {r : Option FieldType} {na' : Bool} {Pst' : Option Value → (Nat → Nat → Nat) → St → Prop} {Wp : Prop} {As : List Value}
/-- behind a call -/
theorem Iv.back {H : Heap} {locs : List Loc} {cells slots : Nat} (hI : Iv X ad χ H locs cells slots) {ad' : Nat → Nat → Nat} {χ' : St} {t : State} {L : List Loc} {k n : Nat} (hna : X.na = true → na' = true) (h1 : na' = true → ad' = ad) (h2 : Ext χ χ' ad ad') (h3 : HR X.Γ ad' χ' t.heap) (h4 : uC χ + k = uC χ') (h5 : uS χ + n = uS χ') (hL : ∀ q ∈ L, X.Γ.1 ≤ q.base) : Iv X ad' χ' t.heap (locs ++ L) (cells + k) (slots + n) := by
  obtain ⟨g1, g2, g3, g4, g5, g6⟩ := hI
  refine ⟨h3, g2.trans h2, fun z => (h1 (hna z)).trans (g3 z), fun q hq => ?_, by omega, by omega⟩
  rcases List.mem_append.mp hq with h | h
  · exact g4 q h
  · exact hL q h
theorem Iv.room {H : Heap} {locs : List Loc} {cells slots : Nat} (h : Ok X cc own ret y0 nL F Lo Pst) (hI : Iv X ad χ H locs cells slots) : cells + (rmO F' Lo' χ).cells ≤ X.R.cells ∧ slots + (rmO F' Lo' χ).slots ≤ X.R.slots := by
  obtain ⟨g1, g2, g3, g4, g5, g6⟩ := hI
  have a1 := g1.2.2.2.2.1
  have a2 := g1.2.2.2.2.2.1
  rw [h.2.2.2.2.2.2.2.2.1]
  exact ⟨by show cells + (603072 - uC χ) ≤ 603072 - uC X.χ0; omega, by show slots + (7262314 - uS χ) ≤ 7262314 - uS X.χ0; omega⟩
theorem g_callV (h : Ok X cc own ret y0 nL F Lo Pst) {c i ci : Nat} {ft : List (Nat × Nat)} {C : String} {T : u_T} {N : Nat} (hM : Mt X.l y (ws_ y b L r) (rmO F' Lo' χ) (Pm X.Γ ad χ (.ref (ad c i) :: As) Wp) (Qm X.Γ na' ad χ Pst') (frB X.Γ)) (hw : Wp) (hna : X.na = true → na' = true)
    (q1 : Cond.methodLink own index y ∈ lw_all) (q2 : Cond.instanceMethod y ∈ lw_all) (q3 : Cond.selects C y y ∈ lw_all) (q4 : Cond.initialized C ∈ lw_all) (q5 : Cond.code y b L r ∈ lw_all)
    (hd0 : y.cls = C ∧ y.cls ≠ "java/lang/invoke/MethodHandle" ∧ y.cls ≠ "java/lang/invoke/VarHandle" ∧ (parseMethodDescriptor y.desc).map (fun d => d.parameters.length) = some n) (hF : F' + 1 ≤ F ∧ 8 + (L + 11) + Lo' ≤ Lo)
    (hi : i < cn χ c) (hf : fam c (tg χ c i) = (1, ci, ft)) (hc : vcl[ci]? = some (C, T, N)) (hn : As.length = n) (hs : st0 = As.reverse ++ .ref (ad c i) :: st) (hst : (st.map fun v => v.category).sum ≤ 8) (hd : decode cc pc = .ok (.invokevirtual index, 3))
    (kk : ∀ v ad' χ', Pst' v ad' χ' → (na' = true → ad' = ad) → Ext χ χ' ad ad' → G X ad' χ' (pc + 3) lv (v.toList ++ st)) : G X ad χ pc lv st0 := by
  intro ls H locs cells slots hl hI T' hT XX
  have hts := h.2.2.2.2.2.2.1
  have hK := h.2.2.2.2.2.2.2.1
  have hR := h.2.2.2.2.2.2.2.2.1
  have cw : CallW X.R X.s X.args own C index y b L r (ws_ y b L r) (rmO F' Lo' χ) (rmO F' Lo' χ).cells (rmO F' Lo' χ).slots n := cwV n hts (lw_V q1 q2 q3 q4 q5) rfl rfl rfl hd0 (by rw [hR]; exact hF)
  obtain ⟨⟨-, -, hfr, hlo, hws, hcw, hcode, hini, hy, hlen, hlk⟩, hin, hse⟩ := cw
  have hB : Back X.l X.R X.p X.e X.below X.s X.args y 3 8 (PreM X.R (rmO F' Lo' χ) (Pm X.Γ ad χ (.ref (ad c i) :: As) Wp)) (PostM (Qm X.Γ na' ad χ Pst') (frB X.Γ)) := hM.back Pm.blind hfr hlo hws hcw hini
  have hat := hI.at hi
  rw [cE_o hf] at hat
  obtain ⟨cellB, hcB, hoB, hclB⟩ := va_recv hK.1 (P1 hat) hc (q0 := 0) rfl
  obtain ⟨v, vm₁, ⟨U', l2, c2, s2⟩, hW₁, X', ⟨g', mk, t, Lk, k, n', e1, e2, hq, h1, hL, h2, h3⟩, stp⟩ := callV XX h.1 (C := C) (bytes := b) (maxL := L) (ret := r) h.2.2.2.2.2.1 hlk hin hse hcode hy hB (by rw [hT]; exact hcB) hoB hclB (g := F0 X.m pc ls st0) rfl (hl.1.trans h.2.2.2.2.1.1.symm) (argsL := As) (rest := st) (fun sig z => hn.trans (hlen sig z)) hs (lv_room (m := X.m) (pc := pc) (ls := ls) (rest := st0) hst) (by rw [h.2.1]; exact hd)
    (fun vm₁ hW₁ => ⟨(hI.room h).1, (hI.room h).2, rfl, by show HR _ _ _ T'.heap; rw [hT]; exact hI.1, hK.warm hW₁, hw⟩)
  dsimp only [Pt.U, Pt.locs, Pt.cells, Pt.slots] at X' e1 e2 h1 h2 h3 stp
  subst h1; subst h2; subst h3
  obtain ⟨v', ad', χ', hv, hP, hna1, hE, hH, hu, hu2⟩ := hq
  cases hv
  obtain ⟨t2, a1, b1⟩ := kk v ad' χ' hP hna1 hE ls U'.heap _ _ _ hl (by rw [e1]; exact hI.back hna hna1 hE hH hu hu2 hL) U' rfl X'
  exact ⟨t2, stp t2 a1, b1⟩
theorem g_callS (h : Ok X cc own ret y0 nL F Lo Pst) (hM : Mt X.l y (ws_ y b L r) (rmO F' Lo' χ) (Pm X.Γ ad χ As Wp) (Qm X.Γ na' ad χ Pst') (frB X.Γ)) (hw : Wp) (hna : X.na = true → na' = true)
    (q1 : Cond.methodLink own index y ∈ lw_all) (q2 : Cond.static y ∈ lw_all) (q4 : Cond.initialized y.cls ∈ lw_all) (q5 : Cond.code y b L r ∈ lw_all)
    (hd0 : y.cls ≠ "java/lang/invoke/MethodHandle" ∧ y.cls ≠ "java/lang/invoke/VarHandle" ∧ (parseMethodDescriptor y.desc).map (fun d => d.parameters.length) = some n) (hF : F' + 1 ≤ F ∧ 8 + (L + 11) + Lo' ≤ Lo)
    (hn : As.length = n) (hs : st0 = As.reverse ++ st) (hst : (st.map fun v => v.category).sum ≤ 8) (hd : decode cc pc = .ok (.invokestatic index, 3))
    (kk : ∀ v ad' χ', Pst' v ad' χ' → (na' = true → ad' = ad) → Ext χ χ' ad ad' → G X ad' χ' (pc + 3) lv (v.toList ++ st)) : G X ad χ pc lv st0 := by
  intro ls H locs cells slots hl hI T' hT XX
  have hts := h.2.2.2.2.2.2.1
  have hK := h.2.2.2.2.2.2.2.1
  have hR := h.2.2.2.2.2.2.2.2.1
  have cw : CallB X.R X.s X.args own index y b L r (ws_ y b L r) (rmO F' Lo' χ) (rmO F' Lo' χ).cells (rmO F' Lo' χ).slots n ∧ (Cond.static y).before X.args X.s = true := va_cwS n hts (lw_S q1 q2 q4 q5) rfl rfl rfl hd0 (by rw [hR]; exact hF)
  obtain ⟨⟨-, -, hfr, hlo, hws, hcw, hcode, hini, hy, hlen, hlk⟩, hstt⟩ := cw
  have hB : Back X.l X.R X.p X.e X.below X.s X.args y 3 8 (PreM X.R (rmO F' Lo' χ) (Pm X.Γ ad χ As Wp)) (PostM (Qm X.Γ na' ad χ Pst') (frB X.Γ)) := hM.back Pm.blind hfr hlo hws hcw hini
  obtain ⟨v, vm₁, ⟨U', l2, c2, s2⟩, hW₁, X', ⟨g', mk, t, Lk, k, n', e1, e2, hq, h1, hL, h2, h3⟩, stp⟩ := callS XX h.1 (bytes := b) (maxL := L) (ret := r) h.2.2.2.2.2.1 hlk hstt hini hcode hy hB (g := F0 X.m pc ls st0) rfl (hl.1.trans h.2.2.2.2.1.1.symm) (argsL := As) (rest := st) (fun sig z => hn.trans (hlen sig z)) hs (lv_room (m := X.m) (pc := pc) (ls := ls) (rest := st0) hst) (by rw [h.2.1]; exact hd)
    (fun vm₁ hW₁ => ⟨(hI.room h).1, (hI.room h).2, rfl, by show HR _ _ _ T'.heap; rw [hT]; exact hI.1, hK.warm hW₁, hw⟩)
  dsimp only [Pt.U, Pt.locs, Pt.cells, Pt.slots] at X' e1 e2 h1 h2 h3 stp
  subst h1; subst h2; subst h3
  obtain ⟨v', ad', χ', hv, hP, hna1, hE, hH, hu, hu2⟩ := hq
  cases hv
  obtain ⟨t2, a1, b1⟩ := kk v ad' χ' hP hna1 hE ls U'.heap _ _ _ hl (by rw [e1]; exact hI.back hna hna1 hE hH hu hu2 hL) U' rfl X'
  exact ⟨t2, stp t2 a1, b1⟩
end GC
