set_option maxRecDepth 100000
theorem HR.aloc {Γ : Gh} {ad : Nat → Nat → Nat} {χ : St} {H H1 : Heap} {c t w : Nat} (h : HR Γ ad χ H) (hf : fcn c = 0) (hat : va_at Γ.2.2.1 vcl (H.size, cE Γ.2.2.2 (adU ad c (nO χ c) H.size) (alo χ c t w) c (nO χ c)) H1) (hz : H1.size = H.size + 1) (oq : ∀ q : Nat, q < H.size → H1[q]? = H[q]?) (hu : uC χ + 1 ≤ 603072) (hs : uS χ + w ≤ 7262314) : HR Γ (adU ad c (nO χ c) H.size) (alo χ c t w) H1 := by
  obtain ⟨h1, h2, h3, h4, h5, h6, h7⟩ := h
  have hlt : ∀ c' i', i' < cn χ c' → ad c' i' < H.size := fun c' i' hi => (h1 c' i' hi).1.lt
  have key : ∀ c' i', i' < cn (alo χ c t w) c' → i' < cn χ c' ∨ (c' = c ∧ i' = nO χ c) := by
    intro c' i' hi
    by_cases e : c' = c
    · subst e
      rw [cn_alo hf] at hi
      rw [cn_dyn hf]
      rcases Nat.lt_or_ge i' (nO χ c') with g | g
      · exact Or.inl g
      · exact Or.inr ⟨rfl, by omega⟩
    · rw [cn_alo_ne e] at hi
      exact Or.inl hi
  refine ⟨fun c' i' hi => ?_, fun c1 i1 c2 i2 a b e => ?_, fun q hq => ?_, by omega, hu, hs, fun F i j x e => ?_⟩
  · rcases key c' i' hi with g | ⟨g1, g2⟩
    · rw [cE_alo hf h7 g, adU_ne (lt_ne hf g)]
      exact ⟨(h1 c' i' g).1.kept (oq _ (hlt c' i' g)), (h1 c' i' g).2⟩
    · subst g1; subst g2
      rw [adU_eq]
      exact ⟨hat, h4⟩
  · rcases key c1 i1 a with g | ⟨g1, g2⟩ <;> rcases key c2 i2 b with g' | ⟨g1', g2'⟩
    · rw [adU_ne (lt_ne hf g), adU_ne (lt_ne hf g')] at e
      exact h2 c1 i1 c2 i2 g g' e
    · subst g1'; subst g2'
      rw [adU_ne (lt_ne hf g), adU_eq] at e
      have := hlt c1 i1 g
      omega
    · subst g1; subst g2
      rw [adU_ne (lt_ne hf g'), adU_eq] at e
      have := hlt c2 i2 g'
      omega
    · exact ⟨g1.trans g1'.symm, g2.trans g2'.symm⟩
  · rw [oq q (by omega)]
    exact h3 q hq
  · have e2 : (if ownF F = c ∧ i = nO χ c then none else gR χ F i j) = some x := e
    by_cases hc : ownF F = c ∧ i = nO χ c
    · rw [if_pos hc] at e2; cases e2
    · rw [if_neg hc] at e2
      exact Nat.lt_of_lt_of_le (h7 F i j x e2) (cn_alo_le hf)
theorem Ext.aloc {χ : St} {ad : Nat → Nat → Nat} {c t w a : Nat} (hf : fcn c = 0) : Ext χ (alo χ c t w) ad (adU ad c (nO χ c) a) := ⟨fun c' i hi => adU_ne (lt_ne hf hi), fun _ => cn_alo_le hf⟩
theorem Iv.aloc {X : Cx} {ad : Nat → Nat → Nat} {χ : St} {H H1 : Heap} {locs : List Loc} {cells slots c t w : Nat} (hna : X.na = false) (hI : Iv X ad χ H locs cells slots) (hf : fcn c = 0) (hat : va_at X.Γ.2.2.1 vcl (H.size, cE X.Γ.2.2.2 (adU ad c (nO χ c) H.size) (alo χ c t w) c (nO χ c)) H1) (hz : H1.size = H.size + 1) (oq : ∀ q : Nat, q < H.size → H1[q]? = H[q]?) (hu : uC χ + 1 ≤ 603072) (hs : uS χ + w ≤ 7262314) : Iv X (adU ad c (nO χ c) H.size) (alo χ c t w) H1 locs (cells + 1) (slots + w) := by
  obtain ⟨g1, g2, g3, g4, g5, g6⟩ := hI
  exact ⟨g1.aloc hf hat hz oq hu hs, g2.trans (Ext.aloc hf), (fun z => by rw [hna] at z; cases z), g4, by show _ = uC χ + 1; omega, by show _ = uS χ + w; omega⟩
def dfl (q : Nat × Nat) : Value := if q.1 = 0 then .int 0 else if q.1 = 1 then .long 0 else .null
theorem map_new {ad : Nat → Nat → Nat} {χ : St} {c t w ci : Nat} {ft : List (Nat × Nat)} (hfm : fam c t = (1, ci, ft)) (hk : ∀ q ∈ ft, q.1 < 200) : ft.map (fvl ad (alo χ c t w) (nO χ c)) = ft.map dfl := by
  have how := fam_own c t (by rw [hfm])
  rw [hfm] at how
  apply List.map_congr_left
  intro q hq
  have ho := how q hq
  unfold fvl dfl
  rw [alo_In ho, alo_Ln ho, alo_Rn ho]
  by_cases h0 : q.1 = 0
  · rw [if_pos h0, if_pos h0]
  · rw [if_neg h0, if_neg h0]
    by_cases h1 : q.1 = 1
    · rw [if_pos h1, if_pos h1]
    · rw [if_neg h1, if_neg h1, if_pos (hk q hq)]
      rfl
section GW
variable {X : Cx} {cc : ByteArray} {own host : String} {ret : Option FieldType} {y0 : MethodName} {nL F Lo : Nat} {Pst : Option Value → (Nat → Nat → Nat) → St → Prop} {ad : Nat → Nat → Nat} {χ : St} {pc : Nat} {lv lv2 : List (Nat × Value)} {st st0 : List Value}
variable {c i k ci index t : Nat} {ft : List (Nat × Nat)} {C : String} {T : u_T} {N : Nat} {K e d : Nat} {j : Int32}
theorem Iv.free {H : Heap} {locs : List Loc} {cells slots : Nat} (h : Ok X cc own ret y0 nL F Lo Pst) (hI : Iv X ad χ H locs cells slots) {w : Nat} (hu : uC χ + 1 ≤ 603072) (hs : uS χ + w ≤ 7262314) : cells + 1 ≤ X.R.cells ∧ slots + w ≤ X.R.slots := by
  obtain ⟨g1, g2, g3, g4, g5, g6⟩ := hI
  rw [h.2.2.2.2.2.2.2.2.1]
  exact ⟨by show cells + 1 ≤ 603072 - uC X.χ0; omega, by show slots + w ≤ 7262314 - uS X.χ0; omega⟩
theorem g_new (h : Ok X cc own ret y0 nL F Lo Pst) (hna : X.na = false) (ty : Nat → FieldType) (hf : fcn c = 0) (hfm : fam c t = (1, ci, ft)) (hk : ∀ q ∈ ft, q.1 < 200) (hc : vcl[ci]? = some (C, T, N)) (hin : ∀ w ∈ u_ws C T N, w ∈ lw_all) (hty : ∀ k, k < N → parseFieldDescriptor (T k).2.2.1 = some (ty k)) (hdf : ∀ j, j < N → defaultValue (ty j) = vp_V (ft.map dfl) j)
    (q1 : Cond.classLink own index C ∈ lw_all) (q2 : Cond.instantiable C N ∈ lw_all) (q3 : Cond.initialized C ∈ lw_all) (hu : uC χ + 1 ≤ 603072) (hs : uS χ + N ≤ 7262314) (hd : decode cc pc = .ok (.new index, 3))
    (kk : ∀ ad', Ext χ (alo χ c t N) ad ad' → G X ad' (alo χ c t N) (pc + 3) lv (.ref (ad' c (nO χ c)) :: st)) : G X ad χ pc lv st := by
  intro ls H locs cells slots hl hI
  have hts := h.2.2.2.2.2.2.1
  have hKn := h.2.2.2.2.2.2.2.1.1.1 ci _ hc
  have hfr := hI.free h hu hs
  refine W.newcK h.1 h.2.1 h.2.2.2.2.2.1 (hts _ q1) (hts _ q2) (hts _ q3) rfl hd hfr.1 hfr.2 hKn.2.1 rfl fun H1 kC hkC e1 z1 o1 => ?_
  have hfm2 : fam c (tg (alo χ c t N) c (nO χ c)) = (1, ci, ft) := by rw [alo_tn]; exact hfm
  have k1 := kk _ (Ext.aloc (a := H.size) hf) ls H1 locs (cells + 1) (slots + N) hl (Iv.aloc hna hI hf (by
    rw [cE_o hfm2, map_new hfm hk]
    exact ⟨_, hc, (u_born ty hts hin hKn hkC e1 hty).to hdf⟩) z1 o1 hu hs)
  rw [adU_eq] at k1
  exact k1
theorem g_newI (h : Ok X cc own ret y0 nL F Lo Pst) (hna : X.na = false) {aty : ArrayType} {n : Int32} {L : Nat} {tyy : FieldType} (hty : newarray.typeOf aty = tyy) (hdv : defaultValue tyy = .int 0) (hra : ∀ U cA, va_RA U cA tyy → U.vm.findClass ("[" ++ tyy.toString) = some cA) (hb : componentBytes tyy ≤ 8) (hL : n.toNatClampNeg = L) (hf : fcn c = 0) (hfm : fam c L = (2, e, [(d, L)])) (he : (vtys X.Γ.2.2.2)[e]? = some (X.Γ.2.2.2 e, tyy)) (q1 : Cond.arrayClass tyy ∈ lw_all) (hn : ¬ n < 0) (hu : uC χ + 1 ≤ 603072) (hs : uS χ + L ≤ 7262314) (hd : decode cc pc = .ok (.newarray aty, 2))
    (kk : ∀ ad', Ext χ (alo χ c L L) ad ad' → G X ad' (alo χ c L L) (pc + 2) lv (.ref (ad' c (nO χ c)) :: st)) : G X ad χ pc lv (.int n :: st) := by
  intro ls H locs cells slots hl hI
  subst hty
  have hts := h.2.2.2.2.2.2.1
  have hfr := hI.free h hu hs
  refine va_newaK h.1 h.2.1 (hts _ q1) rfl hd rfl hn hL (Nat.le_trans (Nat.mul_le_mul (show L ≤ 7262314 by omega) hb) (by decide)) hfr.1 hfr.2 rfl fun H1 cA e1 z1 o1 hAr hNm => ?_
  have hcA : X.Γ.2.2.2 e = cA := Option.some.inj ((hra _ _ (h.2.2.2.2.2.2.2.1.1.2 e _ he).2).symm.trans hNm)
  have hfm2 : fam c (tg (alo χ c L L) c (nO χ c)) = (2, e, [(d, L)]) := by rw [alo_tn]; exact hfm
  have k1 := kk _ (Ext.aloc (a := H.size) hf) ls H1 locs (cells + 1) (slots + L) hl (Iv.aloc hna hI hf (by
    rw [cE_2 hfm2]
    show H1[H.size]? = some (vp_cell _ _)
    rw [e1, vp_cell_i, hcA]
    congr 2
    funext q
    rw [hdv, alo_In (own_lt (own_arr hfm))]) z1 o1 hu hs)
  rw [adU_eq] at k1
  exact k1
theorem g_newL (h : Ok X cc own ret y0 nL F Lo Pst) (hna : X.na = false) {aty : ArrayType} {n : Int32} {L : Nat} {tyy : FieldType} (hty : newarray.typeOf aty = tyy) (hdv : defaultValue tyy = .long 0) (hra : ∀ U cA, va_RA U cA tyy → U.vm.findClass ("[" ++ tyy.toString) = some cA) (hb : componentBytes tyy ≤ 8) (hL : n.toNatClampNeg = L) (hf : fcn c = 0) (hfm : fam c L = (3, e, [(d, L)])) (he : (vtys X.Γ.2.2.2)[e]? = some (X.Γ.2.2.2 e, tyy)) (q1 : Cond.arrayClass tyy ∈ lw_all) (hn : ¬ n < 0) (hu : uC χ + 1 ≤ 603072) (hs : uS χ + L ≤ 7262314) (hd : decode cc pc = .ok (.newarray aty, 2))
    (kk : ∀ ad', Ext χ (alo χ c L L) ad ad' → G X ad' (alo χ c L L) (pc + 2) lv (.ref (ad' c (nO χ c)) :: st)) : G X ad χ pc lv (.int n :: st) := by
  intro ls H locs cells slots hl hI
  subst hty
  have hts := h.2.2.2.2.2.2.1
  have hfr := hI.free h hu hs
  refine va_newaK h.1 h.2.1 (hts _ q1) rfl hd rfl hn hL (Nat.le_trans (Nat.mul_le_mul (show L ≤ 7262314 by omega) hb) (by decide)) hfr.1 hfr.2 rfl fun H1 cA e1 z1 o1 hAr hNm => ?_
  have hcA : X.Γ.2.2.2 e = cA := Option.some.inj ((hra _ _ (h.2.2.2.2.2.2.2.1.1.2 e _ he).2).symm.trans hNm)
  have hfm2 : fam c (tg (alo χ c L L) c (nO χ c)) = (3, e, [(d, L)]) := by rw [alo_tn]; exact hfm
  have k1 := kk _ (Ext.aloc (a := H.size) hf) ls H1 locs (cells + 1) (slots + L) hl (Iv.aloc hna hI hf (by
    rw [cE_3 hfm2]
    show H1[H.size]? = some (vp_cell _ _)
    rw [e1, vp_cell_l, hcA]
    congr 2
    funext q
    rw [hdv, alo_Ln (own_lt (own_arr hfm))]) z1 o1 hu hs)
  rw [adU_eq] at k1
  exact k1
/-- a final field, in its class's constructor -/
theorem g_putvF (h : Ok X cc own ret y0 nL F Lo Pst) (hin2 : y0.name = "<init>") {v : Value} {χ' : St} {ty : FieldType} (hi : i < cn χ c) (hf : fam c (tg χ c i) = (1, ci, ft)) (hl0 : k < ft.length) (hc : vcl[ci]? = some (C, T, N)) (hin : ∀ w ∈ u_ws C T N, w ∈ lw_all) (hap0 : ∀ D : va_G, va_K D vcl (vtys X.Γ.2.2.2) X.s → ∀ x y, x < N → y < N → x ≠ y → (D.2 ci) x ≠ (D.2 ci) y) (hk : k < N)
    (hlink : Cond.fieldLink own index (T k).1 (T k).2.1 (T k).2.2.1 ∈ lw_all) (hfin : (T k).2.2.2 = true) (hdecl : (T k).1 = own) (ht : parseFieldDescriptor (T k).2.2.1 = some ty) (hnr : narrow ty v = v) (hfit : fits ty v = true)
    (hn : ∀ c, cn χ' c = cn χ c) (hu : uC χ' = uC χ) (hs : uS χ' = uS χ) (hcl : ∀ H, HR X.Γ ad χ H → ∀ F i j x, gR χ' F i j = some x → x < cn χ (tgF F)) (hE : ∀ c' i', c ≠ c' ∨ i' ≠ i → cE X.Γ.2.2.2 ad χ' c' i' = cE X.Γ.2.2.2 ad χ c' i') (hE2 : cE X.Γ.2.2.2 ad χ' c i = .inr (ci, (ft.map (fvl ad χ i)).set k v))
    (hd : decode cc pc = .ok (.putfield index, 3)) (kk : G X ad χ' (pc + 3) lv st) : G X ad χ pc lv (v :: .ref (ad c i) :: st) := by
  intro ls H locs cells slots hl hI
  have hat := hI.at hi
  rw [cE_o hf] at hat
  have hts := h.2.2.2.2.2.2.1
  have hK := h.2.2.2.2.2.2.2.1.1
  have hown := h.2.2.2.2.2.1
  have hap := hap0 _ hK
  obtain ⟨r, h1, cell, q1, q2, q3, q4⟩ := hat
  have hr : r = (C, T, N) := Option.some.inj (h1.symm.trans hc)
  subst hr
  obtain ⟨hS, hfc, kC, hkC, hkind⟩ := hK.1 ci _ hc
  obtain ⟨cf, kf, fi, f, hfi, hsl⟩ := hS k hk
  have hlay := hts _ (hin _ (u_in_lay hk))
  unfold u_lay at hlay
  rw [if_pos hfin] at hlay
  have hst := (u_facts hfc hkC (u_lays hts hin hk) hfi).1
  have hcf : X.m.cls = cf := by
    obtain ⟨_, _, c', _, _, _, -, -, hf', -, -, -, hown2, -⟩ := Cond.laysFinal_spec hlay
    have e1 : c' = cf := by have := hfi.symm.trans hf'; simp at this; exact this.1.symm
    rw [hdecl] at hown2
    rw [← e1]; exact Option.some.inj (hown.symm.trans hown2)
  have h6 := u_fits hfc hkC hkind (Or.inr hlay) hfi ht hnr hfit
  refine W.putFinK h.1 h.2.1 hown (hts _ hlink) hfi hst hcf (h.2.2.2.2.2.2.2.2.2.1.trans hin2) (by rw [q2]; exact h6) q1 q3 (by rw [hsl]; exact k2_hasslot (q4 k hk)) rfl rfl hd fun H' e1 e2 e3 => ?_
  rw [hsl] at e1 ⊢
  refine kk ls H' _ cells slots hl (hI.upd hi hn hu hs (hcl H hI.1) hE ?_ e2 e3 _)
  rw [hE2]
  exact ⟨_, hc, t_OB.to (V := updV (vp_V (ft.map (fvl ad χ i))) k v) ⟨_, e1, q2, q3, t_set q4 hap hk v⟩ (fun j _ => vp_updV_set (by rw [List.length_map]; exact hl0) v j)⟩
end GW
