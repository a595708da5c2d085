set_option maxRecDepth 100000
theorem fam_nd23 (t : Nat) : ((famT23 t).2.2.map Prod.snd).Nodup := by
  unfold famT23
  split <;> decide
theorem fam_nd30 (t : Nat) : ((famT30 t).2.2.map Prod.snd).Nodup := by
  unfold famT30
  split <;> decide
set_option maxHeartbeats 4000000 in
theorem fam_nd (c t : Nat) : (fam c t).1 = 1 → ((fam c t).2.2.map Prod.snd).Nodup := by
  unfold fam
  split <;> first | exact fun _ => fam_nd23 t | exact fun _ => fam_nd30 t | (intro h; simp at h; done) | (intro _; decide)
theorem nd_inj {l : List (Nat × Nat)} (h : (l.map Prod.snd).Nodup) {a b : Nat} {q q' : Nat × Nat} (ha : l[a]? = some q) (hb : l[b]? = some q') (e : q.2 = q'.2) : a = b := by
  have h1 : (l.map Prod.snd)[a]? = some q.2 := by rw [List.getElem?_map, ha]; rfl
  have h2 : (l.map Prod.snd)[b]? = some q.2 := by rw [List.getElem?_map, hb, e]; rfl
  have hl : a < (l.map Prod.snd).length := (List.getElem?_eq_some_iff.mp h1).1
  exact (List.getElem?_inj hl h).mp (h1.trans h2.symm)
/-- the fields' values behind a store of one field -/
theorem map_set {l : List (Nat × Nat)} {f g : Nat × Nat → Value} {k : Nat} {q : Nat × Nat} {v : Value} (hk : l[k]? = some q) (hv : g q = v) (ho : ∀ (a : Nat) (q' : Nat × Nat), l[a]? = some q' → a ≠ k → g q' = f q') : l.map g = (l.map f).set k v := by
  apply List.ext_getElem?
  intro a
  by_cases e : a = k
  · subst e
    have hl : a < (l.map f).length := by rw [List.length_map]; exact (List.getElem?_eq_some_iff.mp hk).1
    rw [List.getElem?_set_self hl, List.getElem?_map, hk, ← hv]; rfl
  · rw [List.getElem?_set_ne (Ne.symm e), List.getElem?_map, List.getElem?_map]
    cases hq : l[a]? with
    | none => rfl
    | some q' => simp [ho a q' hq e]
theorem fvl_I {ad : Nat → Nat → Nat} {χ : St} {i F : Nat} : fvl ad χ i (0, F) = .int (gI χ F i 0) := rfl
theorem fvl_L {ad : Nat → Nat → Nat} {χ : St} {i F : Nat} : fvl ad χ i (1, F) = .long (gL χ F i 0) := rfl
theorem cE_o {aC : Nat → ClassId} {ad : Nat → Nat → Nat} {χ : St} {c i ci : Nat} {ft : List (Nat × Nat)} (hf : fam c (tg χ c i) = (1, ci, ft)) : cE aC ad χ c i = .inr (ci, ft.map (fvl ad χ i)) := by
  unfold cE
  rw [hf]; rfl
theorem cE_2 {aC : Nat → ClassId} {ad : Nat → Nat → Nat} {χ : St} {c i e d L : Nat} (hf : fam c (tg χ c i) = (2, e, [(d, L)])) : cE aC ad χ c i = .inl (aC e, L, .inl (gI χ c i)) := by
  unfold cE
  rw [hf]; rfl
theorem cE_3 {aC : Nat → ClassId} {ad : Nat → Nat → Nat} {χ : St} {c i e d L : Nat} (hf : fam c (tg χ c i) = (3, e, [(d, L)])) : cE aC ad χ c i = .inl (aC e, L, .inr (.inl (gL χ c i))) := by
  unfold cE
  rw [hf]; rfl
theorem cE_4 {aC : Nat → ClassId} {ad : Nat → Nat → Nat} {χ : St} {c i e d L : Nat} (hf : fam c (tg χ c i) = (4, e, [(d, L)])) : cE aC ad χ c i = .inl (aC e, L, .inr (.inr (.inr (.inr (fun j => (gR χ c i j).map (ad d)))))) := by
  unfold cE
  rw [hf]; rfl
theorem cE_5 {aC : Nat → ClassId} {ad : Nat → Nat → Nat} {χ : St} {c i e d L : Nat} (hf : fam c (tg χ c i) = (5, e, [(d, L)])) : cE aC ad χ c i = .inl (aC e, L, .inr (.inr (.inr (.inr (fun j => some (ad d j)))))) := by
  unfold cE
  rw [hf]; rfl
theorem P1 {D : va_G} {q : Nat × va_E} {H : Heap} (h : va_at D vcl q H) : va_P D vcl [q] H := by
  intro k x hk
  have hz : k < 1 := (List.getElem?_eq_some_iff.mp hk).1
  rw [show k = 0 by omega] at hk
  cases hk
  exact h
theorem Iv.at {X : Cx} {ad : Nat → Nat → Nat} {χ : St} {H : Heap} {locs : List Loc} {cells slots : Nat} (hI : Iv X ad χ H locs cells slots) {c i : Nat} (hi : i < cn χ c) : va_at X.Γ.2.2.1 vcl (ad c i, cE X.Γ.2.2.2 ad χ c i) H := (hI.1.1 c i hi).1
theorem Iv.upd {X : Cx} {ad : Nat → Nat → Nat} {χ χ' : St} {H H1 : Heap} {locs : List Loc} {cells slots : Nat} (hI : Iv X ad χ H locs cells slots) {c i : Nat} (hi : i < cn χ c) (hn : ∀ c, cn χ' c = cn χ c) (hu : uC χ' = uC χ) (hs : uS χ' = uS χ)
    (hc : ∀ F i j x, gR χ' F i j = some x → x < cn χ (tgF F)) (hE : ∀ c' i', c ≠ c' ∨ i' ≠ i → cE X.Γ.2.2.2 ad χ' c' i' = cE X.Γ.2.2.2 ad χ c' i') (hat : va_at X.Γ.2.2.1 vcl (ad c i, cE X.Γ.2.2.2 ad χ' c i) H1) (hz : H1.size = H.size) (oq : ∀ q : Nat, q ≠ ad c i → H1[q]? = H[q]?) (k : Nat) : Iv X ad χ' H1 (locs ++ [⟨ad c i, k⟩]) cells slots := by
  obtain ⟨h1, h2, h3, h4, h5, h6⟩ := hI
  refine ⟨h1.upd hi hn hu hs hc hE hat hz oq, ⟨h2.1, fun c => by rw [hn]; exact h2.2 c⟩, h3, ?_, by rw [hu]; exact h5, by rw [hs]; exact h6⟩
  intro q hq
  rcases List.mem_append.mp hq with h | h
  · exact h4 q h
  · rw [List.mem_singleton.mp h]
    exact (h1.1 c i hi).2
section GH
variable {X : Cx} {cc : ByteArray} {own : String} {ret : Option FieldType} {y0 : MethodName} {nL F Lo : Nat} {Pst : Option Value → (Nat → Nat → Nat) → St → Prop} {ad : Nat → Nat → Nat} {χ : St} {pc : Nat} {lv lv2 : List (Nat × Value)} {st : List Value}
variable {c i k ci index : Nat} {ft : List (Nat × Nat)} {C : String} {T : u_T} {N : Nat} {K e d L : Nat}
theorem g_getv (h : Ok X cc own ret y0 nL F Lo Pst) {v : Value} (hi : i < cn χ c) (hf : fam c (tg χ c i) = (1, ci, ft)) {q : Nat × Nat} (hq : ft[k]? = some q) (hv : fvl ad χ i q = v) (hc : vcl[ci]? = some (C, T, N)) (hin : ∀ w ∈ u_ws C T N, w ∈ lw_all) (hk : k < N) (hlink : Cond.fieldLink own index (T k).1 (T k).2.1 (T k).2.2.1 ∈ lw_all) (hd : decode cc pc = .ok (.getfield index, 3)) (kk : G X ad χ (pc + 3) lv (v :: st)) : G X ad χ pc lv (.ref (ad c i) :: st) := by
  intro ls H locs cells slots hl hI
  have hat := hI.at hi
  rw [cE_o hf] at hat
  exact va_get h.1 h.2.1 h.2.2.2.2.2.2.1 hin h.2.2.2.2.2.1 h.2.2.2.2.2.2.2.1.1 (P1 hat) 0 rfl hc k hk (h.2.2.2.2.2.2.1 _ hlink) (fun _ z => z) (by rw [List.getElem?_map, hq, ← hv]; rfl) hd (kk ls H locs cells slots hl hI)
theorem g_getI (h : Ok X cc own ret y0 nL F Lo Pst) (hi : i < cn χ c) (hf : fam c (tg χ c i) = (1, ci, ft)) (hq : ft[k]? = some (0, K)) (hc : vcl[ci]? = some (C, T, N)) (hin : ∀ w ∈ u_ws C T N, w ∈ lw_all) (hk : k < N) (hlink : Cond.fieldLink own index (T k).1 (T k).2.1 (T k).2.2.1 ∈ lw_all) (hd : decode cc pc = .ok (.getfield index, 3)) (kk : G X ad χ (pc + 3) lv (.int (gI χ K i 0) :: st)) : G X ad χ pc lv (.ref (ad c i) :: st) := g_getv h hi hf hq rfl hc hin hk hlink hd kk
theorem g_getL (h : Ok X cc own ret y0 nL F Lo Pst) (hi : i < cn χ c) (hf : fam c (tg χ c i) = (1, ci, ft)) (hq : ft[k]? = some (1, K)) (hc : vcl[ci]? = some (C, T, N)) (hin : ∀ w ∈ u_ws C T N, w ∈ lw_all) (hk : k < N) (hlink : Cond.fieldLink own index (T k).1 (T k).2.1 (T k).2.2.1 ∈ lw_all) (hd : decode cc pc = .ok (.getfield index, 3)) (kk : G X ad χ (pc + 3) lv (.long (gL χ K i 0) :: st)) : G X ad χ pc lv (.ref (ad c i) :: st) := g_getv h hi hf hq rfl hc hin hk hlink hd kk
/-- a final field of the class's single object, that holds the family d's single cell -/
theorem g_getK (h : Ok X cc own ret y0 nL F Lo Pst) {x : Nat} (hi : i < cn χ c) (hf : fam c (tg χ c i) = (1, ci, ft)) (hq : ft[k]? = some (x, K)) (hx : 200 ≤ x) (hd0 : x - 200 = d) (hc : vcl[ci]? = some (C, T, N)) (hin : ∀ w ∈ u_ws C T N, w ∈ lw_all) (hk : k < N) (hlink : Cond.fieldLink own index (T k).1 (T k).2.1 (T k).2.2.1 ∈ lw_all) (hd : decode cc pc = .ok (.getfield index, 3)) (kk : G X ad χ (pc + 3) lv (.ref (ad d 0) :: st)) : G X ad χ pc lv (.ref (ad c i) :: st) :=
  g_getv h hi hf hq (by unfold fvl; rw [if_neg (by show ¬ x = 0; omega), if_neg (by show ¬ x = 1; omega), if_neg (by show ¬ x < 200; omega), hd0]) hc hin hk hlink hd kk
/-- a store of one field, its store of the world being χ' -/
theorem g_putv (h : Ok X cc own ret y0 nL F Lo Pst) {v : Value} {χ' : St} {ty0 : Nat → FieldType} {ty : FieldType} (hi : i < cn χ c) (hf : fam c (tg χ c i) = (1, ci, ft)) (hl0 : k < ft.length) (hc : vcl[ci]? = some (C, T, N)) (hin : ∀ w ∈ u_ws C T N, w ∈ lw_all) (hty : ∀ k, k < N → parseFieldDescriptor (T k).2.2.1 = some (ty0 k)) (hnm : ∀ a, a < N → ∀ b, b < N → a ≠ b → (T a).2.1 ≠ (T b).2.1) (hk : k < N)
    (hlink : Cond.fieldLink own index (T k).1 (T k).2.1 (T k).2.2.1 ∈ lw_all) (hfin : (T k).2.2.2 = false) (ht : parseFieldDescriptor (T k).2.2.1 = some ty) (hnr : narrow ty v = v) (hfit : fits ty v = true)
    (hn : ∀ c, cn χ' c = cn χ c) (hu : uC χ' = uC χ) (hs : uS χ' = uS χ) (hcl : ∀ H, HR X.Γ ad χ H → ∀ F i j x, gR χ' F i j = some x → x < cn χ (tgF F)) (hE : ∀ c' i', c ≠ c' ∨ i' ≠ i → cE X.Γ.2.2.2 ad χ' c' i' = cE X.Γ.2.2.2 ad χ c' i') (hE2 : cE X.Γ.2.2.2 ad χ' c i = .inr (ci, (ft.map (fvl ad χ i)).set k v))
    (hd : decode cc pc = .ok (.putfield index, 3)) (kk : G X ad χ' (pc + 3) lv st) : G X ad χ pc lv (v :: .ref (ad c i) :: st) := by
  intro ls H locs cells slots hl hI
  have hat := hI.at hi
  rw [cE_o hf] at hat
  have hts := h.2.2.2.2.2.2.1
  have hK := h.2.2.2.2.2.2.2.1.1
  have hap := va_apart (own := own) hts hin ty0 hty hnm hK hc
  obtain ⟨r, h1, cell, q1, q2, q3, q4⟩ := hat
  have hr : r = (C, T, N) := Option.some.inj (h1.symm.trans hc)
  subst hr
  obtain ⟨hS, hfc, kC, hkC, hkind⟩ := hK.1 ci _ hc
  obtain ⟨cf, kf, fi, f, hfi, hsl⟩ := hS k hk
  have hlay := hts _ (hin _ (u_in_lay hk))
  unfold u_lay at hlay
  rw [if_neg (by rw [hfin]; decide)] at hlay
  have hst := (u_facts hfc hkC (u_lays hts hin hk) hfi).1
  have h6 := u_store hfc hkC hkind hlay hfi ht hnr hfit
  refine W.putK h.1 h.2.1 (f := f) ⟨h.2.2.2.2.2.1, hts _ hlink, ⟨_, _, _, hfi⟩, hst⟩ (by rw [q2]; exact h6) q1 q3 (by rw [hsl]; exact k2_hasslot (q4 k hk)) rfl rfl hd fun H' e1 e2 e3 => ?_
  rw [hsl] at e1 ⊢
  refine kk ls H' _ cells slots hl (hI.upd hi hn hu hs (hcl H hI.1) hE ?_ e2 e3 _)
  rw [hE2]
  exact ⟨_, hc, t_OB.to (V := updV (vp_V (ft.map (fvl ad χ i))) k v) ⟨_, e1, q2, q3, t_set q4 hap hk v⟩ (fun j _ => vp_updV_set (by rw [List.length_map]; exact hl0) v j)⟩
theorem gI_self {χ : St} {K i j : Nat} {v : Int32} : gI (sI χ K i j v) K i j = v := if_pos ⟨rfl, rfl, rfl⟩
theorem gL_self {χ : St} {K i j : Nat} {v : Int64} : gL (sL χ K i j v) K i j = v := if_pos ⟨rfl, rfl, rfl⟩
theorem gR_self {χ : St} {K i j : Nat} {v : Option Nat} : gR (sR χ K i j v) K i j = v := if_pos ⟨rfl, rfl, rfl⟩
theorem fvl_oI {ad : Nat → Nat → Nat} {χ : St} {i K : Nat} {v : Int32} {q : Nat × Nat} (h : q.2 ≠ K) : fvl ad (sI χ K i 0 v) i q = fvl ad χ i q := by
  unfold fvl
  rw [show gI (sI χ K i 0 v) q.2 i = gI χ q.2 i from gI_sI_fn (Or.inl (Ne.symm h))]
  rfl
theorem fvl_oL {ad : Nat → Nat → Nat} {χ : St} {i K : Nat} {v : Int64} {q : Nat × Nat} (h : q.2 ≠ K) : fvl ad (sL χ K i 0 v) i q = fvl ad χ i q := by
  unfold fvl
  rw [show gL (sL χ K i 0 v) q.2 i = gL χ q.2 i from gL_sL_fn (Or.inl (Ne.symm h))]
  rfl
theorem fvl_oR {ad : Nat → Nat → Nat} {χ : St} {i K : Nat} {v : Option Nat} {q : Nat × Nat} (h : q.2 ≠ K) : fvl ad (sR χ K i 0 v) i q = fvl ad χ i q := by
  unfold fvl
  rw [show gR (sR χ K i 0 v) q.2 i = gR χ q.2 i from gR_sR_fn (Or.inl (Ne.symm h))]
  rfl
theorem g_putI (h : Ok X cc own ret y0 nL F Lo Pst) {v : Int32} {ty0 : Nat → FieldType} {ty : FieldType} (hi : i < cn χ c) (hf : fam c (tg χ c i) = (1, ci, ft)) (hq : ft[k]? = some (0, K)) (hc : vcl[ci]? = some (C, T, N)) (hin : ∀ w ∈ u_ws C T N, w ∈ lw_all) (hty : ∀ k, k < N → parseFieldDescriptor (T k).2.2.1 = some (ty0 k)) (hnm : ∀ a, a < N → ∀ b, b < N → a ≠ b → (T a).2.1 ≠ (T b).2.1) (hk : k < N)
    (hlink : Cond.fieldLink own index (T k).1 (T k).2.1 (T k).2.2.1 ∈ lw_all) (hfin : (T k).2.2.2 = false) (ht : parseFieldDescriptor (T k).2.2.1 = some ty) (hnr : narrow ty (.int v) = .int v) (hfit : fits ty (.int v) = true)
    (hd : decode cc pc = .ok (.putfield index, 3)) (kk : G X ad (sI χ K i 0 v) (pc + 3) lv st) : G X ad χ pc lv (.int v :: .ref (ad c i) :: st) := by
  have hone : (fam c (tg χ c i)).1 = 1 := by rw [hf]
  have hnd := fam_nd c (tg χ c i) hone
  have how := fam_own c (tg χ c i) hone
  rw [hf] at hnd how
  have hown : ownF K = c := how (0, K) (List.mem_of_getElem? hq)
  refine g_putv (χ' := sI χ K i 0 v) h hi hf (List.getElem?_eq_some_iff.mp hq).1 hc hin hty hnm hk hlink hfin ht hnr hfit (fun _ => rfl) rfl rfl (fun H hH => hH.2.2.2.2.2.2) (fun c' i' hne => cE_sI (by rw [hown]; exact hne)) ?_ hd kk
  rw [cE_o (χ := sI χ K i 0 v) (show fam c (tg (sI χ K i 0 v) c i) = (1, ci, ft) from hf)]
  rw [map_set (f := fvl ad χ i) (g := fvl ad (sI χ K i 0 v) i) hq (show _ = Value.int v by rw [fvl_I, gI_self]) (fun a q' hq' hne => fvl_oI (fun e => hne (nd_inj hnd hq' hq e)))]
theorem g_putL (h : Ok X cc own ret y0 nL F Lo Pst) {v : Int64} {ty0 : Nat → FieldType} {ty : FieldType} (hi : i < cn χ c) (hf : fam c (tg χ c i) = (1, ci, ft)) (hq : ft[k]? = some (1, K)) (hc : vcl[ci]? = some (C, T, N)) (hin : ∀ w ∈ u_ws C T N, w ∈ lw_all) (hty : ∀ k, k < N → parseFieldDescriptor (T k).2.2.1 = some (ty0 k)) (hnm : ∀ a, a < N → ∀ b, b < N → a ≠ b → (T a).2.1 ≠ (T b).2.1) (hk : k < N)
    (hlink : Cond.fieldLink own index (T k).1 (T k).2.1 (T k).2.2.1 ∈ lw_all) (hfin : (T k).2.2.2 = false) (ht : parseFieldDescriptor (T k).2.2.1 = some ty) (hnr : narrow ty (.long v) = .long v) (hfit : fits ty (.long v) = true)
    (hd : decode cc pc = .ok (.putfield index, 3)) (kk : G X ad (sL χ K i 0 v) (pc + 3) lv st) : G X ad χ pc lv (.long v :: .ref (ad c i) :: st) := by
  have hone : (fam c (tg χ c i)).1 = 1 := by rw [hf]
  have hnd := fam_nd c (tg χ c i) hone
  have how := fam_own c (tg χ c i) hone
  rw [hf] at hnd how
  have hown : ownF K = c := how (1, K) (List.mem_of_getElem? hq)
  refine g_putv (χ' := sL χ K i 0 v) h hi hf (List.getElem?_eq_some_iff.mp hq).1 hc hin hty hnm hk hlink hfin ht hnr hfit (fun _ => rfl) rfl rfl (fun H hH => hH.2.2.2.2.2.2) (fun c' i' hne => cE_sL (by rw [hown]; exact hne)) ?_ hd kk
  rw [cE_o (χ := sL χ K i 0 v) (show fam c (tg (sL χ K i 0 v) c i) = (1, ci, ft) from hf)]
  rw [map_set (f := fvl ad χ i) (g := fvl ad (sL χ K i 0 v) i) hq (show _ = Value.long v by rw [fvl_L, gL_self]) (fun a q' hq' hne => fvl_oL (fun e => hne (nd_inj hnd hq' hq e)))]
end GH
