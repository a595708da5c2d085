set_option maxRecDepth 100000
section GN
variable {X : Cx} {cc : ByteArray} {own host : String} {ret : Option FieldType} {y0 : MethodName} {nL F Lo : Nat} {Pst : Option Value → (Nat → Nat → Nat) → St → Prop} {ad : Nat → Nat → Nat} {χ : St} {pc : Nat} {lv lv2 : List (Nat × Value)} {st : List Value}
variable {c i k ci index : Nat} {ft : List (Nat × Nat)} {C : String} {T : u_T} {N : Nat} {K e d L x : Nat} {j : Int32}
theorem g_getvN (h : Ok X cc own ret y0 nL F Lo Pst) {v : Value} (hi : i < cn χ c) (hf : fam c (tg χ c i) = (1, ci, ft)) {q : Nat × Nat} (hq : ft[k]? = some q) (hv : fvl ad χ i q = v) (hc : vcl[ci]? = some (C, T, N)) (hin : ∀ w ∈ u_ws C T N, w ∈ lw_all) (hk : k < N) (hlink : Cond.fieldLinkNest own index (T k).1 (T k).2.1 (T k).2.2.1 host ∈ lw_tbl) (hd : decode cc pc = .ok (.getfield index, 3)) (kk : G X ad χ (pc + 3) lv (v :: st)) : G X ad χ pc lv (.ref (ad c i) :: st) := by
  intro ls H locs cells slots hl hI
  have hat := hI.at hi
  rw [cE_o hf] at hat
  exact va_getN h.1 h.2.1 h.2.2.2.2.2.2.1 hin h.2.2.2.2.2.1 h.2.2.2.2.2.2.2.1.1 (P1 hat) 0 rfl hc k hk (va_Nw.use rfl (h.2.2.2.2.2.2.2.1.2.1 _ hlink rfl)) (fun _ z => z) (by rw [List.getElem?_map, hq, ← hv]; rfl) hd (kk ls H locs cells slots hl hI)
theorem g_getIN (h : Ok X cc own ret y0 nL F Lo Pst) (hi : i < cn χ c) (hf : fam c (tg χ c i) = (1, ci, ft)) (hq : ft[k]? = some (0, K)) (hc : vcl[ci]? = some (C, T, N)) (hin : ∀ w ∈ u_ws C T N, w ∈ lw_all) (hk : k < N) (hlink : Cond.fieldLinkNest own index (T k).1 (T k).2.1 (T k).2.2.1 host ∈ lw_tbl) (hd : decode cc pc = .ok (.getfield index, 3)) (kk : G X ad χ (pc + 3) lv (.int (gI χ K i 0) :: st)) : G X ad χ pc lv (.ref (ad c i) :: st) := g_getvN h hi hf hq rfl hc hin hk hlink hd kk
theorem g_getKN (h : Ok X cc own ret y0 nL F Lo Pst) {x : Nat} (hi : i < cn χ c) (hf : fam c (tg χ c i) = (1, ci, ft)) (hq : ft[k]? = some (x, K)) (hx : 200 ≤ x) (hd0 : x - 200 = d) (hc : vcl[ci]? = some (C, T, N)) (hin : ∀ w ∈ u_ws C T N, w ∈ lw_all) (hk : k < N) (hlink : Cond.fieldLinkNest own index (T k).1 (T k).2.1 (T k).2.2.1 host ∈ lw_tbl) (hd : decode cc pc = .ok (.getfield index, 3)) (kk : G X ad χ (pc + 3) lv (.ref (ad d 0) :: st)) : G X ad χ pc lv (.ref (ad c i) :: st) :=
  g_getvN h hi hf hq (by unfold fvl; rw [if_neg (by show ¬ x = 0; omega), if_neg (by show ¬ x = 1; omega), if_neg (by show ¬ x < 200; omega), hd0]) hc hin hk hlink hd kk
theorem g_getON (h : Ok X cc own ret y0 nL F Lo Pst) (hi : i < cn χ c) (hf : fam c (tg χ c i) = (1, ci, ft)) {x : Nat} (hq : ft[k]? = some (x, K)) (h1 : 100 ≤ x) (h2 : x < 200) (hd0 : x - 100 = d) (htg : tgF K = d) (hc : vcl[ci]? = some (C, T, N)) (hin : ∀ w ∈ u_ws C T N, w ∈ lw_all) (hk : k < N) (hlink : Cond.fieldLinkNest own index (T k).1 (T k).2.1 (T k).2.2.1 host ∈ lw_tbl) (hd : decode cc pc = .ok (.getfield index, 3)) (kk : (∀ z, gR χ K i 0 = some z → z < cn χ d) → G X ad χ (pc + 3) lv (va_rf ((gR χ K i 0).map (ad d)) :: st)) : G X ad χ pc lv (.ref (ad c i) :: st) := by
  intro ls H locs cells slots hl hI
  exact g_getvN h hi hf hq (by unfold fvl; rw [if_neg (by show ¬ x = 0; omega), if_neg (by show ¬ x = 1; omega), if_pos (by show x < 200; omega), hd0]) hc hin hk hlink hd (kk (fun z e => htg ▸ hI.1.2.2.2.2.2.2 K i 0 z e)) ls H locs cells slots hl hI
theorem g_getEN (h : Ok X cc own ret y0 nL F Lo Pst) (hi : i < cn χ c) (hf : fam c (tg χ c i) = (1, ci, ft)) {x : Nat} (hq : ft[k]? = some (x, K)) (h1 : 100 ≤ x) (h2 : x < 200) (hd0 : x - 100 = d) (htg : tgF K = d) (hc : vcl[ci]? = some (C, T, N)) (hin : ∀ w ∈ u_ws C T N, w ∈ lw_all) (hk : k < N) (hlink : Cond.fieldLinkNest own index (T k).1 (T k).2.1 (T k).2.2.1 host ∈ lw_tbl) (hd : decode cc pc = .ok (.getfield index, 3)) {z : Nat} (hz : gR χ K i 0 = some z) (kk : z < cn χ d → G X ad χ (pc + 3) lv (.ref (ad d z) :: st)) : G X ad χ pc lv (.ref (ad c i) :: st) :=
  g_getON h hi hf hq h1 h2 hd0 htg hc hin hk hlink hd (fun hv => by rw [hz]; exact kk (hv z hz))
theorem g_getSN (h : Ok X cc own ret y0 nL F Lo Pst) (hi : i < cn χ c) (hf : fam c (tg χ c i) = (1, ci, ft)) {x : Nat} (hq : ft[k]? = some (x, K)) (h1 : 100 ≤ x) (h2 : x < 200) (hd0 : x - 100 = d) (htg : tgF K = d) (hc : vcl[ci]? = some (C, T, N)) (hin : ∀ w ∈ u_ws C T N, w ∈ lw_all) (hk : k < N) (hlink : Cond.fieldLinkNest own index (T k).1 (T k).2.1 (T k).2.2.1 host ∈ lw_tbl) (hd : decode cc pc = .ok (.getfield index, 3)) (kn : gR χ K i 0 = none → G X ad χ (pc + 3) lv (.null :: st)) (ks : ∀ z, gR χ K i 0 = some z → z < cn χ d → G X ad χ (pc + 3) lv (.ref (ad d z) :: st)) : G X ad χ pc lv (.ref (ad c i) :: st) :=
  g_getON h hi hf hq h1 h2 hd0 htg hc hin hk hlink hd (fun hv => by
    cases hz : gR χ K i 0 with
    | none => exact kn hz
    | some z => exact ks z hz (hv z hz))
theorem g_getO (h : Ok X cc own ret y0 nL F Lo Pst) (hi : i < cn χ c) (hf : fam c (tg χ c i) = (1, ci, ft)) {x : Nat} (hq : ft[k]? = some (x, K)) (h1 : 100 ≤ x) (h2 : x < 200) (hd0 : x - 100 = d) (htg : tgF K = d) (hc : vcl[ci]? = some (C, T, N)) (hin : ∀ w ∈ u_ws C T N, w ∈ lw_all) (hk : k < N) (hlink : Cond.fieldLink own index (T k).1 (T k).2.1 (T k).2.2.1 ∈ lw_all) (hd : decode cc pc = .ok (.getfield index, 3)) (kk : (∀ z, gR χ K i 0 = some z → z < cn χ d) → G X ad χ (pc + 3) lv (va_rf ((gR χ K i 0).map (ad d)) :: st)) : G X ad χ pc lv (.ref (ad c i) :: st) := by
  intro ls H locs cells slots hl hI
  exact g_getv h hi hf hq (by unfold fvl; rw [if_neg (by show ¬ x = 0; omega), if_neg (by show ¬ x = 1; omega), if_pos (by show x < 200; omega), hd0]) hc hin hk hlink hd (kk (fun z e => htg ▸ hI.1.2.2.2.2.2.2 K i 0 z e)) ls H locs cells slots hl hI
theorem g_getE (h : Ok X cc own ret y0 nL F Lo Pst) (hi : i < cn χ c) (hf : fam c (tg χ c i) = (1, ci, ft)) {x : Nat} (hq : ft[k]? = some (x, K)) (h1 : 100 ≤ x) (h2 : x < 200) (hd0 : x - 100 = d) (htg : tgF K = d) (hc : vcl[ci]? = some (C, T, N)) (hin : ∀ w ∈ u_ws C T N, w ∈ lw_all) (hk : k < N) (hlink : Cond.fieldLink own index (T k).1 (T k).2.1 (T k).2.2.1 ∈ lw_all) (hd : decode cc pc = .ok (.getfield index, 3)) {z : Nat} (hz : gR χ K i 0 = some z) (kk : z < cn χ d → G X ad χ (pc + 3) lv (.ref (ad d z) :: st)) : G X ad χ pc lv (.ref (ad c i) :: st) :=
  g_getO h hi hf hq h1 h2 hd0 htg hc hin hk hlink hd (fun hv => by rw [hz]; exact kk (hv z hz))
theorem g_getS (h : Ok X cc own ret y0 nL F Lo Pst) (hi : i < cn χ c) (hf : fam c (tg χ c i) = (1, ci, ft)) {x : Nat} (hq : ft[k]? = some (x, K)) (h1 : 100 ≤ x) (h2 : x < 200) (hd0 : x - 100 = d) (htg : tgF K = d) (hc : vcl[ci]? = some (C, T, N)) (hin : ∀ w ∈ u_ws C T N, w ∈ lw_all) (hk : k < N) (hlink : Cond.fieldLink own index (T k).1 (T k).2.1 (T k).2.2.1 ∈ lw_all) (hd : decode cc pc = .ok (.getfield index, 3)) (kn : gR χ K i 0 = none → G X ad χ (pc + 3) lv (.null :: st)) (ks : ∀ z, gR χ K i 0 = some z → z < cn χ d → G X ad χ (pc + 3) lv (.ref (ad d z) :: st)) : G X ad χ pc lv (.ref (ad c i) :: st) :=
  g_getO h hi hf hq h1 h2 hd0 htg hc hin hk hlink hd (fun hv => by
    cases hz : gR χ K i 0 with
    | none => exact kn hz
    | some z => exact ks z hz (hv z hz))
theorem g_aaldO (h : Ok X cc own ret y0 nL F Lo Pst) {E : String} (hi : i < cn χ c) (hf : fam c (tg χ c i) = (4, e, [(d, L)])) (htg : tgF c = d) (he : (vtys X.Γ.2.2.2)[e]? = some (X.Γ.2.2.2 e, .object E)) (hj : vp_in j L) (hd : decode cc pc = .ok (.aaload, 1)) (kk : (∀ z, gR χ c i j.toNatClampNeg = some z → z < cn χ d) → G X ad χ (pc + 1) lv (va_rf ((gR χ c i j.toNatClampNeg).map (ad d)) :: st)) : G X ad χ pc lv (.int j :: .ref (ad c i) :: st) := by
  intro ls H locs cells slots hl hI
  exact g_aald h hi hf he hj hd (kk (fun z e => htg ▸ hI.1.2.2.2.2.2.2 c i _ z e)) ls H locs cells slots hl hI
theorem g_aaldE (h : Ok X cc own ret y0 nL F Lo Pst) {E : String} (hi : i < cn χ c) (hf : fam c (tg χ c i) = (4, e, [(d, L)])) (htg : tgF c = d) (he : (vtys X.Γ.2.2.2)[e]? = some (X.Γ.2.2.2 e, .object E)) (hj : vp_in j L) (hd : decode cc pc = .ok (.aaload, 1)) {z : Nat} (hz : gR χ c i j.toNatClampNeg = some z) (kk : z < cn χ d → G X ad χ (pc + 1) lv (.ref (ad d z) :: st)) : G X ad χ pc lv (.int j :: .ref (ad c i) :: st) :=
  g_aaldO h hi hf htg he hj hd (fun hv => by rw [hz]; exact kk (hv z hz))
theorem g_aaldS (h : Ok X cc own ret y0 nL F Lo Pst) {E : String} (hi : i < cn χ c) (hf : fam c (tg χ c i) = (4, e, [(d, L)])) (htg : tgF c = d) (he : (vtys X.Γ.2.2.2)[e]? = some (X.Γ.2.2.2 e, .object E)) (hj : vp_in j L) (hd : decode cc pc = .ok (.aaload, 1)) (kn : gR χ c i j.toNatClampNeg = none → G X ad χ (pc + 1) lv (.null :: st)) (ks : ∀ z, gR χ c i j.toNatClampNeg = some z → z < cn χ d → G X ad χ (pc + 1) lv (.ref (ad d z) :: st)) : G X ad χ pc lv (.int j :: .ref (ad c i) :: st) :=
  g_aaldO h hi hf htg he hj hd (fun hv => by
    cases hz : gR χ c i j.toNatClampNeg with
    | none => exact kn hz
    | some z => exact ks z hz (hv z hz))
theorem g_putvN (h : Ok X cc own ret y0 nL F Lo Pst) {v : Value} {χ' : St} {ty0 : Nat → FieldType} {ty : FieldType} (hi : i < cn χ c) (hf : fam c (tg χ c i) = (1, ci, ft)) (hl0 : k < ft.length) (hc : vcl[ci]? = some (C, T, N)) (hin : ∀ w ∈ u_ws C T N, w ∈ lw_all) (hty : ∀ k, k < N → parseFieldDescriptor (T k).2.2.1 = some (ty0 k)) (hnm : ∀ a, a < N → ∀ b, b < N → a ≠ b → (T a).2.1 ≠ (T b).2.1) (hk : k < N)
    (hlink : Cond.fieldLinkNest own index (T k).1 (T k).2.1 (T k).2.2.1 host ∈ lw_tbl) (hfin : (T k).2.2.2 = false) (ht : parseFieldDescriptor (T k).2.2.1 = some ty) (hnr : narrow ty v = v) (hfit : fits ty v = true)
    (hn : ∀ c, cn χ' c = cn χ c) (hu : uC χ' = uC χ) (hs : uS χ' = uS χ) (hcl : ∀ H, HR X.Γ ad χ H → ∀ F i j x, gR χ' F i j = some x → x < cn χ (tgF F)) (hE : ∀ c' i', c ≠ c' ∨ i' ≠ i → cE X.Γ.2.2.2 ad χ' c' i' = cE X.Γ.2.2.2 ad χ c' i') (hE2 : cE X.Γ.2.2.2 ad χ' c i = .inr (ci, (ft.map (fvl ad χ i)).set k v))
    (hd : decode cc pc = .ok (.putfield index, 3)) (kk : G X ad χ' (pc + 3) lv st) : G X ad χ pc lv (v :: .ref (ad c i) :: st) := by
  intro ls H locs cells slots hl hI
  have hat := hI.at hi
  rw [cE_o hf] at hat
  have hts := h.2.2.2.2.2.2.1
  have hK := h.2.2.2.2.2.2.2.1.1
  have hap := va_apart (own := own) hts hin ty0 hty hnm hK hc
  obtain ⟨r, h1, cell, q1, q2, q3, q4⟩ := hat
  have hr : r = (C, T, N) := Option.some.inj (h1.symm.trans hc)
  subst hr
  obtain ⟨hS, hfc, kC, hkC, hkind⟩ := hK.1 ci _ hc
  obtain ⟨cf, kf, fi, f, hfi, hsl⟩ := hS k hk
  have hlay := hts _ (hin _ (u_in_lay hk))
  unfold u_lay at hlay
  rw [if_neg (by rw [hfin]; decide)] at hlay
  have hst := (u_facts hfc hkC (u_lays hts hin hk) hfi).1
  have h6 := u_store hfc hkC hkind hlay hfi ht hnr hfit
  refine va_WputK h.1 h.2.1 (f := f) h.2.2.2.2.2.1 (va_Nw.use rfl (h.2.2.2.2.2.2.2.1.2.1 _ hlink rfl)) hfi hst (by rw [q2]; exact h6) q1 q3 (by rw [hsl]; exact k2_hasslot (q4 k hk)) rfl rfl hd fun H' e1 e2 e3 => ?_
  rw [hsl] at e1 ⊢
  refine kk ls H' _ cells slots hl (hI.upd hi hn hu hs (hcl H hI.1) hE ?_ e2 e3 _)
  rw [hE2]
  exact ⟨_, hc, t_OB.to (V := updV (vp_V (ft.map (fvl ad χ i))) k v) ⟨_, e1, q2, q3, t_set q4 hap hk v⟩ (fun j _ => vp_updV_set (by rw [List.length_map]; exact hl0) v j)⟩
theorem g_putIN (h : Ok X cc own ret y0 nL F Lo Pst) {v : Int32} {ty0 : Nat → FieldType} {ty : FieldType} (hi : i < cn χ c) (hf : fam c (tg χ c i) = (1, ci, ft)) (hq : ft[k]? = some (0, K)) (hc : vcl[ci]? = some (C, T, N)) (hin : ∀ w ∈ u_ws C T N, w ∈ lw_all) (hty : ∀ k, k < N → parseFieldDescriptor (T k).2.2.1 = some (ty0 k)) (hnm : ∀ a, a < N → ∀ b, b < N → a ≠ b → (T a).2.1 ≠ (T b).2.1) (hk : k < N)
    (hlink : Cond.fieldLinkNest own index (T k).1 (T k).2.1 (T k).2.2.1 host ∈ lw_tbl) (hfin : (T k).2.2.2 = false) (ht : parseFieldDescriptor (T k).2.2.1 = some ty) (hnr : narrow ty (.int v) = .int v) (hfit : fits ty (.int v) = true)
    (hd : decode cc pc = .ok (.putfield index, 3)) (kk : G X ad (sI χ K i 0 v) (pc + 3) lv st) : G X ad χ pc lv (.int v :: .ref (ad c i) :: st) := by
  have hone : (fam c (tg χ c i)).1 = 1 := by rw [hf]
  have hnd := fam_nd c (tg χ c i) hone
  have how := fam_own c (tg χ c i) hone
  rw [hf] at hnd how
  have hown : ownF K = c := how (0, K) (List.mem_of_getElem? hq)
  refine g_putvN (χ' := sI χ K i 0 v) h hi hf (List.getElem?_eq_some_iff.mp hq).1 hc hin hty hnm hk hlink hfin ht hnr hfit (fun _ => rfl) rfl rfl (fun H hH => hH.2.2.2.2.2.2) (fun c' i' hne => cE_sI (by rw [hown]; exact hne)) ?_ hd kk
  rw [cE_o (χ := sI χ K i 0 v) (show fam c (tg (sI χ K i 0 v) c i) = (1, ci, ft) from hf)]
  rw [map_set (f := fvl ad χ i) (g := fvl ad (sI χ K i 0 v) i) hq (show _ = Value.int v by rw [fvl_I, gI_self]) (fun a q' hq' hne => fvl_oI (fun e => hne (nd_inj hnd hq' hq e)))]
theorem fvl_R {ad : Nat → Nat → Nat} {χ : St} {i K x : Nat} (h1 : 100 ≤ x) (h2 : x < 200) : fvl ad χ i (x, K) = va_rf ((gR χ K i 0).map (ad (x - 100))) := by
  unfold fvl; rw [if_neg (by show ¬ x = 0; omega), if_neg (by show ¬ x = 1; omega), if_pos (by show x < 200; omega)]
theorem clo_sR {χ : St} {K i j : Nat} {v : Option Nat} (h : ∀ F i j x, gR χ F i j = some x → x < cn χ (tgF F)) (hv : ∀ x, v = some x → x < cn χ (tgF K)) : ∀ F i' j' x, gR (sR χ K i j v) F i' j' = some x → x < cn χ (tgF F) := by
  intro F i' j' x e
  have e2 : (if F = K ∧ i' = i ∧ j' = j then v else gR χ F i' j') = some x := e
  by_cases hc : F = K ∧ i' = i ∧ j' = j
  · rw [if_pos hc] at e2
    rw [hc.1]
    exact hv x e2
  · rw [if_neg hc] at e2
    exact h F i' j' x e2
theorem fits_rf {n : String} {r : Option Nat} : fits (.object n) (va_rf r) = true := by cases r <;> rfl
theorem fits_rfa {t : FieldType} {r : Option Nat} : fits (.array t) (va_rf r) = true := by cases r <;> rfl
theorem nar_rf {n : String} {r : Option Nat} : narrow (.object n) (va_rf r) = va_rf r := by cases r <;> rfl
theorem nar_rfa {t : FieldType} {r : Option Nat} : narrow (.array t) (va_rf r) = va_rf r := by cases r <;> rfl
theorem g_putRN (h : Ok X cc own ret y0 nL F Lo Pst) {x : Nat} {v : Option Nat} {ty0 : Nat → FieldType} {ty : FieldType} (hi : i < cn χ c) (hf : fam c (tg χ c i) = (1, ci, ft)) (hq : ft[k]? = some (x, K)) (hc : vcl[ci]? = some (C, T, N)) (hin : ∀ w ∈ u_ws C T N, w ∈ lw_all) (hty : ∀ k, k < N → parseFieldDescriptor (T k).2.2.1 = some (ty0 k)) (hnm : ∀ a, a < N → ∀ b, b < N → a ≠ b → (T a).2.1 ≠ (T b).2.1) (hk : k < N)
    (h1 : 100 ≤ x) (h2 : x < 200) (hd0 : x - 100 = d) (htg : tgF K = d) (hlink : Cond.fieldLinkNest own index (T k).1 (T k).2.1 (T k).2.2.1 host ∈ lw_tbl) (hfin : (T k).2.2.2 = false) (ht : parseFieldDescriptor (T k).2.2.1 = some ty) (hnr : narrow ty (va_rf (v.map (ad d))) = va_rf (v.map (ad d))) (hfit : fits ty (va_rf (v.map (ad d))) = true) (hv : ∀ x, v = some x → x < cn χ d)
    (hd : decode cc pc = .ok (.putfield index, 3)) (kk : G X ad (sR χ K i 0 v) (pc + 3) lv st) : G X ad χ pc lv (va_rf (v.map (ad d)) :: .ref (ad c i) :: st) := by
  subst hd0
  have hone : (fam c (tg χ c i)).1 = 1 := by rw [hf]
  have hnd := fam_nd c (tg χ c i) hone
  have how := fam_own c (tg χ c i) hone
  rw [hf] at hnd how
  have hown : ownF K = c := how (x, K) (List.mem_of_getElem? hq)
  refine g_putvN (χ' := sR χ K i 0 v) h hi hf (List.getElem?_eq_some_iff.mp hq).1 hc hin hty hnm hk hlink hfin ht hnr hfit (fun _ => rfl) rfl rfl (fun H hH => clo_sR hH.2.2.2.2.2.2 (by rw [htg]; exact hv)) (fun c' i' hne => cE_sR (by rw [hown]; exact hne)) ?_ hd kk
  rw [cE_o (χ := sR χ K i 0 v) (show fam c (tg (sR χ K i 0 v) c i) = (1, ci, ft) from hf)]
  rw [map_set (f := fvl ad χ i) (g := fvl ad (sR χ K i 0 v) i) hq (show _ = va_rf (v.map (ad (x - 100))) by rw [fvl_R h1 h2, gR_self]) (fun a q' hq' hne => fvl_oR (fun e => hne (nd_inj hnd hq' hq e)))]
theorem g_putR (h : Ok X cc own ret y0 nL F Lo Pst) {x : Nat} {v : Option Nat} {ty0 : Nat → FieldType} {ty : FieldType} (hi : i < cn χ c) (hf : fam c (tg χ c i) = (1, ci, ft)) (hq : ft[k]? = some (x, K)) (hc : vcl[ci]? = some (C, T, N)) (hin : ∀ w ∈ u_ws C T N, w ∈ lw_all) (hty : ∀ k, k < N → parseFieldDescriptor (T k).2.2.1 = some (ty0 k)) (hnm : ∀ a, a < N → ∀ b, b < N → a ≠ b → (T a).2.1 ≠ (T b).2.1) (hk : k < N)
    (h1 : 100 ≤ x) (h2 : x < 200) (hd0 : x - 100 = d) (htg : tgF K = d) (hlink : Cond.fieldLink own index (T k).1 (T k).2.1 (T k).2.2.1 ∈ lw_all) (hfin : (T k).2.2.2 = false) (ht : parseFieldDescriptor (T k).2.2.1 = some ty) (hnr : narrow ty (va_rf (v.map (ad d))) = va_rf (v.map (ad d))) (hfit : fits ty (va_rf (v.map (ad d))) = true) (hv : ∀ x, v = some x → x < cn χ d)
    (hd : decode cc pc = .ok (.putfield index, 3)) (kk : G X ad (sR χ K i 0 v) (pc + 3) lv st) : G X ad χ pc lv (va_rf (v.map (ad d)) :: .ref (ad c i) :: st) := by
  subst hd0
  have hone : (fam c (tg χ c i)).1 = 1 := by rw [hf]
  have hnd := fam_nd c (tg χ c i) hone
  have how := fam_own c (tg χ c i) hone
  rw [hf] at hnd how
  have hown : ownF K = c := how (x, K) (List.mem_of_getElem? hq)
  refine g_putv (χ' := sR χ K i 0 v) h hi hf (List.getElem?_eq_some_iff.mp hq).1 hc hin hty hnm hk hlink hfin ht hnr hfit (fun _ => rfl) rfl rfl (fun H hH => clo_sR hH.2.2.2.2.2.2 (by rw [htg]; exact hv)) (fun c' i' hne => cE_sR (by rw [hown]; exact hne)) ?_ hd kk
  rw [cE_o (χ := sR χ K i 0 v) (show fam c (tg (sR χ K i 0 v) c i) = (1, ci, ft) from hf)]
  rw [map_set (f := fvl ad χ i) (g := fvl ad (sR χ K i 0 v) i) hq (show _ = va_rf (v.map (ad (x - 100))) by rw [fvl_R h1 h2, gR_self]) (fun a q' hq' hne => fvl_oR (fun e => hne (nd_inj hnd hq' hq e)))]
theorem cE4_st {aC : Nat → ClassId} {jn : Nat} {v : Option Nat} (hf : fam c (tg χ c i) = (4, e, [(d, L)])) : cE aC ad (sR χ c i jn v) c i = .inl (aC e, L, .inr (.inr (.inr (.inr (va_up (fun j => (gR χ c i j).map (ad d)) jn (v.map (ad d))))))) := by
  rw [cE_4 (χ := sR χ c i jn v) (show fam c (tg (sR χ c i jn v) c i) = (4, e, [(d, L)]) from hf), gR_st]
  congr 7
  funext q
  by_cases hq : q = jn <;> simp [va_up, hq]
/-- what an array of references takes: the cell's class goes there -/
def AsOk (X : Cx) (ci : Nat) (E : String) : Prop := ∀ comp : ClassId, X.s.vm.findClass E = some comp → (∃ k, X.s.vm.classes[comp]? = some k) ∧ X.s.vm.assignable (X.Γ.2.2.1.1 ci) comp = true
theorem AsOk.self (h : Ok X cc own ret y0 nL F Lo Pst) (hc : vcl[ci]? = some (C, T, N)) : AsOk X ci C := by
  intro comp hcomp
  have hcls := (h.2.2.2.2.2.2.2.1.1.1 ci _ hc).2
  have e : comp = X.Γ.2.2.1.1 ci := Option.some.inj (hcomp.symm.trans hcls.1)
  rw [e]
  obtain ⟨kC, hkC, -⟩ := hcls.2
  exact ⟨⟨kC, hkC⟩, va_assign hcls⟩
theorem g_aast (h : Ok X cc own ret y0 nL F Lo Pst) {E : String} {z ci2 : Nat} {ft2 : List (Nat × Nat)} {C2 : String} {T2 : u_T} {N2 : Nat} (hi : i < cn χ c) (hf : fam c (tg χ c i) = (4, e, [(d, L)])) (htg : tgF c = d) (he : (vtys X.Γ.2.2.2)[e]? = some (X.Γ.2.2.2 e, .object E)) (hj : vp_in j L) (hz : z < cn χ d) (hf2 : fam d (tg χ d z) = (1, ci2, ft2)) (hc2 : vcl[ci2]? = some (C2, T2, N2)) (has : AsOk X ci2 E) (hd : decode cc pc = .ok (.aastore, 1))
    (kk : G X ad (sR χ c i j.toNatClampNeg (some z)) (pc + 1) lv st) : G X ad χ pc lv (.ref (ad d z) :: .int j :: .ref (ad c i) :: st) := by
  intro ls H locs cells slots hl hI
  have hat := hI.at hi
  rw [cE_4 hf] at hat
  have hat2 := hI.at hz
  rw [cE_o hf2] at hat2
  have hlt : j.toNatClampNeg < L := Nat.not_le.mp fun q => hj (Or.inr q)
  have h0 : ¬ j < 0 := fun q => hj (Or.inl q)
  obtain ⟨r', hr', cellV, g1, g2, g3, -⟩ := hat2
  have hK := h.2.2.2.2.2.2.2.1.1
  obtain ⟨kA, comp, k1, k2, k3, -⟩ := (hK.2 e _ he).2
  have hcls := (hK.1 ci2 _ hc2).2
  obtain ⟨kC, hkC, -⟩ := hcls.2
  obtain ⟨⟨kcomp, hkcomp⟩, hasg⟩ := has comp k3
  refine W.aast h.1 h.2.1 hat (fun q h => by cases h) (fun h => by cases h) k1 k2 rfl hkcomp ⟨h0, by show _ < (arrV _ _ _).slots.size; rw [arrV_size]; exact hlt⟩ g1 (fun q h => by rw [g3] at h; cases h) (by rw [g2]; exact hkC) (by rw [g2]; exact hasg) rfl rfl hd fun H1 e1 z1 oq => ?_
  refine kk ls H1 _ cells slots hl (Iv.upd (χ' := sR χ c i j.toNatClampNeg (some z)) hI hi (fun _ => rfl) rfl rfl (clo_sR hI.1.2.2.2.2.2.2 (by rw [htg]; intro x ex; cases ex; exact hz)) (fun c' i' hne => cE_sR (by rw [own_lt (own_arr hf)]; exact hne)) ?_ z1 oq _)
  rw [cE4_st hf]
  show H1[ad c i]? = some (vp_cell _ _)
  rw [e1]
  rw [vp_cell_q, vp_cell_q, arrV_store]
  congr 2
  funext q
  by_cases hq : q = j.toNatClampNeg
  · subst hq
    simp [updV, va_up, va_rf]
  · simp [updV, va_up, hq]
theorem g_aastN (h : Ok X cc own ret y0 nL F Lo Pst) {E : String} (hi : i < cn χ c) (hf : fam c (tg χ c i) = (4, e, [(d, L)])) (he : (vtys X.Γ.2.2.2)[e]? = some (X.Γ.2.2.2 e, .object E)) (hj : vp_in j L) (hd : decode cc pc = .ok (.aastore, 1))
    (kk : G X ad (sR χ c i j.toNatClampNeg none) (pc + 1) lv st) : G X ad χ pc lv (.null :: .int j :: .ref (ad c i) :: st) := by
  intro ls H locs cells slots hl hI
  have hat := hI.at hi
  rw [cE_4 hf] at hat
  refine va_WaastN (C := E) h.1 h.2.1 hat ((h.2.2.2.2.2.2.2.1.1.2 e _ he).1 L (fun j => va_rf ((gR χ c i j).map (ad d)))) (fun h => by cases h) (by show ¬ (j < 0 ∨ (arrV _ _ _).slots.size ≤ _); rw [arrV_size]; exact hj) rfl rfl hd fun H1 e1 z1 oq => ?_
  refine kk ls H1 _ cells slots hl (Iv.upd (χ' := sR χ c i j.toNatClampNeg none) hI hi (fun _ => rfl) rfl rfl (clo_sR hI.1.2.2.2.2.2.2 (fun x ex => by cases ex)) (fun c' i' hne => cE_sR (by rw [own_lt (own_arr hf)]; exact hne)) ?_ z1 oq _)
  rw [cE4_st hf]
  show H1[ad c i]? = some (vp_cell _ _)
  rw [e1]
  rw [vp_cell_q, vp_cell_q, arrV_store]
  congr 2
  funext q
  by_cases hq : q = j.toNatClampNeg
  · subst hq
    simp [updV, va_up, va_rf]
  · simp [updV, va_up, hq]
end GN
