set_option maxRecDepth 100000
set_option maxHeartbeats 1000000
theorem cE_brn {aC : Nat → ClassId} {ad : Nat → Nat → Nat} {χ : St} {k n c i : Nat} : cE aC ad (brn χ k n) c i = cE aC ad χ c i := rfl
theorem cn_brn {χ : St} {k n c : Nat} : cn (brn χ k n) c = cn χ c := rfl
theorem HR.brn {Γ : Gh} {ad : Nat → Nat → Nat} {χ : St} {H H1 : Heap} {k n : Nat} (h : HR Γ ad χ H) (hz : H.size ≤ H1.size) (oq : ∀ q : Nat, q < H.size → H1[q]? = H[q]?) (hu : uC χ + k ≤ 603072) (hs : uS χ + n ≤ 7262314) : HR Γ ad (brn χ k n) H1 := by
  obtain ⟨h1, h2, h3, h4, h5, h6, h7⟩ := h
  refine ⟨fun c' i' hi => ⟨?_, (h1 c' i' hi).2⟩, h2, fun q hq => ?_, by omega, hu, hs, h7⟩
  · rw [cE_brn]
    exact (h1 c' i' hi).1.kept (oq _ (h1 c' i' hi).1.lt)
  · rw [oq q (by omega)]
    exact h3 q hq
theorem Iv.brn {X : Cx} {ad : Nat → Nat → Nat} {χ : St} {H H1 : Heap} {locs L : List Loc} {cells slots k n : Nat} (hI : Iv X ad χ H locs cells slots) (hL : ∀ q ∈ L, H.size ≤ q.base) (hz : H.size ≤ H1.size) (oq : ∀ q : Nat, q < H.size → H1[q]? = H[q]?) (hu : uC χ + k ≤ 603072) (hs : uS χ + n ≤ 7262314) : Iv X ad (brn χ k n) H1 (locs ++ L) (cells + k) (slots + n) := by
  obtain ⟨g1, g2, g3, g4, g5, g6⟩ := hI
  refine ⟨g1.brn hz oq hu hs, g2, g3, fun q hq => ?_, by show _ = uC χ + k; omega, by show _ = uS χ + n; omega⟩
  rcases List.mem_append.mp hq with a | a
  · exact g4 q a
  · exact Nat.le_trans g1.2.2.2.1 (hL q a)
def txA (j : Int32) (L : Nat) : String := toString "Index " ++ toString j ++ toString " out of bounds for length " ++ toString L
section GN
variable {X : Cx} {cc : ByteArray} {own host : String} {ret : Option FieldType} {y0 : MethodName} {nL F Lo : Nat} {Pst : Option Value → (Nat → Nat → Nat) → St → Prop} {ad : Nat → Nat → Nat} {χ : St} {pc : Nat} {lv lv2 : List (Nat × Value)} {st st0 : List Value}
variable {c i k ci index t : Nat} {ft : List (Nat × Nat)} {C : String} {T : u_T} {N : Nat} {K e d L : Nat} {j : Int32}
/-- the note of an exception that the machine makes, over the frame at pc -/
def GN (X : Cx) (ad : Nat → Nat → Nat) (χ : St) (pc : Nat) (lv : List (Nat × Value)) (cls : String) (text : Option String) : Prop :=
  ∀ (ls : Array Slot) (st : List Value) (T : State) (locs : List Loc) (cells slots : Nat), lv_has ls X.nL lv → Iv X ad χ T.heap locs cells slots → (st.map fun v => v.category).sum ≤ 8 →
    Stand X.p X.l X.e X.R X.s X.m X.args X.below X.meth X.c T locs cells slots → ∃ t, Steps X.p.tables X.e X.below ((T.setTop (F0 X.m pc ls st)).pushFrame (.throwNew cls text none)) t ∧ X.Q t
theorem gn_msg (h : Ok X cc own ret y0 nL F Lo Pst) (th : Th X) {cls : String} {names : List String} {text : String} {B : Nat} (hcls : Bundle.fit cls = true) (hnames : ∀ n ∈ names, Bundle.fit n = true) (hsoe : (cls == "java/lang/StackOverflowError") = false) (hoom : (cls == "java/lang/OutOfMemoryError") = false)
    (hwa : ∀ w ∈ Bundle.messageArmAtoms cls names, (w ∈ lw_tbl ∧ (goodWord w = true ∨ nxT w = true)) ∨ w ∈ osW) (hshort : 13 * names.length + 55 ≤ 10240) (htext : (text == notModelled) = false) (hlen : (stringBytes (stringToUtf16 text)).size ≤ B) (hB : B ≤ 4000)
    (hF : names.length + 4 < F ∧ 10248 ≤ Lo) (hu : uC χ + 3 ≤ 603072) (hs : uS χ + (B + 10) ≤ 7262314) (kk : ∀ n, n ≤ B + 10 → GT X ad (brn χ 3 n) pc lv cls) : GN X ad χ pc lv cls (some text) := by
  intro ls st T locs cells slots hl hI hst S
  have hR := h.2.2.2.2.2.2.2.2.1
  have hl1 : X.e.platform.arrayLengthLimit = ({} : Platform).arrayLengthLimit := by rw [S.admits.platform]
  have hl2 : X.e.platform.maxHeapBytes = ({} : Platform).maxHeapBytes := by rw [S.admits.platform]
  have hl3 : 4000 ≤ ({} : Platform).arrayLengthLimit := by decide
  have hl4 : 4000 ≤ ({} : Platform).maxHeapBytes := by decide
  have g5 := hI.2.2.2.2.1
  have g6 := hI.2.2.2.2.2
  obtain ⟨T2, L, c0, c1, c2, S2, hL, hH, hv, hfc, stp⟩ := th_msg S h.1 (th_tr th S) (text := text) hcls hnames hsoe hoom (th_words h th hwa) (th_notlocs h th hI.2.2.2.1) htext (by rw [hl1]; omega) (by rw [hl2, show componentBytes .byte = 1 from rfl]; omega) (g := F0 X.m pc ls st) rfl (hl.1.trans h.2.2.2.2.1.1.symm) (by rw [hR]; exact hF.1)
    (by rw [hR]; show 2 * 0 + (st.map fun v => v.category).sum + 10240 ≤ Lo; omega) hshort (by rw [hR]; show cells + 3 ≤ 603072 - uC X.χ0; omega) (by rw [hR]; show _ ≤ 7262314 - uS X.χ0; omega)
  have hsz : T2.heap.size = T.heap.size + 3 := by rw [hH]; simp
  have oq : ∀ q : Nat, q < T.heap.size → T2.heap[q]? = T.heap[q]? := fun q hq => by
    rw [hH, Array.getElem?_push, if_neg (by simp; omega), Array.getElem?_push, if_neg (by simp; omega), Array.getElem?_push, if_neg (by omega)]
  obtain ⟨t2, a1, b1⟩ := kk ((stringBytes (stringToUtf16 text)).size + 4 + 6) (by omega) ls st T2 (locs ++ L) (cells + 3) (slots + ((stringBytes (stringToUtf16 text)).size + 4 + 6)) (T.heap.size + 2) hl (hI.brn hL (by omega) oq hu (by omega)) ⟨c2, by rw [hH, show T.heap.size + 2 = ((T.heap.push c0).push c1).size by simp]; exact Array.getElem?_push_size, hv, hfc⟩ S2
  exact ⟨t2, stp t2 a1, b1⟩
theorem gn_npe (h : Ok X cc own ret y0 nL F Lo Pst) (th : Th X) (hF : 7 < F ∧ 10248 ≤ Lo) (hu : uC χ + 1 ≤ 603072) (hs : uS χ + 8 ≤ 7262314) (kk : GT X ad (brn χ 1 8) pc lv nNP) : GN X ad χ pc lv nNP none := by
  intro ls st T locs cells slots hl hI hst S
  have hR := h.2.2.2.2.2.2.2.2.1
  have g5 := hI.2.2.2.2.1
  have g6 := hI.2.2.2.2.2
  obtain ⟨T2, L, c2, S2, hL, hH, hv, hfc, stp⟩ := th_npe S h.1 (th_tr th S) (n := 8) (th_words h th wa_NP) (th_notlocs h th hI.2.2.2.1) (g := F0 X.m pc ls st) rfl (hl.1.trans h.2.2.2.2.1.1.symm) (by rw [hR]; exact hF.1)
    (by rw [hR]; show 2 * 0 + (st.map fun v => v.category).sum + 10240 ≤ Lo; omega) (by rw [hR]; show cells + 1 ≤ 603072 - uC X.χ0; omega) (by rw [hR]; show _ ≤ 7262314 - uS X.χ0; omega)
  have hsz : T2.heap.size = T.heap.size + 1 := by rw [hH]; simp
  have oq : ∀ q : Nat, q < T.heap.size → T2.heap[q]? = T.heap[q]? := fun q hq => by
    rw [hH, Array.getElem?_push, if_neg (by omega)]
  obtain ⟨t2, a1, b1⟩ := kk ls st T2 (locs ++ L) (cells + 1) (slots + 8) T.heap.size hl (hI.brn hL (by omega) oq hu hs) ⟨c2, by rw [hH]; simp [Array.getElem?_push], hv, hfc⟩ S2
  exact ⟨t2, stp t2 a1, b1⟩
theorem gn_aio (h : Ok X cc own ret y0 nL F Lo Pst) (th : Th X) (hL : L < 2 ^ 31) (hF : 8 ≤ F ∧ 10248 ≤ Lo) (hu : uC χ + 3 ≤ 603072) (hs : uS χ + 222 ≤ 7262314) (kk : ∀ n, n ≤ 222 → GT X ad (brn χ 3 n) pc lv nAI) : GN X ad χ pc lv nAI (some (txA j L)) :=
  gn_msg h th (names := nmA) (B := 212) (by decide +kernel) (by decide +kernel) (by decide +kernel) (by decide +kernel) wa_AI (by decide) (index_text_modelled j L) (index_text_bytes j hL) (by decide) ⟨by show 3 + 4 < F; omega, hF.2⟩ hu hs kk
theorem gn_neg (h : Ok X cc own ret y0 nL F Lo Pst) (th : Th X) (hn : j < 0) (hF : 8 ≤ F ∧ 10248 ≤ Lo) (hu : uC χ + 3 ≤ 603072) (hs : uS χ + 222 ≤ 7262314) (kk : ∀ n, n ≤ 222 → GT X ad (brn χ 3 n) pc lv nNS) : GN X ad χ pc lv nNS (some (toString j)) :=
  gn_msg h th (names := nmR) (B := 212) (by decide +kernel) (by decide +kernel) (by decide +kernel) (by decide +kernel) wa_NS (by decide) (negative_text_modelled hn) (Nat.le_trans (negative_text_bytes j) (by decide)) (by decide) ⟨by show 2 + 4 < F; omega, hF.2⟩ hu hs kk
theorem vp_out (hj : ¬ vp_in j L) : j < 0 ∨ L ≤ j.toNatClampNeg := Decidable.not_not.mp hj
theorem g_baldX (h : Ok X cc own ret y0 nL F Lo Pst) (th : Th X) {ty : FieldType} (hi : i < cn χ c) (hf : fam c (tg χ c i) = (2, e, [(d, L)])) (he : (vtys X.Γ.2.2.2)[e]? = some (X.Γ.2.2.2 e, ty)) (hLL : L < 2 ^ 31) (hj : ¬ vp_in j L) (hF : 8 ≤ F ∧ 10248 ≤ Lo) (hu : uC χ + 3 ≤ 603072) (hs : uS χ + 222 ≤ 7262314) (hst : (st.map fun v => v.category).sum ≤ 8) (hd : decode cc pc = .ok (.baload, 1)) (kk : ∀ n, n ≤ 222 → GT X ad (brn χ 3 n) pc lv nAI) : G X ad χ pc lv (.int j :: .ref (ad c i) :: st) := by
  intro ls H locs cells slots hl hI T hT S
  subst hT
  have hat := hI.at hi
  rw [cE_2 hf] at hat
  have hat2 : T.heap[ad c i]? = some (arrV (X.Γ.2.2.2 e) L (fun j => .int (gI χ c i j))) := hat
  obtain ⟨t2, a1, b1⟩ := gn_aio (j := j) (L := L) h th hLL hF hu hs kk ls st T locs cells slots hl hI hst S
  have hout := vp_out hj
  exact ⟨t2, S.baloadOut h.1 hat2 ((h.2.2.2.2.2.2.2.1.1.2 e _ he).1 L (fun j => .int (gI χ c i j))) (by rw [arrV_size]; exact hout) (g := F0 X.m pc ls (.int j :: .ref (ad c i) :: st)) rfl rfl (by rw [h.2.1]; exact hd) t2 (by rw [arrV_size]; exact a1), b1⟩
end GN
