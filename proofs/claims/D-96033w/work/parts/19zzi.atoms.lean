set_option maxRecDepth 100000
set_option maxHeartbeats 4000000
def osW : List Cond := [.laysStatic Bundle.tN "UNASSIGNED_STACK" Bundle.steD, .laysStatic Bundle.tN "SUPPRESSED_SENTINEL" Bundle.listD, .isRef (.static Bundle.tN "UNASSIGNED_STACK" Bundle.steD), .isRef (.static Bundle.tN "SUPPRESSED_SENTINEL" Bundle.listD)]
def nxT : Cond → Bool
  | .castable _ _ => true
  | .declares _ => true
  | _ => false
abbrev nmA : List String := ["java/lang/IndexOutOfBoundsException", "java/lang/RuntimeException", "java/lang/Exception"]
abbrev nmR : List String := ["java/lang/RuntimeException", "java/lang/Exception"]
abbrev nAI : String := "java/lang/ArrayIndexOutOfBoundsException"
abbrev nCC : String := "java/lang/ClassCastException"
abbrev nNS : String := "java/lang/NegativeArraySizeException"
abbrev nNP : String := "java/lang/NullPointerException"
theorem wa_AI : ∀ w ∈ Bundle.messageArmAtoms nAI nmA, (w ∈ lw_tbl ∧ (goodWord w = true ∨ nxT w = true)) ∨ w ∈ osW := by decide +kernel
theorem wa_CC : ∀ w ∈ Bundle.messageArmAtoms nCC nmR, (w ∈ lw_tbl ∧ (goodWord w = true ∨ nxT w = true)) ∨ w ∈ osW := by decide +kernel
theorem wa_NS : ∀ w ∈ Bundle.messageArmAtoms nNS nmR, (w ∈ lw_tbl ∧ (goodWord w = true ∨ nxT w = true)) ∨ w ∈ osW := by decide +kernel
theorem wa_NP : ∀ w ∈ Bundle.npeArmAtoms 8, (w ∈ lw_tbl ∧ (goodWord w = true ∨ nxT w = true)) ∨ w ∈ osW := by decide +kernel
/-- what stands under a walk that may throw: the old cells, no traces -/
def Th (X : Cx) : Prop := (∀ a : Nat, a < X.Γ.1 → X.s.heap[a]? = X.Γ.2.1[a]?) ∧ X.l.stackTraces = false
section TA
variable {X : Cx} {cc : ByteArray} {own : String} {ret : Option FieldType} {y0 : MethodName} {nL F Lo : Nat} {Pst : Option Value → (Nat → Nat → Nat) → St → Prop}
theorem th_words (h : Ok X cc own ret y0 nL F Lo Pst) (t : Th X) {ws : List Cond} (hw : ∀ w ∈ ws, (w ∈ lw_tbl ∧ (goodWord w = true ∨ nxT w = true)) ∨ w ∈ osW) : ∀ w ∈ ws, w.before X.args X.s = true := by
  have hts := h.2.2.2.2.2.2.1
  have hK := h.2.2.2.2.2.2.2.1
  obtain ⟨S0, h1, h2, h3, ⟨h4, h5⟩, ⟨h6, h7⟩, -, -⟩ := hK.2.2.2.2
  have hh : ∀ a : Nat, a < S0.heap.size → X.s.heap[a]? = S0.heap[a]? := fun a ha => by rw [h3]; exact t.1 a (by rw [← h2]; exact ha)
  intro w hw'
  rcases hw w hw' with ⟨a, b | b⟩ | a
  · exact hts w (List.mem_filter.mpr ⟨a, b⟩)
  · have hn : nxW w = true := by cases w <;> first | rfl | (simp only [nxT] at b; exact absurd b (by decide))
    have hv := hK.2.1 w a hn
    exact va_Nw.use (by cases w <;> first | rfl | (simp only [nxT] at b; exact absurd b (by decide))) hv
  · simp only [osW, List.mem_cons, List.not_mem_nil, or_false] at a
    rcases a with e | e | e | e
    · rw [e]; exact os_lays h1 hh h4
    · rw [e]; exact os_lays h1 hh h5
    · rw [e]; exact os_ref h1 hh h4 h6
    · rw [e]; exact os_ref h1 hh h5 h7
theorem th_notlocs (h : Ok X cc own ret y0 nL F Lo Pst) (t : Th X) {locs : List Loc} (hl : ∀ q ∈ locs, X.Γ.1 ≤ q.base) : ∀ cT kT a, X.s.vm.findClass Bundle.tN = some cT → X.s.vm.classes[cT]? = some kT → kT.statics = some a → ∀ x ∈ locs, x.base ≠ a := by
  intro cT kT a g1 g2 g3 x hx e
  have hK := h.2.2.2.2.2.2.2.1
  obtain ⟨S0, h1, h2, h3, ⟨h4, h5⟩, ⟨h6, h7⟩, -, -⟩ := hK.2.2.2.2
  obtain ⟨c, k, i, f, a', cell, hc, hi, hst, ha, hcell, hs, hcls, hlt, hty⟩ := Cond.laysStatic_spec h4
  have hk : S0.vm.classes[c]? = some k := by
    have := State.fieldFound?_class hi
    exact this
  rw [h1.findClass, hc] at g1
  cases g1
  obtain ⟨k', hk', hek⟩ := h1.2.2 _ _ hk
  rw [g2] at hk'
  cases hk'
  rw [hek] at g3
  rw [show k.statics = some a' from ha] at g3
  cases g3
  have := (Array.getElem?_eq_some_iff.mp hcell).1
  have h8 := hl x hx
  have e' : @Eq Nat x.base a := e
  rw [e'] at h8
  omega
theorem th_tr (t : Th X) {T : State} {locs : List Loc} {cells slots : Nat} (S : Stand X.p X.l X.e X.R X.s X.m X.args X.below X.meth X.c T locs cells slots) : X.e.platform.stackTraces = false := by
  rw [S.admits.platform]
  exact t.2
end TA
