set_option maxRecDepth 100000
/-! CONTRACTS THAT END IN A THROW -/
def FeT (first : State) (t : State) (L : List Loc) (k n : Nat) : Prop := first.WarmedH t.vm ∧ first.sameButNew ({ t with vm := first.vm } : State) L k n
def MtX (l : Launch) (y : MethodName) (ws : List Cond) (rm : Room) (Pc : Array Value → State → Prop) (Qc : Array Value → State → Addr → State → Nat → Nat → Prop) (free : Addr → Prop) : Prop :=
  MetFree l y (headSpec ws rm) Pc (fun _ _ _ _ _ => True) (fun a st o t => ∃ x, o = .threw x ∧ ∃ L k n, Qc a st x t k n ∧ FeT st t L k n ∧ ∀ q ∈ L, free q.base)
def MQt (below : List Frame) (Qc : Array Value → State → Addr → State → Nat → Nat → Prop) (a : Array Value) (s : State) (free : Addr → Prop) : State → Prop := fun t =>
  ∃ x, t.status = .running ∧ Ended t below (.threw x) ∧ ∃ L k n, Qc a s x t k n ∧ FeT s t L k n ∧ ∀ q ∈ L, free q.base
/-- the new object of class cls at x -/
def Exc (cls : String) (x : Addr) (vm : Vm) (H : Heap) : Prop := ∃ cell : Cell, H[x]? = some cell ∧ cell.vm = .none ∧ vm.findClass cls = some cell.cls
def Qx (Γ : Gh) (na : Bool) (ad0 : Nat → Nat → Nat) (χ0 : St) (cls : String) (Pst : (Nat → Nat → Nat) → St → Prop) : Array Value → State → Addr → State → Nat → Nat → Prop := fun _ _ x t k n =>
  ∃ ad' χ', Pst ad' χ' ∧ (na = true → ad' = ad0) ∧ Ext χ0 χ' ad0 ad' ∧ HR Γ ad' χ' t.heap ∧ uC χ0 + k = uC χ' ∧ uS χ0 + n = uS χ' ∧ Exc cls x t.vm t.heap
/-- what stands under a walk that may throw: the old cells, no traces -/
def Tw (X : Cx) : Prop := (∀ a : Nat, a < X.Γ.1 → X.s.heap[a]? = X.Γ.2.1[a]?) ∧ X.e.platform.stackTraces = false
/-- throwing a, over the frame at pc -/
def GT (X : Cx) (ad : Nat → Nat → Nat) (χ : St) (pc : Nat) (lv : List (Nat × Value)) (cls : String) : Prop :=
  ∀ (ls : Array Slot) (st : List Value) (T : State) (locs : List Loc) (cells slots : Nat) (a : Addr), lv_has ls X.nL lv → Iv X ad χ T.heap locs cells slots → Exc cls a X.s.vm T.heap →
    Stand X.p X.l X.e X.R X.s X.m X.args X.below X.meth X.c T locs cells slots → ∃ t, Steps X.p.tables X.e X.below ((T.setTop (F0 X.m pc ls st)).pushFrame (.throwing a)) t ∧ X.Q t
section GTS
variable {X : Cx} {ad : Nat → Nat → Nat} {χ : St} {pc : Nat} {lv : List (Nat × Value)} {cls : String}
theorem Exc.warm {x : Addr} {s : State} {vm : Vm} {H : Heap} (hW : s.WarmedH vm) (h : Exc cls x s.vm H) : Exc cls x vm H := by
  obtain ⟨cell, h1, h2, h3⟩ := h
  exact ⟨cell, h1, h2, by rw [hW.alike.findClass]; exact h3⟩
theorem g_thrOut {Pst : (Nat → Nat → Nat) → St → Prop} (hQ : ∀ t, MQt X.below (Qx X.Γ X.na X.ad0 X.χ0 cls Pst) X.args X.s (frB X.Γ) t → X.Q t) (hlk : X.meth.locks = false) (hP : Pst ad χ) (hout : ∀ x ∈ X.c.exceptionTable.toList, covers x pc = false) : GT X ad χ pc lv cls := by
  intro ls st T locs cells slots a hl hI hE S
  obtain ⟨h1, h2, h3, h4, h5⟩ := S.leaveThrown a (g := F0 X.m pc ls st) rfl rfl rfl hout hlk
  exact ⟨_, h1, hQ _ ⟨a, h2, h3, locs, cells, slots, ⟨ad, χ, hP, hI.2.2.1, hI.2.1, hI.1, hI.2.2.2.2.1, hI.2.2.2.2.2, hE.warm h4⟩, ⟨h4, h5⟩, hI.2.2.2.1⟩⟩
end GTS
