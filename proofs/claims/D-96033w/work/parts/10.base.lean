set_option maxRecDepth 100000
/-! THE STORE: counts, ints, longs, references, lengths or tags, cells and slots used -/
abbrev St : Type := (Nat → Nat) × (Nat → Nat → Nat → Int32) × (Nat → Nat → Nat → Int64) × (Nat → Nat → Nat → Option Nat) × (Nat → Nat → Nat) × Nat × Nat
def nO (χ : St) (c : Nat) : Nat := χ.1 c
def gI (χ : St) (F i j : Nat) : Int32 := χ.2.1 F i j
def gL (χ : St) (F i j : Nat) : Int64 := χ.2.2.1 F i j
def gR (χ : St) (F i j : Nat) : Option Nat := χ.2.2.2.1 F i j
def tg (χ : St) (c i : Nat) : Nat := χ.2.2.2.2.1 c i
def uC (χ : St) : Nat := χ.2.2.2.2.2.1
def uS (χ : St) : Nat := χ.2.2.2.2.2.2
def up3 {α : Type} (f : Nat → Nat → Nat → α) (F i j : Nat) (v : α) : Nat → Nat → Nat → α := fun F' i' j' => if F' = F ∧ i' = i ∧ j' = j then v else f F' i' j'
def sI (χ : St) (F i j : Nat) (v : Int32) : St := (χ.1, up3 χ.2.1 F i j v, χ.2.2)
def sL (χ : St) (F i j : Nat) (v : Int64) : St := (χ.1, χ.2.1, up3 χ.2.2.1 F i j v, χ.2.2.2)
def sR (χ : St) (F i j : Nat) (v : Option Nat) : St := (χ.1, χ.2.1, χ.2.2.1, up3 χ.2.2.2.1 F i j v, χ.2.2.2.2)
def ownF (F : Nat) : Nat := if F < 100 then F else F / 100 - 1
def clr3 {α : Type} (f : Nat → Nat → Nat → α) (c n : Nat) (d : α) : Nat → Nat → Nat → α := fun F i j => if ownF F = c ∧ i = n then d else f F i j
/-- a new cell of family c, with tag or length t, of w slots -/
def alo (χ : St) (c t w : Nat) : St := (fun c' => if c' = c then nO χ c + 1 else nO χ c', clr3 χ.2.1 c (nO χ c) 0, clr3 χ.2.2.1 c (nO χ c) 0, clr3 χ.2.2.2.1 c (nO χ c) none, fun c' i => if c' = c ∧ i = nO χ c then t else tg χ c' i, uC χ + 1, uS χ + w)
/-- cells that nobody keeps -/
def brn (χ : St) (k n : Nat) : St := (χ.1, χ.2.1, χ.2.2.1, χ.2.2.2.1, χ.2.2.2.2.1, uC χ + k, uS χ + n)
abbrev vcl : List vw_C := [(RX0, TX0, 25), (RX1, TX1, 2), (RX2, TX2, 3), (RX3, TX3, 1), (RX4, TX4, 44), (RX5, TX5, 4), (RX6, TX6, 4), (RX7, TX7, 4), (RX8, TX8, 3), (RX10, TX10, 1), (RX11, TX11, 1), (RX12, TX12, 1), (RX13, TX13, 1), (RX14, TX14, 3), (RX15, TX15, 3), (RX17, TX17, 2), (RX18, TX18, 3), (RX19, TX19, 3), (RX20, TX20, 4), (RX21, TX21, 4), (RX22, TX22, 5), (RX23, TX23, 3), (RX24, TX24, 5), (RX26, TX26, 1), (RX27, TX27, 1), (RX28, TX28, 1), (RX29, TX29, 1), (RX30, TX30, 1)]
abbrev vtys (aC : Nat → ClassId) : List (ClassId × FieldType) := [(aC 0, .int), (aC 1, .byte), (aC 2, .short), (aC 3, .long), (aC 4, .boolean), (aC 5, .object "ChairOld$Part"), (aC 6, .object "ChairOld$Kind"), (aC 7, .object "ChairOld$Mark"), (aC 8, .object "ChairOld$Change"), (aC 9, .object "ChairOld$Paper"), (aC 10, .object "ChairOld$Plain"), (aC 11, .object "ChairOld$Held")]
def famT23 (t : Nat) : Nat × Nat × List (Nat × Nat) := match t with
  | 0 => (1, 15, [(0, 2400), (100, 2401)])
  | 1 => (1, 16, [(0, 2400), (100, 2401), (100, 2402)])
  | 2 => (1, 17, [(0, 2400), (100, 2401), (100, 2403)])
  | 3 => (1, 18, [(0, 2400), (100, 2401), (100, 2403), (100, 2404)])
  | 4 => (1, 19, [(0, 2400), (100, 2401), (100, 2402), (100, 2405)])
  | 5 => (1, 20, [(0, 2400), (100, 2401), (100, 2403), (100, 2404), (100, 2406)])
  | 6 => (1, 21, [(0, 2400), (100, 2401), (100, 2407)])
  | 7 => (1, 22, [(0, 2400), (100, 2401), (100, 2402), (100, 2405), (100, 2408)])
  | 8 => (1, 23, [(125, 2410)])
  | 9 => (1, 24, [(126, 2411)])
  | 10 => (1, 25, [(127, 2412)])
  | 11 => (1, 26, [(128, 2413)])
  | 12 => (1, 27, [(129, 2414)])
  | _ => (1, 0, [])
def famT30 (t : Nat) : Nat × Nat × List (Nat × Nat) := match t with
  | 0 => (1, 12, [(0, 3100)])
  | 1 => (1, 9, [(0, 3105)])
  | 2 => (1, 11, [(130, 3101)])
  | 3 => (1, 10, [(130, 3102)])
  | 4 => (1, 13, [(0, 3106), (130, 3103), (130, 3104)])
  | _ => (1, 0, [])
/-- the families: what a cell of family c (with length or tag t) is -/
def fam (c t : Nat) : Nat × Nat × List (Nat × Nat) := match c with
  | 0 => (1, 0, [(201, 100), (202, 101), (203, 102), (0, 103), (204, 104), (0, 105), (0, 106), (205, 107), (0, 108), (206, 109), (208, 110), (209, 111), (210, 112), (211, 113), (1, 114), (212, 115), (213, 116), (214, 117), (0, 118), (0, 119), (0, 120), (215, 121), (216, 122), (0, 123), (217, 124)])
  | 1 => (4, 5, [(20, 8)])
  | 2 => (5, 6, [(18, 6)])
  | 3 => (5, 7, [(19, 6)])
  | 4 => (4, 8, [(21, 40)])
  | 5 => (2, 1, [(0, 120)])
  | 6 => (1, 3, [(207, 700)])
  | 7 => (2, 0, [(0, 128)])
  | 8 => (2, 0, [(0, 1080)])
  | 9 => (3, 3, [(0, 180)])
  | 10 => (3, 3, [(0, 6)])
  | 11 => (2, 1, [(0, 6)])
  | 12 => (2, 0, [(0, 8)])
  | 13 => (2, 0, [(0, 8)])
  | 14 => (4, 9, [(22, 10)])
  | 15 => (2, 1, [(0, 24)])
  | 16 => (4, 10, [(23, 50)])
  | 17 => (4, 11, [(23, 6)])
  | 18 => (1, 1, [(0, 1900), (0, 1901)])
  | 19 => (1, 2, [(0, 2000), (0, 2001), (124, 2002)])
  | 20 => (1, 5, [(0, 2100), (0, 2101), (125, 2102), (125, 2103)])
  | 21 => (1, 6, [(0, 2200), (0, 2201), (0, 2202), (0, 2203)])
  | 22 => (1, 14, [(0, 2300), (0, 2301), (0, 2302)])
  | 23 => famT23 t
  | 24 => (1, 8, [(130, 2500), (130, 2501), (124, 2502)])
  | 25 => (2, 1, [(0, t)])
  | 26 => (2, 2, [(0, t)])
  | 27 => (2, 0, [(0, t)])
  | 28 => (3, 3, [(0, t)])
  | 29 => (2, 4, [(0, t)])
  | 30 => famT30 t
  | 31 => (1, 7, [(0, 3200), (0, 3201), (0, 3202), (100, 3203)])
  | 40 => (1, 4, [(241, 4100), (242, 4101), (243, 4102), (244, 4103), (0, 4104), (0, 4105), (0, 4106), (245, 4107), (246, 4108), (247, 4109), (248, 4110), (0, 4111), (249, 4112), (250, 4113), (0, 4114), (0, 4115), (0, 4116), (0, 4117), (0, 4118), (251, 4119), (252, 4120), (253, 4121), (254, 4122), (255, 4123), (1, 4124), (256, 4125), (257, 4126), (0, 4127), (258, 4128), (259, 4129), (260, 4130), (261, 4131), (0, 4132), (0, 4133), (0, 4134), (262, 4135), (263, 4136), (0, 4137), (0, 4138), (0, 4139), (264, 4140), (265, 4141), (266, 4142), (267, 4143)])
  | 41 => (2, 0, [(0, 24)])
  | 42 => (2, 0, [(0, 40)])
  | 43 => (2, 0, [(0, 40)])
  | 44 => (2, 0, [(0, 40)])
  | 45 => (2, 0, [(0, 8)])
  | 46 => (2, 0, [(0, 8)])
  | 47 => (2, 0, [(0, 48)])
  | 48 => (2, 0, [(0, 120)])
  | 49 => (2, 0, [(0, 720)])
  | 50 => (2, 0, [(0, 6)])
  | 51 => (2, 0, [(0, 4)])
  | 52 => (2, 0, [(0, 1080)])
  | 53 => (2, 0, [(0, 6)])
  | 54 => (3, 3, [(0, 180)])
  | 55 => (3, 3, [(0, 6)])
  | 56 => (2, 0, [(0, 8)])
  | 57 => (2, 0, [(0, 8)])
  | 58 => (2, 0, [(0, 10)])
  | 59 => (2, 0, [(0, 10)])
  | 60 => (2, 0, [(0, 10)])
  | 61 => (2, 0, [(0, 48)])
  | 62 => (2, 0, [(0, 50)])
  | 63 => (2, 0, [(0, 24)])
  | 64 => (2, 0, [(0, 6)])
  | 65 => (2, 0, [(0, 6)])
  | 66 => (3, 3, [(0, 360)])
  | 67 => (3, 3, [(0, 60)])
  | _ => (0, 0, [])
def fcn (c : Nat) : Nat := match c with
  | 0 => 1
  | 1 => 1
  | 2 => 1
  | 3 => 1
  | 4 => 1
  | 5 => 1
  | 6 => 1
  | 7 => 1
  | 8 => 1
  | 9 => 1
  | 10 => 1
  | 11 => 1
  | 12 => 1
  | 13 => 1
  | 14 => 1
  | 15 => 1
  | 16 => 1
  | 17 => 1
  | 18 => 6
  | 19 => 6
  | 40 => 1
  | 41 => 1
  | 42 => 1
  | 43 => 1
  | 44 => 1
  | 45 => 1
  | 46 => 1
  | 47 => 1
  | 48 => 1
  | 49 => 1
  | 50 => 1
  | 51 => 1
  | 52 => 1
  | 53 => 1
  | 54 => 1
  | 55 => 1
  | 56 => 1
  | 57 => 1
  | 58 => 1
  | 59 => 1
  | 60 => 1
  | 61 => 1
  | 62 => 1
  | 63 => 1
  | 64 => 1
  | 65 => 1
  | 66 => 1
  | 67 => 1
  | _ => 0
def tgF (F : Nat) : Nat := match F with
  | 1 => 20
  | 4 => 21
  | 14 => 22
  | 16 => 23
  | 17 => 23
  | 2002 => 24
  | 2102 => 25
  | 2103 => 25
  | 2410 => 25
  | 2411 => 26
  | 2412 => 27
  | 2413 => 28
  | 2414 => 29
  | 2500 => 30
  | 2501 => 30
  | 2502 => 24
  | 3101 => 30
  | 3102 => 30
  | 3103 => 30
  | 3104 => 30
  | _ => 0
def cn (χ : St) (c : Nat) : Nat := match fcn c with
  | 0 => nO χ c
  | n + 1 => n + 1
def fvl (ad : Nat → Nat → Nat) (χ : St) (i : Nat) (q : Nat × Nat) : Value :=
  if q.1 = 0 then .int (gI χ q.2 i 0) else if q.1 = 1 then .long (gL χ q.2 i 0) else if q.1 < 200 then va_rf ((gR χ q.2 i 0).map (ad (q.1 - 100))) else .ref (ad (q.1 - 200) 0)
def cC (ad : Nat → Nat → Nat) (χ : St) (c i k d : Nat) : (Nat → Int32) ⊕ (Nat → Int64) ⊕ (Nat → UInt32) ⊕ (Nat → UInt64) ⊕ (Nat → Option Nat) :=
  if k = 2 then .inl (gI χ c i) else if k = 3 then .inr (.inl (gL χ c i)) else if k = 4 then .inr (.inr (.inr (.inr (fun j => (gR χ c i j).map (ad d))))) else .inr (.inr (.inr (.inr (fun j => some (ad d j)))))
def cE (aC : Nat → ClassId) (ad : Nat → Nat → Nat) (χ : St) (c i : Nat) : va_E :=
  if (fam c (tg χ c i)).1 = 1 then .inr ((fam c (tg χ c i)).2.1, (fam c (tg χ c i)).2.2.map (fvl ad χ i))
  else .inl (aC (fam c (tg χ c i)).2.1, ((fam c (tg χ c i)).2.2.headD (0, 0)).2, cC ad χ c i (fam c (tg χ c i)).1 ((fam c (tg χ c i)).2.2.headD (0, 0)).1)
abbrev Gh : Type := Nat × Heap × va_G × (Nat → ClassId)
/-- the heap holds the store: ad says where the cells lie -/
def HR (Γ : Gh) (ad : Nat → Nat → Nat) (χ : St) (H : Heap) : Prop :=
  (∀ c i, i < cn χ c → va_at Γ.2.2.1 vcl (ad c i, cE Γ.2.2.2 ad χ c i) H ∧ Γ.1 ≤ ad c i) ∧
  (∀ c i c' i', i < cn χ c → i' < cn χ c' → ad c i = ad c' i' → c = c' ∧ i = i') ∧
  (∀ q, q < Γ.1 → H[q]? = Γ.2.1[q]?) ∧ Γ.1 ≤ H.size ∧ uC χ ≤ 603072 ∧ uS χ ≤ 7262314 ∧
  (∀ F i j x, gR χ F i j = some x → x < cn χ (tgF F))
set_option maxHeartbeats 4000000 in
theorem famT23_own (t : Nat) : (famT23 t).1 = 1 ∧ ∀ q ∈ (famT23 t).2.2, ownF q.2 = 23 := by
  unfold famT23
  split <;> exact ⟨rfl, by decide⟩
set_option maxHeartbeats 4000000 in
theorem famT30_own (t : Nat) : (famT30 t).1 = 1 ∧ ∀ q ∈ (famT30 t).2.2, ownF q.2 = 30 := by
  unfold famT30
  split <;> exact ⟨rfl, by decide⟩
set_option maxHeartbeats 4000000 in
theorem fam_own (c t : Nat) : (fam c t).1 = 1 → ∀ q ∈ (fam c t).2.2, ownF q.2 = c := by
  unfold fam
  split <;> first | exact fun _ => (famT23_own t).2 | exact fun _ => (famT30_own t).2 | (intro h; simp at h; done) | (intro _; decide)
set_option maxHeartbeats 4000000 in
theorem fam_lt (c t : Nat) : (fam c t).1 = 0 ∨ c < 100 := by
  unfold fam
  split <;> first | exact Or.inr (by decide) | exact Or.inl rfl
theorem own_lt {c : Nat} (h : c < 100) : ownF c = c := if_pos h
theorem gI_sI_fn {χ : St} {F i j c i' : Nat} {v : Int32} (h : F ≠ c ∨ i' ≠ i) : gI (sI χ F i j v) c i' = gI χ c i' := by
  funext j'
  show (if c = F ∧ i' = i ∧ j' = j then v else χ.2.1 c i' j') = χ.2.1 c i' j'
  rw [if_neg]
  rintro ⟨a, b, -⟩
  rcases h with h | h
  · exact h a.symm
  · exact h b
theorem gL_sL_fn {χ : St} {F i j c i' : Nat} {v : Int64} (h : F ≠ c ∨ i' ≠ i) : gL (sL χ F i j v) c i' = gL χ c i' := by
  funext j'
  show (if c = F ∧ i' = i ∧ j' = j then v else χ.2.2.1 c i' j') = χ.2.2.1 c i' j'
  rw [if_neg]
  rintro ⟨a, b, -⟩
  rcases h with h | h
  · exact h a.symm
  · exact h b
theorem gR_sR_fn {χ : St} {F i j c i' : Nat} {v : Option Nat} (h : F ≠ c ∨ i' ≠ i) : gR (sR χ F i j v) c i' = gR χ c i' := by
  funext j'
  show (if c = F ∧ i' = i ∧ j' = j then v else χ.2.2.2.1 c i' j') = χ.2.2.2.1 c i' j'
  rw [if_neg]
  rintro ⟨a, b, -⟩
  rcases h with h | h
  · exact h a.symm
  · exact h b
theorem ne_of_own {F c i i' : Nat} (hc : c < 100) (h : ownF F ≠ c ∨ i' ≠ i) : F ≠ c ∨ i' ≠ i := by
  rcases h with h | h
  · exact Or.inl (fun e => h (by rw [e]; exact own_lt hc))
  · exact Or.inr h
theorem ne_of_key {F c i i' : Nat} {q : Nat × Nat} (hq : ownF q.2 = c) (h : ownF F ≠ c ∨ i' ≠ i) : F ≠ q.2 ∨ i' ≠ i := by
  rcases h with h | h
  · exact Or.inl (fun e => h (by rw [e]; exact hq))
  · exact Or.inr h
/-- two stores that agree on a family's keys give the same cells there -/
theorem cE_congr {aC : Nat → ClassId} {ad : Nat → Nat → Nat} {χ χ' : St} {c i : Nat} (ht : tg χ' c i = tg χ c i)
    (hI : ∀ F, ownF F = c → gI χ' F i = gI χ F i) (hL : ∀ F, ownF F = c → gL χ' F i = gL χ F i) (hR : ∀ F, ownF F = c → gR χ' F i = gR χ F i) : cE aC ad χ' c i = cE aC ad χ c i := by
  unfold cE
  rw [ht]
  by_cases h1 : (fam c (tg χ c i)).1 = 1
  · rw [if_pos h1, if_pos h1]
    have : (fam c (tg χ c i)).2.2.map (fvl ad χ' i) = (fam c (tg χ c i)).2.2.map (fvl ad χ i) := by
      apply List.map_congr_left
      intro q hq
      have ho := fam_own c _ h1 q hq
      unfold fvl
      rw [hI q.2 ho, hL q.2 ho, hR q.2 ho]
    rw [this]
  · rw [if_neg h1, if_neg h1]
    rcases fam_lt c (tg χ c i) with h0 | hlt
    · unfold cC
      rw [h0]
      rfl
    · have ho := own_lt hlt
      unfold cC
      rw [hI c ho, hL c ho, hR c ho]
theorem cE_sI {aC : Nat → ClassId} {ad : Nat → Nat → Nat} {χ : St} {F i j c i' : Nat} {v : Int32} (h : ownF F ≠ c ∨ i' ≠ i) : cE aC ad (sI χ F i j v) c i' = cE aC ad χ c i' :=
  cE_congr rfl (fun F' hF' => gI_sI_fn (h.elim (fun h => Or.inl (fun e => h (by rw [e]; exact hF'))) Or.inr)) (fun _ _ => rfl) (fun _ _ => rfl)
theorem cE_sL {aC : Nat → ClassId} {ad : Nat → Nat → Nat} {χ : St} {F i j c i' : Nat} {v : Int64} (h : ownF F ≠ c ∨ i' ≠ i) : cE aC ad (sL χ F i j v) c i' = cE aC ad χ c i' :=
  cE_congr rfl (fun _ _ => rfl) (fun F' hF' => gL_sL_fn (h.elim (fun h => Or.inl (fun e => h (by rw [e]; exact hF'))) Or.inr)) (fun _ _ => rfl)
theorem cE_sR {aC : Nat → ClassId} {ad : Nat → Nat → Nat} {χ : St} {F i j c i' : Nat} {v : Option Nat} (h : ownF F ≠ c ∨ i' ≠ i) : cE aC ad (sR χ F i j v) c i' = cE aC ad χ c i' :=
  cE_congr rfl (fun _ _ => rfl) (fun _ _ => rfl) (fun F' hF' => gR_sR_fn (h.elim (fun h => Or.inl (fun e => h (by rw [e]; exact hF'))) Or.inr))
/-- a cell is written: its own picture is the new one, all others stay -/
theorem HR.upd {Γ : Gh} {ad : Nat → Nat → Nat} {χ χ' : St} {H H1 : Heap} (h : HR Γ ad χ H) {c i : Nat} (hi : i < cn χ c) (hn : ∀ c, cn χ' c = cn χ c) (hu : uC χ' = uC χ) (hs : uS χ' = uS χ)
    (hc : ∀ F i j x, gR χ' F i j = some x → x < cn χ (tgF F)) (hE : ∀ c' i', c ≠ c' ∨ i' ≠ i → cE Γ.2.2.2 ad χ' c' i' = cE Γ.2.2.2 ad χ c' i') (hat : va_at Γ.2.2.1 vcl (ad c i, cE Γ.2.2.2 ad χ' c i) H1) (hz : H1.size = H.size) (oq : ∀ q : Nat, q ≠ ad c i → H1[q]? = H[q]?) : HR Γ ad χ' H1 := by
  obtain ⟨h1, h2, h3, h4, h5, h6, h7⟩ := h
  refine ⟨fun c' i' hi' => ?_, fun c1 i1 c2 i2 a b e => h2 c1 i1 c2 i2 (by rw [← hn]; exact a) (by rw [← hn]; exact b) e, fun q hq => ?_, by rw [hz]; exact h4, by rw [hu]; exact h5, by rw [hs]; exact h6, fun F i j x e => by rw [hn]; exact hc F i j x e⟩
  · rw [hn] at hi'
    by_cases e : c = c' ∧ i' = i
    · obtain ⟨e1, e2⟩ := e
      subst e1; subst e2
      exact ⟨hat, (h1 _ _ hi').2⟩
    · have hne : c ≠ c' ∨ i' ≠ i := by
        by_cases e1 : c = c'
        · exact Or.inr (fun e2 => e ⟨e1, e2⟩)
        · exact Or.inl e1
      rw [hE c' i' hne]
      refine ⟨(h1 c' i' hi').1.kept (oq _ (fun z => ?_)), (h1 c' i' hi').2⟩
      obtain ⟨z1, z2⟩ := h2 c' i' c i hi' hi z
      exact e ⟨z1.symm, z2⟩
  · rw [oq q (fun z => by have := (h1 c i hi).2; omega)]
    exact h3 q hq
