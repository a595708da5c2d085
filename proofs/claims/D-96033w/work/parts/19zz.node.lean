set_option maxRecDepth 100000
theorem Mt.pre {l : Launch} {y : MethodName} {ws : List Cond} {rm : Room} {Γ : Gh} {ad : Nat → Nat → Nat} {χ : St} {av : List Value} {Wp Wp' : Prop} {Qc : Array Value → State → Outcome → State → Nat → Nat → Prop} {free : Addr → Prop} (h : Wp' → Wp) (hM : Mt l y ws rm (Pm Γ ad χ av Wp) Qc free) : Mt l y ws rm (Pm Γ ad χ av Wp') Qc free :=
  fun p e h1 h2 h3 s m args below h4 h5 hP h6 => hM p e h1 h2 h3 s m args below h4 h5 ⟨hP.1, hP.2.1, hP.2.2.1, h hP.2.2.2⟩ h6
abbrev fl23_0 : List (Nat × Nat) := [(0, 2400), (100, 2401)]
theorem ff23_0 {t : Nat} (h : t = 0) : fam 23 t = (1, 15, fl23_0) := by subst h; rfl
abbrev fl23_1 : List (Nat × Nat) := [(0, 2400), (100, 2401), (100, 2402)]
theorem ff23_1 {t : Nat} (h : t = 1) : fam 23 t = (1, 16, fl23_1) := by subst h; rfl
abbrev fl23_2 : List (Nat × Nat) := [(0, 2400), (100, 2401), (100, 2403)]
theorem ff23_2 {t : Nat} (h : t = 2) : fam 23 t = (1, 17, fl23_2) := by subst h; rfl
abbrev fl23_3 : List (Nat × Nat) := [(0, 2400), (100, 2401), (100, 2403), (100, 2404)]
theorem ff23_3 {t : Nat} (h : t = 3) : fam 23 t = (1, 18, fl23_3) := by subst h; rfl
abbrev fl23_4 : List (Nat × Nat) := [(0, 2400), (100, 2401), (100, 2402), (100, 2405)]
theorem ff23_4 {t : Nat} (h : t = 4) : fam 23 t = (1, 19, fl23_4) := by subst h; rfl
abbrev fl23_5 : List (Nat × Nat) := [(0, 2400), (100, 2401), (100, 2403), (100, 2404), (100, 2406)]
theorem ff23_5 {t : Nat} (h : t = 5) : fam 23 t = (1, 20, fl23_5) := by subst h; rfl
abbrev fl23_6 : List (Nat × Nat) := [(0, 2400), (100, 2401), (100, 2407)]
theorem ff23_6 {t : Nat} (h : t = 6) : fam 23 t = (1, 21, fl23_6) := by subst h; rfl
abbrev fl23_7 : List (Nat × Nat) := [(0, 2400), (100, 2401), (100, 2402), (100, 2405), (100, 2408)]
theorem ff23_7 {t : Nat} (h : t = 7) : fam 23 t = (1, 22, fl23_7) := by subst h; rfl
abbrev fl23_8 : List (Nat × Nat) := [(125, 2410)]
theorem ff23_8 {t : Nat} (h : t = 8) : fam 23 t = (1, 23, fl23_8) := by subst h; rfl
abbrev fl23_9 : List (Nat × Nat) := [(126, 2411)]
theorem ff23_9 {t : Nat} (h : t = 9) : fam 23 t = (1, 24, fl23_9) := by subst h; rfl
abbrev fl23_10 : List (Nat × Nat) := [(127, 2412)]
theorem ff23_10 {t : Nat} (h : t = 10) : fam 23 t = (1, 25, fl23_10) := by subst h; rfl
abbrev fl23_11 : List (Nat × Nat) := [(128, 2413)]
theorem ff23_11 {t : Nat} (h : t = 11) : fam 23 t = (1, 26, fl23_11) := by subst h; rfl
abbrev fl23_12 : List (Nat × Nat) := [(129, 2414)]
theorem ff23_12 {t : Nat} (h : t = 12) : fam 23 t = (1, 27, fl23_12) := by subst h; rfl
abbrev fl30_0 : List (Nat × Nat) := [(0, 3100)]
theorem ff30_0 {t : Nat} (h : t = 0) : fam 30 t = (1, 12, fl30_0) := by subst h; rfl
abbrev fl30_1 : List (Nat × Nat) := [(0, 3105)]
theorem ff30_1 {t : Nat} (h : t = 1) : fam 30 t = (1, 9, fl30_1) := by subst h; rfl
abbrev fl30_2 : List (Nat × Nat) := [(130, 3101)]
theorem ff30_2 {t : Nat} (h : t = 2) : fam 30 t = (1, 11, fl30_2) := by subst h; rfl
abbrev fl30_3 : List (Nat × Nat) := [(130, 3102)]
theorem ff30_3 {t : Nat} (h : t = 3) : fam 30 t = (1, 10, fl30_3) := by subst h; rfl
abbrev fl30_4 : List (Nat × Nat) := [(0, 3106), (130, 3103), (130, 3104)]
theorem ff30_4 {t : Nat} (h : t = 4) : fam 30 t = (1, 13, fl30_4) := by subst h; rfl
def MtN (W : Nat → St → (Int32 → St → Prop) → Prop) (F1 L1 : Nat) : Prop :=
  (∀ i χ Q, W i χ Q → tg χ 30 i < 5) ∧
  (∀ (l : Launch) (Γ : Gh) (ad : Nat → Nat → Nat) (i : Nat) (χ : St) (Q : Int32 → St → Prop), Mt l yX13_value (ws_ yX13_value cX13_value 2 (some .int)) (rmO F1 L1 χ) (Pm Γ ad χ [.ref (ad 30 i), .ref (ad 6 0)] (tg χ 30 i = 0 ∧ i < cn χ 30 ∧ W i χ Q)) (Qm Γ true ad χ (pI Q)) (frB Γ)) ∧
  (∀ (l : Launch) (Γ : Gh) (ad : Nat → Nat → Nat) (i : Nat) (χ : St) (Q : Int32 → St → Prop), Mt l yX10_value (ws_ yX10_value cX10_value 2 (some .int)) (rmO F1 L1 χ) (Pm Γ ad χ [.ref (ad 30 i), .ref (ad 6 0)] (tg χ 30 i = 1 ∧ i < cn χ 30 ∧ W i χ Q)) (Qm Γ true ad χ (pI Q)) (frB Γ)) ∧
  (∀ (l : Launch) (Γ : Gh) (ad : Nat → Nat → Nat) (i : Nat) (χ : St) (Q : Int32 → St → Prop), Mt l yX12_value (ws_ yX12_value cX12_value 2 (some .int)) (rmO F1 L1 χ) (Pm Γ ad χ [.ref (ad 30 i), .ref (ad 6 0)] (tg χ 30 i = 2 ∧ i < cn χ 30 ∧ W i χ Q)) (Qm Γ true ad χ (pI Q)) (frB Γ)) ∧
  (∀ (l : Launch) (Γ : Gh) (ad : Nat → Nat → Nat) (i : Nat) (χ : St) (Q : Int32 → St → Prop), Mt l yX11_value (ws_ yX11_value cX11_value 2 (some .int)) (rmO F1 L1 χ) (Pm Γ ad χ [.ref (ad 30 i), .ref (ad 6 0)] (tg χ 30 i = 3 ∧ i < cn χ 30 ∧ W i χ Q)) (Qm Γ true ad χ (pI Q)) (frB Γ)) ∧
  (∀ (l : Launch) (Γ : Gh) (ad : Nat → Nat → Nat) (i : Nat) (χ : St) (Q : Int32 → St → Prop), Mt l yX14_value (ws_ yX14_value cX14_value 4 (some .int)) (rmO F1 L1 χ) (Pm Γ ad χ [.ref (ad 30 i), .ref (ad 6 0)] (tg χ 30 i = 4 ∧ i < cn χ 30 ∧ W i χ Q)) (Qm Γ true ad χ (pI Q)) (frB Γ))
theorem hyN_X13 : (parseMethodDescriptor (⟨"ChairOld$Node", "value", "(LChairOld$Facts;)I"⟩ : MethodName).desc).map (fun d => d.parameters.length) = some 1 := by decide +kernel
section GND
variable {X : Cx} {cc : ByteArray} {own host : String} {ret : Option FieldType} {y0 : MethodName} {nL F Lo : Nat} {Pst : Option Value → (Nat → Nat → Nat) → St → Prop} {ad : Nat → Nat → Nat} {χ : St} {pc i index F' Lo' : Nat} {lv lv2 : List (Nat × Value)} {st st0 : List Value} {W : Nat → St → (Int32 → St → Prop) → Prop} {Q : Int32 → St → Prop}
set_option maxHeartbeats 4000000 in
theorem g_callNode (h : Ok X cc own ret y0 nL F Lo Pst) (hM : MtN W F' Lo') (hw : W i χ Q) (q1 : Cond.methodLink own index ⟨"ChairOld$Node", "value", "(LChairOld$Facts;)I"⟩ ∈ lw_all) (hF : F' + 1 ≤ F ∧ 8 + (4 + 11) + Lo' ≤ Lo) (hi : i < cn χ 30) (hst : (st.map fun v => v.category).sum ≤ 8) (hd : decode cc pc = .ok (.invokevirtual index, 3))
    (kk : ∀ r χ', Q r χ' → (∀ c, cn χ c ≤ cn χ' c) → G X ad χ' (pc + 3) lv (.int r :: st)) : G X ad χ pc lv (.ref (ad 6 0) :: .ref (ad 30 i) :: st) := by
  have hts := h.2.2.2.2.2.2.1
  have hK := h.2.2.2.2.2.2.2.1
  have hR := h.2.2.2.2.2.2.2.2.1
  obtain ⟨hlt, m0, m1, m2, m3, m4⟩ := hM
  have hlt := hlt i χ Q hw
  have kk2 : ∀ v ad' χ', pI Q v ad' χ' → (true = true → ad' = ad) → Ext χ χ' ad ad' → G X ad' χ' (pc + 3) lv (v.toList ++ st) := fun v ad' χ' hP hna hE => by
    obtain ⟨r, rfl, hf⟩ := hP
    obtain rfl := hna rfl
    exact kk r χ' hf hE.2
  have ht : tg χ 30 i = 0 ∨ tg χ 30 i = 1 ∨ tg χ 30 i = 2 ∨ tg χ 30 i = 3 ∨ tg χ 30 i = 4 := by omega
  rcases ht with ht | ht | ht | ht | ht
  · exact g_callU0 h (m0 X.l X.Γ ad i χ Q) ⟨ht, hi, hw⟩ (fun _ => rfl) (va_cwA 1 hts (lw_U (owner := "ChairOld$Node") q1 q783 q801 q788 q111 q789) rfl rfl rfl (hK.2.1 _ q782 rfl) ⟨by decide, by decide, hyN_X13⟩ (by rw [hR]; exact ⟨hF.1, Nat.le_trans (Nat.add_le_add_right (by decide) _) hF.2⟩)) hi (ff30_0 ht) rfl rfl rfl hst hd kk2
  · exact g_callU0 h (m1 X.l X.Γ ad i χ Q) ⟨ht, hi, hw⟩ (fun _ => rfl) (va_cwA 1 hts (lw_U (owner := "ChairOld$Node") q1 q783 q802 q790 q108 q791) rfl rfl rfl (hK.2.1 _ q782 rfl) ⟨by decide, by decide, hyN_X13⟩ (by rw [hR]; exact ⟨hF.1, Nat.le_trans (Nat.add_le_add_right (by decide) _) hF.2⟩)) hi (ff30_1 ht) rfl rfl rfl hst hd kk2
  · exact g_callU0 h (m2 X.l X.Γ ad i χ Q) ⟨ht, hi, hw⟩ (fun _ => rfl) (va_cwA 1 hts (lw_U (owner := "ChairOld$Node") q1 q783 q804 q795 q110 q796) rfl rfl rfl (hK.2.1 _ q782 rfl) ⟨by decide, by decide, hyN_X13⟩ (by rw [hR]; exact ⟨hF.1, Nat.le_trans (Nat.add_le_add_right (by decide) _) hF.2⟩)) hi (ff30_2 ht) rfl rfl rfl hst hd kk2
  · exact g_callU0 h (m3 X.l X.Γ ad i χ Q) ⟨ht, hi, hw⟩ (fun _ => rfl) (va_cwA 1 hts (lw_U (owner := "ChairOld$Node") q1 q783 q784 q785 q109 q786) rfl rfl rfl (hK.2.1 _ q782 rfl) ⟨by decide, by decide, hyN_X13⟩ (by rw [hR]; exact ⟨hF.1, Nat.le_trans (Nat.add_le_add_right (by decide) _) hF.2⟩)) hi (ff30_3 ht) rfl rfl rfl hst hd kk2
  · exact g_callU0 h (m4 X.l X.Γ ad i χ Q) ⟨ht, hi, hw⟩ (fun _ => rfl) (va_cwA 1 hts (lw_U (owner := "ChairOld$Node") q1 q783 q803 q792 q112 q793) rfl rfl rfl (hK.2.1 _ q782 rfl) ⟨by decide, by decide, hyN_X13⟩ (by rw [hR]; exact ⟨hF.1, Nat.le_trans (Nat.add_le_add_right (by decide) _) hF.2⟩)) hi (ff30_4 ht) rfl rfl rfl hst hd kk2
end GND
