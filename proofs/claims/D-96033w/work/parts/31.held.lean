set_option maxRecDepth 100000
section GAA
variable {X : Cx} {cc : ByteArray} {own : String} {ret : Option FieldType} {y0 : MethodName} {nL F Lo : Nat} {Pst : Option Value → (Nat → Nat → Nat) → St → Prop} {ad : Nat → Nat → Nat} {χ : St} {pc z : Nat} {lv : List (Nat × Value)} {st : List Value} {j : Int32}
theorem g_aast_Plain_b (h : Ok X cc own ret y0 nL F Lo Pst) (hj : vp_in j 50) (ht : tg χ 23 z = 0 ∨ tg χ 23 z = 1 ∨ tg χ 23 z = 2 ∨ tg χ 23 z = 3 ∨ tg χ 23 z = 4 ∨ tg χ 23 z = 5 ∨ tg χ 23 z = 6 ∨ tg χ 23 z = 7) (hz : z < cn χ 23) (hd : decode cc pc = .ok (.aastore, 1)) (kk : G X ad (sR χ 16 0 j.toNatClampNeg (some z)) (pc + 1) lv st) : G X ad χ pc lv (.ref (ad 23 z) :: .int j :: .ref (ad 16 0) :: st) := by
  rcases ht with ht | ht | ht | ht | ht | ht | ht | ht
  · exact g_aast h (fc16 _) ff16 rfl rfl hj hz (ff23_0 ht) rfl (AsOk.self h rfl) hd kk
  · exact g_aast h (fc16 _) ff16 rfl rfl hj hz (ff23_1 ht) rfl (AsOk.cast h rfl q2034) hd kk
  · exact g_aast h (fc16 _) ff16 rfl rfl hj hz (ff23_2 ht) rfl (AsOk.cast h rfl q2033) hd kk
  · exact g_aast h (fc16 _) ff16 rfl rfl hj hz (ff23_3 ht) rfl (AsOk.cast h rfl q2029) hd kk
  · exact g_aast h (fc16 _) ff16 rfl rfl hj hz (ff23_4 ht) rfl (AsOk.cast h rfl q2035) hd kk
  · exact g_aast h (fc16 _) ff16 rfl rfl hj hz (ff23_5 ht) rfl (AsOk.cast h rfl q2030) hd kk
  · exact g_aast h (fc16 _) ff16 rfl rfl hj hz (ff23_6 ht) rfl (AsOk.cast h rfl q2032) hd kk
  · exact g_aast h (fc16 _) ff16 rfl rfl hj hz (ff23_7 ht) rfl (AsOk.cast h rfl q2031) hd kk
theorem g_aast_Held_b (h : Ok X cc own ret y0 nL F Lo Pst) (hj : vp_in j 6) (ht : tg χ 23 z = 0 ∨ tg χ 23 z = 1 ∨ tg χ 23 z = 2 ∨ tg χ 23 z = 3 ∨ tg χ 23 z = 4 ∨ tg χ 23 z = 5 ∨ tg χ 23 z = 6 ∨ tg χ 23 z = 7) (hz : z < cn χ 23) (hd : decode cc pc = .ok (.aastore, 1)) (kk : G X ad (sR χ 17 0 j.toNatClampNeg (some z)) (pc + 1) lv st) : G X ad χ pc lv (.ref (ad 23 z) :: .int j :: .ref (ad 17 0) :: st) := by
  rcases ht with ht | ht | ht | ht | ht | ht | ht | ht
  · exact g_aast h (fc17 _) ff17 rfl rfl hj hz (ff23_0 ht) rfl (AsOk.cast h rfl q2043) hd kk
  · exact g_aast h (fc17 _) ff17 rfl rfl hj hz (ff23_1 ht) rfl (AsOk.cast h rfl q2036) hd kk
  · exact g_aast h (fc17 _) ff17 rfl rfl hj hz (ff23_2 ht) rfl (AsOk.cast h rfl q2037) hd kk
  · exact g_aast h (fc17 _) ff17 rfl rfl hj hz (ff23_3 ht) rfl (AsOk.cast h rfl q2038) hd kk
  · exact g_aast h (fc17 _) ff17 rfl rfl hj hz (ff23_4 ht) rfl (AsOk.cast h rfl q2039) hd kk
  · exact g_aast h (fc17 _) ff17 rfl rfl hj hz (ff23_5 ht) rfl (AsOk.cast h rfl q2040) hd kk
  · exact g_aast h (fc17 _) ff17 rfl rfl hj hz (ff23_6 ht) rfl (AsOk.cast h rfl q2041) hd kk
  · exact g_aast h (fc17 _) ff17 rfl rfl hj hz (ff23_7 ht) rfl (AsOk.cast h rfl q2042) hd kk
theorem g_aast_Held_r (h : Ok X cc own ret y0 nL F Lo Pst) (hj : vp_in j 6) (ht : tg χ 23 z = 8 ∨ tg χ 23 z = 9 ∨ tg χ 23 z = 10 ∨ tg χ 23 z = 11 ∨ tg χ 23 z = 12) (hz : z < cn χ 23) (hd : decode cc pc = .ok (.aastore, 1)) (kk : G X ad (sR χ 17 0 j.toNatClampNeg (some z)) (pc + 1) lv st) : G X ad χ pc lv (.ref (ad 23 z) :: .int j :: .ref (ad 17 0) :: st) := by
  rcases ht with ht | ht | ht | ht | ht
  · exact g_aast h (fc17 _) ff17 rfl rfl hj hz (ff23_8 ht) rfl (AsOk.cast h rfl q2044) hd kk
  · exact g_aast h (fc17 _) ff17 rfl rfl hj hz (ff23_9 ht) rfl (AsOk.cast h rfl q2045) hd kk
  · exact g_aast h (fc17 _) ff17 rfl rfl hj hz (ff23_10 ht) rfl (AsOk.cast h rfl q2046) hd kk
  · exact g_aast h (fc17 _) ff17 rfl rfl hj hz (ff23_11 ht) rfl (AsOk.cast h rfl q2047) hd kk
  · exact g_aast h (fc17 _) ff17 rfl rfl hj hz (ff23_12 ht) rfl (AsOk.cast h rfl q2048) hd kk
end GAA
def w_X17_ages (x0 : Nat) (x1 : Int32) (χ : St) (Q : Int32 → St → Prop) : Prop := (tg χ 23 x0 = 0 ∨ tg χ 23 x0 = 1 ∨ tg χ 23 x0 = 2 ∨ tg χ 23 x0 = 3 ∨ tg χ 23 x0 = 4 ∨ tg χ 23 x0 = 5 ∨ tg χ 23 x0 = 6 ∨ tg χ 23 x0 = 7) ∧ ((gR χ 2401 x0 0 = some 0) ∧ ((w_C_ran (1 : Int32) χ (fun χ2 => (tg χ2 23 x0 = 0 ∨ tg χ2 23 x0 = 1 ∨ tg χ2 23 x0 = 2 ∨ tg χ2 23 x0 = 3 ∨ tg χ2 23 x0 = 4 ∨ tg χ2 23 x0 = 5 ∨ tg χ2 23 x0 = 6 ∨ tg χ2 23 x0 = 7) ∧ ((Q (x1 + (gI χ2 2400 x0 0)) χ2))))))
set_option maxHeartbeats 4000000 in
theorem mt_X17_ages (l : Launch) (Γ : Gh) (ad : Nat → Nat → Nat) (x0 : Nat) (x1 : Int32) (χ : St) (Q : Int32 → St → Prop) : Mt l yX17_ages (ws_ yX17_ages cX17_ages 2 (some .int)) (rmO (1) (21) χ) (Pm Γ ad χ [.ref (ad 23 x0), .int x1] (x0 < cn χ 23 ∧ w_X17_ages x0 x1 χ Q)) (Qm Γ true ad χ (pI Q)) (frB Γ) := by
  refine Mt.start (by decide) RX17 rfl (Nat.le_of_ble_eq_true rfl) ?_
  intro X hX hG _ _ hna _ ⟨hv0, hf⟩
  unfold w_X17_ages at hf
  refine g_aload_n hX 0 dX17_ages_0 rfl rfl ?_
  have hg1 := hf.1
  replace hf := hf.2
  refine g_hthis_Plain hX hv0 hg1 q1034 dX17_ages_1 hf.1 (fun _ => ?_)
  replace hf := hf.2
  refine g_iconst hX (v := (1 : Int32)) dX17_ages_4 rfl ?_
  refine g_callVNv hX (n := 1) (mt_C_ran X.l X.Γ _ _ _ _) hf q1143 q1145 qs42 q85 q1146 hy_C_ran (by decide) (fc0 _) ff0 rfl rfl rfl (Nat.le_of_ble_eq_true rfl) dX17_ages_5 (fun χ2 hf hc2 => ?_)
  refine g_iload_n hX 1 dX17_ages_8 rfl rfl ?_
  refine g_aload_n hX 0 dX17_ages_9 rfl rfl ?_
  have hg3 := hf.1
  replace hf := hf.2
  refine g_hnum hX (Nat.lt_of_lt_of_le hv0 (hc2 23)) hg3 q1033 dX17_ages_10 ?_
  refine g_iadd hX dX17_ages_13 ?_
  exact g_iret hX ⟨_, rfl, hf⟩ dX17_ages_14

set_option maxHeartbeats 4000000 in
theorem gs_X18_ages_11 {X : Cx} {cc : ByteArray} {ret : Option FieldType} {y0 : MethodName} {nL F Lo : Nat} {Pst : Option Value → (Nat → Nat → Nat) → St → Prop} {ad : Nat → Nat → Nat} {χ : St} {pc i : Nat} {lv : List (Nat × Value)} {st : List Value} {a0 : Int32} {Q : Int32 → St → Prop} (h : Ok X cc RX18 ret y0 nL F Lo Pst) (hw : w_X17_ages i a0 χ Q) (ht : tg χ 23 i = 1 ∨ tg χ 23 i = 4 ∨ tg χ 23 i = 7) (hF : 2 ≤ F ∧ 42 ≤ Lo) (hi : i < cn χ 23) (hst : (st.map fun v => v.category).sum ≤ 8) (hd : decode cc pc = .ok (.invokespecial 23, 3)) (kk : ∀ r χ', Q r χ' → (∀ c, cn χ c ≤ cn χ' c) → G X ad χ' (pc + 3) lv (.int r :: st)) : G X ad χ pc lv (.int a0 :: .ref (ad 23 i) :: st) := by
  have hts := h.2.2.2.2.2.2.1
  have hR := h.2.2.2.2.2.2.2.2.1
  have kk2 : ∀ v ad' χ', pI Q v ad' χ' → (true = true → ad' = ad) → Ext χ χ' ad ad' → G X ad' χ' (pc + 3) lv (v.toList ++ st) := fun v ad' χ' hP hna hE => by
    obtain ⟨r, rfl, hf⟩ := hP
    obtain rfl := hna rfl
    exact kk r χ' hf hE.2
  rcases ht with ht | ht | ht
  · exact g_callSU0 h (mt_X17_ages X.l X.Γ ad i a0 χ Q) ⟨hi, hw⟩ (fun _ => rfl) q1157 q2002 q1041 q1140 q116 q1142 ⟨by decide, hy_X17_ages.2.2⟩ ⟨by omega, by omega⟩ hi (ff23_1 ht) rfl rfl rfl hst hd kk2
  · exact g_callSU0 h (mt_X17_ages X.l X.Γ ad i a0 χ Q) ⟨hi, hw⟩ (fun _ => rfl) q1157 q2002 q1041 q1140 q116 q1142 ⟨by decide, hy_X17_ages.2.2⟩ ⟨by omega, by omega⟩ hi (ff23_4 ht) rfl rfl rfl hst hd kk2
  · exact g_callSU0 h (mt_X17_ages X.l X.Γ ad i a0 χ Q) ⟨hi, hw⟩ (fun _ => rfl) q1157 q2002 q1041 q1140 q116 q1142 ⟨by decide, hy_X17_ages.2.2⟩ ⟨by omega, by omega⟩ hi (ff23_7 ht) rfl rfl rfl hst hd kk2
def w_X18_ages (x0 : Nat) (x1 : Int32) (χ : St) (Q : Int32 → St → Prop) : Prop := (tg χ 23 x0 = 1 ∨ tg χ 23 x0 = 4 ∨ tg χ 23 x0 = 7) ∧ ((gR χ 2402 x0 0 = some 0) ∧ ((w_C_ran (20 : Int32) χ (fun χ2 => (tg χ2 23 x0 = 1 ∨ tg χ2 23 x0 = 4 ∨ tg χ2 23 x0 = 7) ∧ ((w_X17_ages x0 x1 χ2 (fun r3 χ4 => (Q (r3 + (3 : Int32)) χ4))))))))
set_option maxHeartbeats 4000000 in
theorem mt_X18_ages (l : Launch) (Γ : Gh) (ad : Nat → Nat → Nat) (x0 : Nat) (x1 : Int32) (χ : St) (Q : Int32 → St → Prop) : Mt l yX18_ages (ws_ yX18_ages cX18_ages 2 (some .int)) (rmO (2) (42) χ) (Pm Γ ad χ [.ref (ad 23 x0), .int x1] (x0 < cn χ 23 ∧ w_X18_ages x0 x1 χ Q)) (Qm Γ true ad χ (pI Q)) (frB Γ) := by
  refine Mt.start (by decide) RX18 rfl (Nat.le_of_ble_eq_true rfl) ?_
  intro X hX hG _ _ hna _ ⟨hv0, hf⟩
  unfold w_X18_ages at hf
  refine g_aload_n hX 0 dX18_ages_0 rfl rfl ?_
  have hg1 := hf.1
  replace hf := hf.2
  refine g_hthis_Old hX hv0 hg1 q1032 dX18_ages_1 hf.1 (fun _ => ?_)
  replace hf := hf.2
  refine g_bipush hX (v := (20 : Int32)) dX18_ages_4 rfl ?_
  refine g_callVNv hX (n := 1) (mt_C_ran X.l X.Γ _ _ _ _) hf q1156 q1145 qs42 q85 q1146 hy_C_ran (by decide) (fc0 _) ff0 rfl rfl rfl (Nat.le_of_ble_eq_true rfl) dX18_ages_6 (fun χ2 hf hc2 => ?_)
  refine g_aload_n hX 0 dX18_ages_9 rfl rfl ?_
  refine g_iload_n hX 1 dX18_ages_10 rfl rfl ?_
  have hg5 := hf.1
  replace hf := hf.2
  refine gs_X18_ages_11 hX hf hg5 (by decide) (Nat.lt_of_lt_of_le hv0 (hc2 23)) (Nat.le_of_ble_eq_true rfl) dX18_ages_11 (fun r3 χ4 hf hc4 => ?_)
  refine g_iconst hX (v := (3 : Int32)) dX18_ages_14 rfl ?_
  refine g_iadd hX dX18_ages_15 ?_
  exact g_iret hX ⟨_, rfl, hf⟩ dX18_ages_16

set_option maxHeartbeats 4000000 in
theorem gs_X23_ages_11 {X : Cx} {cc : ByteArray} {ret : Option FieldType} {y0 : MethodName} {nL F Lo : Nat} {Pst : Option Value → (Nat → Nat → Nat) → St → Prop} {ad : Nat → Nat → Nat} {χ : St} {pc i : Nat} {lv : List (Nat × Value)} {st : List Value} {a0 : Int32} {Q : Int32 → St → Prop} (h : Ok X cc RX23 ret y0 nL F Lo Pst) (hw : w_X17_ages i a0 χ Q) (ht : tg χ 23 i = 6) (hF : 2 ≤ F ∧ 42 ≤ Lo) (hi : i < cn χ 23) (hst : (st.map fun v => v.category).sum ≤ 8) (hd : decode cc pc = .ok (.invokespecial 19, 3)) (kk : ∀ r χ', Q r χ' → (∀ c, cn χ c ≤ cn χ' c) → G X ad χ' (pc + 3) lv (.int r :: st)) : G X ad χ pc lv (.int a0 :: .ref (ad 23 i) :: st) := by
  have hts := h.2.2.2.2.2.2.1
  have hR := h.2.2.2.2.2.2.2.2.1
  have kk2 : ∀ v ad' χ', pI Q v ad' χ' → (true = true → ad' = ad) → Ext χ χ' ad ad' → G X ad' χ' (pc + 3) lv (v.toList ++ st) := fun v ad' χ' hP hna hE => by
    obtain ⟨r, rfl, hf⟩ := hP
    obtain rfl := hna rfl
    exact kk r χ' hf hE.2
  exact g_callSU0 h (mt_X17_ages X.l X.Γ ad i a0 χ Q) ⟨hi, hw⟩ (fun _ => rfl) q1165 q2002 q1105 q1140 q116 q1142 ⟨by decide, hy_X17_ages.2.2⟩ ⟨by omega, by omega⟩ hi (ff23_6 ht) rfl rfl rfl hst hd kk2
def w_X23_ages (x0 : Nat) (x1 : Int32) (χ : St) (Q : Int32 → St → Prop) : Prop := (tg χ 23 x0 = 6) ∧ ((gR χ 2407 x0 0 = some 0) ∧ ((w_C_ran (70 : Int32) χ (fun χ2 => (tg χ2 23 x0 = 6) ∧ ((w_X17_ages x0 x1 χ2 (fun r3 χ4 => (Q (r3 * (2 : Int32)) χ4))))))))
set_option maxHeartbeats 4000000 in
theorem mt_X23_ages (l : Launch) (Γ : Gh) (ad : Nat → Nat → Nat) (x0 : Nat) (x1 : Int32) (χ : St) (Q : Int32 → St → Prop) : Mt l yX23_ages (ws_ yX23_ages cX23_ages 2 (some .int)) (rmO (2) (42) χ) (Pm Γ ad χ [.ref (ad 23 x0), .int x1] (x0 < cn χ 23 ∧ w_X23_ages x0 x1 χ Q)) (Qm Γ true ad χ (pI Q)) (frB Γ) := by
  refine Mt.start (by decide) RX23 rfl (Nat.le_of_ble_eq_true rfl) ?_
  intro X hX hG _ _ hna _ ⟨hv0, hf⟩
  unfold w_X23_ages at hf
  refine g_aload_n hX 0 dX23_ages_0 rfl rfl ?_
  have hg1 := hf.1
  replace hf := hf.2
  refine g_hthis_Fresh hX hv0 hg1 q1100 dX23_ages_1 hf.1 (fun _ => ?_)
  replace hf := hf.2
  refine g_bipush hX (v := (70 : Int32)) dX23_ages_4 rfl ?_
  refine g_callVNv hX (n := 1) (mt_C_ran X.l X.Γ _ _ _ _) hf q1164 q1145 qs42 q85 q1146 hy_C_ran (by decide) (fc0 _) ff0 rfl rfl rfl (Nat.le_of_ble_eq_true rfl) dX23_ages_6 (fun χ2 hf hc2 => ?_)
  refine g_aload_n hX 0 dX23_ages_9 rfl rfl ?_
  refine g_iload_n hX 1 dX23_ages_10 rfl rfl ?_
  have hg5 := hf.1
  replace hf := hf.2
  refine gs_X23_ages_11 hX hf hg5 (by decide) (Nat.lt_of_lt_of_le hv0 (hc2 23)) (Nat.le_of_ble_eq_true rfl) dX23_ages_11 (fun r3 χ4 hf hc4 => ?_)
  refine g_iconst hX (v := (2 : Int32)) dX23_ages_14 rfl ?_
  refine g_imul hX dX23_ages_15 ?_
  exact g_iret hX ⟨_, rfl, hf⟩ dX23_ages_16

def w_D_ages (i : Nat) (a0 : Int32) (χ : St) (Q : Int32 → St → Prop) : Prop := (tg χ 23 i = 0 → w_X17_ages i a0 χ Q) ∧ (tg χ 23 i = 1 → w_X18_ages i a0 χ Q) ∧ (tg χ 23 i = 2 → w_X17_ages i a0 χ Q) ∧ (tg χ 23 i = 3 → w_X17_ages i a0 χ Q) ∧ (tg χ 23 i = 4 → w_X18_ages i a0 χ Q) ∧ (tg χ 23 i = 5 → w_X17_ages i a0 χ Q) ∧ (tg χ 23 i = 6 → w_X23_ages i a0 χ Q) ∧ (tg χ 23 i = 7 → w_X18_ages i a0 χ Q)

def w_X17_shows (x0 : Nat) (x1 : Int32) (χ : St) (Q : Int32 → St → Prop) : Prop := (tg χ 23 x0 = 0 ∨ tg χ 23 x0 = 1 ∨ tg χ 23 x0 = 2 ∨ tg χ 23 x0 = 3 ∨ tg χ 23 x0 = 4 ∨ tg χ 23 x0 = 5 ∨ tg χ 23 x0 = 6 ∨ tg χ 23 x0 = 7) ∧ ((gR χ 2401 x0 0 = some 0) ∧ ((w_C_ran (11 : Int32) χ (fun χ2 => (tg χ2 23 x0 = 0 ∨ tg χ2 23 x0 = 1 ∨ tg χ2 23 x0 = 2 ∨ tg χ2 23 x0 = 3 ∨ tg χ2 23 x0 = 4 ∨ tg χ2 23 x0 = 5 ∨ tg χ2 23 x0 = 6 ∨ tg χ2 23 x0 = 7) ∧ ((Q (x1 ^^^ (gI χ2 2400 x0 0)) χ2))))))
set_option maxHeartbeats 4000000 in
theorem mt_X17_shows (l : Launch) (Γ : Gh) (ad : Nat → Nat → Nat) (x0 : Nat) (x1 : Int32) (χ : St) (Q : Int32 → St → Prop) : Mt l yX17_shows (ws_ yX17_shows cX17_shows 2 (some .int)) (rmO (1) (21) χ) (Pm Γ ad χ [.ref (ad 23 x0), .int x1] (x0 < cn χ 23 ∧ w_X17_shows x0 x1 χ Q)) (Qm Γ true ad χ (pI Q)) (frB Γ) := by
  refine Mt.start (by decide) RX17 rfl (Nat.le_of_ble_eq_true rfl) ?_
  intro X hX hG _ _ hna _ ⟨hv0, hf⟩
  unfold w_X17_shows at hf
  refine g_aload_n hX 0 dX17_shows_0 rfl rfl ?_
  have hg1 := hf.1
  replace hf := hf.2
  refine g_hthis_Plain hX hv0 hg1 q1034 dX17_shows_1 hf.1 (fun _ => ?_)
  replace hf := hf.2
  refine g_bipush hX (v := (11 : Int32)) dX17_shows_4 rfl ?_
  refine g_callVNv hX (n := 1) (mt_C_ran X.l X.Γ _ _ _ _) hf q1143 q1145 qs42 q85 q1146 hy_C_ran (by decide) (fc0 _) ff0 rfl rfl rfl (Nat.le_of_ble_eq_true rfl) dX17_shows_6 (fun χ2 hf hc2 => ?_)
  refine g_iload_n hX 1 dX17_shows_9 rfl rfl ?_
  refine g_aload_n hX 0 dX17_shows_10 rfl rfl ?_
  have hg3 := hf.1
  replace hf := hf.2
  refine g_hnum hX (Nat.lt_of_lt_of_le hv0 (hc2 23)) hg3 q1033 dX17_shows_11 ?_
  refine g_ixor hX dX17_shows_14 ?_
  exact g_iret hX ⟨_, rfl, hf⟩ dX17_shows_15

set_option maxHeartbeats 4000000 in
theorem gs_X20_shows_11 {X : Cx} {cc : ByteArray} {ret : Option FieldType} {y0 : MethodName} {nL F Lo : Nat} {Pst : Option Value → (Nat → Nat → Nat) → St → Prop} {ad : Nat → Nat → Nat} {χ : St} {pc i : Nat} {lv : List (Nat × Value)} {st : List Value} {a0 : Int32} {Q : Int32 → St → Prop} (h : Ok X cc RX20 ret y0 nL F Lo Pst) (hw : w_X17_shows i a0 χ Q) (ht : tg χ 23 i = 3 ∨ tg χ 23 i = 5) (hF : 2 ≤ F ∧ 42 ≤ Lo) (hi : i < cn χ 23) (hst : (st.map fun v => v.category).sum ≤ 8) (hd : decode cc pc = .ok (.invokespecial 23, 3)) (kk : ∀ r χ', Q r χ' → (∀ c, cn χ c ≤ cn χ' c) → G X ad χ' (pc + 3) lv (.int r :: st)) : G X ad χ pc lv (.int a0 :: .ref (ad 23 i) :: st) := by
  have hts := h.2.2.2.2.2.2.1
  have hR := h.2.2.2.2.2.2.2.2.1
  have kk2 : ∀ v ad' χ', pI Q v ad' χ' → (true = true → ad' = ad) → Ext χ χ' ad ad' → G X ad' χ' (pc + 3) lv (v.toList ++ st) := fun v ad' χ' hP hna hE => by
    obtain ⟨r, rfl, hf⟩ := hP
    obtain rfl := hna rfl
    exact kk r χ' hf hE.2
  rcases ht with ht | ht
  · exact g_callSU1 (owner := "ChairOld$Plain") (x := ⟨"ChairOld$Mended", "shows", "(I)I"⟩) h (mt_X17_shows X.l X.Γ ad i a0 χ Q) ⟨hi, hw⟩ (fun _ => rfl) q1235 q1236 q1066 (sub_w1 (hts _ q1053)) q1219 q116 q1220 ⟨by decide, hy_X17_shows.2.2⟩ ⟨by omega, by omega⟩ hi (ff23_3 ht) rfl rfl rfl hst hd kk2
  · exact g_callSU1 (owner := "ChairOld$Plain") (x := ⟨"ChairOld$Mended", "shows", "(I)I"⟩) h (mt_X17_shows X.l X.Γ ad i a0 χ Q) ⟨hi, hw⟩ (fun _ => rfl) q1235 q1236 q1066 (sub_w1 (hts _ q1053)) q1219 q116 q1220 ⟨by decide, hy_X17_shows.2.2⟩ ⟨by omega, by omega⟩ hi (ff23_5 ht) rfl rfl rfl hst hd kk2
def w_X20_shows (x0 : Nat) (x1 : Int32) (χ : St) (Q : Int32 → St → Prop) : Prop := (tg χ 23 x0 = 3 ∨ tg χ 23 x0 = 5) ∧ ((gR χ 2404 x0 0 = some 0) ∧ ((w_C_ran (40 : Int32) χ (fun χ2 => (tg χ2 23 x0 = 3 ∨ tg χ2 23 x0 = 5) ∧ ((w_X17_shows x0 x1 χ2 (fun r3 χ4 => (Q (r3 * (3 : Int32)) χ4))))))))
set_option maxHeartbeats 4000000 in
theorem mt_X20_shows (l : Launch) (Γ : Gh) (ad : Nat → Nat → Nat) (x0 : Nat) (x1 : Int32) (χ : St) (Q : Int32 → St → Prop) : Mt l yX20_shows (ws_ yX20_shows cX20_shows 2 (some .int)) (rmO (2) (42) χ) (Pm Γ ad χ [.ref (ad 23 x0), .int x1] (x0 < cn χ 23 ∧ w_X20_shows x0 x1 χ Q)) (Qm Γ true ad χ (pI Q)) (frB Γ) := by
  refine Mt.start (by decide) RX20 rfl (Nat.le_of_ble_eq_true rfl) ?_
  intro X hX hG _ _ hna _ ⟨hv0, hf⟩
  unfold w_X20_shows at hf
  refine g_aload_n hX 0 dX20_shows_0 rfl rfl ?_
  have hg1 := hf.1
  replace hf := hf.2
  refine g_hthis_Aged hX hv0 hg1 q1060 dX20_shows_1 hf.1 (fun _ => ?_)
  replace hf := hf.2
  refine g_bipush hX (v := (40 : Int32)) dX20_shows_4 rfl ?_
  refine g_callVNv hX (n := 1) (mt_C_ran X.l X.Γ _ _ _ _) hf q1195 q1145 qs42 q85 q1146 hy_C_ran (by decide) (fc0 _) ff0 rfl rfl rfl (Nat.le_of_ble_eq_true rfl) dX20_shows_6 (fun χ2 hf hc2 => ?_)
  refine g_aload_n hX 0 dX20_shows_9 rfl rfl ?_
  refine g_iload_n hX 1 dX20_shows_10 rfl rfl ?_
  have hg5 := hf.1
  replace hf := hf.2
  refine gs_X20_shows_11 hX hf hg5 (by decide) (Nat.lt_of_lt_of_le hv0 (hc2 23)) (Nat.le_of_ble_eq_true rfl) dX20_shows_11 (fun r3 χ4 hf hc4 => ?_)
  refine g_iconst hX (v := (3 : Int32)) dX20_shows_14 rfl ?_
  refine g_imul hX dX20_shows_15 ?_
  exact g_iret hX ⟨_, rfl, hf⟩ dX20_shows_16

set_option maxHeartbeats 4000000 in
theorem gs_X21_shows_11 {X : Cx} {cc : ByteArray} {ret : Option FieldType} {y0 : MethodName} {nL F Lo : Nat} {Pst : Option Value → (Nat → Nat → Nat) → St → Prop} {ad : Nat → Nat → Nat} {χ : St} {pc i : Nat} {lv : List (Nat × Value)} {st : List Value} {a0 : Int32} {Q : Int32 → St → Prop} (h : Ok X cc RX21 ret y0 nL F Lo Pst) (hw : w_X17_shows i a0 χ Q) (ht : tg χ 23 i = 4 ∨ tg χ 23 i = 7) (hF : 2 ≤ F ∧ 42 ≤ Lo) (hi : i < cn χ 23) (hst : (st.map fun v => v.category).sum ≤ 8) (hd : decode cc pc = .ok (.invokespecial 23, 3)) (kk : ∀ r χ', Q r χ' → (∀ c, cn χ c ≤ cn χ' c) → G X ad χ' (pc + 3) lv (.int r :: st)) : G X ad χ pc lv (.int a0 :: .ref (ad 23 i) :: st) := by
  have hts := h.2.2.2.2.2.2.1
  have hR := h.2.2.2.2.2.2.2.2.1
  have kk2 : ∀ v ad' χ', pI Q v ad' χ' → (true = true → ad' = ad) → Ext χ χ' ad ad' → G X ad' χ' (pc + 3) lv (v.toList ++ st) := fun v ad' χ' hP hna hE => by
    obtain ⟨r, rfl, hf⟩ := hP
    obtain rfl := hna rfl
    exact kk r χ' hf hE.2
  rcases ht with ht | ht
  · exact g_callSU1 (owner := "ChairOld$Plain") (x := ⟨"ChairOld$Old", "shows", "(I)I"⟩) h (mt_X17_shows X.l X.Γ ad i a0 χ Q) ⟨hi, hw⟩ (fun _ => rfl) q1216 q1217 q1079 (sub_w1 (hts _ q1041)) q1219 q116 q1220 ⟨by decide, hy_X17_shows.2.2⟩ ⟨by omega, by omega⟩ hi (ff23_4 ht) rfl rfl rfl hst hd kk2
  · exact g_callSU1 (owner := "ChairOld$Plain") (x := ⟨"ChairOld$Old", "shows", "(I)I"⟩) h (mt_X17_shows X.l X.Γ ad i a0 χ Q) ⟨hi, hw⟩ (fun _ => rfl) q1216 q1217 q1079 (sub_w1 (hts _ q1041)) q1219 q116 q1220 ⟨by decide, hy_X17_shows.2.2⟩ ⟨by omega, by omega⟩ hi (ff23_7 ht) rfl rfl rfl hst hd kk2
set_option maxHeartbeats 4000000 in
theorem gs_X21_shows_18 {X : Cx} {cc : ByteArray} {ret : Option FieldType} {y0 : MethodName} {nL F Lo : Nat} {Pst : Option Value → (Nat → Nat → Nat) → St → Prop} {ad : Nat → Nat → Nat} {χ : St} {pc i : Nat} {lv : List (Nat × Value)} {st : List Value} {a0 : Int32} {Q : Int32 → St → Prop} (h : Ok X cc RX21 ret y0 nL F Lo Pst) (hw : w_D_ages i a0 χ Q) (ht : tg χ 23 i = 4 ∨ tg χ 23 i = 7) (hF : 3 ≤ F ∧ 63 ≤ Lo) (hi : i < cn χ 23) (hst : (st.map fun v => v.category).sum ≤ 8) (hd : decode cc pc = .ok (.invokevirtual 27, 3)) (kk : ∀ r χ', Q r χ' → (∀ c, cn χ c ≤ cn χ' c) → G X ad χ' (pc + 3) lv (.int r :: st)) : G X ad χ pc lv (.int a0 :: .ref (ad 23 i) :: st) := by
  have hts := h.2.2.2.2.2.2.1
  have hR := h.2.2.2.2.2.2.2.2.1
  have kk2 : ∀ v ad' χ', pI Q v ad' χ' → (true = true → ad' = ad) → Ext χ χ' ad ad' → G X ad' χ' (pc + 3) lv (v.toList ++ st) := fun v ad' χ' hP hna hE => by
    obtain ⟨r, rfl, hf⟩ := hP
    obtain rfl := hna rfl
    exact kk r χ' hf hE.2
  rcases ht with ht | ht
  · exact g_callU0 h (mt_X18_ages X.l X.Γ ad i a0 χ Q) ⟨hi, hw.2.2.2.2.1 ht⟩ (fun _ => rfl) (va_cwU 1 hts (lw_U (C := "ChairOld$Split") q1221 q1222 q1225 q1153 q117 q1155) rfl rfl rfl rfl ⟨by decide, by decide, hy_X18_ages.2.2⟩ (by rw [hR]; exact ⟨by show 2 + 1 ≤ F; omega, by show 8 + (2 + 11) + 42 ≤ Lo; omega⟩)) hi (ff23_4 ht) rfl rfl rfl hst hd kk2
  · exact g_callU0 h (mt_X18_ages X.l X.Γ ad i a0 χ Q) ⟨hi, hw.2.2.2.2.2.2.2 ht⟩ (fun _ => rfl) (va_cwU 1 hts (lw_U (C := "ChairOld$Foreign") q1221 q1222 q1224 q1153 q117 q1155) rfl rfl rfl rfl ⟨by decide, by decide, hy_X18_ages.2.2⟩ (by rw [hR]; exact ⟨by show 2 + 1 ≤ F; omega, by show 8 + (2 + 11) + 42 ≤ Lo; omega⟩)) hi (ff23_7 ht) rfl rfl rfl hst hd kk2
def w_X21_shows (x0 : Nat) (x1 : Int32) (χ : St) (Q : Int32 → St → Prop) : Prop := (tg χ 23 x0 = 4 ∨ tg χ 23 x0 = 7) ∧ ((gR χ 2405 x0 0 = some 0) ∧ ((w_C_ran (50 : Int32) χ (fun χ2 => (tg χ2 23 x0 = 4 ∨ tg χ2 23 x0 = 7) ∧ ((w_X17_shows x0 x1 χ2 (fun r3 χ4 => (tg χ4 23 x0 = 4 ∨ tg χ4 23 x0 = 7) ∧ ((w_D_ages x0 (2 : Int32) χ4 (fun r6 χ7 => (Q (r3 - r6) χ7)))))))))))
set_option maxHeartbeats 4000000 in
theorem mt_X21_shows (l : Launch) (Γ : Gh) (ad : Nat → Nat → Nat) (x0 : Nat) (x1 : Int32) (χ : St) (Q : Int32 → St → Prop) : Mt l yX21_shows (ws_ yX21_shows cX21_shows 3 (some .int)) (rmO (3) (63) χ) (Pm Γ ad χ [.ref (ad 23 x0), .int x1] (x0 < cn χ 23 ∧ w_X21_shows x0 x1 χ Q)) (Qm Γ true ad χ (pI Q)) (frB Γ) := by
  refine Mt.start (by decide) RX21 rfl (Nat.le_of_ble_eq_true rfl) ?_
  intro X hX hG _ _ hna _ ⟨hv0, hf⟩
  unfold w_X21_shows at hf
  refine g_aload_n hX 0 dX21_shows_0 rfl rfl ?_
  have hg1 := hf.1
  replace hf := hf.2
  refine g_hthis_Split hX hv0 hg1 q1073 dX21_shows_1 hf.1 (fun _ => ?_)
  replace hf := hf.2
  refine g_bipush hX (v := (50 : Int32)) dX21_shows_4 rfl ?_
  refine g_callVNv hX (n := 1) (mt_C_ran X.l X.Γ _ _ _ _) hf q1215 q1145 qs42 q85 q1146 hy_C_ran (by decide) (fc0 _) ff0 rfl rfl rfl (Nat.le_of_ble_eq_true rfl) dX21_shows_6 (fun χ2 hf hc2 => ?_)
  refine g_aload_n hX 0 dX21_shows_9 rfl rfl ?_
  refine g_iload_n hX 1 dX21_shows_10 rfl rfl ?_
  have hg5 := hf.1
  replace hf := hf.2
  refine gs_X21_shows_11 hX hf hg5 (by decide) (Nat.lt_of_lt_of_le hv0 (hc2 23)) (Nat.le_of_ble_eq_true rfl) dX21_shows_11 (fun r3 χ4 hf hc4 => ?_)
  refine g_istore_n hX dX21_shows_14 rfl (by decide) rfl ?_
  refine g_iload_n hX 0 dX21_shows_15 rfl rfl ?_
  refine g_aload_n hX 1 dX21_shows_16 rfl rfl ?_
  refine g_iconst hX (v := (2 : Int32)) dX21_shows_17 rfl ?_
  have hg8 := hf.1
  replace hf := hf.2
  refine gs_X21_shows_18 hX hf hg8 (by decide) (Nat.lt_of_lt_of_le (Nat.lt_of_lt_of_le hv0 (hc2 23)) (hc4 23)) (Nat.le_of_ble_eq_true rfl) dX21_shows_18 (fun r6 χ7 hf hc7 => ?_)
  refine g_isub hX dX21_shows_21 ?_
  exact g_iret hX ⟨_, rfl, hf⟩ dX21_shows_22

def w_D_shows (i : Nat) (a0 : Int32) (χ : St) (Q : Int32 → St → Prop) : Prop := (tg χ 23 i = 0 → w_X17_shows i a0 χ Q) ∧ (tg χ 23 i = 1 → w_X17_shows i a0 χ Q) ∧ (tg χ 23 i = 2 → w_X17_shows i a0 χ Q) ∧ (tg χ 23 i = 3 → w_X20_shows i a0 χ Q) ∧ (tg χ 23 i = 4 → w_X21_shows i a0 χ Q) ∧ (tg χ 23 i = 5 → w_X20_shows i a0 χ Q) ∧ (tg χ 23 i = 6 → w_X17_shows i a0 χ Q) ∧ (tg χ 23 i = 7 → w_X21_shows i a0 χ Q)

set_option maxHeartbeats 4000000 in
theorem gs_X17_joins_11 {X : Cx} {cc : ByteArray} {ret : Option FieldType} {y0 : MethodName} {nL F Lo : Nat} {Pst : Option Value → (Nat → Nat → Nat) → St → Prop} {ad : Nat → Nat → Nat} {χ : St} {pc i : Nat} {lv : List (Nat × Value)} {st : List Value} {a0 : Int32} {Q : Int32 → St → Prop} (h : Ok X cc RX17 ret y0 nL F Lo Pst) (hw : w_D_ages i a0 χ Q) (ht : tg χ 23 i = 0 ∨ tg χ 23 i = 1 ∨ tg χ 23 i = 2 ∨ tg χ 23 i = 3 ∨ tg χ 23 i = 4 ∨ tg χ 23 i = 5 ∨ tg χ 23 i = 6 ∨ tg χ 23 i = 7) (hF : 3 ≤ F ∧ 63 ≤ Lo) (hi : i < cn χ 23) (hst : (st.map fun v => v.category).sum ≤ 8) (hd : decode cc pc = .ok (.invokevirtual 27, 3)) (kk : ∀ r χ', Q r χ' → (∀ c, cn χ c ≤ cn χ' c) → G X ad χ' (pc + 3) lv (.int r :: st)) : G X ad χ pc lv (.int a0 :: .ref (ad 23 i) :: st) := by
  have hts := h.2.2.2.2.2.2.1
  have hR := h.2.2.2.2.2.2.2.2.1
  have kk2 : ∀ v ad' χ', pI Q v ad' χ' → (true = true → ad' = ad) → Ext χ χ' ad ad' → G X ad' χ' (pc + 3) lv (v.toList ++ st) := fun v ad' χ' hP hna hE => by
    obtain ⟨r, rfl, hf⟩ := hP
    obtain rfl := hna rfl
    exact kk r χ' hf hE.2
  rcases ht with ht | ht | ht | ht | ht | ht | ht | ht
  · exact g_callU0 h (mt_X17_ages X.l X.Γ ad i a0 χ Q) ⟨hi, hw.1 ht⟩ (fun _ => rfl) (va_cwU 1 hts (lw_U (C := "ChairOld$Plain") q1231 q2002 q2010 q1140 q116 q1142) rfl rfl rfl rfl ⟨by decide, by decide, hy_X17_ages.2.2⟩ (by rw [hR]; exact ⟨by show 1 + 1 ≤ F; omega, by show 8 + (2 + 11) + 21 ≤ Lo; omega⟩)) hi (ff23_0 ht) rfl rfl rfl hst hd kk2
  · exact g_callU0 h (mt_X18_ages X.l X.Γ ad i a0 χ Q) ⟨hi, hw.2.1 ht⟩ (fun _ => rfl) (va_cwO 1 hts (lw_O (C := "ChairOld$Old") q1231 q2002 q1140 q2009 q1153 q117 q1155) rfl rfl rfl q1142 ⟨by decide, by decide, hy_X18_ages.2.2⟩ (by rw [hR]; exact ⟨by show 2 + 1 ≤ F; omega, by show 8 + (2 + 11) + 42 ≤ Lo; omega⟩)) hi (ff23_1 ht) rfl rfl rfl hst hd kk2
  · exact g_callU0 h (mt_X17_ages X.l X.Γ ad i a0 χ Q) ⟨hi, hw.2.2.1 ht⟩ (fun _ => rfl) (va_cwU 1 hts (lw_U (C := "ChairOld$Mended") q1231 q2002 q2008 q1140 q116 q1142) rfl rfl rfl rfl ⟨by decide, by decide, hy_X17_ages.2.2⟩ (by rw [hR]; exact ⟨by show 1 + 1 ≤ F; omega, by show 8 + (2 + 11) + 21 ≤ Lo; omega⟩)) hi (ff23_2 ht) rfl rfl rfl hst hd kk2
  · exact g_callU0 h (mt_X17_ages X.l X.Γ ad i a0 χ Q) ⟨hi, hw.2.2.2.1 ht⟩ (fun _ => rfl) (va_cwU 1 hts (lw_U (C := "ChairOld$Aged") q1231 q2002 q2004 q1140 q116 q1142) rfl rfl rfl rfl ⟨by decide, by decide, hy_X17_ages.2.2⟩ (by rw [hR]; exact ⟨by show 1 + 1 ≤ F; omega, by show 8 + (2 + 11) + 21 ≤ Lo; omega⟩)) hi (ff23_3 ht) rfl rfl rfl hst hd kk2
  · exact g_callU0 h (mt_X18_ages X.l X.Γ ad i a0 χ Q) ⟨hi, hw.2.2.2.2.1 ht⟩ (fun _ => rfl) (va_cwO 1 hts (lw_O (C := "ChairOld$Split") q1231 q2002 q1140 q2011 q1153 q117 q1155) rfl rfl rfl q1142 ⟨by decide, by decide, hy_X18_ages.2.2⟩ (by rw [hR]; exact ⟨by show 2 + 1 ≤ F; omega, by show 8 + (2 + 11) + 42 ≤ Lo; omega⟩)) hi (ff23_4 ht) rfl rfl rfl hst hd kk2
  · exact g_callU0 h (mt_X17_ages X.l X.Γ ad i a0 χ Q) ⟨hi, hw.2.2.2.2.2.1 ht⟩ (fun _ => rfl) (va_cwU 1 hts (lw_U (C := "ChairOld$Cut") q1231 q2002 q2005 q1140 q116 q1142) rfl rfl rfl rfl ⟨by decide, by decide, hy_X17_ages.2.2⟩ (by rw [hR]; exact ⟨by show 1 + 1 ≤ F; omega, by show 8 + (2 + 11) + 21 ≤ Lo; omega⟩)) hi (ff23_5 ht) rfl rfl rfl hst hd kk2
  · exact g_callU0 h (mt_X23_ages X.l X.Γ ad i a0 χ Q) ⟨hi, hw.2.2.2.2.2.2.1 ht⟩ (fun _ => rfl) (va_cwO 1 hts (lw_O (C := "ChairOld$Fresh") q1231 q2002 q1140 q2007 q1161 q122 q1163) rfl rfl rfl q1142 ⟨by decide, by decide, hy_X23_ages.2.2⟩ (by rw [hR]; exact ⟨by show 2 + 1 ≤ F; omega, by show 8 + (2 + 11) + 42 ≤ Lo; omega⟩)) hi (ff23_6 ht) rfl rfl rfl hst hd kk2
  · exact g_callU0 h (mt_X18_ages X.l X.Γ ad i a0 χ Q) ⟨hi, hw.2.2.2.2.2.2.2 ht⟩ (fun _ => rfl) (va_cwO 1 hts (lw_O (C := "ChairOld$Foreign") q1231 q2002 q1140 q2006 q1153 q117 q1155) rfl rfl rfl q1142 ⟨by decide, by decide, hy_X18_ages.2.2⟩ (by rw [hR]; exact ⟨by show 2 + 1 ≤ F; omega, by show 8 + (2 + 11) + 42 ≤ Lo; omega⟩)) hi (ff23_7 ht) rfl rfl rfl hst hd kk2
def w_X17_joins (x0 : Nat) (x1 : Int32) (χ : St) (Q : Int32 → St → Prop) : Prop := (tg χ 23 x0 = 0 ∨ tg χ 23 x0 = 1 ∨ tg χ 23 x0 = 2 ∨ tg χ 23 x0 = 3 ∨ tg χ 23 x0 = 4 ∨ tg χ 23 x0 = 5 ∨ tg χ 23 x0 = 6 ∨ tg χ 23 x0 = 7) ∧ ((gR χ 2401 x0 0 = some 0) ∧ ((w_C_ran (10 : Int32) χ (fun χ2 => (tg χ2 23 x0 = 0 ∨ tg χ2 23 x0 = 1 ∨ tg χ2 23 x0 = 2 ∨ tg χ2 23 x0 = 3 ∨ tg χ2 23 x0 = 4 ∨ tg χ2 23 x0 = 5 ∨ tg χ2 23 x0 = 6 ∨ tg χ2 23 x0 = 7) ∧ ((w_D_ages x0 x1 χ2 (fun r3 χ4 => (Q (r3 * (2 : Int32)) χ4))))))))
set_option maxHeartbeats 4000000 in
theorem mt_X17_joins (l : Launch) (Γ : Gh) (ad : Nat → Nat → Nat) (x0 : Nat) (x1 : Int32) (χ : St) (Q : Int32 → St → Prop) : Mt l yX17_joins (ws_ yX17_joins cX17_joins 2 (some .int)) (rmO (3) (63) χ) (Pm Γ ad χ [.ref (ad 23 x0), .int x1] (x0 < cn χ 23 ∧ w_X17_joins x0 x1 χ Q)) (Qm Γ true ad χ (pI Q)) (frB Γ) := by
  refine Mt.start (by decide) RX17 rfl (Nat.le_of_ble_eq_true rfl) ?_
  intro X hX hG _ _ hna _ ⟨hv0, hf⟩
  unfold w_X17_joins at hf
  refine g_aload_n hX 0 dX17_joins_0 rfl rfl ?_
  have hg1 := hf.1
  replace hf := hf.2
  refine g_hthis_Plain hX hv0 hg1 q1034 dX17_joins_1 hf.1 (fun _ => ?_)
  replace hf := hf.2
  refine g_bipush hX (v := (10 : Int32)) dX17_joins_4 rfl ?_
  refine g_callVNv hX (n := 1) (mt_C_ran X.l X.Γ _ _ _ _) hf q1143 q1145 qs42 q85 q1146 hy_C_ran (by decide) (fc0 _) ff0 rfl rfl rfl (Nat.le_of_ble_eq_true rfl) dX17_joins_6 (fun χ2 hf hc2 => ?_)
  refine g_aload_n hX 0 dX17_joins_9 rfl rfl ?_
  refine g_iload_n hX 1 dX17_joins_10 rfl rfl ?_
  have hg5 := hf.1
  replace hf := hf.2
  refine gs_X17_joins_11 hX hf hg5 (by decide) (Nat.lt_of_lt_of_le hv0 (hc2 23)) (Nat.le_of_ble_eq_true rfl) dX17_joins_11 (fun r3 χ4 hf hc4 => ?_)
  refine g_iconst hX (v := (2 : Int32)) dX17_joins_14 rfl ?_
  refine g_imul hX dX17_joins_15 ?_
  exact g_iret hX ⟨_, rfl, hf⟩ dX17_joins_16

set_option maxHeartbeats 4000000 in
theorem gs_X19_joins_11 {X : Cx} {cc : ByteArray} {ret : Option FieldType} {y0 : MethodName} {nL F Lo : Nat} {Pst : Option Value → (Nat → Nat → Nat) → St → Prop} {ad : Nat → Nat → Nat} {χ : St} {pc i : Nat} {lv : List (Nat × Value)} {st : List Value} {a0 : Int32} {Q : Int32 → St → Prop} (h : Ok X cc RX19 ret y0 nL F Lo Pst) (hw : w_X17_joins i a0 χ Q) (ht : tg χ 23 i = 2 ∨ tg χ 23 i = 3 ∨ tg χ 23 i = 5) (hF : 4 ≤ F ∧ 84 ≤ Lo) (hi : i < cn χ 23) (hst : (st.map fun v => v.category).sum ≤ 8) (hd : decode cc pc = .ok (.invokespecial 23, 3)) (kk : ∀ r χ', Q r χ' → (∀ c, cn χ c ≤ cn χ' c) → G X ad χ' (pc + 3) lv (.int r :: st)) : G X ad χ pc lv (.int a0 :: .ref (ad 23 i) :: st) := by
  have hts := h.2.2.2.2.2.2.1
  have hR := h.2.2.2.2.2.2.2.2.1
  have kk2 : ∀ v ad' χ', pI Q v ad' χ' → (true = true → ad' = ad) → Ext χ χ' ad ad' → G X ad' χ' (pc + 3) lv (v.toList ++ st) := fun v ad' χ' hP hna hE => by
    obtain ⟨r, rfl, hf⟩ := hP
    obtain rfl := hna rfl
    exact kk r χ' hf hE.2
  rcases ht with ht | ht | ht
  · exact g_callSU0 h (mt_X17_joins X.l X.Γ ad i a0 χ Q) ⟨hi, hw⟩ (fun _ => rfl) q1200 q1191 q1053 q1189 q116 q1230 ⟨by decide, hy_X17_joins.2.2⟩ ⟨by omega, by omega⟩ hi (ff23_2 ht) rfl rfl rfl hst hd kk2
  · exact g_callSU0 h (mt_X17_joins X.l X.Γ ad i a0 χ Q) ⟨hi, hw⟩ (fun _ => rfl) q1200 q1191 q1053 q1189 q116 q1230 ⟨by decide, hy_X17_joins.2.2⟩ ⟨by omega, by omega⟩ hi (ff23_3 ht) rfl rfl rfl hst hd kk2
  · exact g_callSU0 h (mt_X17_joins X.l X.Γ ad i a0 χ Q) ⟨hi, hw⟩ (fun _ => rfl) q1200 q1191 q1053 q1189 q116 q1230 ⟨by decide, hy_X17_joins.2.2⟩ ⟨by omega, by omega⟩ hi (ff23_5 ht) rfl rfl rfl hst hd kk2
def w_X19_joins (x0 : Nat) (x1 : Int32) (χ : St) (Q : Int32 → St → Prop) : Prop := (tg χ 23 x0 = 2 ∨ tg χ 23 x0 = 3 ∨ tg χ 23 x0 = 5) ∧ ((gR χ 2403 x0 0 = some 0) ∧ ((w_C_ran (30 : Int32) χ (fun χ2 => (tg χ2 23 x0 = 2 ∨ tg χ2 23 x0 = 3 ∨ tg χ2 23 x0 = 5) ∧ ((w_X17_joins x0 x1 χ2 (fun r3 χ4 => (Q (-r3) χ4))))))))
set_option maxHeartbeats 4000000 in
theorem mt_X19_joins (l : Launch) (Γ : Gh) (ad : Nat → Nat → Nat) (x0 : Nat) (x1 : Int32) (χ : St) (Q : Int32 → St → Prop) : Mt l yX19_joins (ws_ yX19_joins cX19_joins 2 (some .int)) (rmO (4) (84) χ) (Pm Γ ad χ [.ref (ad 23 x0), .int x1] (x0 < cn χ 23 ∧ w_X19_joins x0 x1 χ Q)) (Qm Γ true ad χ (pI Q)) (frB Γ) := by
  refine Mt.start (by decide) RX19 rfl (Nat.le_of_ble_eq_true rfl) ?_
  intro X hX hG _ _ hna _ ⟨hv0, hf⟩
  unfold w_X19_joins at hf
  refine g_aload_n hX 0 dX19_joins_0 rfl rfl ?_
  have hg1 := hf.1
  replace hf := hf.2
  refine g_hthis_Mended hX hv0 hg1 q1048 dX19_joins_1 hf.1 (fun _ => ?_)
  replace hf := hf.2
  refine g_bipush hX (v := (30 : Int32)) dX19_joins_4 rfl ?_
  refine g_callVNv hX (n := 1) (mt_C_ran X.l X.Γ _ _ _ _) hf q1199 q1145 qs42 q85 q1146 hy_C_ran (by decide) (fc0 _) ff0 rfl rfl rfl (Nat.le_of_ble_eq_true rfl) dX19_joins_6 (fun χ2 hf hc2 => ?_)
  refine g_aload_n hX 0 dX19_joins_9 rfl rfl ?_
  refine g_iload_n hX 1 dX19_joins_10 rfl rfl ?_
  have hg5 := hf.1
  replace hf := hf.2
  refine gs_X19_joins_11 hX hf hg5 (by decide) (Nat.lt_of_lt_of_le hv0 (hc2 23)) (Nat.le_of_ble_eq_true rfl) dX19_joins_11 (fun r3 χ4 hf hc4 => ?_)
  refine g_ineg hX dX19_joins_14 ?_
  exact g_iret hX ⟨_, rfl, hf⟩ dX19_joins_15

set_option maxHeartbeats 4000000 in
theorem gs_X20_joins_13 {X : Cx} {cc : ByteArray} {ret : Option FieldType} {y0 : MethodName} {nL F Lo : Nat} {Pst : Option Value → (Nat → Nat → Nat) → St → Prop} {ad : Nat → Nat → Nat} {χ : St} {pc i : Nat} {lv : List (Nat × Value)} {st : List Value} {a0 : Int32} {Q : Int32 → St → Prop} (h : Ok X cc RX20 ret y0 nL F Lo Pst) (hw : w_X19_joins i a0 χ Q) (ht : tg χ 23 i = 3 ∨ tg χ 23 i = 5) (hF : 5 ≤ F ∧ 105 ≤ Lo) (hi : i < cn χ 23) (hst : (st.map fun v => v.category).sum ≤ 8) (hd : decode cc pc = .ok (.invokespecial 27, 3)) (kk : ∀ r χ', Q r χ' → (∀ c, cn χ c ≤ cn χ' c) → G X ad χ' (pc + 3) lv (.int r :: st)) : G X ad χ pc lv (.int a0 :: .ref (ad 23 i) :: st) := by
  have hts := h.2.2.2.2.2.2.1
  have hR := h.2.2.2.2.2.2.2.2.1
  have kk2 : ∀ v ad' χ', pI Q v ad' χ' → (true = true → ad' = ad) → Ext χ χ' ad ad' → G X ad' χ' (pc + 3) lv (v.toList ++ st) := fun v ad' χ' hP hna hE => by
    obtain ⟨r, rfl, hf⟩ := hP
    obtain rfl := hna rfl
    exact kk r χ' hf hE.2
  rcases ht with ht | ht
  · exact g_callSU0 h (mt_X19_joins X.l X.Γ ad i a0 χ Q) ⟨hi, hw⟩ (fun _ => rfl) q1196 q2003 q1066 q1197 q118 q1198 ⟨by decide, hy_X19_joins.2.2⟩ ⟨by omega, by omega⟩ hi (ff23_3 ht) rfl rfl rfl hst hd kk2
  · exact g_callSU0 h (mt_X19_joins X.l X.Γ ad i a0 χ Q) ⟨hi, hw⟩ (fun _ => rfl) q1196 q2003 q1066 q1197 q118 q1198 ⟨by decide, hy_X19_joins.2.2⟩ ⟨by omega, by omega⟩ hi (ff23_5 ht) rfl rfl rfl hst hd kk2
def w_X20_joins (x0 : Nat) (x1 : Int32) (χ : St) (Q : Int32 → St → Prop) : Prop := (tg χ 23 x0 = 3 ∨ tg χ 23 x0 = 5) ∧ ((gR χ 2404 x0 0 = some 0) ∧ ((w_C_ran (41 : Int32) χ (fun χ2 => (tg χ2 23 x0 = 3 ∨ tg χ2 23 x0 = 5) ∧ ((w_X19_joins x0 (x1 + (1 : Int32)) χ2 (fun r3 χ4 => (Q r3 χ4))))))))
set_option maxHeartbeats 4000000 in
theorem mt_X20_joins (l : Launch) (Γ : Gh) (ad : Nat → Nat → Nat) (x0 : Nat) (x1 : Int32) (χ : St) (Q : Int32 → St → Prop) : Mt l yX20_joins (ws_ yX20_joins cX20_joins 2 (some .int)) (rmO (5) (105) χ) (Pm Γ ad χ [.ref (ad 23 x0), .int x1] (x0 < cn χ 23 ∧ w_X20_joins x0 x1 χ Q)) (Qm Γ true ad χ (pI Q)) (frB Γ) := by
  refine Mt.start (by decide) RX20 rfl (Nat.le_of_ble_eq_true rfl) ?_
  intro X hX hG _ _ hna _ ⟨hv0, hf⟩
  unfold w_X20_joins at hf
  refine g_aload_n hX 0 dX20_joins_0 rfl rfl ?_
  have hg1 := hf.1
  replace hf := hf.2
  refine g_hthis_Aged hX hv0 hg1 q1060 dX20_joins_1 hf.1 (fun _ => ?_)
  replace hf := hf.2
  refine g_bipush hX (v := (41 : Int32)) dX20_joins_4 rfl ?_
  refine g_callVNv hX (n := 1) (mt_C_ran X.l X.Γ _ _ _ _) hf q1195 q1145 qs42 q85 q1146 hy_C_ran (by decide) (fc0 _) ff0 rfl rfl rfl (Nat.le_of_ble_eq_true rfl) dX20_joins_6 (fun χ2 hf hc2 => ?_)
  refine g_aload_n hX 0 dX20_joins_9 rfl rfl ?_
  refine g_iload_n hX 1 dX20_joins_10 rfl rfl ?_
  refine g_iconst hX (v := (1 : Int32)) dX20_joins_11 rfl ?_
  refine g_iadd hX dX20_joins_12 ?_
  have hg5 := hf.1
  replace hf := hf.2
  refine gs_X20_joins_13 hX hf hg5 (by decide) (Nat.lt_of_lt_of_le hv0 (hc2 23)) (Nat.le_of_ble_eq_true rfl) dX20_joins_13 (fun r3 χ4 hf hc4 => ?_)
  exact g_iret hX ⟨_, rfl, hf⟩ dX20_joins_16

set_option maxHeartbeats 4000000 in
theorem gs_X24_joins_11 {X : Cx} {cc : ByteArray} {ret : Option FieldType} {y0 : MethodName} {nL F Lo : Nat} {Pst : Option Value → (Nat → Nat → Nat) → St → Prop} {ad : Nat → Nat → Nat} {χ : St} {pc i : Nat} {lv : List (Nat × Value)} {st : List Value} {a0 : Int32} {Q : Int32 → St → Prop} (h : Ok X cc RX24 ret y0 nL F Lo Pst) (hw : w_X17_joins i a0 χ Q) (ht : tg χ 23 i = 7) (hF : 4 ≤ F ∧ 84 ≤ Lo) (hi : i < cn χ 23) (hst : (st.map fun v => v.category).sum ≤ 8) (hd : decode cc pc = .ok (.invokespecial 19, 3)) (kk : ∀ r χ', Q r χ' → (∀ c, cn χ c ≤ cn χ' c) → G X ad χ' (pc + 3) lv (.int r :: st)) : G X ad χ pc lv (.int a0 :: .ref (ad 23 i) :: st) := by
  have hts := h.2.2.2.2.2.2.1
  have hR := h.2.2.2.2.2.2.2.2.1
  have kk2 : ∀ v ad' χ', pI Q v ad' χ' → (true = true → ad' = ad) → Ext χ χ' ad ad' → G X ad' χ' (pc + 3) lv (v.toList ++ st) := fun v ad' χ' hP hna hE => by
    obtain ⟨r, rfl, hf⟩ := hP
    obtain rfl := hna rfl
    exact kk r χ' hf hE.2
  exact g_callSU1 (owner := "ChairOld$Plain") (x := ⟨"ChairOld$Split", "joins", "(I)I"⟩) h (mt_X17_joins X.l X.Γ ad i a0 χ Q) ⟨hi, hw⟩ (fun _ => rfl) q1206 q1207 q1119 (sub_w2 (hts _ q1079) (hts _ q1041)) q1189 q116 q1230 ⟨by decide, hy_X17_joins.2.2⟩ ⟨by omega, by omega⟩ hi (ff23_7 ht) rfl rfl rfl hst hd kk2
set_option maxHeartbeats 4000000 in
theorem gs_X24_joins_18 {X : Cx} {cc : ByteArray} {ret : Option FieldType} {y0 : MethodName} {nL F Lo : Nat} {Pst : Option Value → (Nat → Nat → Nat) → St → Prop} {ad : Nat → Nat → Nat} {χ : St} {pc i : Nat} {lv : List (Nat × Value)} {st : List Value} {a0 : Int32} {Q : Int32 → St → Prop} (h : Ok X cc RX24 ret y0 nL F Lo Pst) (hw : w_D_shows i a0 χ Q) (ht : tg χ 23 i = 7) (hF : 4 ≤ F ∧ 85 ≤ Lo) (hi : i < cn χ 23) (hst : (st.map fun v => v.category).sum ≤ 8) (hd : decode cc pc = .ok (.invokevirtual 23, 3)) (kk : ∀ r χ', Q r χ' → (∀ c, cn χ c ≤ cn χ' c) → G X ad χ' (pc + 3) lv (.int r :: st)) : G X ad χ pc lv (.int a0 :: .ref (ad 23 i) :: st) := by
  have hts := h.2.2.2.2.2.2.1
  have hR := h.2.2.2.2.2.2.2.2.1
  have kk2 : ∀ v ad' χ', pI Q v ad' χ' → (true = true → ad' = ad) → Ext χ χ' ad ad' → G X ad' χ' (pc + 3) lv (v.toList ++ st) := fun v ad' χ' hP hna hE => by
    obtain ⟨r, rfl, hf⟩ := hP
    obtain rfl := hna rfl
    exact kk r χ' hf hE.2
  exact g_callU0 h (mt_X21_shows X.l X.Γ ad i a0 χ Q) ⟨hi, hw.2.2.2.2.2.2.2 ht⟩ (fun _ => rfl) (va_cwU 1 hts (lw_U (C := "ChairOld$Foreign") q1209 q1210 q1212 q1213 q120 q1214) rfl rfl rfl rfl ⟨by decide, by decide, hy_X21_shows.2.2⟩ (by rw [hR]; exact ⟨by show 3 + 1 ≤ F; omega, by show 8 + (3 + 11) + 63 ≤ Lo; omega⟩)) hi (ff23_7 ht) rfl rfl rfl hst hd kk2
def w_X24_joins (x0 : Nat) (x1 : Int32) (χ : St) (Q : Int32 → St → Prop) : Prop := (tg χ 23 x0 = 7) ∧ ((gR χ 2408 x0 0 = some 0) ∧ ((w_C_ran (80 : Int32) χ (fun χ2 => (tg χ2 23 x0 = 7) ∧ ((w_X17_joins x0 x1 χ2 (fun r3 χ4 => (tg χ4 23 x0 = 7) ∧ ((w_D_shows x0 (2 : Int32) χ4 (fun r6 χ7 => (Q (r3 + r6) χ7)))))))))))
set_option maxHeartbeats 4000000 in
theorem mt_X24_joins (l : Launch) (Γ : Gh) (ad : Nat → Nat → Nat) (x0 : Nat) (x1 : Int32) (χ : St) (Q : Int32 → St → Prop) : Mt l yX24_joins (ws_ yX24_joins cX24_joins 3 (some .int)) (rmO (4) (85) χ) (Pm Γ ad χ [.ref (ad 23 x0), .int x1] (x0 < cn χ 23 ∧ w_X24_joins x0 x1 χ Q)) (Qm Γ true ad χ (pI Q)) (frB Γ) := by
  refine Mt.start (by decide) RX24 rfl (Nat.le_of_ble_eq_true rfl) ?_
  intro X hX hG _ _ hna _ ⟨hv0, hf⟩
  unfold w_X24_joins at hf
  refine g_aload_n hX 0 dX24_joins_0 rfl rfl ?_
  have hg1 := hf.1
  replace hf := hf.2
  refine g_hthis_Foreign hX hv0 hg1 q1112 dX24_joins_1 hf.1 (fun _ => ?_)
  replace hf := hf.2
  refine g_bipush hX (v := (80 : Int32)) dX24_joins_4 rfl ?_
  refine g_callVNv hX (n := 1) (mt_C_ran X.l X.Γ _ _ _ _) hf q1205 q1145 qs42 q85 q1146 hy_C_ran (by decide) (fc0 _) ff0 rfl rfl rfl (Nat.le_of_ble_eq_true rfl) dX24_joins_6 (fun χ2 hf hc2 => ?_)
  refine g_aload_n hX 0 dX24_joins_9 rfl rfl ?_
  refine g_iload_n hX 1 dX24_joins_10 rfl rfl ?_
  have hg5 := hf.1
  replace hf := hf.2
  refine gs_X24_joins_11 hX hf hg5 (by decide) (Nat.lt_of_lt_of_le hv0 (hc2 23)) (Nat.le_of_ble_eq_true rfl) dX24_joins_11 (fun r3 χ4 hf hc4 => ?_)
  refine g_istore_n hX dX24_joins_14 rfl (by decide) rfl ?_
  refine g_iload_n hX 0 dX24_joins_15 rfl rfl ?_
  refine g_aload_n hX 1 dX24_joins_16 rfl rfl ?_
  refine g_iconst hX (v := (2 : Int32)) dX24_joins_17 rfl ?_
  have hg8 := hf.1
  replace hf := hf.2
  refine gs_X24_joins_18 hX hf hg8 (by decide) (Nat.lt_of_lt_of_le (Nat.lt_of_lt_of_le hv0 (hc2 23)) (hc4 23)) (Nat.le_of_ble_eq_true rfl) dX24_joins_18 (fun r6 χ7 hf hc7 => ?_)
  refine g_iadd hX dX24_joins_21 ?_
  exact g_iret hX ⟨_, rfl, hf⟩ dX24_joins_22

def w_D_joins (i : Nat) (a0 : Int32) (χ : St) (Q : Int32 → St → Prop) : Prop := (tg χ 23 i = 0 → w_X17_joins i a0 χ Q) ∧ (tg χ 23 i = 1 → w_X17_joins i a0 χ Q) ∧ (tg χ 23 i = 2 → w_X19_joins i a0 χ Q) ∧ (tg χ 23 i = 3 → w_X20_joins i a0 χ Q) ∧ (tg χ 23 i = 4 → w_X17_joins i a0 χ Q) ∧ (tg χ 23 i = 5 → w_X20_joins i a0 χ Q) ∧ (tg χ 23 i = 6 → w_X17_joins i a0 χ Q) ∧ (tg χ 23 i = 7 → w_X24_joins i a0 χ Q)

set_option maxHeartbeats 4000000 in
theorem gs_X17_tells_10 {X : Cx} {cc : ByteArray} {ret : Option FieldType} {y0 : MethodName} {nL F Lo : Nat} {Pst : Option Value → (Nat → Nat → Nat) → St → Prop} {ad : Nat → Nat → Nat} {χ : St} {pc i : Nat} {lv : List (Nat × Value)} {st : List Value} {a0 : Int32} {Q : Int32 → St → Prop} (h : Ok X cc RX17 ret y0 nL F Lo Pst) (hw : w_D_joins i a0 χ Q) (ht : tg χ 23 i = 0 ∨ tg χ 23 i = 1 ∨ tg χ 23 i = 2 ∨ tg χ 23 i = 3 ∨ tg χ 23 i = 4 ∨ tg χ 23 i = 5 ∨ tg χ 23 i = 6 ∨ tg χ 23 i = 7) (hF : 6 ≤ F ∧ 126 ≤ Lo) (hi : i < cn χ 23) (hst : (st.map fun v => v.category).sum ≤ 8) (hd : decode cc pc = .ok (.invokevirtual 31, 3)) (kk : ∀ r χ', Q r χ' → (∀ c, cn χ c ≤ cn χ' c) → G X ad χ' (pc + 3) lv (.int r :: st)) : G X ad χ pc lv (.int a0 :: .ref (ad 23 i) :: st) := by
  have hts := h.2.2.2.2.2.2.1
  have hR := h.2.2.2.2.2.2.2.2.1
  have kk2 : ∀ v ad' χ', pI Q v ad' χ' → (true = true → ad' = ad) → Ext χ χ' ad ad' → G X ad' χ' (pc + 3) lv (v.toList ++ st) := fun v ad' χ' hP hna hE => by
    obtain ⟨r, rfl, hf⟩ := hP
    obtain rfl := hna rfl
    exact kk r χ' hf hE.2
  rcases ht with ht | ht | ht | ht | ht | ht | ht | ht
  · exact g_callU0 h (mt_X17_joins X.l X.Γ ad i a0 χ Q) ⟨hi, hw.1 ht⟩ (fun _ => rfl) (va_cwU 1 hts (lw_U (C := "ChairOld$Plain") q1188 q1191 q1190 q1189 q116 q1230) rfl rfl rfl rfl ⟨by decide, by decide, hy_X17_joins.2.2⟩ (by rw [hR]; exact ⟨by show 3 + 1 ≤ F; omega, by show 8 + (2 + 11) + 63 ≤ Lo; omega⟩)) hi (ff23_0 ht) rfl rfl rfl hst hd kk2
  · exact g_callU0 h (mt_X17_joins X.l X.Γ ad i a0 χ Q) ⟨hi, hw.2.1 ht⟩ (fun _ => rfl) (va_cwU 1 hts (lw_U (C := "ChairOld$Old") q1188 q1191 q1228 q1189 q116 q1230) rfl rfl rfl rfl ⟨by decide, by decide, hy_X17_joins.2.2⟩ (by rw [hR]; exact ⟨by show 3 + 1 ≤ F; omega, by show 8 + (2 + 11) + 63 ≤ Lo; omega⟩)) hi (ff23_1 ht) rfl rfl rfl hst hd kk2
  · exact g_callU0 h (mt_X19_joins X.l X.Γ ad i a0 χ Q) ⟨hi, hw.2.2.1 ht⟩ (fun _ => rfl) (va_cwO 1 hts (lw_O (C := "ChairOld$Mended") q1188 q1191 q1189 q1227 q1197 q118 q1198) rfl rfl rfl q1230 ⟨by decide, by decide, hy_X19_joins.2.2⟩ (by rw [hR]; exact ⟨by show 4 + 1 ≤ F; omega, by show 8 + (2 + 11) + 84 ≤ Lo; omega⟩)) hi (ff23_2 ht) rfl rfl rfl hst hd kk2
  · exact g_callU0 h (mt_X20_joins X.l X.Γ ad i a0 χ Q) ⟨hi, hw.2.2.2.1 ht⟩ (fun _ => rfl) (va_cwO 1 hts (lw_O (C := "ChairOld$Aged") q1188 q1191 q1189 q1192 q1193 q119 q1194) rfl rfl rfl q1230 ⟨by decide, by decide, hy_X20_joins.2.2⟩ (by rw [hR]; exact ⟨by show 5 + 1 ≤ F; omega, by show 8 + (2 + 11) + 105 ≤ Lo; omega⟩)) hi (ff23_3 ht) rfl rfl rfl hst hd kk2
  · exact g_callU0 h (mt_X17_joins X.l X.Γ ad i a0 χ Q) ⟨hi, hw.2.2.2.2.1 ht⟩ (fun _ => rfl) (va_cwU 1 hts (lw_U (C := "ChairOld$Split") q1188 q1191 q1229 q1189 q116 q1230) rfl rfl rfl rfl ⟨by decide, by decide, hy_X17_joins.2.2⟩ (by rw [hR]; exact ⟨by show 3 + 1 ≤ F; omega, by show 8 + (2 + 11) + 63 ≤ Lo; omega⟩)) hi (ff23_4 ht) rfl rfl rfl hst hd kk2
  · exact g_callU0 h (mt_X20_joins X.l X.Γ ad i a0 χ Q) ⟨hi, hw.2.2.2.2.2.1 ht⟩ (fun _ => rfl) (va_cwO 1 hts (lw_O (C := "ChairOld$Cut") q1188 q1191 q1189 q1201 q1193 q119 q1194) rfl rfl rfl q1230 ⟨by decide, by decide, hy_X20_joins.2.2⟩ (by rw [hR]; exact ⟨by show 5 + 1 ≤ F; omega, by show 8 + (2 + 11) + 105 ≤ Lo; omega⟩)) hi (ff23_5 ht) rfl rfl rfl hst hd kk2
  · exact g_callU0 h (mt_X17_joins X.l X.Γ ad i a0 χ Q) ⟨hi, hw.2.2.2.2.2.2.1 ht⟩ (fun _ => rfl) (va_cwU 1 hts (lw_U (C := "ChairOld$Fresh") q1188 q1191 q1226 q1189 q116 q1230) rfl rfl rfl rfl ⟨by decide, by decide, hy_X17_joins.2.2⟩ (by rw [hR]; exact ⟨by show 3 + 1 ≤ F; omega, by show 8 + (2 + 11) + 63 ≤ Lo; omega⟩)) hi (ff23_6 ht) rfl rfl rfl hst hd kk2
  · exact g_callU0 h (mt_X24_joins X.l X.Γ ad i a0 χ Q) ⟨hi, hw.2.2.2.2.2.2.2 ht⟩ (fun _ => rfl) (va_cwO 1 hts (lw_O (C := "ChairOld$Foreign") q1188 q1191 q1189 q1202 q1203 q123 q1204) rfl rfl rfl q1230 ⟨by decide, by decide, hy_X24_joins.2.2⟩ (by rw [hR]; exact ⟨by show 4 + 1 ≤ F; omega, by show 8 + (3 + 11) + 85 ≤ Lo; omega⟩)) hi (ff23_7 ht) rfl rfl rfl hst hd kk2
set_option maxHeartbeats 4000000 in
theorem gs_X17_tells_17 {X : Cx} {cc : ByteArray} {ret : Option FieldType} {y0 : MethodName} {nL F Lo : Nat} {Pst : Option Value → (Nat → Nat → Nat) → St → Prop} {ad : Nat → Nat → Nat} {χ : St} {pc i : Nat} {lv : List (Nat × Value)} {st : List Value} {a0 : Int32} {Q : Int32 → St → Prop} (h : Ok X cc RX17 ret y0 nL F Lo Pst) (hw : w_D_shows i a0 χ Q) (ht : tg χ 23 i = 0 ∨ tg χ 23 i = 1 ∨ tg χ 23 i = 2 ∨ tg χ 23 i = 3 ∨ tg χ 23 i = 4 ∨ tg χ 23 i = 5 ∨ tg χ 23 i = 6 ∨ tg χ 23 i = 7) (hF : 4 ≤ F ∧ 85 ≤ Lo) (hi : i < cn χ 23) (hst : (st.map fun v => v.category).sum ≤ 8) (hd : decode cc pc = .ok (.invokevirtual 34, 3)) (kk : ∀ r χ', Q r χ' → (∀ c, cn χ c ≤ cn χ' c) → G X ad χ' (pc + 3) lv (.int r :: st)) : G X ad χ pc lv (.int a0 :: .ref (ad 23 i) :: st) := by
  have hts := h.2.2.2.2.2.2.1
  have hR := h.2.2.2.2.2.2.2.2.1
  have kk2 : ∀ v ad' χ', pI Q v ad' χ' → (true = true → ad' = ad) → Ext χ χ' ad ad' → G X ad' χ' (pc + 3) lv (v.toList ++ st) := fun v ad' χ' hP hna hE => by
    obtain ⟨r, rfl, hf⟩ := hP
    obtain rfl := hna rfl
    exact kk r χ' hf hE.2
  rcases ht with ht | ht | ht | ht | ht | ht | ht | ht
  · exact g_callU0 h (mt_X17_shows X.l X.Γ ad i a0 χ Q) ⟨hi, hw.1 ht⟩ (fun _ => rfl) (va_cwU 1 hts (lw_U (C := "ChairOld$Plain") q1232 q2012 q2019 q1219 q116 q1220) rfl rfl rfl rfl ⟨by decide, by decide, hy_X17_shows.2.2⟩ (by rw [hR]; exact ⟨by show 1 + 1 ≤ F; omega, by show 8 + (2 + 11) + 21 ≤ Lo; omega⟩)) hi (ff23_0 ht) rfl rfl rfl hst hd kk2
  · exact g_callU0 h (mt_X17_shows X.l X.Γ ad i a0 χ Q) ⟨hi, hw.2.1 ht⟩ (fun _ => rfl) (va_cwU 1 hts (lw_U (C := "ChairOld$Old") q1232 q2012 q2018 q1219 q116 q1220) rfl rfl rfl rfl ⟨by decide, by decide, hy_X17_shows.2.2⟩ (by rw [hR]; exact ⟨by show 1 + 1 ≤ F; omega, by show 8 + (2 + 11) + 21 ≤ Lo; omega⟩)) hi (ff23_1 ht) rfl rfl rfl hst hd kk2
  · exact g_callU0 h (mt_X17_shows X.l X.Γ ad i a0 χ Q) ⟨hi, hw.2.2.1 ht⟩ (fun _ => rfl) (va_cwU 1 hts (lw_U (C := "ChairOld$Mended") q1232 q2012 q2017 q1219 q116 q1220) rfl rfl rfl rfl ⟨by decide, by decide, hy_X17_shows.2.2⟩ (by rw [hR]; exact ⟨by show 1 + 1 ≤ F; omega, by show 8 + (2 + 11) + 21 ≤ Lo; omega⟩)) hi (ff23_2 ht) rfl rfl rfl hst hd kk2
  · exact g_callU0 h (mt_X20_shows X.l X.Γ ad i a0 χ Q) ⟨hi, hw.2.2.2.1 ht⟩ (fun _ => rfl) (va_cwO 1 hts (lw_O (C := "ChairOld$Aged") q1232 q2012 q1219 q2013 q1233 q119 q1234) rfl rfl rfl q1220 ⟨by decide, by decide, hy_X20_shows.2.2⟩ (by rw [hR]; exact ⟨by show 2 + 1 ≤ F; omega, by show 8 + (2 + 11) + 42 ≤ Lo; omega⟩)) hi (ff23_3 ht) rfl rfl rfl hst hd kk2
  · exact g_callU0 h (mt_X21_shows X.l X.Γ ad i a0 χ Q) ⟨hi, hw.2.2.2.2.1 ht⟩ (fun _ => rfl) (va_cwO 1 hts (lw_O (C := "ChairOld$Split") q1232 q2012 q1219 q2020 q1213 q120 q1214) rfl rfl rfl q1220 ⟨by decide, by decide, hy_X21_shows.2.2⟩ (by rw [hR]; exact ⟨by show 3 + 1 ≤ F; omega, by show 8 + (3 + 11) + 63 ≤ Lo; omega⟩)) hi (ff23_4 ht) rfl rfl rfl hst hd kk2
  · exact g_callU0 h (mt_X20_shows X.l X.Γ ad i a0 χ Q) ⟨hi, hw.2.2.2.2.2.1 ht⟩ (fun _ => rfl) (va_cwO 1 hts (lw_O (C := "ChairOld$Cut") q1232 q2012 q1219 q2014 q1233 q119 q1234) rfl rfl rfl q1220 ⟨by decide, by decide, hy_X20_shows.2.2⟩ (by rw [hR]; exact ⟨by show 2 + 1 ≤ F; omega, by show 8 + (2 + 11) + 42 ≤ Lo; omega⟩)) hi (ff23_5 ht) rfl rfl rfl hst hd kk2
  · exact g_callU0 h (mt_X17_shows X.l X.Γ ad i a0 χ Q) ⟨hi, hw.2.2.2.2.2.2.1 ht⟩ (fun _ => rfl) (va_cwU 1 hts (lw_U (C := "ChairOld$Fresh") q1232 q2012 q2016 q1219 q116 q1220) rfl rfl rfl rfl ⟨by decide, by decide, hy_X17_shows.2.2⟩ (by rw [hR]; exact ⟨by show 1 + 1 ≤ F; omega, by show 8 + (2 + 11) + 21 ≤ Lo; omega⟩)) hi (ff23_6 ht) rfl rfl rfl hst hd kk2
  · exact g_callU0 h (mt_X21_shows X.l X.Γ ad i a0 χ Q) ⟨hi, hw.2.2.2.2.2.2.2 ht⟩ (fun _ => rfl) (va_cwO 1 hts (lw_O (C := "ChairOld$Foreign") q1232 q2012 q1219 q2015 q1213 q120 q1214) rfl rfl rfl q1220 ⟨by decide, by decide, hy_X21_shows.2.2⟩ (by rw [hR]; exact ⟨by show 3 + 1 ≤ F; omega, by show 8 + (3 + 11) + 63 ≤ Lo; omega⟩)) hi (ff23_7 ht) rfl rfl rfl hst hd kk2
def w_X17_tells (x0 : Nat) (x1 : Int32) (χ : St) (Q : Int32 → St → Prop) : Prop := (tg χ 23 x0 = 0 ∨ tg χ 23 x0 = 1 ∨ tg χ 23 x0 = 2 ∨ tg χ 23 x0 = 3 ∨ tg χ 23 x0 = 4 ∨ tg χ 23 x0 = 5 ∨ tg χ 23 x0 = 6 ∨ tg χ 23 x0 = 7) ∧ ((gR χ 2401 x0 0 = some 0) ∧ ((w_C_ran (2 : Int32) χ (fun χ2 => (tg χ2 23 x0 = 0 ∨ tg χ2 23 x0 = 1 ∨ tg χ2 23 x0 = 2 ∨ tg χ2 23 x0 = 3 ∨ tg χ2 23 x0 = 4 ∨ tg χ2 23 x0 = 5 ∨ tg χ2 23 x0 = 6 ∨ tg χ2 23 x0 = 7) ∧ ((w_D_joins x0 x1 χ2 (fun r3 χ4 => (tg χ4 23 x0 = 0 ∨ tg χ4 23 x0 = 1 ∨ tg χ4 23 x0 = 2 ∨ tg χ4 23 x0 = 3 ∨ tg χ4 23 x0 = 4 ∨ tg χ4 23 x0 = 5 ∨ tg χ4 23 x0 = 6 ∨ tg χ4 23 x0 = 7) ∧ ((w_D_shows x0 (1 : Int32) χ4 (fun r6 χ7 => (Q (r3 - r6) χ7)))))))))))
set_option maxHeartbeats 4000000 in
theorem mt_X17_tells (l : Launch) (Γ : Gh) (ad : Nat → Nat → Nat) (x0 : Nat) (x1 : Int32) (χ : St) (Q : Int32 → St → Prop) : Mt l yX17_tells (ws_ yX17_tells cX17_tells 3 (some .int)) (rmO (6) (126) χ) (Pm Γ ad χ [.ref (ad 23 x0), .int x1] (x0 < cn χ 23 ∧ w_X17_tells x0 x1 χ Q)) (Qm Γ true ad χ (pI Q)) (frB Γ) := by
  refine Mt.start (by decide) RX17 rfl (Nat.le_of_ble_eq_true rfl) ?_
  intro X hX hG _ _ hna _ ⟨hv0, hf⟩
  unfold w_X17_tells at hf
  refine g_aload_n hX 0 dX17_tells_0 rfl rfl ?_
  have hg1 := hf.1
  replace hf := hf.2
  refine g_hthis_Plain hX hv0 hg1 q1034 dX17_tells_1 hf.1 (fun _ => ?_)
  replace hf := hf.2
  refine g_iconst hX (v := (2 : Int32)) dX17_tells_4 rfl ?_
  refine g_callVNv hX (n := 1) (mt_C_ran X.l X.Γ _ _ _ _) hf q1143 q1145 qs42 q85 q1146 hy_C_ran (by decide) (fc0 _) ff0 rfl rfl rfl (Nat.le_of_ble_eq_true rfl) dX17_tells_5 (fun χ2 hf hc2 => ?_)
  refine g_aload_n hX 0 dX17_tells_8 rfl rfl ?_
  refine g_iload_n hX 1 dX17_tells_9 rfl rfl ?_
  have hg5 := hf.1
  replace hf := hf.2
  refine gs_X17_tells_10 hX hf hg5 (by decide) (Nat.lt_of_lt_of_le hv0 (hc2 23)) (Nat.le_of_ble_eq_true rfl) dX17_tells_10 (fun r3 χ4 hf hc4 => ?_)
  refine g_istore_n hX dX17_tells_13 rfl (by decide) rfl ?_
  refine g_iload_n hX 0 dX17_tells_14 rfl rfl ?_
  refine g_aload_n hX 1 dX17_tells_15 rfl rfl ?_
  refine g_iconst hX (v := (1 : Int32)) dX17_tells_16 rfl ?_
  have hg8 := hf.1
  replace hf := hf.2
  refine gs_X17_tells_17 hX hf hg8 (by decide) (Nat.lt_of_lt_of_le (Nat.lt_of_lt_of_le hv0 (hc2 23)) (hc4 23)) (Nat.le_of_ble_eq_true rfl) dX17_tells_17 (fun r6 χ7 hf hc7 => ?_)
  refine g_isub hX dX17_tells_20 ?_
  exact g_iret hX ⟨_, rfl, hf⟩ dX17_tells_21

set_option maxHeartbeats 4000000 in
theorem gs_X22_tells_11 {X : Cx} {cc : ByteArray} {ret : Option FieldType} {y0 : MethodName} {nL F Lo : Nat} {Pst : Option Value → (Nat → Nat → Nat) → St → Prop} {ad : Nat → Nat → Nat} {χ : St} {pc i : Nat} {lv : List (Nat × Value)} {st : List Value} {a0 : Int32} {Q : Int32 → St → Prop} (h : Ok X cc RX22 ret y0 nL F Lo Pst) (hw : w_X17_tells i a0 χ Q) (ht : tg χ 23 i = 5) (hF : 7 ≤ F ∧ 148 ≤ Lo) (hi : i < cn χ 23) (hst : (st.map fun v => v.category).sum ≤ 8) (hd : decode cc pc = .ok (.invokespecial 19, 3)) (kk : ∀ r χ', Q r χ' → (∀ c, cn χ c ≤ cn χ' c) → G X ad χ' (pc + 3) lv (.int r :: st)) : G X ad χ pc lv (.int a0 :: .ref (ad 23 i) :: st) := by
  have hts := h.2.2.2.2.2.2.1
  have hR := h.2.2.2.2.2.2.2.2.1
  have kk2 : ∀ v ad' χ', pI Q v ad' χ' → (true = true → ad' = ad) → Ext χ χ' ad ad' → G X ad' χ' (pc + 3) lv (v.toList ++ st) := fun v ad' χ' hP hna hE => by
    obtain ⟨r, rfl, hf⟩ := hP
    obtain rfl := hna rfl
    exact kk r χ' hf hE.2
  exact g_callSU1 (owner := "ChairOld$Plain") (x := ⟨"ChairOld$Aged", "tells", "(I)I"⟩) h (mt_X17_tells X.l X.Γ ad i a0 χ Q) ⟨hi, hw⟩ (fun _ => rfl) q1244 q1245 q1093 (sub_w2 (hts _ q1066) (hts _ q1053)) q1185 q116 q1187 ⟨by decide, hy_X17_tells.2.2⟩ ⟨by omega, by omega⟩ hi (ff23_5 ht) rfl rfl rfl hst hd kk2
def w_X22_tells (x0 : Nat) (x1 : Int32) (χ : St) (Q : Int32 → St → Prop) : Prop := (tg χ 23 x0 = 5) ∧ ((gR χ 2406 x0 0 = some 0) ∧ ((w_C_ran (60 : Int32) χ (fun χ2 => (tg χ2 23 x0 = 5) ∧ ((w_X17_tells x0 x1 χ2 (fun r3 χ4 => (Q (r3 ^^^ (5 : Int32)) χ4))))))))
set_option maxHeartbeats 4000000 in
theorem mt_X22_tells (l : Launch) (Γ : Gh) (ad : Nat → Nat → Nat) (x0 : Nat) (x1 : Int32) (χ : St) (Q : Int32 → St → Prop) : Mt l yX22_tells (ws_ yX22_tells cX22_tells 2 (some .int)) (rmO (7) (148) χ) (Pm Γ ad χ [.ref (ad 23 x0), .int x1] (x0 < cn χ 23 ∧ w_X22_tells x0 x1 χ Q)) (Qm Γ true ad χ (pI Q)) (frB Γ) := by
  refine Mt.start (by decide) RX22 rfl (Nat.le_of_ble_eq_true rfl) ?_
  intro X hX hG _ _ hna _ ⟨hv0, hf⟩
  unfold w_X22_tells at hf
  refine g_aload_n hX 0 dX22_tells_0 rfl rfl ?_
  have hg1 := hf.1
  replace hf := hf.2
  refine g_hthis_Cut hX hv0 hg1 q1086 dX22_tells_1 hf.1 (fun _ => ?_)
  replace hf := hf.2
  refine g_bipush hX (v := (60 : Int32)) dX22_tells_4 rfl ?_
  refine g_callVNv hX (n := 1) (mt_C_ran X.l X.Γ _ _ _ _) hf q1243 q1145 qs42 q85 q1146 hy_C_ran (by decide) (fc0 _) ff0 rfl rfl rfl (Nat.le_of_ble_eq_true rfl) dX22_tells_6 (fun χ2 hf hc2 => ?_)
  refine g_aload_n hX 0 dX22_tells_9 rfl rfl ?_
  refine g_iload_n hX 1 dX22_tells_10 rfl rfl ?_
  have hg5 := hf.1
  replace hf := hf.2
  refine gs_X22_tells_11 hX hf hg5 (by decide) (Nat.lt_of_lt_of_le hv0 (hc2 23)) (Nat.le_of_ble_eq_true rfl) dX22_tells_11 (fun r3 χ4 hf hc4 => ?_)
  refine g_iconst hX (v := (5 : Int32)) dX22_tells_14 rfl ?_
  refine g_ixor hX dX22_tells_15 ?_
  exact g_iret hX ⟨_, rfl, hf⟩ dX22_tells_16

set_option maxHeartbeats 4000000 in
theorem gs_X24_tells_11 {X : Cx} {cc : ByteArray} {ret : Option FieldType} {y0 : MethodName} {nL F Lo : Nat} {Pst : Option Value → (Nat → Nat → Nat) → St → Prop} {ad : Nat → Nat → Nat} {χ : St} {pc i : Nat} {lv : List (Nat × Value)} {st : List Value} {a0 : Int32} {Q : Int32 → St → Prop} (h : Ok X cc RX24 ret y0 nL F Lo Pst) (hw : w_X17_tells i a0 χ Q) (ht : tg χ 23 i = 7) (hF : 7 ≤ F ∧ 148 ≤ Lo) (hi : i < cn χ 23) (hst : (st.map fun v => v.category).sum ≤ 8) (hd : decode cc pc = .ok (.invokespecial 26, 3)) (kk : ∀ r χ', Q r χ' → (∀ c, cn χ c ≤ cn χ' c) → G X ad χ' (pc + 3) lv (.int r :: st)) : G X ad χ pc lv (.int a0 :: .ref (ad 23 i) :: st) := by
  have hts := h.2.2.2.2.2.2.1
  have hR := h.2.2.2.2.2.2.2.2.1
  have kk2 : ∀ v ad' χ', pI Q v ad' χ' → (true = true → ad' = ad) → Ext χ χ' ad ad' → G X ad' χ' (pc + 3) lv (v.toList ++ st) := fun v ad' χ' hP hna hE => by
    obtain ⟨r, rfl, hf⟩ := hP
    obtain rfl := hna rfl
    exact kk r χ' hf hE.2
  exact g_callSU1 (owner := "ChairOld$Plain") (x := ⟨"ChairOld$Split", "tells", "(I)I"⟩) h (mt_X17_tells X.l X.Γ ad i a0 χ Q) ⟨hi, hw⟩ (fun _ => rfl) q1253 q1254 q1119 (sub_w2 (hts _ q1079) (hts _ q1041)) q1185 q116 q1187 ⟨by decide, hy_X17_tells.2.2⟩ ⟨by omega, by omega⟩ hi (ff23_7 ht) rfl rfl rfl hst hd kk2
def w_X24_tells (x0 : Nat) (x1 : Int32) (χ : St) (Q : Int32 → St → Prop) : Prop := (tg χ 23 x0 = 7) ∧ ((gR χ 2408 x0 0 = some 0) ∧ ((w_C_ran (81 : Int32) χ (fun χ2 => (tg χ2 23 x0 = 7) ∧ ((w_X17_tells x0 x1 χ2 (fun r3 χ4 => (Q (r3 - (1 : Int32)) χ4))))))))
set_option maxHeartbeats 4000000 in
theorem mt_X24_tells (l : Launch) (Γ : Gh) (ad : Nat → Nat → Nat) (x0 : Nat) (x1 : Int32) (χ : St) (Q : Int32 → St → Prop) : Mt l yX24_tells (ws_ yX24_tells cX24_tells 2 (some .int)) (rmO (7) (148) χ) (Pm Γ ad χ [.ref (ad 23 x0), .int x1] (x0 < cn χ 23 ∧ w_X24_tells x0 x1 χ Q)) (Qm Γ true ad χ (pI Q)) (frB Γ) := by
  refine Mt.start (by decide) RX24 rfl (Nat.le_of_ble_eq_true rfl) ?_
  intro X hX hG _ _ hna _ ⟨hv0, hf⟩
  unfold w_X24_tells at hf
  refine g_aload_n hX 0 dX24_tells_0 rfl rfl ?_
  have hg1 := hf.1
  replace hf := hf.2
  refine g_hthis_Foreign hX hv0 hg1 q1112 dX24_tells_1 hf.1 (fun _ => ?_)
  replace hf := hf.2
  refine g_bipush hX (v := (81 : Int32)) dX24_tells_4 rfl ?_
  refine g_callVNv hX (n := 1) (mt_C_ran X.l X.Γ _ _ _ _) hf q1205 q1145 qs42 q85 q1146 hy_C_ran (by decide) (fc0 _) ff0 rfl rfl rfl (Nat.le_of_ble_eq_true rfl) dX24_tells_6 (fun χ2 hf hc2 => ?_)
  refine g_aload_n hX 0 dX24_tells_9 rfl rfl ?_
  refine g_iload_n hX 1 dX24_tells_10 rfl rfl ?_
  have hg5 := hf.1
  replace hf := hf.2
  refine gs_X24_tells_11 hX hf hg5 (by decide) (Nat.lt_of_lt_of_le hv0 (hc2 23)) (Nat.le_of_ble_eq_true rfl) dX24_tells_11 (fun r3 χ4 hf hc4 => ?_)
  refine g_iconst hX (v := (1 : Int32)) dX24_tells_14 rfl ?_
  refine g_isub hX dX24_tells_15 ?_
  exact g_iret hX ⟨_, rfl, hf⟩ dX24_tells_16

def w_D_tells (i : Nat) (a0 : Int32) (χ : St) (Q : Int32 → St → Prop) : Prop := (tg χ 23 i = 0 → w_X17_tells i a0 χ Q) ∧ (tg χ 23 i = 1 → w_X17_tells i a0 χ Q) ∧ (tg χ 23 i = 2 → w_X17_tells i a0 χ Q) ∧ (tg χ 23 i = 3 → w_X17_tells i a0 χ Q) ∧ (tg χ 23 i = 4 → w_X17_tells i a0 χ Q) ∧ (tg χ 23 i = 5 → w_X22_tells i a0 χ Q) ∧ (tg χ 23 i = 6 → w_X17_tells i a0 χ Q) ∧ (tg χ 23 i = 7 → w_X24_tells i a0 χ Q)

def w_X17_kind (x0 : Nat) (χ : St) (Q : Int32 → St → Prop) : Prop := (Q (0 : Int32) χ)
set_option maxHeartbeats 4000000 in
theorem mt_X17_kind (l : Launch) (Γ : Gh) (ad : Nat → Nat → Nat) (x0 : Nat) (χ : St) (Q : Int32 → St → Prop) : Mt l yX17_kind (ws_ yX17_kind cX17_kind 1 (some .int)) (rmO (0) (0) χ) (Pm Γ ad χ [.ref (ad 23 x0)] (x0 < cn χ 23 ∧ w_X17_kind x0 χ Q)) (Qm Γ true ad χ (pI Q)) (frB Γ) := by
  refine Mt.start (by decide) RX17 rfl (Nat.le_of_ble_eq_true rfl) ?_
  intro X hX hG _ _ hna _ ⟨hv0, hf⟩
  unfold w_X17_kind at hf
  refine g_iconst hX (v := (0 : Int32)) dX17_kind_0 rfl ?_
  exact g_iret hX ⟨_, rfl, hf⟩ dX17_kind_1

def w_X18_kind (x0 : Nat) (χ : St) (Q : Int32 → St → Prop) : Prop := (Q (1 : Int32) χ)
set_option maxHeartbeats 4000000 in
theorem mt_X18_kind (l : Launch) (Γ : Gh) (ad : Nat → Nat → Nat) (x0 : Nat) (χ : St) (Q : Int32 → St → Prop) : Mt l yX18_kind (ws_ yX18_kind cX18_kind 1 (some .int)) (rmO (0) (0) χ) (Pm Γ ad χ [.ref (ad 23 x0)] (x0 < cn χ 23 ∧ w_X18_kind x0 χ Q)) (Qm Γ true ad χ (pI Q)) (frB Γ) := by
  refine Mt.start (by decide) RX18 rfl (Nat.le_of_ble_eq_true rfl) ?_
  intro X hX hG _ _ hna _ ⟨hv0, hf⟩
  unfold w_X18_kind at hf
  refine g_iconst hX (v := (1 : Int32)) dX18_kind_0 rfl ?_
  exact g_iret hX ⟨_, rfl, hf⟩ dX18_kind_1

def w_X19_kind (x0 : Nat) (χ : St) (Q : Int32 → St → Prop) : Prop := (Q (2 : Int32) χ)
set_option maxHeartbeats 4000000 in
theorem mt_X19_kind (l : Launch) (Γ : Gh) (ad : Nat → Nat → Nat) (x0 : Nat) (χ : St) (Q : Int32 → St → Prop) : Mt l yX19_kind (ws_ yX19_kind cX19_kind 1 (some .int)) (rmO (0) (0) χ) (Pm Γ ad χ [.ref (ad 23 x0)] (x0 < cn χ 23 ∧ w_X19_kind x0 χ Q)) (Qm Γ true ad χ (pI Q)) (frB Γ) := by
  refine Mt.start (by decide) RX19 rfl (Nat.le_of_ble_eq_true rfl) ?_
  intro X hX hG _ _ hna _ ⟨hv0, hf⟩
  unfold w_X19_kind at hf
  refine g_iconst hX (v := (2 : Int32)) dX19_kind_0 rfl ?_
  exact g_iret hX ⟨_, rfl, hf⟩ dX19_kind_1

def w_X20_kind (x0 : Nat) (χ : St) (Q : Int32 → St → Prop) : Prop := (Q (3 : Int32) χ)
set_option maxHeartbeats 4000000 in
theorem mt_X20_kind (l : Launch) (Γ : Gh) (ad : Nat → Nat → Nat) (x0 : Nat) (χ : St) (Q : Int32 → St → Prop) : Mt l yX20_kind (ws_ yX20_kind cX20_kind 1 (some .int)) (rmO (0) (0) χ) (Pm Γ ad χ [.ref (ad 23 x0)] (x0 < cn χ 23 ∧ w_X20_kind x0 χ Q)) (Qm Γ true ad χ (pI Q)) (frB Γ) := by
  refine Mt.start (by decide) RX20 rfl (Nat.le_of_ble_eq_true rfl) ?_
  intro X hX hG _ _ hna _ ⟨hv0, hf⟩
  unfold w_X20_kind at hf
  refine g_iconst hX (v := (3 : Int32)) dX20_kind_0 rfl ?_
  exact g_iret hX ⟨_, rfl, hf⟩ dX20_kind_1

def w_X21_kind (x0 : Nat) (χ : St) (Q : Int32 → St → Prop) : Prop := (Q (4 : Int32) χ)
set_option maxHeartbeats 4000000 in
theorem mt_X21_kind (l : Launch) (Γ : Gh) (ad : Nat → Nat → Nat) (x0 : Nat) (χ : St) (Q : Int32 → St → Prop) : Mt l yX21_kind (ws_ yX21_kind cX21_kind 1 (some .int)) (rmO (0) (0) χ) (Pm Γ ad χ [.ref (ad 23 x0)] (x0 < cn χ 23 ∧ w_X21_kind x0 χ Q)) (Qm Γ true ad χ (pI Q)) (frB Γ) := by
  refine Mt.start (by decide) RX21 rfl (Nat.le_of_ble_eq_true rfl) ?_
  intro X hX hG _ _ hna _ ⟨hv0, hf⟩
  unfold w_X21_kind at hf
  refine g_iconst hX (v := (4 : Int32)) dX21_kind_0 rfl ?_
  exact g_iret hX ⟨_, rfl, hf⟩ dX21_kind_1

def w_X22_kind (x0 : Nat) (χ : St) (Q : Int32 → St → Prop) : Prop := (Q (5 : Int32) χ)
set_option maxHeartbeats 4000000 in
theorem mt_X22_kind (l : Launch) (Γ : Gh) (ad : Nat → Nat → Nat) (x0 : Nat) (χ : St) (Q : Int32 → St → Prop) : Mt l yX22_kind (ws_ yX22_kind cX22_kind 1 (some .int)) (rmO (0) (0) χ) (Pm Γ ad χ [.ref (ad 23 x0)] (x0 < cn χ 23 ∧ w_X22_kind x0 χ Q)) (Qm Γ true ad χ (pI Q)) (frB Γ) := by
  refine Mt.start (by decide) RX22 rfl (Nat.le_of_ble_eq_true rfl) ?_
  intro X hX hG _ _ hna _ ⟨hv0, hf⟩
  unfold w_X22_kind at hf
  refine g_iconst hX (v := (5 : Int32)) dX22_kind_0 rfl ?_
  exact g_iret hX ⟨_, rfl, hf⟩ dX22_kind_1

def w_X23_kind (x0 : Nat) (χ : St) (Q : Int32 → St → Prop) : Prop := (Q (6 : Int32) χ)
set_option maxHeartbeats 4000000 in
theorem mt_X23_kind (l : Launch) (Γ : Gh) (ad : Nat → Nat → Nat) (x0 : Nat) (χ : St) (Q : Int32 → St → Prop) : Mt l yX23_kind (ws_ yX23_kind cX23_kind 1 (some .int)) (rmO (0) (0) χ) (Pm Γ ad χ [.ref (ad 23 x0)] (x0 < cn χ 23 ∧ w_X23_kind x0 χ Q)) (Qm Γ true ad χ (pI Q)) (frB Γ) := by
  refine Mt.start (by decide) RX23 rfl (Nat.le_of_ble_eq_true rfl) ?_
  intro X hX hG _ _ hna _ ⟨hv0, hf⟩
  unfold w_X23_kind at hf
  refine g_bipush hX (v := (6 : Int32)) dX23_kind_0 rfl ?_
  exact g_iret hX ⟨_, rfl, hf⟩ dX23_kind_2

def w_X24_kind (x0 : Nat) (χ : St) (Q : Int32 → St → Prop) : Prop := (Q (7 : Int32) χ)
set_option maxHeartbeats 4000000 in
theorem mt_X24_kind (l : Launch) (Γ : Gh) (ad : Nat → Nat → Nat) (x0 : Nat) (χ : St) (Q : Int32 → St → Prop) : Mt l yX24_kind (ws_ yX24_kind cX24_kind 1 (some .int)) (rmO (0) (0) χ) (Pm Γ ad χ [.ref (ad 23 x0)] (x0 < cn χ 23 ∧ w_X24_kind x0 χ Q)) (Qm Γ true ad χ (pI Q)) (frB Γ) := by
  refine Mt.start (by decide) RX24 rfl (Nat.le_of_ble_eq_true rfl) ?_
  intro X hX hG _ _ hna _ ⟨hv0, hf⟩
  unfold w_X24_kind at hf
  refine g_bipush hX (v := (7 : Int32)) dX24_kind_0 rfl ?_
  exact g_iret hX ⟨_, rfl, hf⟩ dX24_kind_2

def w_D_kind (i : Nat) (χ : St) (Q : Int32 → St → Prop) : Prop := (tg χ 23 i = 0 → w_X17_kind i χ Q) ∧ (tg χ 23 i = 1 → w_X18_kind i χ Q) ∧ (tg χ 23 i = 2 → w_X19_kind i χ Q) ∧ (tg χ 23 i = 3 → w_X20_kind i χ Q) ∧ (tg χ 23 i = 4 → w_X21_kind i χ Q) ∧ (tg χ 23 i = 5 → w_X22_kind i χ Q) ∧ (tg χ 23 i = 6 → w_X23_kind i χ Q) ∧ (tg χ 23 i = 7 → w_X24_kind i χ Q)

set_option maxHeartbeats 4000000 in
theorem gs_X17_isUnder_6 {X : Cx} {cc : ByteArray} {ret : Option FieldType} {y0 : MethodName} {nL F Lo : Nat} {Pst : Option Value → (Nat → Nat → Nat) → St → Prop} {ad : Nat → Nat → Nat} {χ : St} {pc i : Nat} {lv : List (Nat × Value)} {st : List Value} {Q : Int32 → St → Prop} (h : Ok X cc RX17 ret y0 nL F Lo Pst) (hw : w_D_kind i χ Q) (ht : tg χ 23 i = 0 ∨ tg χ 23 i = 1 ∨ tg χ 23 i = 2 ∨ tg χ 23 i = 3 ∨ tg χ 23 i = 4 ∨ tg χ 23 i = 5 ∨ tg χ 23 i = 6 ∨ tg χ 23 i = 7) (hF : 1 ≤ F ∧ 20 ≤ Lo) (hi : i < cn χ 23) (hst : (st.map fun v => v.category).sum ≤ 8) (hd : decode cc pc = .ok (.invokevirtual 19, 3)) (kk : ∀ r χ', Q r χ' → (∀ c, cn χ c ≤ cn χ' c) → G X ad χ' (pc + 3) lv (.int r :: st)) : G X ad χ pc lv (.ref (ad 23 i) :: st) := by
  have hts := h.2.2.2.2.2.2.1
  have hR := h.2.2.2.2.2.2.2.2.1
  have kk2 : ∀ v ad' χ', pI Q v ad' χ' → (true = true → ad' = ad) → Ext χ χ' ad ad' → G X ad' χ' (pc + 3) lv (v.toList ++ st) := fun v ad' χ' hP hna hE => by
    obtain ⟨r, rfl, hf⟩ := hP
    obtain rfl := hna rfl
    exact kk r χ' hf hE.2
  rcases ht with ht | ht | ht | ht | ht | ht | ht | ht
  · exact g_callU0 h (mt_X17_kind X.l X.Γ ad i χ Q) ⟨hi, hw.1 ht⟩ (fun _ => rfl) (va_cwU 0 hts (lw_U (C := "ChairOld$Plain") q1460 q1463 q1462 q1461 q116 q1485) rfl rfl rfl rfl ⟨by decide, by decide, hy_X17_kind.2.2⟩ (by rw [hR]; exact ⟨by show 0 + 1 ≤ F; omega, by show 8 + (1 + 11) + 0 ≤ Lo; omega⟩)) hi (ff23_0 ht) rfl rfl rfl hst hd kk2
  · exact g_callU0 h (mt_X18_kind X.l X.Γ ad i χ Q) ⟨hi, hw.2.1 ht⟩ (fun _ => rfl) (va_cwO 0 hts (lw_O (C := "ChairOld$Old") q1460 q1463 q1461 q1479 q1480 q117 q1481) rfl rfl rfl q1485 ⟨by decide, by decide, hy_X18_kind.2.2⟩ (by rw [hR]; exact ⟨by show 0 + 1 ≤ F; omega, by show 8 + (1 + 11) + 0 ≤ Lo; omega⟩)) hi (ff23_1 ht) rfl rfl rfl hst hd kk2
  · exact g_callU0 h (mt_X19_kind X.l X.Γ ad i χ Q) ⟨hi, hw.2.2.1 ht⟩ (fun _ => rfl) (va_cwO 0 hts (lw_O (C := "ChairOld$Mended") q1460 q1463 q1461 q1476 q1477 q118 q1478) rfl rfl rfl q1485 ⟨by decide, by decide, hy_X19_kind.2.2⟩ (by rw [hR]; exact ⟨by show 0 + 1 ≤ F; omega, by show 8 + (1 + 11) + 0 ≤ Lo; omega⟩)) hi (ff23_2 ht) rfl rfl rfl hst hd kk2
  · exact g_callU0 h (mt_X20_kind X.l X.Γ ad i χ Q) ⟨hi, hw.2.2.2.1 ht⟩ (fun _ => rfl) (va_cwO 0 hts (lw_O (C := "ChairOld$Aged") q1460 q1463 q1461 q1464 q1465 q119 q1466) rfl rfl rfl q1485 ⟨by decide, by decide, hy_X20_kind.2.2⟩ (by rw [hR]; exact ⟨by show 0 + 1 ≤ F; omega, by show 8 + (1 + 11) + 0 ≤ Lo; omega⟩)) hi (ff23_3 ht) rfl rfl rfl hst hd kk2
  · exact g_callU0 h (mt_X21_kind X.l X.Γ ad i χ Q) ⟨hi, hw.2.2.2.2.1 ht⟩ (fun _ => rfl) (va_cwO 0 hts (lw_O (C := "ChairOld$Split") q1460 q1463 q1461 q1482 q1483 q120 q1484) rfl rfl rfl q1485 ⟨by decide, by decide, hy_X21_kind.2.2⟩ (by rw [hR]; exact ⟨by show 0 + 1 ≤ F; omega, by show 8 + (1 + 11) + 0 ≤ Lo; omega⟩)) hi (ff23_4 ht) rfl rfl rfl hst hd kk2
  · exact g_callU0 h (mt_X22_kind X.l X.Γ ad i χ Q) ⟨hi, hw.2.2.2.2.2.1 ht⟩ (fun _ => rfl) (va_cwO 0 hts (lw_O (C := "ChairOld$Cut") q1460 q1463 q1461 q1467 q1468 q121 q1469) rfl rfl rfl q1485 ⟨by decide, by decide, hy_X22_kind.2.2⟩ (by rw [hR]; exact ⟨by show 0 + 1 ≤ F; omega, by show 8 + (1 + 11) + 0 ≤ Lo; omega⟩)) hi (ff23_5 ht) rfl rfl rfl hst hd kk2
  · exact g_callU0 h (mt_X23_kind X.l X.Γ ad i χ Q) ⟨hi, hw.2.2.2.2.2.2.1 ht⟩ (fun _ => rfl) (va_cwO 0 hts (lw_O (C := "ChairOld$Fresh") q1460 q1463 q1461 q1473 q1474 q122 q1475) rfl rfl rfl q1485 ⟨by decide, by decide, hy_X23_kind.2.2⟩ (by rw [hR]; exact ⟨by show 0 + 1 ≤ F; omega, by show 8 + (1 + 11) + 0 ≤ Lo; omega⟩)) hi (ff23_6 ht) rfl rfl rfl hst hd kk2
  · exact g_callU0 h (mt_X24_kind X.l X.Γ ad i χ Q) ⟨hi, hw.2.2.2.2.2.2.2 ht⟩ (fun _ => rfl) (va_cwO 0 hts (lw_O (C := "ChairOld$Foreign") q1460 q1463 q1461 q1470 q1471 q123 q1472) rfl rfl rfl q1485 ⟨by decide, by decide, hy_X24_kind.2.2⟩ (by rw [hR]; exact ⟨by show 0 + 1 ≤ F; omega, by show 8 + (1 + 11) + 0 ≤ Lo; omega⟩)) hi (ff23_7 ht) rfl rfl rfl hst hd kk2
def w_X17_isUnder (x0 : Nat) (x1 : Int32) (χ : St) (Q : Int32 → St → Prop) : Prop := ((x1 = 0 → (Q (1 : Int32) χ)) ∧ (¬ x1 = 0 → (tg χ 23 x0 = 0 ∨ tg χ 23 x0 = 1 ∨ tg χ 23 x0 = 2 ∨ tg χ 23 x0 = 3 ∨ tg χ 23 x0 = 4 ∨ tg χ 23 x0 = 5 ∨ tg χ 23 x0 = 6 ∨ tg χ 23 x0 = 7) ∧ ((w_D_kind x0 χ (fun r1 χ2 => ((¬ x1 = r1 → (Q (0 : Int32) χ2)) ∧ (x1 = r1 → (Q (1 : Int32) χ2))))))))
set_option maxHeartbeats 4000000 in
theorem mt_X17_isUnder (l : Launch) (Γ : Gh) (ad : Nat → Nat → Nat) (x0 : Nat) (x1 : Int32) (χ : St) (Q : Int32 → St → Prop) : Mt l yX17_isUnder (ws_ yX17_isUnder cX17_isUnder 2 (some .boolean)) (rmO (1) (20) χ) (Pm Γ ad χ [.ref (ad 23 x0), .int x1] (x0 < cn χ 23 ∧ w_X17_isUnder x0 x1 χ Q)) (Qm Γ true ad χ (pI Q)) (frB Γ) := by
  refine Mt.start (by decide) RX17 rfl (Nat.le_of_ble_eq_true rfl) ?_
  intro X hX hG _ _ hna _ ⟨hv0, hf⟩
  unfold w_X17_isUnder at hf
  refine g_iload_n hX 1 dX17_isUnder_0 rfl rfl ?_
  refine g_if_eq hX 12 dX17_isUnder_1 (by decide) (fun z => ?_) (fun z => ?_)
  · replace hf := hf.1 z
    refine g_iconst hX (v := (1 : Int32)) dX17_isUnder_12 rfl ?_
    refine g_goto hX 17 dX17_isUnder_13 (by decide) ?_
    exact g_zret hX rfl ⟨_, rfl, hf⟩ dX17_isUnder_17
  · replace hf := hf.2 z
    refine g_iload_n hX 1 dX17_isUnder_4 rfl rfl ?_
    refine g_aload_n hX 0 dX17_isUnder_5 rfl rfl ?_
    have hg3 := hf.1
    replace hf := hf.2
    refine gs_X17_isUnder_6 hX hf hg3 (by decide) hv0 (Nat.le_of_ble_eq_true rfl) dX17_isUnder_6 (fun r1 χ2 hf hc2 => ?_)
    refine g_icmp_ne hX 16 dX17_isUnder_9 (by decide) (fun z => ?_) (fun z => ?_)
    · replace hf := hf.1 z
      refine g_iconst hX (v := (0 : Int32)) dX17_isUnder_16 rfl ?_
      exact g_zret hX rfl ⟨_, rfl, hf⟩ dX17_isUnder_17
    · replace hf := hf.2 z
      refine g_iconst hX (v := (1 : Int32)) dX17_isUnder_12 rfl ?_
      refine g_goto hX 17 dX17_isUnder_13 (by decide) ?_
      exact g_zret hX rfl ⟨_, rfl, hf⟩ dX17_isUnder_17

set_option maxHeartbeats 4000000 in
theorem gs_X18_isUnder_7 {X : Cx} {cc : ByteArray} {ret : Option FieldType} {y0 : MethodName} {nL F Lo : Nat} {Pst : Option Value → (Nat → Nat → Nat) → St → Prop} {ad : Nat → Nat → Nat} {χ : St} {pc i : Nat} {lv : List (Nat × Value)} {st : List Value} {a0 : Int32} {Q : Int32 → St → Prop} (h : Ok X cc RX18 ret y0 nL F Lo Pst) (hw : w_X17_isUnder i a0 χ Q) (ht : tg χ 23 i = 1 ∨ tg χ 23 i = 4 ∨ tg χ 23 i = 7) (hF : 2 ≤ F ∧ 41 ≤ Lo) (hi : i < cn χ 23) (hst : (st.map fun v => v.category).sum ≤ 8) (hd : decode cc pc = .ok (.invokespecial 13, 3)) (kk : ∀ r χ', Q r χ' → (∀ c, cn χ c ≤ cn χ' c) → G X ad χ' (pc + 3) lv (.int r :: st)) : G X ad χ pc lv (.int a0 :: .ref (ad 23 i) :: st) := by
  have hts := h.2.2.2.2.2.2.1
  have hR := h.2.2.2.2.2.2.2.2.1
  have kk2 : ∀ v ad' χ', pI Q v ad' χ' → (true = true → ad' = ad) → Ext χ χ' ad ad' → G X ad' χ' (pc + 3) lv (v.toList ++ st) := fun v ad' χ' hP hna hE => by
    obtain ⟨r, rfl, hf⟩ := hP
    obtain rfl := hna rfl
    exact kk r χ' hf hE.2
  rcases ht with ht | ht | ht
  · exact g_callSU0 h (mt_X17_isUnder X.l X.Γ ad i a0 χ Q) ⟨hi, hw⟩ (fun _ => rfl) q1454 q1439 q1041 q1437 q116 q1459 ⟨by decide, hy_X17_isUnder.2.2⟩ ⟨by omega, by omega⟩ hi (ff23_1 ht) rfl rfl rfl hst hd kk2
  · exact g_callSU0 h (mt_X17_isUnder X.l X.Γ ad i a0 χ Q) ⟨hi, hw⟩ (fun _ => rfl) q1454 q1439 q1041 q1437 q116 q1459 ⟨by decide, hy_X17_isUnder.2.2⟩ ⟨by omega, by omega⟩ hi (ff23_4 ht) rfl rfl rfl hst hd kk2
  · exact g_callSU0 h (mt_X17_isUnder X.l X.Γ ad i a0 χ Q) ⟨hi, hw⟩ (fun _ => rfl) q1454 q1439 q1041 q1437 q116 q1459 ⟨by decide, hy_X17_isUnder.2.2⟩ ⟨by omega, by omega⟩ hi (ff23_7 ht) rfl rfl rfl hst hd kk2
def w_X18_isUnder (x0 : Nat) (x1 : Int32) (χ : St) (Q : Int32 → St → Prop) : Prop := ((x1 = (1 : Int32) → (Q (1 : Int32) χ)) ∧ (¬ x1 = (1 : Int32) → (tg χ 23 x0 = 1 ∨ tg χ 23 x0 = 4 ∨ tg χ 23 x0 = 7) ∧ ((w_X17_isUnder x0 x1 χ (fun r1 χ2 => ((r1 = 0 → (Q (0 : Int32) χ2)) ∧ (¬ r1 = 0 → (Q (1 : Int32) χ2))))))))
set_option maxHeartbeats 4000000 in
theorem mt_X18_isUnder (l : Launch) (Γ : Gh) (ad : Nat → Nat → Nat) (x0 : Nat) (x1 : Int32) (χ : St) (Q : Int32 → St → Prop) : Mt l yX18_isUnder (ws_ yX18_isUnder cX18_isUnder 2 (some .boolean)) (rmO (2) (41) χ) (Pm Γ ad χ [.ref (ad 23 x0), .int x1] (x0 < cn χ 23 ∧ w_X18_isUnder x0 x1 χ Q)) (Qm Γ true ad χ (pI Q)) (frB Γ) := by
  refine Mt.start (by decide) RX18 rfl (Nat.le_of_ble_eq_true rfl) ?_
  intro X hX hG _ _ hna _ ⟨hv0, hf⟩
  unfold w_X18_isUnder at hf
  refine g_iload_n hX 1 dX18_isUnder_0 rfl rfl ?_
  refine g_iconst hX (v := (1 : Int32)) dX18_isUnder_1 rfl ?_
  refine g_icmp_eq hX 13 dX18_isUnder_2 (by decide) (fun z => ?_) (fun z => ?_)
  · replace hf := hf.1 z
    refine g_iconst hX (v := (1 : Int32)) dX18_isUnder_13 rfl ?_
    refine g_goto hX 18 dX18_isUnder_14 (by decide) ?_
    exact g_zret hX rfl ⟨_, rfl, hf⟩ dX18_isUnder_18
  · replace hf := hf.2 z
    refine g_aload_n hX 0 dX18_isUnder_5 rfl rfl ?_
    refine g_iload_n hX 1 dX18_isUnder_6 rfl rfl ?_
    have hg3 := hf.1
    replace hf := hf.2
    refine gs_X18_isUnder_7 hX hf hg3 (by decide) hv0 (Nat.le_of_ble_eq_true rfl) dX18_isUnder_7 (fun r1 χ2 hf hc2 => ?_)
    refine g_if_eq hX 17 dX18_isUnder_10 (by decide) (fun z => ?_) (fun z => ?_)
    · replace hf := hf.1 z
      refine g_iconst hX (v := (0 : Int32)) dX18_isUnder_17 rfl ?_
      exact g_zret hX rfl ⟨_, rfl, hf⟩ dX18_isUnder_18
    · replace hf := hf.2 z
      refine g_iconst hX (v := (1 : Int32)) dX18_isUnder_13 rfl ?_
      refine g_goto hX 18 dX18_isUnder_14 (by decide) ?_
      exact g_zret hX rfl ⟨_, rfl, hf⟩ dX18_isUnder_18

set_option maxHeartbeats 4000000 in
theorem gs_X19_isUnder_7 {X : Cx} {cc : ByteArray} {ret : Option FieldType} {y0 : MethodName} {nL F Lo : Nat} {Pst : Option Value → (Nat → Nat → Nat) → St → Prop} {ad : Nat → Nat → Nat} {χ : St} {pc i : Nat} {lv : List (Nat × Value)} {st : List Value} {a0 : Int32} {Q : Int32 → St → Prop} (h : Ok X cc RX19 ret y0 nL F Lo Pst) (hw : w_X17_isUnder i a0 χ Q) (ht : tg χ 23 i = 2 ∨ tg χ 23 i = 3 ∨ tg χ 23 i = 5) (hF : 2 ≤ F ∧ 41 ≤ Lo) (hi : i < cn χ 23) (hst : (st.map fun v => v.category).sum ≤ 8) (hd : decode cc pc = .ok (.invokespecial 13, 3)) (kk : ∀ r χ', Q r χ' → (∀ c, cn χ c ≤ cn χ' c) → G X ad χ' (pc + 3) lv (.int r :: st)) : G X ad χ pc lv (.int a0 :: .ref (ad 23 i) :: st) := by
  have hts := h.2.2.2.2.2.2.1
  have hR := h.2.2.2.2.2.2.2.2.1
  have kk2 : ∀ v ad' χ', pI Q v ad' χ' → (true = true → ad' = ad) → Ext χ χ' ad ad' → G X ad' χ' (pc + 3) lv (v.toList ++ st) := fun v ad' χ' hP hna hE => by
    obtain ⟨r, rfl, hf⟩ := hP
    obtain rfl := hna rfl
    exact kk r χ' hf hE.2
  rcases ht with ht | ht | ht
  · exact g_callSU0 h (mt_X17_isUnder X.l X.Γ ad i a0 χ Q) ⟨hi, hw⟩ (fun _ => rfl) q1446 q1439 q1053 q1437 q116 q1459 ⟨by decide, hy_X17_isUnder.2.2⟩ ⟨by omega, by omega⟩ hi (ff23_2 ht) rfl rfl rfl hst hd kk2
  · exact g_callSU0 h (mt_X17_isUnder X.l X.Γ ad i a0 χ Q) ⟨hi, hw⟩ (fun _ => rfl) q1446 q1439 q1053 q1437 q116 q1459 ⟨by decide, hy_X17_isUnder.2.2⟩ ⟨by omega, by omega⟩ hi (ff23_3 ht) rfl rfl rfl hst hd kk2
  · exact g_callSU0 h (mt_X17_isUnder X.l X.Γ ad i a0 χ Q) ⟨hi, hw⟩ (fun _ => rfl) q1446 q1439 q1053 q1437 q116 q1459 ⟨by decide, hy_X17_isUnder.2.2⟩ ⟨by omega, by omega⟩ hi (ff23_5 ht) rfl rfl rfl hst hd kk2
def w_X19_isUnder (x0 : Nat) (x1 : Int32) (χ : St) (Q : Int32 → St → Prop) : Prop := ((x1 = (2 : Int32) → (Q (1 : Int32) χ)) ∧ (¬ x1 = (2 : Int32) → (tg χ 23 x0 = 2 ∨ tg χ 23 x0 = 3 ∨ tg χ 23 x0 = 5) ∧ ((w_X17_isUnder x0 x1 χ (fun r1 χ2 => ((r1 = 0 → (Q (0 : Int32) χ2)) ∧ (¬ r1 = 0 → (Q (1 : Int32) χ2))))))))
set_option maxHeartbeats 4000000 in
theorem mt_X19_isUnder (l : Launch) (Γ : Gh) (ad : Nat → Nat → Nat) (x0 : Nat) (x1 : Int32) (χ : St) (Q : Int32 → St → Prop) : Mt l yX19_isUnder (ws_ yX19_isUnder cX19_isUnder 2 (some .boolean)) (rmO (2) (41) χ) (Pm Γ ad χ [.ref (ad 23 x0), .int x1] (x0 < cn χ 23 ∧ w_X19_isUnder x0 x1 χ Q)) (Qm Γ true ad χ (pI Q)) (frB Γ) := by
  refine Mt.start (by decide) RX19 rfl (Nat.le_of_ble_eq_true rfl) ?_
  intro X hX hG _ _ hna _ ⟨hv0, hf⟩
  unfold w_X19_isUnder at hf
  refine g_iload_n hX 1 dX19_isUnder_0 rfl rfl ?_
  refine g_iconst hX (v := (2 : Int32)) dX19_isUnder_1 rfl ?_
  refine g_icmp_eq hX 13 dX19_isUnder_2 (by decide) (fun z => ?_) (fun z => ?_)
  · replace hf := hf.1 z
    refine g_iconst hX (v := (1 : Int32)) dX19_isUnder_13 rfl ?_
    refine g_goto hX 18 dX19_isUnder_14 (by decide) ?_
    exact g_zret hX rfl ⟨_, rfl, hf⟩ dX19_isUnder_18
  · replace hf := hf.2 z
    refine g_aload_n hX 0 dX19_isUnder_5 rfl rfl ?_
    refine g_iload_n hX 1 dX19_isUnder_6 rfl rfl ?_
    have hg3 := hf.1
    replace hf := hf.2
    refine gs_X19_isUnder_7 hX hf hg3 (by decide) hv0 (Nat.le_of_ble_eq_true rfl) dX19_isUnder_7 (fun r1 χ2 hf hc2 => ?_)
    refine g_if_eq hX 17 dX19_isUnder_10 (by decide) (fun z => ?_) (fun z => ?_)
    · replace hf := hf.1 z
      refine g_iconst hX (v := (0 : Int32)) dX19_isUnder_17 rfl ?_
      exact g_zret hX rfl ⟨_, rfl, hf⟩ dX19_isUnder_18
    · replace hf := hf.2 z
      refine g_iconst hX (v := (1 : Int32)) dX19_isUnder_13 rfl ?_
      refine g_goto hX 18 dX19_isUnder_14 (by decide) ?_
      exact g_zret hX rfl ⟨_, rfl, hf⟩ dX19_isUnder_18

set_option maxHeartbeats 4000000 in
theorem gs_X20_isUnder_7 {X : Cx} {cc : ByteArray} {ret : Option FieldType} {y0 : MethodName} {nL F Lo : Nat} {Pst : Option Value → (Nat → Nat → Nat) → St → Prop} {ad : Nat → Nat → Nat} {χ : St} {pc i : Nat} {lv : List (Nat × Value)} {st : List Value} {a0 : Int32} {Q : Int32 → St → Prop} (h : Ok X cc RX20 ret y0 nL F Lo Pst) (hw : w_X19_isUnder i a0 χ Q) (ht : tg χ 23 i = 3 ∨ tg χ 23 i = 5) (hF : 3 ≤ F ∧ 62 ≤ Lo) (hi : i < cn χ 23) (hst : (st.map fun v => v.category).sum ≤ 8) (hd : decode cc pc = .ok (.invokespecial 13, 3)) (kk : ∀ r χ', Q r χ' → (∀ c, cn χ c ≤ cn χ' c) → G X ad χ' (pc + 3) lv (.int r :: st)) : G X ad χ pc lv (.int a0 :: .ref (ad 23 i) :: st) := by
  have hts := h.2.2.2.2.2.2.1
  have hR := h.2.2.2.2.2.2.2.2.1
  have kk2 : ∀ v ad' χ', pI Q v ad' χ' → (true = true → ad' = ad) → Ext χ χ' ad ad' → G X ad' χ' (pc + 3) lv (v.toList ++ st) := fun v ad' χ' hP hna hE => by
    obtain ⟨r, rfl, hf⟩ := hP
    obtain rfl := hna rfl
    exact kk r χ' hf hE.2
  rcases ht with ht | ht
  · exact g_callSU0 h (mt_X19_isUnder X.l X.Γ ad i a0 χ Q) ⟨hi, hw⟩ (fun _ => rfl) q1443 q2021 q1066 q1444 q118 q1445 ⟨by decide, hy_X19_isUnder.2.2⟩ ⟨by omega, by omega⟩ hi (ff23_3 ht) rfl rfl rfl hst hd kk2
  · exact g_callSU0 h (mt_X19_isUnder X.l X.Γ ad i a0 χ Q) ⟨hi, hw⟩ (fun _ => rfl) q1443 q2021 q1066 q1444 q118 q1445 ⟨by decide, hy_X19_isUnder.2.2⟩ ⟨by omega, by omega⟩ hi (ff23_5 ht) rfl rfl rfl hst hd kk2
def w_X20_isUnder (x0 : Nat) (x1 : Int32) (χ : St) (Q : Int32 → St → Prop) : Prop := ((x1 = (3 : Int32) → (Q (1 : Int32) χ)) ∧ (¬ x1 = (3 : Int32) → (tg χ 23 x0 = 3 ∨ tg χ 23 x0 = 5) ∧ ((w_X19_isUnder x0 x1 χ (fun r1 χ2 => ((r1 = 0 → (Q (0 : Int32) χ2)) ∧ (¬ r1 = 0 → (Q (1 : Int32) χ2))))))))
set_option maxHeartbeats 4000000 in
theorem mt_X20_isUnder (l : Launch) (Γ : Gh) (ad : Nat → Nat → Nat) (x0 : Nat) (x1 : Int32) (χ : St) (Q : Int32 → St → Prop) : Mt l yX20_isUnder (ws_ yX20_isUnder cX20_isUnder 2 (some .boolean)) (rmO (3) (62) χ) (Pm Γ ad χ [.ref (ad 23 x0), .int x1] (x0 < cn χ 23 ∧ w_X20_isUnder x0 x1 χ Q)) (Qm Γ true ad χ (pI Q)) (frB Γ) := by
  refine Mt.start (by decide) RX20 rfl (Nat.le_of_ble_eq_true rfl) ?_
  intro X hX hG _ _ hna _ ⟨hv0, hf⟩
  unfold w_X20_isUnder at hf
  refine g_iload_n hX 1 dX20_isUnder_0 rfl rfl ?_
  refine g_iconst hX (v := (3 : Int32)) dX20_isUnder_1 rfl ?_
  refine g_icmp_eq hX 13 dX20_isUnder_2 (by decide) (fun z => ?_) (fun z => ?_)
  · replace hf := hf.1 z
    refine g_iconst hX (v := (1 : Int32)) dX20_isUnder_13 rfl ?_
    refine g_goto hX 18 dX20_isUnder_14 (by decide) ?_
    exact g_zret hX rfl ⟨_, rfl, hf⟩ dX20_isUnder_18
  · replace hf := hf.2 z
    refine g_aload_n hX 0 dX20_isUnder_5 rfl rfl ?_
    refine g_iload_n hX 1 dX20_isUnder_6 rfl rfl ?_
    have hg3 := hf.1
    replace hf := hf.2
    refine gs_X20_isUnder_7 hX hf hg3 (by decide) hv0 (Nat.le_of_ble_eq_true rfl) dX20_isUnder_7 (fun r1 χ2 hf hc2 => ?_)
    refine g_if_eq hX 17 dX20_isUnder_10 (by decide) (fun z => ?_) (fun z => ?_)
    · replace hf := hf.1 z
      refine g_iconst hX (v := (0 : Int32)) dX20_isUnder_17 rfl ?_
      exact g_zret hX rfl ⟨_, rfl, hf⟩ dX20_isUnder_18
    · replace hf := hf.2 z
      refine g_iconst hX (v := (1 : Int32)) dX20_isUnder_13 rfl ?_
      refine g_goto hX 18 dX20_isUnder_14 (by decide) ?_
      exact g_zret hX rfl ⟨_, rfl, hf⟩ dX20_isUnder_18

set_option maxHeartbeats 4000000 in
theorem gs_X21_isUnder_7 {X : Cx} {cc : ByteArray} {ret : Option FieldType} {y0 : MethodName} {nL F Lo : Nat} {Pst : Option Value → (Nat → Nat → Nat) → St → Prop} {ad : Nat → Nat → Nat} {χ : St} {pc i : Nat} {lv : List (Nat × Value)} {st : List Value} {a0 : Int32} {Q : Int32 → St → Prop} (h : Ok X cc RX21 ret y0 nL F Lo Pst) (hw : w_X18_isUnder i a0 χ Q) (ht : tg χ 23 i = 4 ∨ tg χ 23 i = 7) (hF : 3 ≤ F ∧ 62 ≤ Lo) (hi : i < cn χ 23) (hst : (st.map fun v => v.category).sum ≤ 8) (hd : decode cc pc = .ok (.invokespecial 13, 3)) (kk : ∀ r χ', Q r χ' → (∀ c, cn χ c ≤ cn χ' c) → G X ad χ' (pc + 3) lv (.int r :: st)) : G X ad χ pc lv (.int a0 :: .ref (ad 23 i) :: st) := by
  have hts := h.2.2.2.2.2.2.1
  have hR := h.2.2.2.2.2.2.2.2.1
  have kk2 : ∀ v ad' χ', pI Q v ad' χ' → (true = true → ad' = ad) → Ext χ χ' ad ad' → G X ad' χ' (pc + 3) lv (v.toList ++ st) := fun v ad' χ' hP hna hE => by
    obtain ⟨r, rfl, hf⟩ := hP
    obtain rfl := hna rfl
    exact kk r χ' hf hE.2
  rcases ht with ht | ht
  · exact g_callSU0 h (mt_X18_isUnder X.l X.Γ ad i a0 χ Q) ⟨hi, hw⟩ (fun _ => rfl) q1451 q2022 q1079 q1452 q117 q1453 ⟨by decide, hy_X18_isUnder.2.2⟩ ⟨by omega, by omega⟩ hi (ff23_4 ht) rfl rfl rfl hst hd kk2
  · exact g_callSU0 h (mt_X18_isUnder X.l X.Γ ad i a0 χ Q) ⟨hi, hw⟩ (fun _ => rfl) q1451 q2022 q1079 q1452 q117 q1453 ⟨by decide, hy_X18_isUnder.2.2⟩ ⟨by omega, by omega⟩ hi (ff23_7 ht) rfl rfl rfl hst hd kk2
def w_X21_isUnder (x0 : Nat) (x1 : Int32) (χ : St) (Q : Int32 → St → Prop) : Prop := ((x1 = (4 : Int32) → (Q (1 : Int32) χ)) ∧ (¬ x1 = (4 : Int32) → (tg χ 23 x0 = 4 ∨ tg χ 23 x0 = 7) ∧ ((w_X18_isUnder x0 x1 χ (fun r1 χ2 => ((r1 = 0 → (Q (0 : Int32) χ2)) ∧ (¬ r1 = 0 → (Q (1 : Int32) χ2))))))))
set_option maxHeartbeats 4000000 in
theorem mt_X21_isUnder (l : Launch) (Γ : Gh) (ad : Nat → Nat → Nat) (x0 : Nat) (x1 : Int32) (χ : St) (Q : Int32 → St → Prop) : Mt l yX21_isUnder (ws_ yX21_isUnder cX21_isUnder 2 (some .boolean)) (rmO (3) (62) χ) (Pm Γ ad χ [.ref (ad 23 x0), .int x1] (x0 < cn χ 23 ∧ w_X21_isUnder x0 x1 χ Q)) (Qm Γ true ad χ (pI Q)) (frB Γ) := by
  refine Mt.start (by decide) RX21 rfl (Nat.le_of_ble_eq_true rfl) ?_
  intro X hX hG _ _ hna _ ⟨hv0, hf⟩
  unfold w_X21_isUnder at hf
  refine g_iload_n hX 1 dX21_isUnder_0 rfl rfl ?_
  refine g_iconst hX (v := (4 : Int32)) dX21_isUnder_1 rfl ?_
  refine g_icmp_eq hX 13 dX21_isUnder_2 (by decide) (fun z => ?_) (fun z => ?_)
  · replace hf := hf.1 z
    refine g_iconst hX (v := (1 : Int32)) dX21_isUnder_13 rfl ?_
    refine g_goto hX 18 dX21_isUnder_14 (by decide) ?_
    exact g_zret hX rfl ⟨_, rfl, hf⟩ dX21_isUnder_18
  · replace hf := hf.2 z
    refine g_aload_n hX 0 dX21_isUnder_5 rfl rfl ?_
    refine g_iload_n hX 1 dX21_isUnder_6 rfl rfl ?_
    have hg3 := hf.1
    replace hf := hf.2
    refine gs_X21_isUnder_7 hX hf hg3 (by decide) hv0 (Nat.le_of_ble_eq_true rfl) dX21_isUnder_7 (fun r1 χ2 hf hc2 => ?_)
    refine g_if_eq hX 17 dX21_isUnder_10 (by decide) (fun z => ?_) (fun z => ?_)
    · replace hf := hf.1 z
      refine g_iconst hX (v := (0 : Int32)) dX21_isUnder_17 rfl ?_
      exact g_zret hX rfl ⟨_, rfl, hf⟩ dX21_isUnder_18
    · replace hf := hf.2 z
      refine g_iconst hX (v := (1 : Int32)) dX21_isUnder_13 rfl ?_
      refine g_goto hX 18 dX21_isUnder_14 (by decide) ?_
      exact g_zret hX rfl ⟨_, rfl, hf⟩ dX21_isUnder_18

def w_D_isUnder (i : Nat) (a0 : Int32) (χ : St) (Q : Int32 → St → Prop) : Prop := (tg χ 23 i = 0 → w_X17_isUnder i a0 χ Q) ∧ (tg χ 23 i = 1 → w_X18_isUnder i a0 χ Q) ∧ (tg χ 23 i = 2 → w_X19_isUnder i a0 χ Q) ∧ (tg χ 23 i = 3 → w_X20_isUnder i a0 χ Q) ∧ (tg χ 23 i = 4 → w_X21_isUnder i a0 χ Q) ∧ (tg χ 23 i = 5 → w_X20_isUnder i a0 χ Q) ∧ (tg χ 23 i = 6 → w_X17_isUnder i a0 χ Q) ∧ (tg χ 23 i = 7 → w_X21_isUnder i a0 χ Q)

def w_X16_init (x0 : Nat) (χ : St) (Q : St → Prop) : Prop := (Q χ)
set_option maxHeartbeats 4000000 in
theorem mt_X16_init (l : Launch) (Γ : Gh) (ad : Nat → Nat → Nat) (x0 : Nat) (χ : St) (Q : St → Prop) : Mt l yX16_init (ws_ yX16_init cX16_init 1 (none)) (rmO (1) (20) χ) (Pm Γ ad χ [.ref (ad 23 x0)] (x0 < cn χ 23 ∧ w_X16_init x0 χ Q)) (Qm Γ true ad χ (pV Q)) (frB Γ) := by
  refine Mt.start (by decide) RX16 rfl (Nat.le_of_ble_eq_true rfl) ?_
  intro X hX hG _ _ hna _ ⟨hv0, hf⟩
  unfold w_X16_init at hf
  refine g_aload_n hX 0 dX16_init_0 rfl rfl ?_
  refine g_objInit hX q1031 q138 q139 ⟨by decide, by decide⟩ (Nat.le_of_ble_eq_true rfl) dX16_init_1 ?_
  exact g_vret hX ⟨rfl, hf⟩ dX16_init_4

def w_X17_init (x0 : Nat) (x2 : Int32) (χ : St) (Q : St → Prop) : Prop := (tg χ 23 x0 = 0 ∨ tg χ 23 x0 = 1 ∨ tg χ 23 x0 = 2 ∨ tg χ 23 x0 = 3 ∨ tg χ 23 x0 = 4 ∨ tg χ 23 x0 = 5 ∨ tg χ 23 x0 = 6 ∨ tg χ 23 x0 = 7) ∧ ((∀ χ1 : St, χ1 = (sR χ 2401 x0 0 (some 0)) → (w_X16_init x0 χ1 (fun χ2 => (tg χ2 23 x0 = 0 ∨ tg χ2 23 x0 = 1 ∨ tg χ2 23 x0 = 2 ∨ tg χ2 23 x0 = 3 ∨ tg χ2 23 x0 = 4 ∨ tg χ2 23 x0 = 5 ∨ tg χ2 23 x0 = 6 ∨ tg χ2 23 x0 = 7) ∧ ((∀ χ3 : St, χ3 = (sI χ2 2400 x0 0 x2) → (Q χ3)))))))
set_option maxHeartbeats 4000000 in
theorem mt_X17_init (l : Launch) (Γ : Gh) (ad : Nat → Nat → Nat) (x0 : Nat) (x2 : Int32) (χ : St) (Q : St → Prop) : Mt l yX17_init (ws_ yX17_init cX17_init 3 (none)) (rmO (2) (40) χ) (Pm Γ ad χ [.ref (ad 23 x0), .ref (ad 0 0), .int x2] (x0 < cn χ 23 ∧ w_X17_init x0 x2 χ Q)) (Qm Γ true ad χ (pV Q)) (frB Γ) := by
  refine Mt.start (by decide) RX17 rfl (Nat.le_of_ble_eq_true rfl) ?_
  intro X hX hG _ _ hna _ ⟨hv0, hf⟩
  unfold w_X17_init at hf
  refine g_aload_n hX 0 dX17_init_0 rfl rfl ?_
  refine g_aload_n hX 1 dX17_init_1 rfl rfl ?_
  refine g_hputthis_Plain hX rfl hv0 hf.1 q1034 dX17_init_2 ?_
  replace hf := hf.2
  replace hf := hf _ rfl
  refine g_aload_n hX 0 dX17_init_5 rfl rfl ?_
  refine g_callINv hX (n := 0) (mt_X16_init X.l X.Γ _ _ _ _) ⟨hv0, hf⟩ rfl q1028 q1029 q115 q1030 hy_X16_init (by decide) rfl rfl (Nat.le_of_ble_eq_true rfl) dX17_init_6 (fun χ2 hf hc2 => ?_)
  refine g_aload_n hX 0 dX17_init_9 rfl rfl ?_
  refine g_iload_n hX 2 dX17_init_10 rfl rfl ?_
  refine g_hputnum hX rfl (Nat.lt_of_lt_of_le hv0 (hc2 23)) hf.1 q1033 dX17_init_11 ?_
  replace hf := hf.2
  replace hf := hf _ rfl
  exact g_vret hX ⟨rfl, hf⟩ dX17_init_14

def w_X18_init (x0 : Nat) (x2 : Int32) (χ : St) (Q : St → Prop) : Prop := (tg χ 23 x0 = 1 ∨ tg χ 23 x0 = 4 ∨ tg χ 23 x0 = 7) ∧ ((∀ χ1 : St, χ1 = (sR χ 2402 x0 0 (some 0)) → (w_X17_init x0 x2 χ1 (fun χ2 => (Q χ2)))))
set_option maxHeartbeats 4000000 in
theorem mt_X18_init (l : Launch) (Γ : Gh) (ad : Nat → Nat → Nat) (x0 : Nat) (x2 : Int32) (χ : St) (Q : St → Prop) : Mt l yX18_init (ws_ yX18_init cX18_init 3 (none)) (rmO (3) (62) χ) (Pm Γ ad χ [.ref (ad 23 x0), .ref (ad 0 0), .int x2] (x0 < cn χ 23 ∧ w_X18_init x0 x2 χ Q)) (Qm Γ true ad χ (pV Q)) (frB Γ) := by
  refine Mt.start (by decide) RX18 rfl (Nat.le_of_ble_eq_true rfl) ?_
  intro X hX hG _ _ hna _ ⟨hv0, hf⟩
  unfold w_X18_init at hf
  refine g_aload_n hX 0 dX18_init_0 rfl rfl ?_
  refine g_aload_n hX 1 dX18_init_1 rfl rfl ?_
  refine g_hputthis_Old hX rfl hv0 hf.1 q1032 dX18_init_2 ?_
  replace hf := hf.2
  replace hf := hf _ rfl
  refine g_aload_n hX 0 dX18_init_5 rfl rfl ?_
  refine g_aload_n hX 1 dX18_init_6 rfl rfl ?_
  refine g_iload_n hX 2 dX18_init_7 rfl rfl ?_
  refine g_callIv hX (n := 2) (mt_X17_init X.l X.Γ _ _ _ _ _) ⟨hv0, hf⟩ rfl q1025 q1026 q116 q1027 hy_X17_init (by decide) rfl rfl (Nat.le_of_ble_eq_true rfl) dX18_init_8 (fun χ2 hf hc2 => ?_)
  exact g_vret hX ⟨rfl, hf⟩ dX18_init_11

def w_X19_init (x0 : Nat) (x2 : Int32) (χ : St) (Q : St → Prop) : Prop := (tg χ 23 x0 = 2 ∨ tg χ 23 x0 = 3 ∨ tg χ 23 x0 = 5) ∧ ((∀ χ1 : St, χ1 = (sR χ 2403 x0 0 (some 0)) → (w_X17_init x0 x2 χ1 (fun χ2 => (Q χ2)))))
set_option maxHeartbeats 4000000 in
theorem mt_X19_init (l : Launch) (Γ : Gh) (ad : Nat → Nat → Nat) (x0 : Nat) (x2 : Int32) (χ : St) (Q : St → Prop) : Mt l yX19_init (ws_ yX19_init cX19_init 3 (none)) (rmO (3) (62) χ) (Pm Γ ad χ [.ref (ad 23 x0), .ref (ad 0 0), .int x2] (x0 < cn χ 23 ∧ w_X19_init x0 x2 χ Q)) (Qm Γ true ad χ (pV Q)) (frB Γ) := by
  refine Mt.start (by decide) RX19 rfl (Nat.le_of_ble_eq_true rfl) ?_
  intro X hX hG _ _ hna _ ⟨hv0, hf⟩
  unfold w_X19_init at hf
  refine g_aload_n hX 0 dX19_init_0 rfl rfl ?_
  refine g_aload_n hX 1 dX19_init_1 rfl rfl ?_
  refine g_hputthis_Mended hX rfl hv0 hf.1 q1048 dX19_init_2 ?_
  replace hf := hf.2
  replace hf := hf _ rfl
  refine g_aload_n hX 0 dX19_init_5 rfl rfl ?_
  refine g_aload_n hX 1 dX19_init_6 rfl rfl ?_
  refine g_iload_n hX 2 dX19_init_7 rfl rfl ?_
  refine g_callIv hX (n := 2) (mt_X17_init X.l X.Γ _ _ _ _ _) ⟨hv0, hf⟩ rfl q1047 q1026 q116 q1027 hy_X17_init (by decide) rfl rfl (Nat.le_of_ble_eq_true rfl) dX19_init_8 (fun χ2 hf hc2 => ?_)
  exact g_vret hX ⟨rfl, hf⟩ dX19_init_11

def w_X20_init (x0 : Nat) (x2 : Int32) (χ : St) (Q : St → Prop) : Prop := (tg χ 23 x0 = 3 ∨ tg χ 23 x0 = 5) ∧ ((∀ χ1 : St, χ1 = (sR χ 2404 x0 0 (some 0)) → (w_X19_init x0 x2 χ1 (fun χ2 => (Q χ2)))))
set_option maxHeartbeats 4000000 in
theorem mt_X20_init (l : Launch) (Γ : Gh) (ad : Nat → Nat → Nat) (x0 : Nat) (x2 : Int32) (χ : St) (Q : St → Prop) : Mt l yX20_init (ws_ yX20_init cX20_init 3 (none)) (rmO (4) (84) χ) (Pm Γ ad χ [.ref (ad 23 x0), .ref (ad 0 0), .int x2] (x0 < cn χ 23 ∧ w_X20_init x0 x2 χ Q)) (Qm Γ true ad χ (pV Q)) (frB Γ) := by
  refine Mt.start (by decide) RX20 rfl (Nat.le_of_ble_eq_true rfl) ?_
  intro X hX hG _ _ hna _ ⟨hv0, hf⟩
  unfold w_X20_init at hf
  refine g_aload_n hX 0 dX20_init_0 rfl rfl ?_
  refine g_aload_n hX 1 dX20_init_1 rfl rfl ?_
  refine g_hputthis_Aged hX rfl hv0 hf.1 q1060 dX20_init_2 ?_
  replace hf := hf.2
  replace hf := hf _ rfl
  refine g_aload_n hX 0 dX20_init_5 rfl rfl ?_
  refine g_aload_n hX 1 dX20_init_6 rfl rfl ?_
  refine g_iload_n hX 2 dX20_init_7 rfl rfl ?_
  refine g_callIv hX (n := 2) (mt_X19_init X.l X.Γ _ _ _ _ _) ⟨hv0, hf⟩ rfl q1059 q1045 q118 q1046 hy_X19_init (by decide) rfl rfl (Nat.le_of_ble_eq_true rfl) dX20_init_8 (fun χ2 hf hc2 => ?_)
  exact g_vret hX ⟨rfl, hf⟩ dX20_init_11

def w_X21_init (x0 : Nat) (x2 : Int32) (χ : St) (Q : St → Prop) : Prop := (tg χ 23 x0 = 4 ∨ tg χ 23 x0 = 7) ∧ ((∀ χ1 : St, χ1 = (sR χ 2405 x0 0 (some 0)) → (w_X18_init x0 x2 χ1 (fun χ2 => (Q χ2)))))
set_option maxHeartbeats 4000000 in
theorem mt_X21_init (l : Launch) (Γ : Gh) (ad : Nat → Nat → Nat) (x0 : Nat) (x2 : Int32) (χ : St) (Q : St → Prop) : Mt l yX21_init (ws_ yX21_init cX21_init 3 (none)) (rmO (4) (84) χ) (Pm Γ ad χ [.ref (ad 23 x0), .ref (ad 0 0), .int x2] (x0 < cn χ 23 ∧ w_X21_init x0 x2 χ Q)) (Qm Γ true ad χ (pV Q)) (frB Γ) := by
  refine Mt.start (by decide) RX21 rfl (Nat.le_of_ble_eq_true rfl) ?_
  intro X hX hG _ _ hna _ ⟨hv0, hf⟩
  unfold w_X21_init at hf
  refine g_aload_n hX 0 dX21_init_0 rfl rfl ?_
  refine g_aload_n hX 1 dX21_init_1 rfl rfl ?_
  refine g_hputthis_Split hX rfl hv0 hf.1 q1073 dX21_init_2 ?_
  replace hf := hf.2
  replace hf := hf _ rfl
  refine g_aload_n hX 0 dX21_init_5 rfl rfl ?_
  refine g_aload_n hX 1 dX21_init_6 rfl rfl ?_
  refine g_iload_n hX 2 dX21_init_7 rfl rfl ?_
  refine g_callIv hX (n := 2) (mt_X18_init X.l X.Γ _ _ _ _ _) ⟨hv0, hf⟩ rfl q1072 q1023 q117 q1024 hy_X18_init (by decide) rfl rfl (Nat.le_of_ble_eq_true rfl) dX21_init_8 (fun χ2 hf hc2 => ?_)
  exact g_vret hX ⟨rfl, hf⟩ dX21_init_11

def w_X22_init (x0 : Nat) (x2 : Int32) (χ : St) (Q : St → Prop) : Prop := (tg χ 23 x0 = 5) ∧ ((∀ χ1 : St, χ1 = (sR χ 2406 x0 0 (some 0)) → (w_X20_init x0 x2 χ1 (fun χ2 => (Q χ2)))))
set_option maxHeartbeats 4000000 in
theorem mt_X22_init (l : Launch) (Γ : Gh) (ad : Nat → Nat → Nat) (x0 : Nat) (x2 : Int32) (χ : St) (Q : St → Prop) : Mt l yX22_init (ws_ yX22_init cX22_init 3 (none)) (rmO (5) (106) χ) (Pm Γ ad χ [.ref (ad 23 x0), .ref (ad 0 0), .int x2] (x0 < cn χ 23 ∧ w_X22_init x0 x2 χ Q)) (Qm Γ true ad χ (pV Q)) (frB Γ) := by
  refine Mt.start (by decide) RX22 rfl (Nat.le_of_ble_eq_true rfl) ?_
  intro X hX hG _ _ hna _ ⟨hv0, hf⟩
  unfold w_X22_init at hf
  refine g_aload_n hX 0 dX22_init_0 rfl rfl ?_
  refine g_aload_n hX 1 dX22_init_1 rfl rfl ?_
  refine g_hputthis_Cut hX rfl hv0 hf.1 q1086 dX22_init_2 ?_
  replace hf := hf.2
  replace hf := hf _ rfl
  refine g_aload_n hX 0 dX22_init_5 rfl rfl ?_
  refine g_aload_n hX 1 dX22_init_6 rfl rfl ?_
  refine g_iload_n hX 2 dX22_init_7 rfl rfl ?_
  refine g_callIv hX (n := 2) (mt_X20_init X.l X.Γ _ _ _ _ _) ⟨hv0, hf⟩ rfl q1085 q1057 q119 q1058 hy_X20_init (by decide) rfl rfl (Nat.le_of_ble_eq_true rfl) dX22_init_8 (fun χ2 hf hc2 => ?_)
  exact g_vret hX ⟨rfl, hf⟩ dX22_init_11

def w_X23_init (x0 : Nat) (x2 : Int32) (χ : St) (Q : St → Prop) : Prop := (tg χ 23 x0 = 6) ∧ ((∀ χ1 : St, χ1 = (sR χ 2407 x0 0 (some 0)) → (w_X17_init x0 x2 χ1 (fun χ2 => (Q χ2)))))
set_option maxHeartbeats 4000000 in
theorem mt_X23_init (l : Launch) (Γ : Gh) (ad : Nat → Nat → Nat) (x0 : Nat) (x2 : Int32) (χ : St) (Q : St → Prop) : Mt l yX23_init (ws_ yX23_init cX23_init 3 (none)) (rmO (3) (62) χ) (Pm Γ ad χ [.ref (ad 23 x0), .ref (ad 0 0), .int x2] (x0 < cn χ 23 ∧ w_X23_init x0 x2 χ Q)) (Qm Γ true ad χ (pV Q)) (frB Γ) := by
  refine Mt.start (by decide) RX23 rfl (Nat.le_of_ble_eq_true rfl) ?_
  intro X hX hG _ _ hna _ ⟨hv0, hf⟩
  unfold w_X23_init at hf
  refine g_aload_n hX 0 dX23_init_0 rfl rfl ?_
  refine g_aload_n hX 1 dX23_init_1 rfl rfl ?_
  refine g_hputthis_Fresh hX rfl hv0 hf.1 q1100 dX23_init_2 ?_
  replace hf := hf.2
  replace hf := hf _ rfl
  refine g_aload_n hX 0 dX23_init_5 rfl rfl ?_
  refine g_aload_n hX 1 dX23_init_6 rfl rfl ?_
  refine g_iload_n hX 2 dX23_init_7 rfl rfl ?_
  refine g_callIv hX (n := 2) (mt_X17_init X.l X.Γ _ _ _ _ _) ⟨hv0, hf⟩ rfl q1099 q1026 q116 q1027 hy_X17_init (by decide) rfl rfl (Nat.le_of_ble_eq_true rfl) dX23_init_8 (fun χ2 hf hc2 => ?_)
  exact g_vret hX ⟨rfl, hf⟩ dX23_init_11

def w_X24_init (x0 : Nat) (x2 : Int32) (χ : St) (Q : St → Prop) : Prop := (tg χ 23 x0 = 7) ∧ ((∀ χ1 : St, χ1 = (sR χ 2408 x0 0 (some 0)) → (w_X21_init x0 x2 χ1 (fun χ2 => (Q χ2)))))
set_option maxHeartbeats 4000000 in
theorem mt_X24_init (l : Launch) (Γ : Gh) (ad : Nat → Nat → Nat) (x0 : Nat) (x2 : Int32) (χ : St) (Q : St → Prop) : Mt l yX24_init (ws_ yX24_init cX24_init 3 (none)) (rmO (5) (106) χ) (Pm Γ ad χ [.ref (ad 23 x0), .ref (ad 0 0), .int x2] (x0 < cn χ 23 ∧ w_X24_init x0 x2 χ Q)) (Qm Γ true ad χ (pV Q)) (frB Γ) := by
  refine Mt.start (by decide) RX24 rfl (Nat.le_of_ble_eq_true rfl) ?_
  intro X hX hG _ _ hna _ ⟨hv0, hf⟩
  unfold w_X24_init at hf
  refine g_aload_n hX 0 dX24_init_0 rfl rfl ?_
  refine g_aload_n hX 1 dX24_init_1 rfl rfl ?_
  refine g_hputthis_Foreign hX rfl hv0 hf.1 q1112 dX24_init_2 ?_
  replace hf := hf.2
  replace hf := hf _ rfl
  refine g_aload_n hX 0 dX24_init_5 rfl rfl ?_
  refine g_aload_n hX 1 dX24_init_6 rfl rfl ?_
  refine g_iload_n hX 2 dX24_init_7 rfl rfl ?_
  refine g_callIv hX (n := 2) (mt_X21_init X.l X.Γ _ _ _ _ _) ⟨hv0, hf⟩ rfl q1111 q1070 q120 q1071 hy_X21_init (by decide) rfl rfl (Nat.le_of_ble_eq_true rfl) dX24_init_8 (fun χ2 hf hc2 => ?_)
  exact g_vret hX ⟨rfl, hf⟩ dX24_init_11

def w_C_made (x1 : Int32) (χ : St) (Q : Option Nat → St → Prop) : Prop := (∀ v1 : Int32, v1 = x1 → ((v1 = (1 : Int32) → (uC χ + 1 ≤ 603072) ∧ (uS χ + 3 ≤ 7262314) ∧ ((∀ χ2 : St, χ2 = (alo χ 23 1 3) → (w_X18_init (nO χ 23) (gI χ2 123 0 0) χ2 (fun χ3 => (Q (some (nO χ 23)) χ3)))))) ∧ (v1 = (2 : Int32) → (uC χ + 1 ≤ 603072) ∧ (uS χ + 3 ≤ 7262314) ∧ ((∀ χ4 : St, χ4 = (alo χ 23 2 3) → (w_X19_init (nO χ 23) (gI χ4 123 0 0) χ4 (fun χ5 => (Q (some (nO χ 23)) χ5)))))) ∧ (v1 = (3 : Int32) → (uC χ + 1 ≤ 603072) ∧ (uS χ + 4 ≤ 7262314) ∧ ((∀ χ6 : St, χ6 = (alo χ 23 3 4) → (w_X20_init (nO χ 23) (gI χ6 123 0 0) χ6 (fun χ7 => (Q (some (nO χ 23)) χ7)))))) ∧ (v1 = (4 : Int32) → (uC χ + 1 ≤ 603072) ∧ (uS χ + 4 ≤ 7262314) ∧ ((∀ χ8 : St, χ8 = (alo χ 23 4 4) → (w_X21_init (nO χ 23) (gI χ8 123 0 0) χ8 (fun χ9 => (Q (some (nO χ 23)) χ9)))))) ∧ (v1 = (5 : Int32) → (uC χ + 1 ≤ 603072) ∧ (uS χ + 5 ≤ 7262314) ∧ ((∀ χ10 : St, χ10 = (alo χ 23 5 5) → (w_X22_init (nO χ 23) (gI χ10 123 0 0) χ10 (fun χ11 => (Q (some (nO χ 23)) χ11)))))) ∧ (v1 = (6 : Int32) → (uC χ + 1 ≤ 603072) ∧ (uS χ + 3 ≤ 7262314) ∧ ((∀ χ12 : St, χ12 = (alo χ 23 6 3) → (w_X23_init (nO χ 23) (gI χ12 123 0 0) χ12 (fun χ13 => (Q (some (nO χ 23)) χ13)))))) ∧ (v1 = (7 : Int32) → (uC χ + 1 ≤ 603072) ∧ (uS χ + 5 ≤ 7262314) ∧ ((∀ χ14 : St, χ14 = (alo χ 23 7 5) → (w_X24_init (nO χ 23) (gI χ14 123 0 0) χ14 (fun χ15 => (Q (some (nO χ 23)) χ15)))))) ∧ (¬ v1 = (1 : Int32) → ¬ v1 = (2 : Int32) → ¬ v1 = (3 : Int32) → ¬ v1 = (4 : Int32) → ¬ v1 = (5 : Int32) → ¬ v1 = (6 : Int32) → ¬ v1 = (7 : Int32) → (uC χ + 1 ≤ 603072) ∧ (uS χ + 2 ≤ 7262314) ∧ ((∀ χ16 : St, χ16 = (alo χ 23 0 2) → (w_X17_init (nO χ 23) (gI χ16 123 0 0) χ16 (fun χ17 => (Q (some (nO χ 23)) χ17))))))))
set_option maxHeartbeats 4000000 in
theorem mt_C_made (l : Launch) (Γ : Gh) (ad : Nat → Nat → Nat) (x1 : Int32) (χ : St) (Q : Option Nat → St → Prop) : Mt l yX0_made (ws_ yX0_made cX0_made 2 (some (.object "ChairOld$Plain"))) (rmO (6) (128) χ) (Pm Γ ad χ [.ref (ad 0 0), .int x1] (w_C_made x1 χ Q)) (Qm Γ false ad χ (pR 23 Q)) (frB Γ) := by
  refine Mt.start (by decide) RX0 rfl (Nat.le_of_ble_eq_true rfl) ?_
  intro X hX hG _ _ hna _ hf
  unfold w_C_made at hf
  refine g_iload_n hX 1 dX0_made_0 rfl rfl ?_
  replace hf := hf _ rfl
  by_cases z1 : x1 = (1 : Int32)
  · replace hf := hf.1 z1
    refine g_tableIn hX 44 dX0_made_1 (by rw [z1]; decide) (by rw [z1]; decide) (by rw [z1] <;> rfl) (by decide) ?_
    refine g_new hX hna (c := 23) (t := 1) tyX18 rfl rfl (by decide) rfl in_X18 tyX18_ok df_X18 q1020 q1021 q117 hf.1 hf.2.1 dX0_made_44 (fun ad2 hE2 => ?_)
    replace hf := hf.2.2 _ rfl
    rw [← hE2.1 0 0 (fc0 _)]
    refine g_dup hX dX0_made_47 rfl ?_
    refine g_aload_n hX 0 dX0_made_48 rfl rfl ?_
    refine g_aload_n hX 0 dX0_made_49 rfl rfl ?_
    refine g_getI hX (k := 23) (fc0 _) ff0 rfl rfl in_X0 (by decide) q223 dX0_made_50 ?_
    refine g_callIv hX (n := 2) (mt_X18_init X.l X.Γ _ _ _ _ _) ⟨(new_lt rfl), hf⟩ rfl q1022 q1023 q117 q1024 hy_X18_init (by decide) rfl rfl (Nat.le_of_ble_eq_true rfl) dX0_made_53 (fun χ3 hf hc3 => ?_)
    exact g_aret hX rfl (Or.inr ⟨_, rfl⟩) ⟨some _, rfl, (fun x e => by cases e; exact (Nat.lt_of_lt_of_le (new_lt rfl) (hc3 23))), hf⟩ dX0_made_56
  replace hf := hf.2
  by_cases z2 : x1 = (2 : Int32)
  · replace hf := hf.1 z2
    refine g_tableIn hX 57 dX0_made_1 (by rw [z2]; decide) (by rw [z2]; decide) (by rw [z2] <;> rfl) (by decide) ?_
    refine g_new hX hna (c := 23) (t := 2) tyX19 rfl rfl (by decide) rfl in_X19 tyX19_ok df_X19 q1042 q1043 q118 hf.1 hf.2.1 dX0_made_57 (fun ad4 hE4 => ?_)
    replace hf := hf.2.2 _ rfl
    rw [← hE4.1 0 0 (fc0 _)]
    refine g_dup hX dX0_made_60 rfl ?_
    refine g_aload_n hX 0 dX0_made_61 rfl rfl ?_
    refine g_aload_n hX 0 dX0_made_62 rfl rfl ?_
    refine g_getI hX (k := 23) (fc0 _) ff0 rfl rfl in_X0 (by decide) q223 dX0_made_63 ?_
    refine g_callIv hX (n := 2) (mt_X19_init X.l X.Γ _ _ _ _ _) ⟨(new_lt rfl), hf⟩ rfl q1044 q1045 q118 q1046 hy_X19_init (by decide) rfl rfl (Nat.le_of_ble_eq_true rfl) dX0_made_66 (fun χ5 hf hc5 => ?_)
    exact g_aret hX rfl (Or.inr ⟨_, rfl⟩) ⟨some _, rfl, (fun x e => by cases e; exact (Nat.lt_of_lt_of_le (new_lt rfl) (hc5 23))), hf⟩ dX0_made_69
  replace hf := hf.2
  by_cases z3 : x1 = (3 : Int32)
  · replace hf := hf.1 z3
    refine g_tableIn hX 70 dX0_made_1 (by rw [z3]; decide) (by rw [z3]; decide) (by rw [z3] <;> rfl) (by decide) ?_
    refine g_new hX hna (c := 23) (t := 3) tyX20 rfl rfl (by decide) rfl in_X20 tyX20_ok df_X20 q1054 q1055 q119 hf.1 hf.2.1 dX0_made_70 (fun ad6 hE6 => ?_)
    replace hf := hf.2.2 _ rfl
    rw [← hE6.1 0 0 (fc0 _)]
    refine g_dup hX dX0_made_73 rfl ?_
    refine g_aload_n hX 0 dX0_made_74 rfl rfl ?_
    refine g_aload_n hX 0 dX0_made_75 rfl rfl ?_
    refine g_getI hX (k := 23) (fc0 _) ff0 rfl rfl in_X0 (by decide) q223 dX0_made_76 ?_
    refine g_callIv hX (n := 2) (mt_X20_init X.l X.Γ _ _ _ _ _) ⟨(new_lt rfl), hf⟩ rfl q1056 q1057 q119 q1058 hy_X20_init (by decide) rfl rfl (Nat.le_of_ble_eq_true rfl) dX0_made_79 (fun χ7 hf hc7 => ?_)
    exact g_aret hX rfl (Or.inr ⟨_, rfl⟩) ⟨some _, rfl, (fun x e => by cases e; exact (Nat.lt_of_lt_of_le (new_lt rfl) (hc7 23))), hf⟩ dX0_made_82
  replace hf := hf.2
  by_cases z4 : x1 = (4 : Int32)
  · replace hf := hf.1 z4
    refine g_tableIn hX 83 dX0_made_1 (by rw [z4]; decide) (by rw [z4]; decide) (by rw [z4] <;> rfl) (by decide) ?_
    refine g_new hX hna (c := 23) (t := 4) tyX21 rfl rfl (by decide) rfl in_X21 tyX21_ok df_X21 q1067 q1068 q120 hf.1 hf.2.1 dX0_made_83 (fun ad8 hE8 => ?_)
    replace hf := hf.2.2 _ rfl
    rw [← hE8.1 0 0 (fc0 _)]
    refine g_dup hX dX0_made_86 rfl ?_
    refine g_aload_n hX 0 dX0_made_87 rfl rfl ?_
    refine g_aload_n hX 0 dX0_made_88 rfl rfl ?_
    refine g_getI hX (k := 23) (fc0 _) ff0 rfl rfl in_X0 (by decide) q223 dX0_made_89 ?_
    refine g_callIv hX (n := 2) (mt_X21_init X.l X.Γ _ _ _ _ _) ⟨(new_lt rfl), hf⟩ rfl q1069 q1070 q120 q1071 hy_X21_init (by decide) rfl rfl (Nat.le_of_ble_eq_true rfl) dX0_made_92 (fun χ9 hf hc9 => ?_)
    exact g_aret hX rfl (Or.inr ⟨_, rfl⟩) ⟨some _, rfl, (fun x e => by cases e; exact (Nat.lt_of_lt_of_le (new_lt rfl) (hc9 23))), hf⟩ dX0_made_95
  replace hf := hf.2
  by_cases z5 : x1 = (5 : Int32)
  · replace hf := hf.1 z5
    refine g_tableIn hX 96 dX0_made_1 (by rw [z5]; decide) (by rw [z5]; decide) (by rw [z5] <;> rfl) (by decide) ?_
    refine g_new hX hna (c := 23) (t := 5) tyX22 rfl rfl (by decide) rfl in_X22 tyX22_ok df_X22 q1080 q1081 q121 hf.1 hf.2.1 dX0_made_96 (fun ad10 hE10 => ?_)
    replace hf := hf.2.2 _ rfl
    rw [← hE10.1 0 0 (fc0 _)]
    refine g_dup hX dX0_made_99 rfl ?_
    refine g_aload_n hX 0 dX0_made_100 rfl rfl ?_
    refine g_aload_n hX 0 dX0_made_101 rfl rfl ?_
    refine g_getI hX (k := 23) (fc0 _) ff0 rfl rfl in_X0 (by decide) q223 dX0_made_102 ?_
    refine g_callIv hX (n := 2) (mt_X22_init X.l X.Γ _ _ _ _ _) ⟨(new_lt rfl), hf⟩ rfl q1082 q1083 q121 q1084 hy_X22_init (by decide) rfl rfl (Nat.le_of_ble_eq_true rfl) dX0_made_105 (fun χ11 hf hc11 => ?_)
    exact g_aret hX rfl (Or.inr ⟨_, rfl⟩) ⟨some _, rfl, (fun x e => by cases e; exact (Nat.lt_of_lt_of_le (new_lt rfl) (hc11 23))), hf⟩ dX0_made_108
  replace hf := hf.2
  by_cases z6 : x1 = (6 : Int32)
  · replace hf := hf.1 z6
    refine g_tableIn hX 109 dX0_made_1 (by rw [z6]; decide) (by rw [z6]; decide) (by rw [z6] <;> rfl) (by decide) ?_
    refine g_new hX hna (c := 23) (t := 6) tyX23 rfl rfl (by decide) rfl in_X23 tyX23_ok df_X23 q1094 q1095 q122 hf.1 hf.2.1 dX0_made_109 (fun ad12 hE12 => ?_)
    replace hf := hf.2.2 _ rfl
    rw [← hE12.1 0 0 (fc0 _)]
    refine g_dup hX dX0_made_112 rfl ?_
    refine g_aload_n hX 0 dX0_made_113 rfl rfl ?_
    refine g_aload_n hX 0 dX0_made_114 rfl rfl ?_
    refine g_getI hX (k := 23) (fc0 _) ff0 rfl rfl in_X0 (by decide) q223 dX0_made_115 ?_
    refine g_callIv hX (n := 2) (mt_X23_init X.l X.Γ _ _ _ _ _) ⟨(new_lt rfl), hf⟩ rfl q1096 q1097 q122 q1098 hy_X23_init (by decide) rfl rfl (Nat.le_of_ble_eq_true rfl) dX0_made_118 (fun χ13 hf hc13 => ?_)
    exact g_aret hX rfl (Or.inr ⟨_, rfl⟩) ⟨some _, rfl, (fun x e => by cases e; exact (Nat.lt_of_lt_of_le (new_lt rfl) (hc13 23))), hf⟩ dX0_made_121
  replace hf := hf.2
  by_cases z7 : x1 = (7 : Int32)
  · replace hf := hf.1 z7
    refine g_tableIn hX 122 dX0_made_1 (by rw [z7]; decide) (by rw [z7]; decide) (by rw [z7] <;> rfl) (by decide) ?_
    refine g_new hX hna (c := 23) (t := 7) tyX24 rfl rfl (by decide) rfl in_X24 tyX24_ok df_X24 q1106 q1107 q123 hf.1 hf.2.1 dX0_made_122 (fun ad14 hE14 => ?_)
    replace hf := hf.2.2 _ rfl
    rw [← hE14.1 0 0 (fc0 _)]
    refine g_dup hX dX0_made_125 rfl ?_
    refine g_aload_n hX 0 dX0_made_126 rfl rfl ?_
    refine g_aload_n hX 0 dX0_made_127 rfl rfl ?_
    refine g_getI hX (k := 23) (fc0 _) ff0 rfl rfl in_X0 (by decide) q223 dX0_made_128 ?_
    refine g_callIv hX (n := 2) (mt_X24_init X.l X.Γ _ _ _ _ _) ⟨(new_lt rfl), hf⟩ rfl q1108 q1109 q123 q1110 hy_X24_init (by decide) rfl rfl (Nat.le_of_ble_eq_true rfl) dX0_made_131 (fun χ15 hf hc15 => ?_)
    exact g_aret hX rfl (Or.inr ⟨_, rfl⟩) ⟨some _, rfl, (fun x e => by cases e; exact (Nat.lt_of_lt_of_le (new_lt rfl) (hc15 23))), hf⟩ dX0_made_134
  replace hf := hf.2
  replace hf := hf z1 z2 z3 z4 z5 z6 z7
  refine g_tableOut hX 135 dX0_made_1 (tb_out (fun v h1 h2 => ?_)) (by decide) ?_
  · have h3 : v = 1 ∨ v = 2 ∨ v = 3 ∨ v = 4 ∨ v = 5 ∨ v = 6 ∨ v = 7 := by omega
    rcases h3 with rfl | rfl | rfl | rfl | rfl | rfl | rfl
    · exact z1
    · exact z2
    · exact z3
    · exact z4
    · exact z5
    · exact z6
    · exact z7
  refine g_new hX hna (c := 23) (t := 0) tyX17 rfl rfl (by decide) rfl in_X17 tyX17_ok df_X17 q194 q1120 q116 hf.1 hf.2.1 dX0_made_135 (fun ad16 hE16 => ?_)
  replace hf := hf.2.2 _ rfl
  rw [← hE16.1 0 0 (fc0 _)]
  refine g_dup hX dX0_made_138 rfl ?_
  refine g_aload_n hX 0 dX0_made_139 rfl rfl ?_
  refine g_aload_n hX 0 dX0_made_140 rfl rfl ?_
  refine g_getI hX (k := 23) (fc0 _) ff0 rfl rfl in_X0 (by decide) q223 dX0_made_141 ?_
  refine g_callIv hX (n := 2) (mt_X17_init X.l X.Γ _ _ _ _ _) ⟨(new_lt rfl), hf⟩ rfl q1121 q1026 q116 q1027 hy_X17_init (by decide) rfl rfl (Nat.le_of_ble_eq_true rfl) dX0_made_144 (fun χ17 hf hc17 => ?_)
  exact g_aret hX rfl (Or.inr ⟨_, rfl⟩) ⟨some _, rfl, (fun x e => by cases e; exact (Nat.lt_of_lt_of_le (new_lt rfl) (hc17 23))), hf⟩ dX0_made_147

def w_C_body (x1 : Int32) (χ : St) (Q : Int32 → St → Prop) : Prop := (w_C_in x1 (0 : Int32) (7 : Int32) χ (fun r1 χ2 => ((¬ r1 = 0 → ((¬ (gI χ2 123 0 0) = (50 : Int32) → (w_C_made x1 χ2 (fun o3 χ4 => (∃ z5, o3 = some z5 ∧ ((vp_in (gI χ2 123 0 0) 50) ∧ ((tg χ4 23 z5 = 0 ∨ tg χ4 23 z5 = 1 ∨ tg χ4 23 z5 = 2 ∨ tg χ4 23 z5 = 3 ∨ tg χ4 23 z5 = 4 ∨ tg χ4 23 z5 = 5 ∨ tg χ4 23 z5 = 6 ∨ tg χ4 23 z5 = 7) ∧ ((∀ χ6 : St, χ6 = (sR χ4 16 0 (gI χ2 123 0 0).toNatClampNeg (some z5)) → (∀ χ7 : St, χ7 = (sI χ6 123 0 0 ((gI χ6 123 0 0) + (1 : Int32))) → (Q ((gI χ7 123 0 0) - (1 : Int32)) χ7)))))))))) ∧ ((gI χ2 123 0 0) = (50 : Int32) → (Q (-3 : Int32) χ2)))) ∧ (r1 = 0 → (Q (-1 : Int32) χ2)))))
set_option maxHeartbeats 4000000 in
theorem mt_C_body (l : Launch) (Γ : Gh) (ad : Nat → Nat → Nat) (x1 : Int32) (χ : St) (Q : Int32 → St → Prop) : Mt l yX0_body (ws_ yX0_body cX0_body 2 (some .int)) (rmO (7) (149) χ) (Pm Γ ad χ [.ref (ad 0 0), .int x1] (w_C_body x1 χ Q)) (Qm Γ false ad χ (pI Q)) (frB Γ) := by
  refine Mt.start (by decide) RX0 rfl (Nat.le_of_ble_eq_true rfl) ?_
  intro X hX hG _ _ hna _ hf
  unfold w_C_body at hf
  refine g_iload_n hX 1 dX0_body_0 rfl rfl ?_
  refine g_iconst hX (v := (0 : Int32)) dX0_body_1 rfl ?_
  refine g_bipush hX (v := (7 : Int32)) dX0_body_2 rfl ?_
  refine g_callSi hX (n := 3) (mt_C_in X.l X.Γ _ _ _ _ _ _) hf q281 q282 q85 q283 hy_C_in (by decide) rfl rfl (Nat.le_of_ble_eq_true rfl) dX0_body_4 (fun r1 χ2 hf hc2 => ?_)
  refine g_if_ne hX 12 dX0_body_7 (by decide) (fun z => ?_) (fun z => ?_)
  · replace hf := hf.1 z
    refine g_aload_n hX 0 dX0_body_12 rfl rfl ?_
    refine g_getI hX (k := 23) (fc0 _) ff0 rfl rfl in_X0 (by decide) q223 dX0_body_13 ?_
    refine g_bipush hX (v := (50 : Int32)) dX0_body_16 rfl ?_
    refine g_icmp_ne hX 24 dX0_body_18 (by decide) (fun z => ?_) (fun z => ?_)
    · replace hf := hf.1 z
      refine g_aload_n hX 0 dX0_body_24 rfl rfl ?_
      refine g_getK hX (k := 22) (d := 16) (fc0 _) ff0 rfl (by decide) rfl rfl in_X0 (by decide) q222 dX0_body_25 ?_
      refine g_aload_n hX 0 dX0_body_28 rfl rfl ?_
      refine g_getI hX (k := 23) (fc0 _) ff0 rfl rfl in_X0 (by decide) q223 dX0_body_29 ?_
      refine g_aload_n hX 0 dX0_body_32 rfl rfl ?_
      refine g_iload_n hX 1 dX0_body_33 rfl rfl ?_
      refine g_callVAr hX hna 23 (n := 1) (mt_C_made X.l X.Γ _ _ _ _) hf q1016 q1018 qs40 q85 q1019 ⟨rfl, hy_C_made⟩ (by decide) (fc0 _) ff0 rfl rfl rfl (Nat.le_of_ble_eq_true rfl) dX0_body_34 (fun o3 ad4 χ4 hv4 hf hc4 => ?_)
      rw [← hc4.1 0 0 (fc0 _)]
      rw [← hc4.1 16 0 (fc16 _)]
      obtain ⟨z5, rfl, hf⟩ := hf
      refine g_aast_Plain_b hX hf.1 hf.2.1 (hv4 _ rfl) dX0_body_37 ?_
      replace hf := hf.2.2
      replace hf := hf _ rfl
      refine g_aload_n hX 0 dX0_body_38 rfl rfl ?_
      refine g_dup hX dX0_body_39 rfl ?_
      refine g_getI hX (k := 23) (fc0 _) ff0 rfl rfl in_X0 (by decide) q223 dX0_body_40 ?_
      refine g_iconst hX (v := (1 : Int32)) dX0_body_43 rfl ?_
      refine g_iadd hX dX0_body_44 ?_
      refine g_putI hX (k := 23) (fc0 _) ff0 rfl rfl in_X0 tyX0_ok nmX0 (by decide) q223 rfl rfl rfl rfl dX0_body_45 ?_
      replace hf := hf _ rfl
      refine g_aload_n hX 0 dX0_body_48 rfl rfl ?_
      refine g_getI hX (k := 23) (fc0 _) ff0 rfl rfl in_X0 (by decide) q223 dX0_body_49 ?_
      refine g_iconst hX (v := (1 : Int32)) dX0_body_52 rfl ?_
      refine g_isub hX dX0_body_53 ?_
      exact g_iret hX ⟨_, rfl, hf⟩ dX0_body_54
    · replace hf := hf.2 z
      refine g_bipush hX (v := (-3 : Int32)) dX0_body_21 rfl ?_
      exact g_iret hX ⟨_, rfl, hf⟩ dX0_body_23
  · replace hf := hf.2 z
    refine g_iconst hX (v := (-1 : Int32)) dX0_body_10 rfl ?_
    exact g_iret hX ⟨_, rfl, hf⟩ dX0_body_11

set_option maxHeartbeats 4000000 in
theorem gs_C_act_84 {X : Cx} {cc : ByteArray} {ret : Option FieldType} {y0 : MethodName} {nL F Lo : Nat} {Pst : Option Value → (Nat → Nat → Nat) → St → Prop} {ad : Nat → Nat → Nat} {χ : St} {pc i : Nat} {lv : List (Nat × Value)} {st : List Value} {a0 : Int32} {Q : Int32 → St → Prop} (h : Ok X cc RX0 ret y0 nL F Lo Pst) (hw : w_D_shows i a0 χ Q) (ht : tg χ 23 i = 0 ∨ tg χ 23 i = 1 ∨ tg χ 23 i = 2 ∨ tg χ 23 i = 3 ∨ tg χ 23 i = 4 ∨ tg χ 23 i = 5 ∨ tg χ 23 i = 6 ∨ tg χ 23 i = 7) (hF : 4 ≤ F ∧ 85 ≤ Lo) (hi : i < cn χ 23) (hst : (st.map fun v => v.category).sum ≤ 8) (hd : decode cc pc = .ok (.invokevirtual 417, 3)) (kk : ∀ r χ', Q r χ' → (∀ c, cn χ c ≤ cn χ' c) → G X ad χ' (pc + 3) lv (.int r :: st)) : G X ad χ pc lv (.int a0 :: .ref (ad 23 i) :: st) := by
  have hts := h.2.2.2.2.2.2.1
  have hR := h.2.2.2.2.2.2.2.2.1
  have kk2 : ∀ v ad' χ', pI Q v ad' χ' → (true = true → ad' = ad) → Ext χ χ' ad ad' → G X ad' χ' (pc + 3) lv (v.toList ++ st) := fun v ad' χ' hP hna hE => by
    obtain ⟨r, rfl, hf⟩ := hP
    obtain rfl := hna rfl
    exact kk r χ' hf hE.2
  rcases ht with ht | ht | ht | ht | ht | ht | ht | ht
  · exact g_callU0 h (mt_X17_shows X.l X.Γ ad i a0 χ Q) ⟨hi, hw.1 ht⟩ (fun _ => rfl) (va_cwU 1 hts (lw_U (C := "ChairOld$Plain") q1271 q2012 q2019 q1219 q116 q1220) rfl rfl rfl rfl ⟨by decide, by decide, hy_X17_shows.2.2⟩ (by rw [hR]; exact ⟨by show 1 + 1 ≤ F; omega, by show 8 + (2 + 11) + 21 ≤ Lo; omega⟩)) hi (ff23_0 ht) rfl rfl rfl hst hd kk2
  · exact g_callU0 h (mt_X17_shows X.l X.Γ ad i a0 χ Q) ⟨hi, hw.2.1 ht⟩ (fun _ => rfl) (va_cwU 1 hts (lw_U (C := "ChairOld$Old") q1271 q2012 q2018 q1219 q116 q1220) rfl rfl rfl rfl ⟨by decide, by decide, hy_X17_shows.2.2⟩ (by rw [hR]; exact ⟨by show 1 + 1 ≤ F; omega, by show 8 + (2 + 11) + 21 ≤ Lo; omega⟩)) hi (ff23_1 ht) rfl rfl rfl hst hd kk2
  · exact g_callU0 h (mt_X17_shows X.l X.Γ ad i a0 χ Q) ⟨hi, hw.2.2.1 ht⟩ (fun _ => rfl) (va_cwU 1 hts (lw_U (C := "ChairOld$Mended") q1271 q2012 q2017 q1219 q116 q1220) rfl rfl rfl rfl ⟨by decide, by decide, hy_X17_shows.2.2⟩ (by rw [hR]; exact ⟨by show 1 + 1 ≤ F; omega, by show 8 + (2 + 11) + 21 ≤ Lo; omega⟩)) hi (ff23_2 ht) rfl rfl rfl hst hd kk2
  · exact g_callU0 h (mt_X20_shows X.l X.Γ ad i a0 χ Q) ⟨hi, hw.2.2.2.1 ht⟩ (fun _ => rfl) (va_cwO 1 hts (lw_O (C := "ChairOld$Aged") q1271 q2012 q1219 q2013 q1233 q119 q1234) rfl rfl rfl q1220 ⟨by decide, by decide, hy_X20_shows.2.2⟩ (by rw [hR]; exact ⟨by show 2 + 1 ≤ F; omega, by show 8 + (2 + 11) + 42 ≤ Lo; omega⟩)) hi (ff23_3 ht) rfl rfl rfl hst hd kk2
  · exact g_callU0 h (mt_X21_shows X.l X.Γ ad i a0 χ Q) ⟨hi, hw.2.2.2.2.1 ht⟩ (fun _ => rfl) (va_cwO 1 hts (lw_O (C := "ChairOld$Split") q1271 q2012 q1219 q2020 q1213 q120 q1214) rfl rfl rfl q1220 ⟨by decide, by decide, hy_X21_shows.2.2⟩ (by rw [hR]; exact ⟨by show 3 + 1 ≤ F; omega, by show 8 + (3 + 11) + 63 ≤ Lo; omega⟩)) hi (ff23_4 ht) rfl rfl rfl hst hd kk2
  · exact g_callU0 h (mt_X20_shows X.l X.Γ ad i a0 χ Q) ⟨hi, hw.2.2.2.2.2.1 ht⟩ (fun _ => rfl) (va_cwO 1 hts (lw_O (C := "ChairOld$Cut") q1271 q2012 q1219 q2014 q1233 q119 q1234) rfl rfl rfl q1220 ⟨by decide, by decide, hy_X20_shows.2.2⟩ (by rw [hR]; exact ⟨by show 2 + 1 ≤ F; omega, by show 8 + (2 + 11) + 42 ≤ Lo; omega⟩)) hi (ff23_5 ht) rfl rfl rfl hst hd kk2
  · exact g_callU0 h (mt_X17_shows X.l X.Γ ad i a0 χ Q) ⟨hi, hw.2.2.2.2.2.2.1 ht⟩ (fun _ => rfl) (va_cwU 1 hts (lw_U (C := "ChairOld$Fresh") q1271 q2012 q2016 q1219 q116 q1220) rfl rfl rfl rfl ⟨by decide, by decide, hy_X17_shows.2.2⟩ (by rw [hR]; exact ⟨by show 1 + 1 ≤ F; omega, by show 8 + (2 + 11) + 21 ≤ Lo; omega⟩)) hi (ff23_6 ht) rfl rfl rfl hst hd kk2
  · exact g_callU0 h (mt_X21_shows X.l X.Γ ad i a0 χ Q) ⟨hi, hw.2.2.2.2.2.2.2 ht⟩ (fun _ => rfl) (va_cwO 1 hts (lw_O (C := "ChairOld$Foreign") q1271 q2012 q1219 q2015 q1213 q120 q1214) rfl rfl rfl q1220 ⟨by decide, by decide, hy_X21_shows.2.2⟩ (by rw [hR]; exact ⟨by show 3 + 1 ≤ F; omega, by show 8 + (3 + 11) + 63 ≤ Lo; omega⟩)) hi (ff23_7 ht) rfl rfl rfl hst hd kk2
set_option maxHeartbeats 4000000 in
theorem gs_C_act_75 {X : Cx} {cc : ByteArray} {ret : Option FieldType} {y0 : MethodName} {nL F Lo : Nat} {Pst : Option Value → (Nat → Nat → Nat) → St → Prop} {ad : Nat → Nat → Nat} {χ : St} {pc i : Nat} {lv : List (Nat × Value)} {st : List Value} {a0 : Int32} {Q : Int32 → St → Prop} (h : Ok X cc RX0 ret y0 nL F Lo Pst) (hw : w_D_joins i a0 χ Q) (ht : tg χ 23 i = 0 ∨ tg χ 23 i = 1 ∨ tg χ 23 i = 2 ∨ tg χ 23 i = 3 ∨ tg χ 23 i = 4 ∨ tg χ 23 i = 5 ∨ tg χ 23 i = 6 ∨ tg χ 23 i = 7) (hF : 6 ≤ F ∧ 126 ≤ Lo) (hi : i < cn χ 23) (hst : (st.map fun v => v.category).sum ≤ 8) (hd : decode cc pc = .ok (.invokevirtual 414, 3)) (kk : ∀ r χ', Q r χ' → (∀ c, cn χ c ≤ cn χ' c) → G X ad χ' (pc + 3) lv (.int r :: st)) : G X ad χ pc lv (.int a0 :: .ref (ad 23 i) :: st) := by
  have hts := h.2.2.2.2.2.2.1
  have hR := h.2.2.2.2.2.2.2.2.1
  have kk2 : ∀ v ad' χ', pI Q v ad' χ' → (true = true → ad' = ad) → Ext χ χ' ad ad' → G X ad' χ' (pc + 3) lv (v.toList ++ st) := fun v ad' χ' hP hna hE => by
    obtain ⟨r, rfl, hf⟩ := hP
    obtain rfl := hna rfl
    exact kk r χ' hf hE.2
  rcases ht with ht | ht | ht | ht | ht | ht | ht | ht
  · exact g_callU0 h (mt_X17_joins X.l X.Γ ad i a0 χ Q) ⟨hi, hw.1 ht⟩ (fun _ => rfl) (va_cwU 1 hts (lw_U (C := "ChairOld$Plain") q1270 q1191 q1190 q1189 q116 q1230) rfl rfl rfl rfl ⟨by decide, by decide, hy_X17_joins.2.2⟩ (by rw [hR]; exact ⟨by show 3 + 1 ≤ F; omega, by show 8 + (2 + 11) + 63 ≤ Lo; omega⟩)) hi (ff23_0 ht) rfl rfl rfl hst hd kk2
  · exact g_callU0 h (mt_X17_joins X.l X.Γ ad i a0 χ Q) ⟨hi, hw.2.1 ht⟩ (fun _ => rfl) (va_cwU 1 hts (lw_U (C := "ChairOld$Old") q1270 q1191 q1228 q1189 q116 q1230) rfl rfl rfl rfl ⟨by decide, by decide, hy_X17_joins.2.2⟩ (by rw [hR]; exact ⟨by show 3 + 1 ≤ F; omega, by show 8 + (2 + 11) + 63 ≤ Lo; omega⟩)) hi (ff23_1 ht) rfl rfl rfl hst hd kk2
  · exact g_callU0 h (mt_X19_joins X.l X.Γ ad i a0 χ Q) ⟨hi, hw.2.2.1 ht⟩ (fun _ => rfl) (va_cwO 1 hts (lw_O (C := "ChairOld$Mended") q1270 q1191 q1189 q1227 q1197 q118 q1198) rfl rfl rfl q1230 ⟨by decide, by decide, hy_X19_joins.2.2⟩ (by rw [hR]; exact ⟨by show 4 + 1 ≤ F; omega, by show 8 + (2 + 11) + 84 ≤ Lo; omega⟩)) hi (ff23_2 ht) rfl rfl rfl hst hd kk2
  · exact g_callU0 h (mt_X20_joins X.l X.Γ ad i a0 χ Q) ⟨hi, hw.2.2.2.1 ht⟩ (fun _ => rfl) (va_cwO 1 hts (lw_O (C := "ChairOld$Aged") q1270 q1191 q1189 q1192 q1193 q119 q1194) rfl rfl rfl q1230 ⟨by decide, by decide, hy_X20_joins.2.2⟩ (by rw [hR]; exact ⟨by show 5 + 1 ≤ F; omega, by show 8 + (2 + 11) + 105 ≤ Lo; omega⟩)) hi (ff23_3 ht) rfl rfl rfl hst hd kk2
  · exact g_callU0 h (mt_X17_joins X.l X.Γ ad i a0 χ Q) ⟨hi, hw.2.2.2.2.1 ht⟩ (fun _ => rfl) (va_cwU 1 hts (lw_U (C := "ChairOld$Split") q1270 q1191 q1229 q1189 q116 q1230) rfl rfl rfl rfl ⟨by decide, by decide, hy_X17_joins.2.2⟩ (by rw [hR]; exact ⟨by show 3 + 1 ≤ F; omega, by show 8 + (2 + 11) + 63 ≤ Lo; omega⟩)) hi (ff23_4 ht) rfl rfl rfl hst hd kk2
  · exact g_callU0 h (mt_X20_joins X.l X.Γ ad i a0 χ Q) ⟨hi, hw.2.2.2.2.2.1 ht⟩ (fun _ => rfl) (va_cwO 1 hts (lw_O (C := "ChairOld$Cut") q1270 q1191 q1189 q1201 q1193 q119 q1194) rfl rfl rfl q1230 ⟨by decide, by decide, hy_X20_joins.2.2⟩ (by rw [hR]; exact ⟨by show 5 + 1 ≤ F; omega, by show 8 + (2 + 11) + 105 ≤ Lo; omega⟩)) hi (ff23_5 ht) rfl rfl rfl hst hd kk2
  · exact g_callU0 h (mt_X17_joins X.l X.Γ ad i a0 χ Q) ⟨hi, hw.2.2.2.2.2.2.1 ht⟩ (fun _ => rfl) (va_cwU 1 hts (lw_U (C := "ChairOld$Fresh") q1270 q1191 q1226 q1189 q116 q1230) rfl rfl rfl rfl ⟨by decide, by decide, hy_X17_joins.2.2⟩ (by rw [hR]; exact ⟨by show 3 + 1 ≤ F; omega, by show 8 + (2 + 11) + 63 ≤ Lo; omega⟩)) hi (ff23_6 ht) rfl rfl rfl hst hd kk2
  · exact g_callU0 h (mt_X24_joins X.l X.Γ ad i a0 χ Q) ⟨hi, hw.2.2.2.2.2.2.2 ht⟩ (fun _ => rfl) (va_cwO 1 hts (lw_O (C := "ChairOld$Foreign") q1270 q1191 q1189 q1202 q1203 q123 q1204) rfl rfl rfl q1230 ⟨by decide, by decide, hy_X24_joins.2.2⟩ (by rw [hR]; exact ⟨by show 4 + 1 ≤ F; omega, by show 8 + (3 + 11) + 85 ≤ Lo; omega⟩)) hi (ff23_7 ht) rfl rfl rfl hst hd kk2
set_option maxHeartbeats 4000000 in
theorem gs_C_act_61 {X : Cx} {cc : ByteArray} {ret : Option FieldType} {y0 : MethodName} {nL F Lo : Nat} {Pst : Option Value → (Nat → Nat → Nat) → St → Prop} {ad : Nat → Nat → Nat} {χ : St} {pc i count : Nat} {lv : List (Nat × Value)} {st : List Value} {a0 : Int32} {Q : Int32 → St → Prop} (h : Ok X cc RX0 ret y0 nL F Lo Pst) (hw : w_D_tells i a0 χ Q) (ht : tg χ 23 i = 0 ∨ tg χ 23 i = 1 ∨ tg χ 23 i = 2 ∨ tg χ 23 i = 3 ∨ tg χ 23 i = 4 ∨ tg χ 23 i = 5 ∨ tg χ 23 i = 6 ∨ tg χ 23 i = 7) (hF : 8 ≤ F ∧ 169 ≤ Lo) (hi : i < cn χ 23) (hst : (st.map fun v => v.category).sum ≤ 8) (hd : decode cc pc = .ok (.invokeinterface 409 count, 5)) (kk : ∀ r χ', Q r χ' → (∀ c, cn χ c ≤ cn χ' c) → G X ad χ' (pc + 5) lv (.int r :: st)) : G X ad χ pc lv (.int a0 :: .ref (ad 23 i) :: st) := by
  have hts := h.2.2.2.2.2.2.1
  have hR := h.2.2.2.2.2.2.2.2.1
  have kk2 : ∀ v ad' χ', pI Q v ad' χ' → (true = true → ad' = ad) → Ext χ χ' ad ad' → G X ad' χ' (pc + 5) lv (v.toList ++ st) := fun v ad' χ' hP hna hE => by
    obtain ⟨r, rfl, hf⟩ := hP
    obtain rfl := hna rfl
    exact kk r χ' hf hE.2
  rcases ht with ht | ht | ht | ht | ht | ht | ht | ht
  · exact g_callF0 h (mt_X17_tells X.l X.Γ ad i a0 χ Q) ⟨hi, hw.1 ht⟩ (fun _ => rfl) (va_cwF 1 hts (lw_F q1179 q1265 q1185 q116 q1187) rfl rfl rfl (h.2.2.2.2.2.2.2.1.2.2.1 _ (List.mem_of_getElem? (i := 8) rfl)) ⟨by decide, by decide, hy_X17_tells.2.2⟩ (by rw [hR]; exact ⟨by show 6 + 1 ≤ F; omega, by show 8 + (3 + 11) + 126 ≤ Lo; omega⟩)) hi (ff23_0 ht) rfl rfl rfl hst hd kk2
  · exact g_callF0 h (mt_X17_tells X.l X.Γ ad i a0 χ Q) ⟨hi, hw.2.1 ht⟩ (fun _ => rfl) (va_cwF 1 hts (lw_F q1179 q1262 q1185 q116 q1187) rfl rfl rfl (h.2.2.2.2.2.2.2.1.2.2.1 _ (List.mem_of_getElem? (i := 9) rfl)) ⟨by decide, by decide, hy_X17_tells.2.2⟩ (by rw [hR]; exact ⟨by show 6 + 1 ≤ F; omega, by show 8 + (3 + 11) + 126 ≤ Lo; omega⟩)) hi (ff23_1 ht) rfl rfl rfl hst hd kk2
  · exact g_callF0 h (mt_X17_tells X.l X.Γ ad i a0 χ Q) ⟨hi, hw.2.2.1 ht⟩ (fun _ => rfl) (va_cwF 1 hts (lw_F q1179 q1259 q1185 q116 q1187) rfl rfl rfl (h.2.2.2.2.2.2.2.1.2.2.1 _ (List.mem_of_getElem? (i := 10) rfl)) ⟨by decide, by decide, hy_X17_tells.2.2⟩ (by rw [hR]; exact ⟨by show 6 + 1 ≤ F; omega, by show 8 + (3 + 11) + 126 ≤ Lo; omega⟩)) hi (ff23_2 ht) rfl rfl rfl hst hd kk2
  · exact g_callF0 h (mt_X17_tells X.l X.Γ ad i a0 χ Q) ⟨hi, hw.2.2.2.1 ht⟩ (fun _ => rfl) (va_cwF 1 hts (lw_F q1179 q1183 q1185 q116 q1187) rfl rfl rfl (h.2.2.2.2.2.2.2.1.2.2.1 _ (List.mem_of_getElem? (i := 11) rfl)) ⟨by decide, by decide, hy_X17_tells.2.2⟩ (by rw [hR]; exact ⟨by show 6 + 1 ≤ F; omega, by show 8 + (3 + 11) + 126 ≤ Lo; omega⟩)) hi (ff23_3 ht) rfl rfl rfl hst hd kk2
  · exact g_callF0 h (mt_X17_tells X.l X.Γ ad i a0 χ Q) ⟨hi, hw.2.2.2.2.1 ht⟩ (fun _ => rfl) (va_cwF 1 hts (lw_F q1179 q1268 q1185 q116 q1187) rfl rfl rfl (h.2.2.2.2.2.2.2.1.2.2.1 _ (List.mem_of_getElem? (i := 12) rfl)) ⟨by decide, by decide, hy_X17_tells.2.2⟩ (by rw [hR]; exact ⟨by show 6 + 1 ≤ F; omega, by show 8 + (3 + 11) + 126 ≤ Lo; omega⟩)) hi (ff23_4 ht) rfl rfl rfl hst hd kk2
  · exact g_callF0 h (mt_X22_tells X.l X.Γ ad i a0 χ Q) ⟨hi, hw.2.2.2.2.2.1 ht⟩ (fun _ => rfl) (va_cwF 1 hts (lw_F q1179 q1238 q1240 q121 q1242) rfl rfl rfl (h.2.2.2.2.2.2.2.1.2.2.1 _ (List.mem_of_getElem? (i := 13) rfl)) ⟨by decide, by decide, hy_X22_tells.2.2⟩ (by rw [hR]; exact ⟨by show 7 + 1 ≤ F; omega, by show 8 + (2 + 11) + 148 ≤ Lo; omega⟩)) hi (ff23_5 ht) rfl rfl rfl hst hd kk2
  · exact g_callF0 h (mt_X17_tells X.l X.Γ ad i a0 χ Q) ⟨hi, hw.2.2.2.2.2.2.1 ht⟩ (fun _ => rfl) (va_cwF 1 hts (lw_F q1179 q1256 q1185 q116 q1187) rfl rfl rfl (h.2.2.2.2.2.2.2.1.2.2.1 _ (List.mem_of_getElem? (i := 14) rfl)) ⟨by decide, by decide, hy_X17_tells.2.2⟩ (by rw [hR]; exact ⟨by show 6 + 1 ≤ F; omega, by show 8 + (3 + 11) + 126 ≤ Lo; omega⟩)) hi (ff23_6 ht) rfl rfl rfl hst hd kk2
  · exact g_callF0 h (mt_X24_tells X.l X.Γ ad i a0 χ Q) ⟨hi, hw.2.2.2.2.2.2.2 ht⟩ (fun _ => rfl) (va_cwF 1 hts (lw_F q1179 q1248 q1250 q123 q1252) rfl rfl rfl (h.2.2.2.2.2.2.2.1.2.2.1 _ (List.mem_of_getElem? (i := 15) rfl)) ⟨by decide, by decide, hy_X24_tells.2.2⟩ (by rw [hR]; exact ⟨by show 7 + 1 ≤ F; omega, by show 8 + (2 + 11) + 148 ≤ Lo; omega⟩)) hi (ff23_7 ht) rfl rfl rfl hst hd kk2
set_option maxHeartbeats 4000000 in
theorem gs_C_act_43 {X : Cx} {cc : ByteArray} {ret : Option FieldType} {y0 : MethodName} {nL F Lo : Nat} {Pst : Option Value → (Nat → Nat → Nat) → St → Prop} {ad : Nat → Nat → Nat} {χ : St} {pc i count : Nat} {lv : List (Nat × Value)} {st : List Value} {a0 : Int32} {Q : Int32 → St → Prop} (h : Ok X cc RX0 ret y0 nL F Lo Pst) (hw : w_D_ages i a0 χ Q) (ht : tg χ 23 i = 0 ∨ tg χ 23 i = 1 ∨ tg χ 23 i = 2 ∨ tg χ 23 i = 3 ∨ tg χ 23 i = 4 ∨ tg χ 23 i = 5 ∨ tg χ 23 i = 6 ∨ tg χ 23 i = 7) (hF : 3 ≤ F ∧ 63 ≤ Lo) (hi : i < cn χ 23) (hst : (st.map fun v => v.category).sum ≤ 8) (hd : decode cc pc = .ok (.invokeinterface 404 count, 5)) (kk : ∀ r χ', Q r χ' → (∀ c, cn χ c ≤ cn χ' c) → G X ad χ' (pc + 5) lv (.int r :: st)) : G X ad χ pc lv (.int a0 :: .ref (ad 23 i) :: st) := by
  have hts := h.2.2.2.2.2.2.1
  have hR := h.2.2.2.2.2.2.2.2.1
  have kk2 : ∀ v ad' χ', pI Q v ad' χ' → (true = true → ad' = ad) → Ext χ χ' ad ad' → G X ad' χ' (pc + 5) lv (v.toList ++ st) := fun v ad' χ' hP hna hE => by
    obtain ⟨r, rfl, hf⟩ := hP
    obtain rfl := hna rfl
    exact kk r χ' hf hE.2
  rcases ht with ht | ht | ht | ht | ht | ht | ht | ht
  · exact g_callF0 h (mt_X17_ages X.l X.Γ ad i a0 χ Q) ⟨hi, hw.1 ht⟩ (fun _ => rfl) (va_cwF 1 hts (lw_F q1134 q1173 q1140 q116 q1142) rfl rfl rfl (h.2.2.2.2.2.2.2.1.2.2.1 _ (List.mem_of_getElem? (i := 0) rfl)) ⟨by decide, by decide, hy_X17_ages.2.2⟩ (by rw [hR]; exact ⟨by show 1 + 1 ≤ F; omega, by show 8 + (2 + 11) + 21 ≤ Lo; omega⟩)) hi (ff23_0 ht) rfl rfl rfl hst hd kk2
  · exact g_callF0 h (mt_X18_ages X.l X.Γ ad i a0 χ Q) ⟨hi, hw.2.1 ht⟩ (fun _ => rfl) (va_cwF 1 hts (lw_F q1134 q1170 q1153 q117 q1155) rfl rfl rfl (h.2.2.2.2.2.2.2.1.2.2.1 _ (List.mem_of_getElem? (i := 1) rfl)) ⟨by decide, by decide, hy_X18_ages.2.2⟩ (by rw [hR]; exact ⟨by show 2 + 1 ≤ F; omega, by show 8 + (2 + 11) + 42 ≤ Lo; omega⟩)) hi (ff23_1 ht) rfl rfl rfl hst hd kk2
  · exact g_callF0 h (mt_X17_ages X.l X.Γ ad i a0 χ Q) ⟨hi, hw.2.2.1 ht⟩ (fun _ => rfl) (va_cwF 1 hts (lw_F q1134 q1167 q1140 q116 q1142) rfl rfl rfl (h.2.2.2.2.2.2.2.1.2.2.1 _ (List.mem_of_getElem? (i := 2) rfl)) ⟨by decide, by decide, hy_X17_ages.2.2⟩ (by rw [hR]; exact ⟨by show 1 + 1 ≤ F; omega, by show 8 + (2 + 11) + 21 ≤ Lo; omega⟩)) hi (ff23_2 ht) rfl rfl rfl hst hd kk2
  · exact g_callF0 h (mt_X17_ages X.l X.Γ ad i a0 χ Q) ⟨hi, hw.2.2.2.1 ht⟩ (fun _ => rfl) (va_cwF 1 hts (lw_F q1134 q1138 q1140 q116 q1142) rfl rfl rfl (h.2.2.2.2.2.2.2.1.2.2.1 _ (List.mem_of_getElem? (i := 3) rfl)) ⟨by decide, by decide, hy_X17_ages.2.2⟩ (by rw [hR]; exact ⟨by show 1 + 1 ≤ F; omega, by show 8 + (2 + 11) + 21 ≤ Lo; omega⟩)) hi (ff23_3 ht) rfl rfl rfl hst hd kk2
  · exact g_callF0 h (mt_X18_ages X.l X.Γ ad i a0 χ Q) ⟨hi, hw.2.2.2.2.1 ht⟩ (fun _ => rfl) (va_cwF 1 hts (lw_F q1134 q1176 q1153 q117 q1155) rfl rfl rfl (h.2.2.2.2.2.2.2.1.2.2.1 _ (List.mem_of_getElem? (i := 4) rfl)) ⟨by decide, by decide, hy_X18_ages.2.2⟩ (by rw [hR]; exact ⟨by show 2 + 1 ≤ F; omega, by show 8 + (2 + 11) + 42 ≤ Lo; omega⟩)) hi (ff23_4 ht) rfl rfl rfl hst hd kk2
  · exact g_callF0 h (mt_X17_ages X.l X.Γ ad i a0 χ Q) ⟨hi, hw.2.2.2.2.2.1 ht⟩ (fun _ => rfl) (va_cwF 1 hts (lw_F q1134 q1148 q1140 q116 q1142) rfl rfl rfl (h.2.2.2.2.2.2.2.1.2.2.1 _ (List.mem_of_getElem? (i := 5) rfl)) ⟨by decide, by decide, hy_X17_ages.2.2⟩ (by rw [hR]; exact ⟨by show 1 + 1 ≤ F; omega, by show 8 + (2 + 11) + 21 ≤ Lo; omega⟩)) hi (ff23_5 ht) rfl rfl rfl hst hd kk2
  · exact g_callF0 h (mt_X23_ages X.l X.Γ ad i a0 χ Q) ⟨hi, hw.2.2.2.2.2.2.1 ht⟩ (fun _ => rfl) (va_cwF 1 hts (lw_F q1134 q1159 q1161 q122 q1163) rfl rfl rfl (h.2.2.2.2.2.2.2.1.2.2.1 _ (List.mem_of_getElem? (i := 6) rfl)) ⟨by decide, by decide, hy_X23_ages.2.2⟩ (by rw [hR]; exact ⟨by show 2 + 1 ≤ F; omega, by show 8 + (2 + 11) + 42 ≤ Lo; omega⟩)) hi (ff23_6 ht) rfl rfl rfl hst hd kk2
  · exact g_callF0 h (mt_X18_ages X.l X.Γ ad i a0 χ Q) ⟨hi, hw.2.2.2.2.2.2.2 ht⟩ (fun _ => rfl) (va_cwF 1 hts (lw_F q1134 q1151 q1153 q117 q1155) rfl rfl rfl (h.2.2.2.2.2.2.2.1.2.2.1 _ (List.mem_of_getElem? (i := 7) rfl)) ⟨by decide, by decide, hy_X18_ages.2.2⟩ (by rw [hR]; exact ⟨by show 2 + 1 ≤ F; omega, by show 8 + (2 + 11) + 42 ≤ Lo; omega⟩)) hi (ff23_7 ht) rfl rfl rfl hst hd kk2
def w_C_act (x1 : Int32) (x2 : Int32) (x3 : Int32) (χ : St) (Q : Int32 → St → Prop) : Prop := (∀ χ1 : St, χ1 = (sI χ 120 0 0 (0 : Int32)) → (w_C_isBody x1 χ1 (fun r2 χ3 => ((r2 = 0 → (Q (0 : Int32) χ3)) ∧ (¬ r2 = 0 → (w_C_in x2 (0 : Int32) (3 : Int32) χ3 (fun r4 χ5 => ((¬ r4 = 0 → (vp_in x1 50) ∧ ((∃ z7, (gR χ5 16 0 x1.toNatClampNeg) = some z7 ∧ (((¬ x2 = 0 → ((¬ x2 = (3 : Int32) → ((¬ x2 = (1 : Int32) → (tg χ5 23 z7 = 0 ∨ tg χ5 23 z7 = 1 ∨ tg χ5 23 z7 = 2 ∨ tg χ5 23 z7 = 3 ∨ tg χ5 23 z7 = 4 ∨ tg χ5 23 z7 = 5 ∨ tg χ5 23 z7 = 6 ∨ tg χ5 23 z7 = 7) ∧ ((w_D_shows z7 x3 χ5 (fun r8 χ9 => (Q r8 χ9))))) ∧ (x2 = (1 : Int32) → (tg χ5 23 z7 = 0 ∨ tg χ5 23 z7 = 1 ∨ tg χ5 23 z7 = 2 ∨ tg χ5 23 z7 = 3 ∨ tg χ5 23 z7 = 4 ∨ tg χ5 23 z7 = 5 ∨ tg χ5 23 z7 = 6 ∨ tg χ5 23 z7 = 7) ∧ ((w_D_joins z7 x3 χ5 (fun r11 χ12 => (Q r11 χ12))))))) ∧ (x2 = (3 : Int32) → (tg χ5 23 z7 = 0 ∨ tg χ5 23 z7 = 1 ∨ tg χ5 23 z7 = 2 ∨ tg χ5 23 z7 = 3 ∨ tg χ5 23 z7 = 4 ∨ tg χ5 23 z7 = 5 ∨ tg χ5 23 z7 = 6 ∨ tg χ5 23 z7 = 7) ∧ ((w_D_tells z7 x3 χ5 (fun r14 χ15 => (Q r14 χ15))))))) ∧ (x2 = 0 → (tg χ5 23 z7 = 0 ∨ tg χ5 23 z7 = 1 ∨ tg χ5 23 z7 = 2 ∨ tg χ5 23 z7 = 3 ∨ tg χ5 23 z7 = 4 ∨ tg χ5 23 z7 = 5 ∨ tg χ5 23 z7 = 6 ∨ tg χ5 23 z7 = 7) ∧ ((w_D_ages z7 x3 χ5 (fun r17 χ18 => (Q r17 χ18)))))))))) ∧ (r4 = 0 → (Q (0 : Int32) χ5))))))))))
set_option maxHeartbeats 4000000 in
theorem mt_C_act (l : Launch) (Γ : Gh) (ad : Nat → Nat → Nat) (x1 : Int32) (x2 : Int32) (x3 : Int32) (χ : St) (Q : Int32 → St → Prop) : Mt l yX0_act (ws_ yX0_act cX0_act 6 (some .int)) (rmO (8) (169) χ) (Pm Γ ad χ [.ref (ad 0 0), .int x1, .int x2, .int x3] (w_C_act x1 x2 x3 χ Q)) (Qm Γ true ad χ (pI Q)) (frB Γ) := by
  refine Mt.start (by decide) RX0 rfl (Nat.le_of_ble_eq_true rfl) ?_
  intro X hX hG _ _ hna _ hf
  unfold w_C_act at hf
  refine g_aload_n hX 0 dX0_act_0 rfl rfl ?_
  refine g_iconst hX (v := (0 : Int32)) dX0_act_1 rfl ?_
  refine g_putI hX (k := 20) (fc0 _) ff0 rfl rfl in_X0 tyX0_ok nmX0 (by decide) q220 rfl rfl rfl rfl dX0_act_2 ?_
  replace hf := hf _ rfl
  refine g_aload_n hX 0 dX0_act_5 rfl rfl ?_
  refine g_iload_n hX 1 dX0_act_6 rfl rfl ?_
  refine g_callVi hX (n := 1) (mt_C_isBody X.l X.Γ _ _ _ _) hf q1129 q1131 qs41 q85 q1132 ⟨rfl, hy_C_isBody⟩ (by decide) (fc0 _) ff0 rfl rfl rfl (Nat.le_of_ble_eq_true rfl) dX0_act_7 (fun r2 χ3 hf hc3 => ?_)
  refine g_if_eq hX 22 dX0_act_10 (by decide) (fun z => ?_) (fun z => ?_)
  · replace hf := hf.1 z
    refine g_iconst hX (v := (0 : Int32)) dX0_act_22 rfl ?_
    exact g_iret hX ⟨_, rfl, hf⟩ dX0_act_23
  · replace hf := hf.2 z
    refine g_iload_n hX 2 dX0_act_13 rfl rfl ?_
    refine g_iconst hX (v := (0 : Int32)) dX0_act_14 rfl ?_
    refine g_iconst hX (v := (3 : Int32)) dX0_act_15 rfl ?_
    refine g_callSi hX (n := 3) (mt_C_in X.l X.Γ _ _ _ _ _ _) hf q281 q282 q85 q283 hy_C_in (by decide) rfl rfl (Nat.le_of_ble_eq_true rfl) dX0_act_16 (fun r4 χ5 hf hc5 => ?_)
    refine g_if_ne hX 24 dX0_act_19 (by decide) (fun z => ?_) (fun z => ?_)
    · replace hf := hf.1 z
      refine g_aload_n hX 0 dX0_act_24 rfl rfl ?_
      refine g_getK hX (k := 22) (d := 16) (fc0 _) ff0 rfl (by decide) rfl rfl in_X0 (by decide) q222 dX0_act_25 ?_
      refine g_iload_n hX 1 dX0_act_28 rfl rfl ?_
      have hg6 := hf.1
      replace hf := hf.2
      obtain ⟨z7, hz7, hf⟩ := hf
      refine g_aaldE hX (fc16 _) ff16 rfl rfl hg6 dX0_act_29 hz7 (fun hvz7 => ?_)
      refine g_astore hX dX0_act_30 (by decide) rfl ?_
      refine g_iload_n hX 3 dX0_act_32 rfl rfl ?_
      refine g_if_ne hX 49 dX0_act_33 (by decide) (fun z => ?_) (fun z => ?_)
      · replace hf := hf.1 z
        refine g_iload_n hX 3 dX0_act_49 rfl rfl ?_
        refine g_iconst hX (v := (3 : Int32)) dX0_act_50 rfl ?_
        refine g_icmp_ne hX 67 dX0_act_51 (by decide) (fun z => ?_) (fun z => ?_)
        · replace hf := hf.1 z
          refine g_iload_n hX 3 dX0_act_67 rfl rfl ?_
          refine g_iconst hX (v := (1 : Int32)) dX0_act_68 rfl ?_
          refine g_icmp_ne hX 81 dX0_act_69 (by decide) (fun z => ?_) (fun z => ?_)
          · replace hf := hf.1 z
            refine g_aload hX 0 dX0_act_81 rfl ?_
            refine g_iload_n hX 4 dX0_act_83 rfl rfl ?_
            have hg10 := hf.1
            replace hf := hf.2
            refine gs_C_act_84 hX hf hg10 (by decide) hvz7 (Nat.le_of_ble_eq_true rfl) dX0_act_84 (fun r8 χ9 hf hc9 => ?_)
            exact g_iret hX ⟨_, rfl, hf⟩ dX0_act_87
          · replace hf := hf.2 z
            refine g_aload hX 0 dX0_act_72 rfl ?_
            refine g_iload_n hX 4 dX0_act_74 rfl rfl ?_
            have hg13 := hf.1
            replace hf := hf.2
            refine gs_C_act_75 hX hf hg13 (by decide) hvz7 (Nat.le_of_ble_eq_true rfl) dX0_act_75 (fun r11 χ12 hf hc12 => ?_)
            refine g_goto hX 87 dX0_act_78 (by decide) ?_
            exact g_iret hX ⟨_, rfl, hf⟩ dX0_act_87
        · replace hf := hf.2 z
          refine g_aload hX 0 dX0_act_54 rfl ?_
          refine g_astore hX dX0_act_56 (by decide) rfl ?_
          refine g_aload hX 0 dX0_act_58 rfl ?_
          refine g_iload_n hX 5 dX0_act_60 rfl rfl ?_
          have hg16 := hf.1
          replace hf := hf.2
          refine gs_C_act_61 hX hf hg16 (by decide) hvz7 (Nat.le_of_ble_eq_true rfl) dX0_act_61 (fun r14 χ15 hf hc15 => ?_)
          exact g_iret hX ⟨_, rfl, hf⟩ dX0_act_66
      · replace hf := hf.2 z
        refine g_aload hX 0 dX0_act_36 rfl ?_
        refine g_astore hX dX0_act_38 (by decide) rfl ?_
        refine g_aload hX 0 dX0_act_40 rfl ?_
        refine g_iload_n hX 5 dX0_act_42 rfl rfl ?_
        have hg19 := hf.1
        replace hf := hf.2
        refine gs_C_act_43 hX hf hg19 (by decide) hvz7 (Nat.le_of_ble_eq_true rfl) dX0_act_43 (fun r17 χ18 hf hc18 => ?_)
        exact g_iret hX ⟨_, rfl, hf⟩ dX0_act_48
    · replace hf := hf.2 z
      refine g_iconst hX (v := (0 : Int32)) dX0_act_22 rfl ?_
      exact g_iret hX ⟨_, rfl, hf⟩ dX0_act_23

def w_C_keep_22 (Q : Int32 → St → Prop) (x1 : Int32) (x2 : Int32) (χ : St) : Prop := ((0 ≤ x2 → (vp_in x2 50) ∧ ((∃ z4, (gR χ 16 0 x2.toNatClampNeg) = some z4 ∧ ((vp_in x1 6) ∧ ((tg χ 23 z4 = 0 ∨ tg χ 23 z4 = 1 ∨ tg χ 23 z4 = 2 ∨ tg χ 23 z4 = 3 ∨ tg χ 23 z4 = 4 ∨ tg χ 23 z4 = 5 ∨ tg χ 23 z4 = 6 ∨ tg χ 23 z4 = 7) ∧ ((∀ χ5 : St, χ5 = (sR χ 17 0 x1.toNatClampNeg (some z4)) → (Q (1 : Int32) χ5)))))))) ∧ (¬ 0 ≤ x2 → (vp_in x1 6) ∧ ((∀ χ6 : St, χ6 = (sR χ 17 0 x1.toNatClampNeg none) → (Q (1 : Int32) χ6)))))
def w_C_keep (x1 : Int32) (x2 : Int32) (χ : St) (Q : Int32 → St → Prop) : Prop := (w_C_isShelf x1 χ (fun r1 χ2 => ((r1 = 0 → (Q (-1 : Int32) χ2)) ∧ (¬ r1 = 0 → ((x2 = (-1 : Int32) → (w_C_keep_22 Q x1 x2 χ2)) ∧ (¬ x2 = (-1 : Int32) → (w_C_isBody x2 χ2 (fun r7 χ8 => ((¬ r7 = 0 → (w_C_keep_22 Q x1 x2 χ8)) ∧ (r7 = 0 → (Q (-1 : Int32) χ8)))))))))))
set_option maxHeartbeats 4000000 in
theorem mt_C_keep (l : Launch) (Γ : Gh) (ad : Nat → Nat → Nat) (x1 : Int32) (x2 : Int32) (χ : St) (Q : Int32 → St → Prop) : Mt l yX0_keep (ws_ yX0_keep cX0_keep 3 (some .int)) (rmO (2) (43) χ) (Pm Γ ad χ [.ref (ad 0 0), .int x1, .int x2] (w_C_keep x1 x2 χ Q)) (Qm Γ true ad χ (pI Q)) (frB Γ) := by
  refine Mt.start (by decide) RX0 rfl (Nat.le_of_ble_eq_true rfl) ?_
  intro X hX hG _ _ hna _ hf
  have B22 : ∀ (ad : Nat → Nat → Nat) (x1 : Int32) (x2 : Int32) (χ : St), w_C_keep_22 Q x1 x2 χ → G X ad χ 22 [(0, .ref (ad 0 0)), (1, .int x1), (2, .int x2)] [] := by
    intro ad x1 x2 χ hf
    unfold w_C_keep_22 at hf
    refine g_aload_n hX 0 dX0_keep_22 rfl rfl ?_
    refine g_getK hX (k := 24) (d := 17) (fc0 _) ff0 rfl (by decide) rfl rfl in_X0 (by decide) q224 dX0_keep_23 ?_
    refine g_iload_n hX 1 dX0_keep_26 rfl rfl ?_
    refine g_iload_n hX 2 dX0_keep_27 rfl rfl ?_
    refine g_if_ge hX 35 dX0_keep_28 (by decide) (fun z => ?_) (fun z => ?_)
    · replace hf := hf.1 z
      refine g_aload_n hX 0 dX0_keep_35 rfl rfl ?_
      refine g_getK hX (k := 22) (d := 16) (fc0 _) ff0 rfl (by decide) rfl rfl in_X0 (by decide) q222 dX0_keep_36 ?_
      refine g_iload_n hX 2 dX0_keep_39 rfl rfl ?_
      have hg3 := hf.1
      replace hf := hf.2
      obtain ⟨z4, hz4, hf⟩ := hf
      refine g_aaldE hX (fc16 _) ff16 rfl rfl hg3 dX0_keep_40 hz4 (fun hvz4 => ?_)
      refine g_aast_Held_b hX hf.1 hf.2.1 hvz4 dX0_keep_41 ?_
      replace hf := hf.2.2
      replace hf := hf _ rfl
      refine g_iconst hX (v := (1 : Int32)) dX0_keep_42 rfl ?_
      exact g_iret hX ⟨_, rfl, hf⟩ dX0_keep_43
    · replace hf := hf.2 z
      refine g_null hX dX0_keep_31 ?_
      refine g_goto hX 41 dX0_keep_32 (by decide) ?_
      refine g_aastN hX (fc17 _) ff17 rfl hf.1 dX0_keep_41 ?_
      replace hf := hf.2
      replace hf := hf _ rfl
      refine g_iconst hX (v := (1 : Int32)) dX0_keep_42 rfl ?_
      exact g_iret hX ⟨_, rfl, hf⟩ dX0_keep_43
  unfold w_C_keep at hf
  refine g_iload_n hX 1 dX0_keep_0 rfl rfl ?_
  refine g_callSi hX (n := 1) (mt_C_isShelf X.l X.Γ _ _ _ _) hf q442 q443 q85 q444 hy_C_isShelf (by decide) rfl rfl (Nat.le_of_ble_eq_true rfl) dX0_keep_1 (fun r1 χ2 hf hc2 => ?_)
  refine g_if_eq hX 20 dX0_keep_4 (by decide) (fun z => ?_) (fun z => ?_)
  · replace hf := hf.1 z
    refine g_iconst hX (v := (-1 : Int32)) dX0_keep_20 rfl ?_
    exact g_iret hX ⟨_, rfl, hf⟩ dX0_keep_21
  · replace hf := hf.2 z
    refine g_iload_n hX 2 dX0_keep_7 rfl rfl ?_
    refine g_iconst hX (v := (-1 : Int32)) dX0_keep_8 rfl ?_
    refine g_icmp_eq hX 22 dX0_keep_9 (by decide) (fun z => ?_) (fun z => ?_)
    · replace hf := hf.1 z
      exact B22 _ _ _ _ hf
    · replace hf := hf.2 z
      refine g_aload_n hX 0 dX0_keep_12 rfl rfl ?_
      refine g_iload_n hX 2 dX0_keep_13 rfl rfl ?_
      refine g_callVi hX (n := 1) (mt_C_isBody X.l X.Γ _ _ _ _) hf q1129 q1131 qs41 q85 q1132 ⟨rfl, hy_C_isBody⟩ (by decide) (fc0 _) ff0 rfl rfl rfl (Nat.le_of_ble_eq_true rfl) dX0_keep_14 (fun r7 χ8 hf hc8 => ?_)
      refine g_if_ne hX 22 dX0_keep_17 (by decide) (fun z => ?_) (fun z => ?_)
      · replace hf := hf.1 z
        exact B22 _ _ _ _ hf
      · replace hf := hf.2 z
        refine g_iconst hX (v := (-1 : Int32)) dX0_keep_20 rfl ?_
        exact g_iret hX ⟨_, rfl, hf⟩ dX0_keep_21
