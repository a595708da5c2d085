set_option maxRecDepth 100000
def w_J4_isLatin1 (x0 : Nat) (χ : St) (Q : Int32 → St → Prop) : Prop := (((1 : Int32) = 0 → (Q (0 : Int32) χ)) ∧ (¬ (1 : Int32) = 0 → ((¬ (0 : Int32) = 0 → (Q (0 : Int32) χ)) ∧ ((0 : Int32) = 0 → (Q (1 : Int32) χ)))))
set_option maxHeartbeats 4000000 in
theorem mt_J4_isLatin1 (l : Launch) (Γ : Gh) (ad : Nat → Nat → Nat) (x0 : Nat) (χ : St) (Q : Int32 → St → Prop) : Mt l yJ4_isLatin1 (ws_ yJ4_isLatin1 cJ4_isLatin1 1 (some .boolean)) (rmO (0) (0) χ) (Pm Γ ad χ [.ref (stA Γ x0)] (x0 < 4 ∧ w_J4_isLatin1 x0 χ Q)) (Qm Γ true ad χ (pI Q)) (frB Γ) := by
  refine Mt.start (by decide) RJ4 rfl (Nat.le_of_ble_eq_true rfl) ?_
  intro X hX hG _ _ hna _ ⟨hv0, hf⟩
  subst hG
  unfold w_J4_isLatin1 at hf
  refine g_compact hX q614 dJ4_isLatin1_0 ?_
  refine g_if_eq hX 17 dJ4_isLatin1_3 (by decide) (fun z => ?_) (fun z => ?_)
  · replace hf := hf.1 z
    refine g_iconst hX (v := (0 : Int32)) dJ4_isLatin1_17 rfl ?_
    exact g_zret hX rfl ⟨_, rfl, hf⟩ dJ4_isLatin1_18
  · replace hf := hf.2 z
    refine g_aload_n hX 0 dJ4_isLatin1_6 rfl rfl ?_
    refine g_strCoder hX hv0 q2049 dJ4_isLatin1_7 ?_
    refine g_if_ne hX 17 dJ4_isLatin1_10 (by decide) (fun z => ?_) (fun z => ?_)
    · replace hf := hf.1 z
      refine g_iconst hX (v := (0 : Int32)) dJ4_isLatin1_17 rfl ?_
      exact g_zret hX rfl ⟨_, rfl, hf⟩ dJ4_isLatin1_18
    · replace hf := hf.2 z
      refine g_iconst hX (v := (1 : Int32)) dJ4_isLatin1_13 rfl ?_
      refine g_goto hX 18 dJ4_isLatin1_14 (by decide) ?_
      exact g_zret hX rfl ⟨_, rfl, hf⟩ dJ4_isLatin1_18

def w_J4_coder (x0 : Nat) (χ : St) (Q : Int32 → St → Prop) : Prop := (((1 : Int32) = 0 → False) ∧ (¬ (1 : Int32) = 0 → (Q (0 : Int32) χ)))
set_option maxHeartbeats 4000000 in
theorem mt_J4_coder (l : Launch) (Γ : Gh) (ad : Nat → Nat → Nat) (x0 : Nat) (χ : St) (Q : Int32 → St → Prop) : Mt l yJ4_coder (ws_ yJ4_coder cJ4_coder 1 (some .byte)) (rmO (0) (0) χ) (Pm Γ ad χ [.ref (stA Γ x0)] (x0 < 4 ∧ w_J4_coder x0 χ Q)) (Qm Γ true ad χ (pI Q)) (frB Γ) := by
  refine Mt.start (by decide) RJ4 rfl (Nat.le_of_ble_eq_true rfl) ?_
  intro X hX hG _ _ hna _ ⟨hv0, hf⟩
  subst hG
  unfold w_J4_coder at hf
  refine g_compact hX q614 dJ4_coder_0 ?_
  refine g_if_eq hX 13 dJ4_coder_3 (by decide) (fun z => ?_) (fun z => ?_)
  · replace hf := hf.1 z
    exact hf.elim
  · replace hf := hf.2 z
    refine g_aload_n hX 0 dJ4_coder_6 rfl rfl ?_
    refine g_strCoder hX hv0 q2049 dJ4_coder_7 ?_
    refine g_goto hX 14 dJ4_coder_10 (by decide) ?_
    exact g_bret hX rfl ⟨_, rfl, hf⟩ dJ4_coder_14

def w_J4_length (x0 : Nat) (χ : St) (Q : Int32 → St → Prop) : Prop := (w_J4_coder x0 χ (fun r1 χ2 => (Q ((nI (sLen.getD x0 0)) >>> (r1 &&& 31)) χ2)))
set_option maxHeartbeats 4000000 in
theorem mt_J4_length (l : Launch) (Γ : Gh) (ad : Nat → Nat → Nat) (x0 : Nat) (χ : St) (Q : Int32 → St → Prop) : Mt l yJ4_length (ws_ yJ4_length cJ4_length 1 (some .int)) (rmO (1) (20) χ) (Pm Γ ad χ [.ref (stA Γ x0)] (x0 < 4 ∧ w_J4_length x0 χ Q)) (Qm Γ true ad χ (pI Q)) (frB Γ) := by
  refine Mt.start (by decide) RJ4 rfl (Nat.le_of_ble_eq_true rfl) ?_
  intro X hX hG _ _ hna _ ⟨hv0, hf⟩
  subst hG
  unfold w_J4_length at hf
  refine g_aload_n hX 0 dJ4_length_0 rfl rfl ?_
  refine g_strValue hX hv0 q2050 dJ4_length_1 ?_
  refine g_strLen hX hv0 dJ4_length_4 ?_
  refine g_aload_n hX 0 dJ4_length_5 rfl rfl ?_
  refine g_callVS hX (n := 0) (mt_J4_coder X.l X.Γ _ _ _ _) ⟨hv0, hf⟩ q620 q621 q622 q95 q623 ⟨rfl, hy_J4_coder⟩ (by decide) hv0 rfl rfl (Nat.le_of_ble_eq_true rfl) dJ4_length_6 (fun r1 χ2 hf hc2 => ?_)
  refine g_ishr hX dJ4_length_9 ?_
  exact g_iret hX ⟨_, rfl, hf⟩ dJ4_length_10

def w_J8_canEncode (x0 : Int32) (χ : St) (Q : Int32 → St → Prop) : Prop := ((x0 < 0 → (Q (0 : Int32) χ)) ∧ (¬ x0 < 0 → (((255 : Int32) < x0 → (Q (0 : Int32) χ)) ∧ (¬ (255 : Int32) < x0 → (Q (1 : Int32) χ)))))
set_option maxHeartbeats 4000000 in
theorem mt_J8_canEncode (l : Launch) (Γ : Gh) (ad : Nat → Nat → Nat) (x0 : Int32) (χ : St) (Q : Int32 → St → Prop) : Mt l yJ8_canEncode (ws_ yJ8_canEncode cJ8_canEncode 1 (some .boolean)) (rmO (0) (0) χ) (Pm Γ ad χ [.int x0] (w_J8_canEncode x0 χ Q)) (Qm Γ true ad χ (pI Q)) (frB Γ) := by
  refine Mt.start (by decide) RJ8 rfl (Nat.le_of_ble_eq_true rfl) ?_
  intro X hX hG _ _ hna _ hf
  unfold w_J8_canEncode at hf
  refine g_iload_n hX 0 dJ8_canEncode_0 rfl rfl ?_
  refine g_if_lt hX 15 dJ8_canEncode_1 (by decide) (fun z => ?_) (fun z => ?_)
  · replace hf := hf.1 z
    refine g_iconst hX (v := (0 : Int32)) dJ8_canEncode_15 rfl ?_
    exact g_zret hX rfl ⟨_, rfl, hf⟩ dJ8_canEncode_16
  · replace hf := hf.2 z
    refine g_iload_n hX 0 dJ8_canEncode_4 rfl rfl ?_
    refine g_sipush hX (v := (255 : Int32)) dJ8_canEncode_5 rfl ?_
    refine g_icmp_gt hX 15 dJ8_canEncode_8 (by decide) (fun z => ?_) (fun z => ?_)
    · replace hf := hf.1 z
      refine g_iconst hX (v := (0 : Int32)) dJ8_canEncode_15 rfl ?_
      exact g_zret hX rfl ⟨_, rfl, hf⟩ dJ8_canEncode_16
    · replace hf := hf.2 z
      refine g_iconst hX (v := (1 : Int32)) dJ8_canEncode_11 rfl ?_
      refine g_goto hX 16 dJ8_canEncode_12 (by decide) ?_
      exact g_zret hX rfl ⟨_, rfl, hf⟩ dJ8_canEncode_16

def w_J8_indexOfChar_7 (Q : Int32 → St → Prop) : Nat → Nat → Int32 → Int32 → Int32 → St → Prop
  | 0 => fun _ _ _ _ _ => False
  | n + 1 => fun x0 x3 x4 x5 χ => ((x3 ≤ x5 → (Q (-1 : Int32) χ)) ∧ (¬ x3 ≤ x5 → (vp_in x5 (sLen.getD x0 0)) ∧ (((¬ ((sByt.getD x0 []).getD x5.toNatClampNeg 0) = x4 → (w_J8_indexOfChar_7 Q n x0 x3 x4 (x5 + (1 : Int32)) χ)) ∧ (((sByt.getD x0 []).getD x5.toNatClampNeg 0) = x4 → (Q x5 χ))))))
def w_J8_indexOfChar (x0 : Nat) (x1 : Int32) (x2 : Int32) (x3 : Int32) (χ : St) (Q : Int32 → St → Prop) : Prop := (∃ k7, w_J8_indexOfChar_7 Q k7 x0 x3 x1.toInt8.toInt32 x2 χ)
set_option maxHeartbeats 4000000 in
theorem mt_J8_indexOfChar (l : Launch) (Γ : Gh) (ad : Nat → Nat → Nat) (x0 : Nat) (x1 : Int32) (x2 : Int32) (x3 : Int32) (χ : St) (Q : Int32 → St → Prop) : Mt l yJ8_indexOfChar (ws_ yJ8_indexOfChar cJ8_indexOfChar 6 (some .int)) (rmO (0) (0) χ) (Pm Γ ad χ [.ref (stV Γ x0), .int x1, .int x2, .int x3] (x0 < 4 ∧ w_J8_indexOfChar x0 x1 x2 x3 χ Q)) (Qm Γ true ad χ (pI Q)) (frB Γ) := by
  refine Mt.start (by decide) RJ8 rfl (Nat.le_of_ble_eq_true rfl) ?_
  intro X hX hG _ _ hna _ ⟨hv0, hf⟩
  subst hG
  have B7 : ∀ (n : Nat) (ad : Nat → Nat → Nat) (x0 : Nat) (x3 : Int32) (x4 : Int32) (x5 : Int32) (χ : St), x0 < 4 → w_J8_indexOfChar_7 Q n x0 x3 x4 x5 χ → G X ad χ 7 [(0, .ref (stV X.Γ x0)), (3, .int x3), (4, .int x4), (5, .int x5)] [] := by
    intro n
    induction n with
    | zero => intro ad x0 x3 x4 x5 χ hv_x0 hf; exact hf.elim
    | succ n hK7 =>
      intro ad x0 x3 x4 x5 χ hv_x0 hf
      unfold w_J8_indexOfChar_7 at hf
      refine g_iload hX 3 dJ8_indexOfChar_7 rfl ?_
      refine g_iload_n hX 1 dJ8_indexOfChar_9 rfl rfl ?_
      refine g_icmp_ge hX 31 dJ8_indexOfChar_10 (by decide) (fun z => ?_) (fun z => ?_)
      · replace hf := hf.1 z
        refine g_iconst hX (v := (-1 : Int32)) dJ8_indexOfChar_31 rfl ?_
        exact g_iret hX ⟨_, rfl, hf⟩ dJ8_indexOfChar_32
      · replace hf := hf.2 z
        refine g_aload_n hX 0 dJ8_indexOfChar_13 rfl rfl ?_
        refine g_iload hX 3 dJ8_indexOfChar_14 rfl ?_
        refine g_strAt hX hv_x0 hf.1 dJ8_indexOfChar_16 ?_
        replace hf := hf.2
        refine g_iload hX 2 dJ8_indexOfChar_17 rfl ?_
        refine g_icmp_ne hX 25 dJ8_indexOfChar_19 (by decide) (fun z => ?_) (fun z => ?_)
        · replace hf := hf.1 z
          refine g_iinc hX (v := _) 3 dJ8_indexOfChar_25 rfl rfl (by decide) rfl ?_
          refine g_goto hX 7 dJ8_indexOfChar_28 (by decide) ?_
          refine g_sub [1, 2, 3, 0] rfl ?_
          exact hK7 _ _ _ _ _ _ (hv_x0) hf
        · replace hf := hf.2 z
          refine g_iload hX 3 dJ8_indexOfChar_22 rfl ?_
          exact g_iret hX ⟨_, rfl, hf⟩ dJ8_indexOfChar_24
  unfold w_J8_indexOfChar at hf
  refine g_iload_n hX 1 dJ8_indexOfChar_0 rfl rfl ?_
  refine g_i2b hX dJ8_indexOfChar_1 ?_
  refine g_istore hX dJ8_indexOfChar_2 (by decide) rfl ?_
  refine g_iload_n hX 3 dJ8_indexOfChar_4 rfl rfl ?_
  refine g_istore hX dJ8_indexOfChar_5 (by decide) rfl ?_
  obtain ⟨n0, hf⟩ := hf
  refine g_sub [2, 5, 1, 0] rfl ?_
  exact B7 n0 _ _ _ _ _ _ (hv0) hf

def w_J8_indexOf (x0 : Nat) (x1 : Int32) (x2 : Int32) (x3 : Int32) (χ : St) (Q : Int32 → St → Prop) : Prop := (w_J8_canEncode x1 χ (fun r1 χ2 => ((¬ r1 = 0 → (∀ v3 : Int32, v3 = (if x2 < (0 : Int32) then (0 : Int32) else x2) → (∀ v4 : Int32, v4 = (if (nI (sLen.getD x0 0)) < x3 then (nI (sLen.getD x0 0)) else x3) → ((v3 < v4 → (w_J8_indexOfChar x0 x1 v3 v4 χ2 (fun r5 χ6 => (Q r5 χ6)))) ∧ (¬ v3 < v4 → (Q (-1 : Int32) χ2)))))) ∧ (r1 = 0 → (Q (-1 : Int32) χ2)))))
set_option maxHeartbeats 4000000 in
theorem mt_J8_indexOf (l : Launch) (Γ : Gh) (ad : Nat → Nat → Nat) (x0 : Nat) (x1 : Int32) (x2 : Int32) (x3 : Int32) (χ : St) (Q : Int32 → St → Prop) : Mt l yJ8_indexOf (ws_ yJ8_indexOf cJ8_indexOf 4 (some .int)) (rmO (1) (25) χ) (Pm Γ ad χ [.ref (stV Γ x0), .int x1, .int x2, .int x3] (x0 < 4 ∧ w_J8_indexOf x0 x1 x2 x3 χ Q)) (Qm Γ true ad χ (pI Q)) (frB Γ) := by
  refine Mt.start (by decide) RJ8 rfl (Nat.le_of_ble_eq_true rfl) ?_
  intro X hX hG _ _ hna _ ⟨hv0, hf⟩
  subst hG
  unfold w_J8_indexOf at hf
  refine g_iload_n hX 1 dJ8_indexOf_0 rfl rfl ?_
  refine g_callSi hX (n := 1) (mt_J8_canEncode X.l X.Γ _ _ _ _) hf q627 q628 q102 q629 hy_J8_canEncode (by decide) rfl rfl (Nat.le_of_ble_eq_true rfl) dJ8_indexOf_1 (fun r1 χ2 hf hc2 => ?_)
  refine g_if_ne hX 9 dJ8_indexOf_4 (by decide) (fun z => ?_) (fun z => ?_)
  · replace hf := hf.1 z
    refine g_iload_n hX 2 dJ8_indexOf_9 rfl rfl ?_
    refine g_iconst hX (v := (0 : Int32)) dJ8_indexOf_10 rfl ?_
    refine g_mmax hX q630 q631 q103 q632 ⟨by decide, by decide⟩ (Nat.le_of_ble_eq_true rfl) dJ8_indexOf_11 ?_
    replace hf := hf _ rfl
    refine g_istore_n hX dJ8_indexOf_14 rfl (by decide) rfl ?_
    refine g_iload_n hX 3 dJ8_indexOf_15 rfl rfl ?_
    refine g_aload_n hX 1 dJ8_indexOf_16 rfl rfl ?_
    refine g_strLen hX hv0 dJ8_indexOf_17 ?_
    refine g_mmin hX q633 q634 q103 q635 ⟨by decide, by decide⟩ (Nat.le_of_ble_eq_true rfl) dJ8_indexOf_18 ?_
    replace hf := hf _ rfl
    refine g_istore_n hX dJ8_indexOf_21 rfl (by decide) rfl ?_
    refine g_iload_n hX 1 dJ8_indexOf_22 rfl rfl ?_
    refine g_iload_n hX 0 dJ8_indexOf_23 rfl rfl ?_
    refine g_icmp_lt hX 29 dJ8_indexOf_24 (by decide) (fun z => ?_) (fun z => ?_)
    · replace hf := hf.1 z
      refine g_aload_n hX 2 dJ8_indexOf_29 rfl rfl ?_
      refine g_iload_n hX 3 dJ8_indexOf_30 rfl rfl ?_
      refine g_iload_n hX 1 dJ8_indexOf_31 rfl rfl ?_
      refine g_iload_n hX 0 dJ8_indexOf_32 rfl rfl ?_
      refine g_callSi hX (n := 4) (mt_J8_indexOfChar X.l X.Γ _ _ _ _ _ _ _) ⟨hv0, hf⟩ q636 q637 q102 q638 hy_J8_indexOfChar (by decide) rfl rfl (Nat.le_of_ble_eq_true rfl) dJ8_indexOf_33 (fun r5 χ6 hf hc6 => ?_)
      exact g_iret hX ⟨_, rfl, hf⟩ dJ8_indexOf_36
    · replace hf := hf.2 z
      refine g_iconst hX (v := (-1 : Int32)) dJ8_indexOf_27 rfl ?_
      exact g_iret hX ⟨_, rfl, hf⟩ dJ8_indexOf_28
  · replace hf := hf.2 z
    refine g_iconst hX (v := (-1 : Int32)) dJ8_indexOf_7 rfl ?_
    exact g_iret hX ⟨_, rfl, hf⟩ dJ8_indexOf_8

def w_J4_indexOf_2 (x0 : Nat) (x1 : Int32) (x2 : Int32) (χ : St) (Q : Int32 → St → Prop) : Prop := (w_J4_isLatin1 x0 χ (fun r1 χ2 => ((r1 = 0 → False) ∧ (¬ r1 = 0 → (w_J4_length x0 χ2 (fun r3 χ4 => (w_J8_indexOf x0 x1 x2 r3 χ4 (fun r5 χ6 => (Q r5 χ6)))))))))
set_option maxHeartbeats 4000000 in
theorem mt_J4_indexOf_2 (l : Launch) (Γ : Gh) (ad : Nat → Nat → Nat) (x0 : Nat) (x1 : Int32) (x2 : Int32) (χ : St) (Q : Int32 → St → Prop) : Mt l yJ4_indexOf_2 (ws_ yJ4_indexOf_2 cJ4_indexOf_2 3 (some .int)) (rmO (2) (48) χ) (Pm Γ ad χ [.ref (stA Γ x0), .int x1, .int x2] (x0 < 4 ∧ w_J4_indexOf_2 x0 x1 x2 χ Q)) (Qm Γ true ad χ (pI Q)) (frB Γ) := by
  refine Mt.start (by decide) RJ4 rfl (Nat.le_of_ble_eq_true rfl) ?_
  intro X hX hG _ _ hna _ ⟨hv0, hf⟩
  subst hG
  unfold w_J4_indexOf_2 at hf
  refine g_aload_n hX 0 dJ4_indexOf_2_0 rfl rfl ?_
  refine g_callVS hX (n := 0) (mt_J4_isLatin1 X.l X.Γ _ _ _ _) ⟨hv0, hf⟩ q610 q611 q612 q95 q613 ⟨rfl, hy_J4_isLatin1⟩ (by decide) hv0 rfl rfl (Nat.le_of_ble_eq_true rfl) dJ4_indexOf_2_1 (fun r1 χ2 hf hc2 => ?_)
  refine g_if_eq hX 23 dJ4_indexOf_2_4 (by decide) (fun z => ?_) (fun z => ?_)
  · replace hf := hf.1 z
    exact hf.elim
  · replace hf := hf.2 z
    refine g_aload_n hX 0 dJ4_indexOf_2_7 rfl rfl ?_
    refine g_strValue hX hv0 q2050 dJ4_indexOf_2_8 ?_
    refine g_iload_n hX 1 dJ4_indexOf_2_11 rfl rfl ?_
    refine g_iload_n hX 2 dJ4_indexOf_2_12 rfl rfl ?_
    refine g_aload_n hX 0 dJ4_indexOf_2_13 rfl rfl ?_
    refine g_callVS hX (n := 0) (mt_J4_length X.l X.Γ _ _ _ _) ⟨hv0, hf⟩ q616 q617 q618 q95 q619 ⟨rfl, hy_J4_length⟩ (by decide) hv0 rfl rfl (Nat.le_of_ble_eq_true rfl) dJ4_indexOf_2_14 (fun r3 χ4 hf hc4 => ?_)
    refine g_callSi hX (n := 4) (mt_J8_indexOf X.l X.Γ _ _ _ _ _ _ _) ⟨hv0, hf⟩ q624 q625 q102 q626 hy_J8_indexOf (by decide) rfl rfl (Nat.le_of_ble_eq_true rfl) dJ4_indexOf_2_17 (fun r5 χ6 hf hc6 => ?_)
    refine g_goto hX 36 dJ4_indexOf_2_20 (by decide) ?_
    exact g_iret hX ⟨_, rfl, hf⟩ dJ4_indexOf_2_36

def w_J4_indexOf (x0 : Nat) (x1 : Int32) (χ : St) (Q : Int32 → St → Prop) : Prop := (w_J4_indexOf_2 x0 x1 (0 : Int32) χ (fun r1 χ2 => (Q r1 χ2)))
set_option maxHeartbeats 4000000 in
theorem mt_J4_indexOf (l : Launch) (Γ : Gh) (ad : Nat → Nat → Nat) (x0 : Nat) (x1 : Int32) (χ : St) (Q : Int32 → St → Prop) : Mt l yJ4_indexOf (ws_ yJ4_indexOf cJ4_indexOf 2 (some .int)) (rmO (3) (70) χ) (Pm Γ ad χ [.ref (stA Γ x0), .int x1] (x0 < 4 ∧ w_J4_indexOf x0 x1 χ Q)) (Qm Γ true ad χ (pI Q)) (frB Γ) := by
  refine Mt.start (by decide) RJ4 rfl (Nat.le_of_ble_eq_true rfl) ?_
  intro X hX hG _ _ hna _ ⟨hv0, hf⟩
  subst hG
  unfold w_J4_indexOf at hf
  refine g_aload_n hX 0 dJ4_indexOf_0 rfl rfl ?_
  refine g_iload_n hX 1 dJ4_indexOf_1 rfl rfl ?_
  refine g_iconst hX (v := (0 : Int32)) dJ4_indexOf_2 rfl ?_
  refine g_callVS hX (n := 2) (mt_J4_indexOf_2 X.l X.Γ _ _ _ _ _ _) ⟨hv0, hf⟩ q606 q607 q608 q95 q609 ⟨rfl, hy_J4_indexOf_2⟩ (by decide) hv0 rfl rfl (Nat.le_of_ble_eq_true rfl) dJ4_indexOf_3 (fun r1 χ2 hf hc2 => ?_)
  exact g_iret hX ⟨_, rfl, hf⟩ dJ4_indexOf_6

def w_X7_init (x0 : Nat) (χ : St) (Q : St → Prop) : Prop := (∀ χ1 : St, χ1 = (sR χ 3203 x0 0 (some 0)) → (∀ χ2 : St, χ2 = (sI χ1 3201 x0 0 (-1 : Int32)) → (Q χ2)))
set_option maxHeartbeats 4000000 in
theorem mt_X7_init (l : Launch) (Γ : Gh) (ad : Nat → Nat → Nat) (x0 : Nat) (χ : St) (Q : St → Prop) : Mt l yX7_init (ws_ yX7_init cX7_init 2 (none)) (rmO (1) (20) χ) (Pm Γ ad χ [.ref (ad 31 x0), .ref (ad 0 0)] (x0 < cn χ 31 ∧ w_X7_init x0 χ Q)) (Qm Γ true ad χ (pV Q)) (frB Γ) := by
  refine Mt.start (by decide) RX7 rfl (Nat.le_of_ble_eq_true rfl) ?_
  intro X hX hG _ _ hna _ ⟨hv0, hf⟩
  unfold w_X7_init at hf
  refine g_aload_n hX 0 dX7_init_0 rfl rfl ?_
  refine g_aload_n hX 1 dX7_init_1 rfl rfl ?_
  refine g_putRF hX rfl (v := some _) (k := 3) hv0 ff31 rfl rfl in_X7 tyX7_ok nmX7 (by decide) (by decide) (by decide) rfl rfl q532 rfl rfl rfl nar_rf fits_rf (fun x e => by cases e; exact (fc0 _)) dX7_init_2 ?_
  replace hf := hf _ rfl
  refine g_aload_n hX 0 dX7_init_5 rfl rfl ?_
  refine g_objInit hX q527 q138 q139 ⟨by decide, by decide⟩ (Nat.le_of_ble_eq_true rfl) dX7_init_6 ?_
  refine g_aload_n hX 0 dX7_init_9 rfl rfl ?_
  refine g_iconst hX (v := (-1 : Int32)) dX7_init_10 rfl ?_
  refine g_putI hX (k := 1) hv0 ff31 rfl rfl in_X7 tyX7_ok nmX7 (by decide) q529 rfl rfl rfl rfl dX7_init_11 ?_
  replace hf := hf _ rfl
  exact g_vret hX ⟨rfl, hf⟩ dX7_init_14

def w_X7_here (x0 : Nat) (χ : St) (Q : Int32 → St → Prop) : Prop := ((gR χ 3203 x0 0) = some 0) ∧ ((((gI χ 108 0 0) ≤ (gI χ 3200 x0 0) → (Q (-1 : Int32) χ)) ∧ (¬ (gI χ 108 0 0) ≤ (gI χ 3200 x0 0) → ((gR χ 3203 x0 0) = some 0) ∧ ((vp_in (gI χ 3200 x0 0) 120) ∧ ((Q (gI χ 5 0 (gI χ 3200 x0 0).toNatClampNeg) χ))))))
set_option maxHeartbeats 4000000 in
theorem mt_X7_here (l : Launch) (Γ : Gh) (ad : Nat → Nat → Nat) (x0 : Nat) (χ : St) (Q : Int32 → St → Prop) : Mt l yX7_here (ws_ yX7_here cX7_here 1 (some .int)) (rmO (0) (0) χ) (Pm Γ ad χ [.ref (ad 31 x0)] (x0 < cn χ 31 ∧ w_X7_here x0 χ Q)) (Qm Γ true ad χ (pI Q)) (frB Γ) := by
  refine Mt.start (by decide) RX7 rfl (Nat.le_of_ble_eq_true rfl) ?_
  intro X hX hG _ _ hna _ ⟨hv0, hf⟩
  unfold w_X7_here at hf
  refine g_aload_n hX 0 dX7_here_0 rfl rfl ?_
  refine g_getI hX (k := 0) hv0 ff31 rfl rfl in_X7 (by decide) q528 dX7_here_1 ?_
  refine g_aload_n hX 0 dX7_here_4 rfl rfl ?_
  refine g_getE hX (k := 3) hv0 ff31 rfl (by decide) (by decide) rfl rfl rfl in_X7 (by decide) q532 dX7_here_5 hf.1 (fun _ => ?_)
  replace hf := hf.2
  refine g_getIN hX (k := 8) (fc0 _) ff0 rfl rfl in_X0 (by decide) q207 dX7_here_8 ?_
  refine g_icmp_ge hX 29 dX7_here_11 (by decide) (fun z => ?_) (fun z => ?_)
  · replace hf := hf.1 z
    refine g_iconst hX (v := (-1 : Int32)) dX7_here_29 rfl ?_
    exact g_iret hX ⟨_, rfl, hf⟩ dX7_here_30
  · replace hf := hf.2 z
    refine g_aload_n hX 0 dX7_here_14 rfl rfl ?_
    refine g_getE hX (k := 3) hv0 ff31 rfl (by decide) (by decide) rfl rfl rfl in_X7 (by decide) q532 dX7_here_15 hf.1 (fun _ => ?_)
    replace hf := hf.2
    refine g_getKN hX (k := 7) (d := 5) (fc0 _) ff0 rfl (by decide) rfl rfl in_X0 (by decide) q206 dX7_here_18 ?_
    refine g_aload_n hX 0 dX7_here_21 rfl rfl ?_
    refine g_getI hX (k := 0) hv0 ff31 rfl rfl in_X7 (by decide) q528 dX7_here_22 ?_
    refine g_bald hX (fc5 _) ff5 rfl hf.1 dX7_here_25 ?_
    replace hf := hf.2
    refine g_goto hX 30 dX7_here_26 (by decide) ?_
    exact g_iret hX ⟨_, rfl, hf⟩ dX7_here_30

def w_X7_isOne (x0 : Nat) (x1 : Nat) (χ : St) (Q : Int32 → St → Prop) : Prop := (w_X7_here x0 χ (fun r1 χ2 => ((r1 < 0 → (Q (0 : Int32) χ2)) ∧ (¬ r1 < 0 → (w_X7_here x0 χ2 (fun r3 χ4 => (w_J4_indexOf x1 r3 χ4 (fun r5 χ6 => ((r5 < 0 → (Q (0 : Int32) χ6)) ∧ (¬ r5 < 0 → (Q (1 : Int32) χ6)))))))))))
set_option maxHeartbeats 4000000 in
theorem mt_X7_isOne (l : Launch) (Γ : Gh) (ad : Nat → Nat → Nat) (x0 : Nat) (x1 : Nat) (χ : St) (Q : Int32 → St → Prop) : Mt l yX7_isOne (ws_ yX7_isOne cX7_isOne 2 (some .boolean)) (rmO (4) (91) χ) (Pm Γ ad χ [.ref (ad 31 x0), .ref (stA Γ x1)] (x0 < cn χ 31 ∧ x1 < 4 ∧ w_X7_isOne x0 x1 χ Q)) (Qm Γ true ad χ (pI Q)) (frB Γ) := by
  refine Mt.start (by decide) RX7 rfl (Nat.le_of_ble_eq_true rfl) ?_
  intro X hX hG _ _ hna _ ⟨hv0, hv1, hf⟩
  subst hG
  unfold w_X7_isOne at hf
  refine g_aload_n hX 0 dX7_isOne_0 rfl rfl ?_
  refine g_callVi hX (n := 0) (mt_X7_here X.l X.Γ _ _ _ _) ⟨hv0, hf⟩ q593 q595 qs14 q100 q596 ⟨rfl, hy_X7_here⟩ (by decide) hv0 ff31 rfl rfl rfl (Nat.le_of_ble_eq_true rfl) dX7_isOne_1 (fun r1 χ2 hf hc2 => ?_)
  refine g_if_lt hX 22 dX7_isOne_4 (by decide) (fun z => ?_) (fun z => ?_)
  · replace hf := hf.1 z
    refine g_iconst hX (v := (0 : Int32)) dX7_isOne_22 rfl ?_
    exact g_zret hX rfl ⟨_, rfl, hf⟩ dX7_isOne_23
  · replace hf := hf.2 z
    refine g_aload_n hX 1 dX7_isOne_7 rfl rfl ?_
    refine g_aload_n hX 0 dX7_isOne_8 rfl rfl ?_
    refine g_callVi hX (n := 0) (mt_X7_here X.l X.Γ _ _ _ _) ⟨(Nat.lt_of_lt_of_le hv0 (hc2 31)), hf⟩ q593 q595 qs14 q100 q596 ⟨rfl, hy_X7_here⟩ (by decide) (Nat.lt_of_lt_of_le hv0 (hc2 31)) ff31 rfl rfl rfl (Nat.le_of_ble_eq_true rfl) dX7_isOne_9 (fun r3 χ4 hf hc4 => ?_)
    refine g_callVS hX (n := 1) (mt_J4_indexOf X.l X.Γ _ _ _ _ _) ⟨hv1, hf⟩ q602 q603 q604 q95 q605 ⟨rfl, hy_J4_indexOf⟩ (by decide) hv1 rfl rfl (Nat.le_of_ble_eq_true rfl) dX7_isOne_12 (fun r5 χ6 hf hc6 => ?_)
    refine g_if_lt hX 22 dX7_isOne_15 (by decide) (fun z => ?_) (fun z => ?_)
    · replace hf := hf.1 z
      refine g_iconst hX (v := (0 : Int32)) dX7_isOne_22 rfl ?_
      exact g_zret hX rfl ⟨_, rfl, hf⟩ dX7_isOne_23
    · replace hf := hf.2 z
      refine g_iconst hX (v := (1 : Int32)) dX7_isOne_18 rfl ?_
      refine g_goto hX 23 dX7_isOne_19 (by decide) ?_
      exact g_zret hX rfl ⟨_, rfl, hf⟩ dX7_isOne_23

def w_X7_joined (x0 : Nat) (x1 : Int32) (x2 : Option Nat) (x3 : Option Nat) (χ : St) (Q : Option Nat → St → Prop) : Prop := (((gI χ 3201 x0 0) < 0 → (uC χ + 1 ≤ 603072) ∧ (uS χ + 3 ≤ 7262314) ∧ ((∀ χ1 : St, χ1 = (alo χ 30 4 3) → (w_X14_init (nO χ 30) x1 x2 x3 χ1 (fun χ2 => (Q (some (nO χ 30)) χ2)))))) ∧ (¬ (gI χ 3201 x0 0) < 0 → (Q none χ)))
set_option maxHeartbeats 4000000 in
theorem mt_X7_joined (l : Launch) (Γ : Gh) (ad : Nat → Nat → Nat) (x0 : Nat) (x1 : Int32) (x2 : Option Nat) (x3 : Option Nat) (χ : St) (Q : Option Nat → St → Prop) : Mt l yX7_joined (ws_ yX7_joined cX7_joined 4 (some (.object "ChairOld$Node"))) (rmO (3) (63) χ) (Pm Γ ad χ [.ref (ad 31 x0), .int x1, va_rf (x2.map (ad 30)), va_rf (x3.map (ad 30))] (x0 < cn χ 31 ∧ (∀ x, x2 = some x → x < cn χ 30) ∧ (∀ x, x3 = some x → x < cn χ 30) ∧ w_X7_joined x0 x1 x2 x3 χ Q)) (Qm Γ false ad χ (pR 30 Q)) (frB Γ) := by
  refine Mt.start (by decide) RX7 rfl (by cases x2 <;> cases x3 <;> exact Nat.le_of_ble_eq_true rfl) ?_
  intro X hX hG _ _ hna _ ⟨hv0, hv2, hv3, hf⟩
  rw [show lv_args 0 [.ref (ad 31 x0), .int x1, va_rf (x2.map (ad 30)), va_rf (x3.map (ad 30))] = [(0, .ref (ad 31 x0)), (1, .int x1), (2, va_rf (x2.map (ad 30))), (3, va_rf (x3.map (ad 30)))] from by cases x2 <;> cases x3 <;> rfl]
  unfold w_X7_joined at hf
  refine g_aload_n hX 0 dX7_joined_0 rfl rfl ?_
  refine g_getI hX (k := 1) hv0 ff31 rfl rfl in_X7 (by decide) q529 dX7_joined_1 ?_
  refine g_if_lt hX 11 dX7_joined_4 (by decide) (fun z => ?_) (fun z => ?_)
  · replace hf := hf.1 z
    refine g_new hX hna (c := 30) (t := 4) tyX14 rfl rfl (by decide) rfl in_X14 tyX14_ok df_X14 q745 q746 q112 hf.1 hf.2.1 dX7_joined_11 (fun ad1 hE1 => ?_)
    replace hf := hf.2.2 _ rfl
    rw [← hE1.1 31 _ hv0]
    rw [rf_ext (d := 30) hE1 hv2]
    rw [rf_ext (d := 30) hE1 hv3]
    refine g_dup hX dX7_joined_14 rfl ?_
    refine g_iload_n hX 1 dX7_joined_15 rfl rfl ?_
    refine g_aload_nO hX 2 dX7_joined_16 rfl rfl ?_
    refine g_aload_nO hX 3 dX7_joined_17 rfl rfl ?_
    refine g_callIv hX (n := 3) (mt_X14_init X.l X.Γ _ _ _ _ _ _ _) ⟨(new_lt rfl), (fun x e => Nat.lt_of_lt_of_le (hv2 x e) (hE1.2 30)), (fun x e => Nat.lt_of_lt_of_le (hv3 x e) (hE1.2 30)), hf⟩ rfl q747 q748 q112 q749 hy_X14_init (by decide) rfl rfl (Nat.le_of_ble_eq_true rfl) dX7_joined_18 (fun χ2 hf hc2 => ?_)
    exact g_aret hX rfl (Or.inr ⟨_, rfl⟩) ⟨some _, rfl, (fun x e => by cases e; exact (Nat.lt_of_lt_of_le (new_lt rfl) (hc2 30))), hf⟩ dX7_joined_21
  · replace hf := hf.2 z
    refine g_null hX dX7_joined_7 ?_
    refine g_goto hX 21 dX7_joined_8 (by decide) ?_
    exact g_aret hX rfl (Or.inl rfl) ⟨none, rfl, (fun x e => by cases e), hf⟩ dX7_joined_21

def w_X7_product_5 (W1 : Nat → St → (Option Nat → St → Prop) → Prop) (Q : Option Nat → St → Prop) : Nat → Nat → Option Nat → St → Prop
  | 0 => fun _ _ _ => False
  | n + 1 => fun x0 x1 χ => ((0 ≤ (gI χ 3201 x0 0) → (Q x1 χ)) ∧ (¬ 0 ≤ (gI χ 3201 x0 0) → (w_X7_isOne x0 2 χ (fun r3 χ4 => ((r3 = 0 → (Q x1 χ4)) ∧ (¬ r3 = 0 → (w_X7_here x0 χ4 (fun r5 χ6 => (∀ χ7 : St, χ7 = (sI χ6 3200 x0 0 ((gI χ6 3200 x0 0) + (1 : Int32))) → (W1 x0 χ7 (fun o8 χ9 => (w_X7_joined x0 r5 x1 o8 χ9 (fun o10 χ11 => (w_X7_product_5 W1 Q n x0 o10 χ11))))))))))))))
def w_X7_product (W1 : Nat → St → (Option Nat → St → Prop) → Prop) (x0 : Nat) (χ : St) (Q : Option Nat → St → Prop) : Prop := (W1 x0 χ (fun o1 χ2 => (∃ k5, w_X7_product_5 W1 Q k5 x0 o1 χ2)))
set_option maxHeartbeats 4000000 in
theorem mt_X7_product (l : Launch) (Γ : Gh) (W1 : Nat → St → (Option Nat → St → Prop) → Prop) (F1 L1 : Nat) (h1 : ∀ (l : Launch) (Γ : Gh) (ad : Nat → Nat → Nat) (x0 : Nat) (χ : St) (Q : Option Nat → St → Prop), Mt l yX7_operand (ws_ yX7_operand cX7_operand 4 (some (.object "ChairOld$Node"))) (rmO F1 L1 χ) (Pm Γ ad χ [.ref (ad 31 x0)] (x0 < cn χ 31 ∧ W1 x0 χ Q)) (Qm Γ false ad χ (pR 30 Q)) (frB Γ)) (ad : Nat → Nat → Nat) (x0 : Nat) (χ : St) (Q : Option Nat → St → Prop) : Mt l yX7_product (ws_ yX7_product cX7_product 3 (some (.object "ChairOld$Node"))) (rmO (F1 + 5) (L1 + 112) χ) (Pm Γ ad χ [.ref (ad 31 x0)] (x0 < cn χ 31 ∧ w_X7_product W1 x0 χ Q)) (Qm Γ false ad χ (pR 30 Q)) (frB Γ) := by
  refine Mt.start (by decide) RX7 rfl (Nat.le_of_ble_eq_true rfl) ?_
  intro X hX hG _ _ hna _ ⟨hv0, hf⟩
  have B5 : ∀ (n : Nat) (ad : Nat → Nat → Nat) (x0 : Nat) (x1 : Option Nat) (χ : St), x0 < cn χ 31 → (∀ x, x1 = some x → x < cn χ 30) → w_X7_product_5 W1 Q n x0 x1 χ → G X ad χ 5 [(0, .ref (ad 31 x0)), (1, va_rf (x1.map (ad 30)))] [] := by
    intro n
    induction n with
    | zero => intro ad x0 x1 χ hv_x0 hv_x1 hf; exact hf.elim
    | succ n hK5 =>
      intro ad x0 x1 χ hv_x0 hv_x1 hf
      unfold w_X7_product_5 at hf
      refine g_aload_n hX 0 dX7_product_5 rfl rfl ?_
      refine g_getI hX (k := 1) hv_x0 ff31 rfl rfl in_X7 (by decide) q529 dX7_product_6 ?_
      refine g_if_ge hX 50 dX7_product_9 (by decide) (fun z => ?_) (fun z => ?_)
      · replace hf := hf.1 z
        refine g_aload_nO hX 1 dX7_product_50 rfl rfl ?_
        exact g_aret hX rfl rf_or ⟨_, rfl, hv_x1, hf⟩ dX7_product_51
      · replace hf := hf.2 z
        refine g_aload_n hX 0 dX7_product_12 rfl rfl ?_
        refine g_ldcS hX (q := stA X.Γ 2) hX.2.2.2.2.2.2.2.1.2.2.2.1.2.1.2.2.1 dX7_product_13 ?_
        refine g_callVi hX (n := 1) (mt_X7_isOne X.l X.Γ _ _ _ _ _) ⟨hv_x0, (by decide), hf⟩ q598 q600 qs15 q100 q601 ⟨rfl, hy_X7_isOne⟩ ⟨by omega, by omega⟩ hv_x0 ff31 rfl rfl rfl (Nat.le_of_ble_eq_true rfl) dX7_product_15 (fun r3 χ4 hf hc4 => ?_)
        refine g_if_eq hX 50 dX7_product_18 (by decide) (fun z => ?_) (fun z => ?_)
        · replace hf := hf.1 z
          refine g_aload_nO hX 1 dX7_product_50 rfl rfl ?_
          exact g_aret hX rfl rf_or ⟨_, rfl, (fun x e => Nat.lt_of_lt_of_le (hv_x1 x e) (hc4 30)), hf⟩ dX7_product_51
        · replace hf := hf.2 z
          refine g_aload_n hX 0 dX7_product_21 rfl rfl ?_
          refine g_callVi hX (n := 0) (mt_X7_here X.l X.Γ _ _ _ _) ⟨(Nat.lt_of_lt_of_le hv_x0 (hc4 31)), hf⟩ q593 q595 qs14 q100 q596 ⟨rfl, hy_X7_here⟩ ⟨by omega, by omega⟩ (Nat.lt_of_lt_of_le hv_x0 (hc4 31)) ff31 rfl rfl rfl (Nat.le_of_ble_eq_true rfl) dX7_product_22 (fun r5 χ6 hf hc6 => ?_)
          refine g_istore_n1 hX dX7_product_25 rfl (by decide) (by simp [lv_args, List.filter, cat_rf, cat_i, cat_l, cat_r, cat_n]) rfl ?_
          refine g_aload_n hX 1 dX7_product_26 rfl rfl ?_
          refine g_dup hX dX7_product_27 rfl ?_
          refine g_getI hX (k := 0) (Nat.lt_of_lt_of_le (Nat.lt_of_lt_of_le hv_x0 (hc4 31)) (hc6 31)) ff31 rfl rfl in_X7 (by decide) q528 dX7_product_28 ?_
          refine g_iconst hX (v := (1 : Int32)) dX7_product_31 rfl ?_
          refine g_iadd hX dX7_product_32 ?_
          refine g_putI hX (k := 0) (Nat.lt_of_lt_of_le (Nat.lt_of_lt_of_le hv_x0 (hc4 31)) (hc6 31)) ff31 rfl rfl in_X7 tyX7_ok nmX7 (by decide) q528 rfl rfl rfl rfl dX7_product_33 ?_
          replace hf := hf _ rfl
          refine g_aload_n hX 1 dX7_product_36 rfl rfl ?_
          refine g_iload_n hX 0 dX7_product_37 rfl rfl ?_
          refine g_aload_nO hX 2 dX7_product_38 rfl rfl ?_
          refine g_aload_n hX 1 dX7_product_39 rfl rfl ?_
          refine g_callVAr hX hna 30 (n := 0) (h1 X.l X.Γ _ _ _ _) ⟨(Nat.lt_of_lt_of_le (Nat.lt_of_lt_of_le hv_x0 (hc4 31)) (hc6 31)), hf⟩ q589 q591 qs13 q100 q592 ⟨rfl, hy_X7_operand⟩ ⟨by omega, by omega⟩ (Nat.lt_of_lt_of_le (Nat.lt_of_lt_of_le hv_x0 (hc4 31)) (hc6 31)) ff31 rfl rfl rfl (by simp [cat_rf, cat_i, cat_l, cat_r, cat_n]) dX7_product_40 (fun o8 ad9 χ9 hv9 hf hc9 => ?_)
          rw [← hc9.1 31 _ (Nat.lt_of_lt_of_le (Nat.lt_of_lt_of_le hv_x0 (hc4 31)) (hc6 31))]
          rw [rf_ext (d := 30) hc9 (fun x e => Nat.lt_of_lt_of_le ((fun x e => Nat.lt_of_lt_of_le (hv_x1 x e) (hc4 30)) x e) (hc6 30))]
          refine g_callVAr hX hna 30 (n := 3) (mt_X7_joined X.l X.Γ _ _ _ _ _ _ _) ⟨(Nat.lt_of_lt_of_le (Nat.lt_of_lt_of_le (Nat.lt_of_lt_of_le hv_x0 (hc4 31)) (hc6 31)) (hc9.2 31)), (fun x e => Nat.lt_of_lt_of_le ((fun x e => Nat.lt_of_lt_of_le ((fun x e => Nat.lt_of_lt_of_le (hv_x1 x e) (hc4 30)) x e) (hc6 30)) x e) (hc9.2 30)), hv9, hf⟩ q741 q743 qs18 q100 q744 ⟨rfl, hy_X7_joined⟩ ⟨by omega, by omega⟩ (Nat.lt_of_lt_of_le (Nat.lt_of_lt_of_le (Nat.lt_of_lt_of_le hv_x0 (hc4 31)) (hc6 31)) (hc9.2 31)) ff31 rfl rfl rfl (Nat.le_of_ble_eq_true rfl) dX7_product_43 (fun o10 ad11 χ11 hv11 hf hc11 => ?_)
          rw [← hc11.1 31 _ (Nat.lt_of_lt_of_le (Nat.lt_of_lt_of_le (Nat.lt_of_lt_of_le hv_x0 (hc4 31)) (hc6 31)) (hc9.2 31))]
          rw [rf_ext (d := 30) hc11 (fun x e => Nat.lt_of_lt_of_le ((fun x e => Nat.lt_of_lt_of_le ((fun x e => Nat.lt_of_lt_of_le (hv_x1 x e) (hc4 30)) x e) (hc6 30)) x e) (hc9.2 30))]
          refine g_astore_nO hX dX7_product_46 rfl (by decide) rfl ?_
          refine g_goto hX 5 dX7_product_47 (by decide) ?_
          refine g_sub [2, 0] rfl ?_
          exact hK5 _ _ _ _ ((Nat.lt_of_lt_of_le (Nat.lt_of_lt_of_le (Nat.lt_of_lt_of_le (Nat.lt_of_lt_of_le hv_x0 (hc4 31)) (hc6 31)) (hc9.2 31)) (hc11.2 31))) (hv11) hf
  unfold w_X7_product at hf
  refine g_aload_n hX 0 dX7_product_0 rfl rfl ?_
  refine g_callVAr hX hna 30 (n := 0) (h1 X.l X.Γ _ _ _ _) ⟨hv0, hf⟩ q589 q591 qs13 q100 q592 ⟨rfl, hy_X7_operand⟩ ⟨by omega, by omega⟩ hv0 ff31 rfl rfl rfl (Nat.le_of_ble_eq_true rfl) dX7_product_1 (fun o1 ad2 χ2 hv2 hf hc2 => ?_)
  rw [← hc2.1 31 _ hv0]
  refine g_astore_nO hX dX7_product_4 rfl (by decide) rfl ?_
  obtain ⟨n0, hf⟩ := hf
  refine g_sub [1, 0] rfl ?_
  exact B5 n0 _ _ _ _ ((Nat.lt_of_lt_of_le hv0 (hc2.2 31))) (hv2) hf

def w_X7_sum_5 (W1 : Nat → St → (Option Nat → St → Prop) → Prop) (Q : Option Nat → St → Prop) : Nat → Nat → Option Nat → St → Prop
  | 0 => fun _ _ _ => False
  | n + 1 => fun x0 x1 χ => ((0 ≤ (gI χ 3201 x0 0) → (Q x1 χ)) ∧ (¬ 0 ≤ (gI χ 3201 x0 0) → (w_X7_isOne x0 1 χ (fun r3 χ4 => ((r3 = 0 → (Q x1 χ4)) ∧ (¬ r3 = 0 → (w_X7_here x0 χ4 (fun r5 χ6 => (∀ χ7 : St, χ7 = (sI χ6 3200 x0 0 ((gI χ6 3200 x0 0) + (1 : Int32))) → (w_X7_product W1 x0 χ7 (fun o8 χ9 => (w_X7_joined x0 r5 x1 o8 χ9 (fun o10 χ11 => (w_X7_sum_5 W1 Q n x0 o10 χ11))))))))))))))
def w_X7_sum (W1 : Nat → St → (Option Nat → St → Prop) → Prop) (x0 : Nat) (χ : St) (Q : Option Nat → St → Prop) : Prop := (w_X7_product W1 x0 χ (fun o1 χ2 => (∃ k5, w_X7_sum_5 W1 Q k5 x0 o1 χ2)))
set_option maxHeartbeats 4000000 in
theorem mt_X7_sum (l : Launch) (Γ : Gh) (W1 : Nat → St → (Option Nat → St → Prop) → Prop) (F1 L1 : Nat) (h1 : ∀ (l : Launch) (Γ : Gh) (ad : Nat → Nat → Nat) (x0 : Nat) (χ : St) (Q : Option Nat → St → Prop), Mt l yX7_operand (ws_ yX7_operand cX7_operand 4 (some (.object "ChairOld$Node"))) (rmO F1 L1 χ) (Pm Γ ad χ [.ref (ad 31 x0)] (x0 < cn χ 31 ∧ W1 x0 χ Q)) (Qm Γ false ad χ (pR 30 Q)) (frB Γ)) (ad : Nat → Nat → Nat) (x0 : Nat) (χ : St) (Q : Option Nat → St → Prop) : Mt l yX7_sum (ws_ yX7_sum cX7_sum 3 (some (.object "ChairOld$Node"))) (rmO (F1 + 6) (L1 + 134) χ) (Pm Γ ad χ [.ref (ad 31 x0)] (x0 < cn χ 31 ∧ w_X7_sum W1 x0 χ Q)) (Qm Γ false ad χ (pR 30 Q)) (frB Γ) := by
  refine Mt.start (by decide) RX7 rfl (Nat.le_of_ble_eq_true rfl) ?_
  intro X hX hG _ _ hna _ ⟨hv0, hf⟩
  have B5 : ∀ (n : Nat) (ad : Nat → Nat → Nat) (x0 : Nat) (x1 : Option Nat) (χ : St), x0 < cn χ 31 → (∀ x, x1 = some x → x < cn χ 30) → w_X7_sum_5 W1 Q n x0 x1 χ → G X ad χ 5 [(0, .ref (ad 31 x0)), (1, va_rf (x1.map (ad 30)))] [] := by
    intro n
    induction n with
    | zero => intro ad x0 x1 χ hv_x0 hv_x1 hf; exact hf.elim
    | succ n hK5 =>
      intro ad x0 x1 χ hv_x0 hv_x1 hf
      unfold w_X7_sum_5 at hf
      refine g_aload_n hX 0 dX7_sum_5 rfl rfl ?_
      refine g_getI hX (k := 1) hv_x0 ff31 rfl rfl in_X7 (by decide) q529 dX7_sum_6 ?_
      refine g_if_ge hX 50 dX7_sum_9 (by decide) (fun z => ?_) (fun z => ?_)
      · replace hf := hf.1 z
        refine g_aload_nO hX 1 dX7_sum_50 rfl rfl ?_
        exact g_aret hX rfl rf_or ⟨_, rfl, hv_x1, hf⟩ dX7_sum_51
      · replace hf := hf.2 z
        refine g_aload_n hX 0 dX7_sum_12 rfl rfl ?_
        refine g_ldcS hX (q := stA X.Γ 1) hX.2.2.2.2.2.2.2.1.2.2.2.1.2.1.2.1 dX7_sum_13 ?_
        refine g_callVi hX (n := 1) (mt_X7_isOne X.l X.Γ _ _ _ _ _) ⟨hv_x0, (by decide), hf⟩ q598 q600 qs15 q100 q601 ⟨rfl, hy_X7_isOne⟩ ⟨by omega, by omega⟩ hv_x0 ff31 rfl rfl rfl (Nat.le_of_ble_eq_true rfl) dX7_sum_15 (fun r3 χ4 hf hc4 => ?_)
        refine g_if_eq hX 50 dX7_sum_18 (by decide) (fun z => ?_) (fun z => ?_)
        · replace hf := hf.1 z
          refine g_aload_nO hX 1 dX7_sum_50 rfl rfl ?_
          exact g_aret hX rfl rf_or ⟨_, rfl, (fun x e => Nat.lt_of_lt_of_le (hv_x1 x e) (hc4 30)), hf⟩ dX7_sum_51
        · replace hf := hf.2 z
          refine g_aload_n hX 0 dX7_sum_21 rfl rfl ?_
          refine g_callVi hX (n := 0) (mt_X7_here X.l X.Γ _ _ _ _) ⟨(Nat.lt_of_lt_of_le hv_x0 (hc4 31)), hf⟩ q593 q595 qs14 q100 q596 ⟨rfl, hy_X7_here⟩ ⟨by omega, by omega⟩ (Nat.lt_of_lt_of_le hv_x0 (hc4 31)) ff31 rfl rfl rfl (Nat.le_of_ble_eq_true rfl) dX7_sum_22 (fun r5 χ6 hf hc6 => ?_)
          refine g_istore_n1 hX dX7_sum_25 rfl (by decide) (by simp [lv_args, List.filter, cat_rf, cat_i, cat_l, cat_r, cat_n]) rfl ?_
          refine g_aload_n hX 1 dX7_sum_26 rfl rfl ?_
          refine g_dup hX dX7_sum_27 rfl ?_
          refine g_getI hX (k := 0) (Nat.lt_of_lt_of_le (Nat.lt_of_lt_of_le hv_x0 (hc4 31)) (hc6 31)) ff31 rfl rfl in_X7 (by decide) q528 dX7_sum_28 ?_
          refine g_iconst hX (v := (1 : Int32)) dX7_sum_31 rfl ?_
          refine g_iadd hX dX7_sum_32 ?_
          refine g_putI hX (k := 0) (Nat.lt_of_lt_of_le (Nat.lt_of_lt_of_le hv_x0 (hc4 31)) (hc6 31)) ff31 rfl rfl in_X7 tyX7_ok nmX7 (by decide) q528 rfl rfl rfl rfl dX7_sum_33 ?_
          replace hf := hf _ rfl
          refine g_aload_n hX 1 dX7_sum_36 rfl rfl ?_
          refine g_iload_n hX 0 dX7_sum_37 rfl rfl ?_
          refine g_aload_nO hX 2 dX7_sum_38 rfl rfl ?_
          refine g_aload_n hX 1 dX7_sum_39 rfl rfl ?_
          refine g_callVAr hX hna 30 (n := 0) (mt_X7_product X.l X.Γ W1 F1 L1 h1 _ _ _ _) ⟨(Nat.lt_of_lt_of_le (Nat.lt_of_lt_of_le hv_x0 (hc4 31)) (hc6 31)), hf⟩ q585 q587 qs12 q100 q588 ⟨rfl, hy_X7_product⟩ ⟨by omega, by omega⟩ (Nat.lt_of_lt_of_le (Nat.lt_of_lt_of_le hv_x0 (hc4 31)) (hc6 31)) ff31 rfl rfl rfl (by simp [cat_rf, cat_i, cat_l, cat_r, cat_n]) dX7_sum_40 (fun o8 ad9 χ9 hv9 hf hc9 => ?_)
          rw [← hc9.1 31 _ (Nat.lt_of_lt_of_le (Nat.lt_of_lt_of_le hv_x0 (hc4 31)) (hc6 31))]
          rw [rf_ext (d := 30) hc9 (fun x e => Nat.lt_of_lt_of_le ((fun x e => Nat.lt_of_lt_of_le (hv_x1 x e) (hc4 30)) x e) (hc6 30))]
          refine g_callVAr hX hna 30 (n := 3) (mt_X7_joined X.l X.Γ _ _ _ _ _ _ _) ⟨(Nat.lt_of_lt_of_le (Nat.lt_of_lt_of_le (Nat.lt_of_lt_of_le hv_x0 (hc4 31)) (hc6 31)) (hc9.2 31)), (fun x e => Nat.lt_of_lt_of_le ((fun x e => Nat.lt_of_lt_of_le ((fun x e => Nat.lt_of_lt_of_le (hv_x1 x e) (hc4 30)) x e) (hc6 30)) x e) (hc9.2 30)), hv9, hf⟩ q741 q743 qs18 q100 q744 ⟨rfl, hy_X7_joined⟩ ⟨by omega, by omega⟩ (Nat.lt_of_lt_of_le (Nat.lt_of_lt_of_le (Nat.lt_of_lt_of_le hv_x0 (hc4 31)) (hc6 31)) (hc9.2 31)) ff31 rfl rfl rfl (Nat.le_of_ble_eq_true rfl) dX7_sum_43 (fun o10 ad11 χ11 hv11 hf hc11 => ?_)
          rw [← hc11.1 31 _ (Nat.lt_of_lt_of_le (Nat.lt_of_lt_of_le (Nat.lt_of_lt_of_le hv_x0 (hc4 31)) (hc6 31)) (hc9.2 31))]
          rw [rf_ext (d := 30) hc11 (fun x e => Nat.lt_of_lt_of_le ((fun x e => Nat.lt_of_lt_of_le ((fun x e => Nat.lt_of_lt_of_le (hv_x1 x e) (hc4 30)) x e) (hc6 30)) x e) (hc9.2 30))]
          refine g_astore_nO hX dX7_sum_46 rfl (by decide) rfl ?_
          refine g_goto hX 5 dX7_sum_47 (by decide) ?_
          refine g_sub [2, 0] rfl ?_
          exact hK5 _ _ _ _ ((Nat.lt_of_lt_of_le (Nat.lt_of_lt_of_le (Nat.lt_of_lt_of_le (Nat.lt_of_lt_of_le hv_x0 (hc4 31)) (hc6 31)) (hc9.2 31)) (hc11.2 31))) (hv11) hf
  unfold w_X7_sum at hf
  refine g_aload_n hX 0 dX7_sum_0 rfl rfl ?_
  refine g_callVAr hX hna 30 (n := 0) (mt_X7_product X.l X.Γ W1 F1 L1 h1 _ _ _ _) ⟨hv0, hf⟩ q585 q587 qs12 q100 q588 ⟨rfl, hy_X7_product⟩ ⟨by omega, by omega⟩ hv0 ff31 rfl rfl rfl (Nat.le_of_ble_eq_true rfl) dX7_sum_1 (fun o1 ad2 χ2 hv2 hf hc2 => ?_)
  rw [← hc2.1 31 _ hv0]
  refine g_astore_nO hX dX7_sum_4 rfl (by decide) rfl ?_
  obtain ⟨n0, hf⟩ := hf
  refine g_sub [1, 0] rfl ?_
  exact B5 n0 _ _ _ _ ((Nat.lt_of_lt_of_le hv0 (hc2.2 31))) (hv2) hf

def w_X7_compared (W1 : Nat → St → (Option Nat → St → Prop) → Prop) (x0 : Nat) (χ : St) (Q : Option Nat → St → Prop) : Prop := (w_X7_sum W1 x0 χ (fun o1 χ2 => ((0 ≤ (gI χ2 3201 x0 0) → (Q o1 χ2)) ∧ (¬ 0 ≤ (gI χ2 3201 x0 0) → (w_X7_isOne x0 0 χ2 (fun r3 χ4 => ((¬ r3 = 0 → (w_X7_here x0 χ4 (fun r5 χ6 => (∀ χ7 : St, χ7 = (sI χ6 3200 x0 0 ((gI χ6 3200 x0 0) + (1 : Int32))) → (w_X7_sum W1 x0 χ7 (fun o8 χ9 => (w_X7_joined x0 r5 o1 o8 χ9 (fun o10 χ11 => (Q o10 χ11))))))))) ∧ (r3 = 0 → (Q o1 χ4)))))))))
set_option maxHeartbeats 4000000 in
theorem mt_X7_compared (l : Launch) (Γ : Gh) (W1 : Nat → St → (Option Nat → St → Prop) → Prop) (F1 L1 : Nat) (h1 : ∀ (l : Launch) (Γ : Gh) (ad : Nat → Nat → Nat) (x0 : Nat) (χ : St) (Q : Option Nat → St → Prop), Mt l yX7_operand (ws_ yX7_operand cX7_operand 4 (some (.object "ChairOld$Node"))) (rmO F1 L1 χ) (Pm Γ ad χ [.ref (ad 31 x0)] (x0 < cn χ 31 ∧ W1 x0 χ Q)) (Qm Γ false ad χ (pR 30 Q)) (frB Γ)) (ad : Nat → Nat → Nat) (x0 : Nat) (χ : St) (Q : Option Nat → St → Prop) : Mt l yX7_compared (ws_ yX7_compared cX7_compared 3 (some (.object "ChairOld$Node"))) (rmO (F1 + 7) (L1 + 156) χ) (Pm Γ ad χ [.ref (ad 31 x0)] (x0 < cn χ 31 ∧ w_X7_compared W1 x0 χ Q)) (Qm Γ false ad χ (pR 30 Q)) (frB Γ) := by
  refine Mt.start (by decide) RX7 rfl (Nat.le_of_ble_eq_true rfl) ?_
  intro X hX hG _ _ hna _ ⟨hv0, hf⟩
  unfold w_X7_compared at hf
  refine g_aload_n hX 0 dX7_compared_0 rfl rfl ?_
  refine g_callVAr hX hna 30 (n := 0) (mt_X7_sum X.l X.Γ W1 F1 L1 h1 _ _ _ _) ⟨hv0, hf⟩ q581 q583 qs11 q100 q584 ⟨rfl, hy_X7_sum⟩ ⟨by omega, by omega⟩ hv0 ff31 rfl rfl rfl (Nat.le_of_ble_eq_true rfl) dX7_compared_1 (fun o1 ad2 χ2 hv2 hf hc2 => ?_)
  rw [← hc2.1 31 _ hv0]
  refine g_astore_nO hX dX7_compared_4 rfl (by decide) rfl ?_
  refine g_aload_n hX 1 dX7_compared_5 rfl rfl ?_
  refine g_getI hX (k := 1) (Nat.lt_of_lt_of_le hv0 (hc2.2 31)) ff31 rfl rfl in_X7 (by decide) q529 dX7_compared_6 ?_
  refine g_if_ge hX 21 dX7_compared_9 (by decide) (fun z => ?_) (fun z => ?_)
  · replace hf := hf.1 z
    refine g_aload_nO hX 0 dX7_compared_21 rfl rfl ?_
    exact g_aret hX rfl rf_or ⟨_, rfl, hv2, hf⟩ dX7_compared_22
  · replace hf := hf.2 z
    refine g_aload_n hX 1 dX7_compared_12 rfl rfl ?_
    refine g_ldcS hX (q := stA X.Γ 0) hX.2.2.2.2.2.2.2.1.2.2.2.1.2.1.1 dX7_compared_13 ?_
    refine g_callVi hX (n := 1) (mt_X7_isOne X.l X.Γ _ _ _ _ _) ⟨(Nat.lt_of_lt_of_le hv0 (hc2.2 31)), (by decide), hf⟩ q598 q600 qs15 q100 q601 ⟨rfl, hy_X7_isOne⟩ ⟨by omega, by omega⟩ (Nat.lt_of_lt_of_le hv0 (hc2.2 31)) ff31 rfl rfl rfl (Nat.le_of_ble_eq_true rfl) dX7_compared_15 (fun r3 χ4 hf hc4 => ?_)
    refine g_if_ne hX 23 dX7_compared_18 (by decide) (fun z => ?_) (fun z => ?_)
    · replace hf := hf.1 z
      refine g_aload_n hX 1 dX7_compared_23 rfl rfl ?_
      refine g_callVi hX (n := 0) (mt_X7_here X.l X.Γ _ _ _ _) ⟨(Nat.lt_of_lt_of_le (Nat.lt_of_lt_of_le hv0 (hc2.2 31)) (hc4 31)), hf⟩ q593 q595 qs14 q100 q596 ⟨rfl, hy_X7_here⟩ ⟨by omega, by omega⟩ (Nat.lt_of_lt_of_le (Nat.lt_of_lt_of_le hv0 (hc2.2 31)) (hc4 31)) ff31 rfl rfl rfl (Nat.le_of_ble_eq_true rfl) dX7_compared_24 (fun r5 χ6 hf hc6 => ?_)
      refine g_istore_n1 hX dX7_compared_27 rfl (by decide) (by simp [lv_args, List.filter, cat_rf, cat_i, cat_l, cat_r, cat_n]) rfl ?_
      refine g_aload_n hX 2 dX7_compared_28 rfl rfl ?_
      refine g_dup hX dX7_compared_29 rfl ?_
      refine g_getI hX (k := 0) (Nat.lt_of_lt_of_le (Nat.lt_of_lt_of_le (Nat.lt_of_lt_of_le hv0 (hc2.2 31)) (hc4 31)) (hc6 31)) ff31 rfl rfl in_X7 (by decide) q528 dX7_compared_30 ?_
      refine g_iconst hX (v := (1 : Int32)) dX7_compared_33 rfl ?_
      refine g_iadd hX dX7_compared_34 ?_
      refine g_putI hX (k := 0) (Nat.lt_of_lt_of_le (Nat.lt_of_lt_of_le (Nat.lt_of_lt_of_le hv0 (hc2.2 31)) (hc4 31)) (hc6 31)) ff31 rfl rfl in_X7 tyX7_ok nmX7 (by decide) q528 rfl rfl rfl rfl dX7_compared_35 ?_
      replace hf := hf _ rfl
      refine g_aload_n hX 2 dX7_compared_38 rfl rfl ?_
      refine g_iload_n hX 0 dX7_compared_39 rfl rfl ?_
      refine g_aload_nO hX 1 dX7_compared_40 rfl rfl ?_
      refine g_aload_n hX 2 dX7_compared_41 rfl rfl ?_
      refine g_callVAr hX hna 30 (n := 0) (mt_X7_sum X.l X.Γ W1 F1 L1 h1 _ _ _ _) ⟨(Nat.lt_of_lt_of_le (Nat.lt_of_lt_of_le (Nat.lt_of_lt_of_le hv0 (hc2.2 31)) (hc4 31)) (hc6 31)), hf⟩ q581 q583 qs11 q100 q584 ⟨rfl, hy_X7_sum⟩ ⟨by omega, by omega⟩ (Nat.lt_of_lt_of_le (Nat.lt_of_lt_of_le (Nat.lt_of_lt_of_le hv0 (hc2.2 31)) (hc4 31)) (hc6 31)) ff31 rfl rfl rfl (by simp [cat_rf, cat_i, cat_l, cat_r, cat_n]) dX7_compared_42 (fun o8 ad9 χ9 hv9 hf hc9 => ?_)
      rw [← hc9.1 31 _ (Nat.lt_of_lt_of_le (Nat.lt_of_lt_of_le (Nat.lt_of_lt_of_le hv0 (hc2.2 31)) (hc4 31)) (hc6 31))]
      rw [rf_ext (d := 30) hc9 (fun x e => Nat.lt_of_lt_of_le ((fun x e => Nat.lt_of_lt_of_le (hv2 x e) (hc4 30)) x e) (hc6 30))]
      refine g_callVAr hX hna 30 (n := 3) (mt_X7_joined X.l X.Γ _ _ _ _ _ _ _) ⟨(Nat.lt_of_lt_of_le (Nat.lt_of_lt_of_le (Nat.lt_of_lt_of_le (Nat.lt_of_lt_of_le hv0 (hc2.2 31)) (hc4 31)) (hc6 31)) (hc9.2 31)), (fun x e => Nat.lt_of_lt_of_le ((fun x e => Nat.lt_of_lt_of_le ((fun x e => Nat.lt_of_lt_of_le (hv2 x e) (hc4 30)) x e) (hc6 30)) x e) (hc9.2 30)), hv9, hf⟩ q741 q743 qs18 q100 q744 ⟨rfl, hy_X7_joined⟩ ⟨by omega, by omega⟩ (Nat.lt_of_lt_of_le (Nat.lt_of_lt_of_le (Nat.lt_of_lt_of_le (Nat.lt_of_lt_of_le hv0 (hc2.2 31)) (hc4 31)) (hc6 31)) (hc9.2 31)) ff31 rfl rfl rfl (Nat.le_of_ble_eq_true rfl) dX7_compared_45 (fun o10 ad11 χ11 hv11 hf hc11 => ?_)
      rw [← hc11.1 31 _ (Nat.lt_of_lt_of_le (Nat.lt_of_lt_of_le (Nat.lt_of_lt_of_le (Nat.lt_of_lt_of_le hv0 (hc2.2 31)) (hc4 31)) (hc6 31)) (hc9.2 31))]
      rw [rf_ext (d := 30) hc11 (fun x e => Nat.lt_of_lt_of_le ((fun x e => Nat.lt_of_lt_of_le ((fun x e => Nat.lt_of_lt_of_le (hv2 x e) (hc4 30)) x e) (hc6 30)) x e) (hc9.2 30))]
      exact g_aret hX rfl rf_or ⟨_, rfl, hv11, hf⟩ dX7_compared_48
    · replace hf := hf.2 z
      refine g_aload_nO hX 0 dX7_compared_21 rfl rfl ?_
      exact g_aret hX rfl rf_or ⟨_, rfl, (fun x e => Nat.lt_of_lt_of_le (hv2 x e) (hc4 30)), hf⟩ dX7_compared_22

def w_X7_all_5 (W1 : Nat → St → (Option Nat → St → Prop) → Prop) (Q : Option Nat → St → Prop) : Nat → Nat → Option Nat → St → Prop
  | 0 => fun _ _ _ => False
  | n + 1 => fun x0 x1 χ => ((0 ≤ (gI χ 3201 x0 0) → (Q x1 χ)) ∧ (¬ 0 ≤ (gI χ 3201 x0 0) → (w_X7_here x0 χ (fun r3 χ4 => ((¬ r3 = (38 : Int32) → (Q x1 χ4)) ∧ (r3 = (38 : Int32) → (∀ χ5 : St, χ5 = (sI χ4 3200 x0 0 ((gI χ4 3200 x0 0) + (1 : Int32))) → (w_X7_compared W1 x0 χ5 (fun o6 χ7 => (w_X7_joined x0 (38 : Int32) x1 o6 χ7 (fun o8 χ9 => (w_X7_all_5 W1 Q n x0 o8 χ9))))))))))))
def w_X7_all (W1 : Nat → St → (Option Nat → St → Prop) → Prop) (x0 : Nat) (χ : St) (Q : Option Nat → St → Prop) : Prop := (w_X7_compared W1 x0 χ (fun o1 χ2 => (∃ k5, w_X7_all_5 W1 Q k5 x0 o1 χ2)))
set_option maxHeartbeats 4000000 in
theorem mt_X7_all (l : Launch) (Γ : Gh) (W1 : Nat → St → (Option Nat → St → Prop) → Prop) (F1 L1 : Nat) (h1 : ∀ (l : Launch) (Γ : Gh) (ad : Nat → Nat → Nat) (x0 : Nat) (χ : St) (Q : Option Nat → St → Prop), Mt l yX7_operand (ws_ yX7_operand cX7_operand 4 (some (.object "ChairOld$Node"))) (rmO F1 L1 χ) (Pm Γ ad χ [.ref (ad 31 x0)] (x0 < cn χ 31 ∧ W1 x0 χ Q)) (Qm Γ false ad χ (pR 30 Q)) (frB Γ)) (ad : Nat → Nat → Nat) (x0 : Nat) (χ : St) (Q : Option Nat → St → Prop) : Mt l yX7_all (ws_ yX7_all cX7_all 2 (some (.object "ChairOld$Node"))) (rmO (F1 + 8) (L1 + 178) χ) (Pm Γ ad χ [.ref (ad 31 x0)] (x0 < cn χ 31 ∧ w_X7_all W1 x0 χ Q)) (Qm Γ false ad χ (pR 30 Q)) (frB Γ) := by
  refine Mt.start (by decide) RX7 rfl (Nat.le_of_ble_eq_true rfl) ?_
  intro X hX hG _ _ hna _ ⟨hv0, hf⟩
  have B5 : ∀ (n : Nat) (ad : Nat → Nat → Nat) (x0 : Nat) (x1 : Option Nat) (χ : St), x0 < cn χ 31 → (∀ x, x1 = some x → x < cn χ 30) → w_X7_all_5 W1 Q n x0 x1 χ → G X ad χ 5 [(0, .ref (ad 31 x0)), (1, va_rf (x1.map (ad 30)))] [] := by
    intro n
    induction n with
    | zero => intro ad x0 x1 χ hv_x0 hv_x1 hf; exact hf.elim
    | succ n hK5 =>
      intro ad x0 x1 χ hv_x0 hv_x1 hf
      unfold w_X7_all_5 at hf
      refine g_aload_n hX 0 dX7_all_5 rfl rfl ?_
      refine g_getI hX (k := 1) hv_x0 ff31 rfl rfl in_X7 (by decide) q529 dX7_all_6 ?_
      refine g_if_ge hX 46 dX7_all_9 (by decide) (fun z => ?_) (fun z => ?_)
      · replace hf := hf.1 z
        refine g_aload_nO hX 1 dX7_all_46 rfl rfl ?_
        exact g_aret hX rfl rf_or ⟨_, rfl, hv_x1, hf⟩ dX7_all_47
      · replace hf := hf.2 z
        refine g_aload_n hX 0 dX7_all_12 rfl rfl ?_
        refine g_callVi hX (n := 0) (mt_X7_here X.l X.Γ _ _ _ _) ⟨hv_x0, hf⟩ q593 q595 qs14 q100 q596 ⟨rfl, hy_X7_here⟩ ⟨by omega, by omega⟩ hv_x0 ff31 rfl rfl rfl (Nat.le_of_ble_eq_true rfl) dX7_all_13 (fun r3 χ4 hf hc4 => ?_)
        refine g_bipush hX (v := (38 : Int32)) dX7_all_16 rfl ?_
        refine g_icmp_ne hX 46 dX7_all_18 (by decide) (fun z => ?_) (fun z => ?_)
        · replace hf := hf.1 z
          refine g_aload_nO hX 1 dX7_all_46 rfl rfl ?_
          exact g_aret hX rfl rf_or ⟨_, rfl, (fun x e => Nat.lt_of_lt_of_le (hv_x1 x e) (hc4 30)), hf⟩ dX7_all_47
        · replace hf := hf.2 z
          refine g_aload_n hX 0 dX7_all_21 rfl rfl ?_
          refine g_dup hX dX7_all_22 rfl ?_
          refine g_getI hX (k := 0) (Nat.lt_of_lt_of_le hv_x0 (hc4 31)) ff31 rfl rfl in_X7 (by decide) q528 dX7_all_23 ?_
          refine g_iconst hX (v := (1 : Int32)) dX7_all_26 rfl ?_
          refine g_iadd hX dX7_all_27 ?_
          refine g_putI hX (k := 0) (Nat.lt_of_lt_of_le hv_x0 (hc4 31)) ff31 rfl rfl in_X7 tyX7_ok nmX7 (by decide) q528 rfl rfl rfl rfl dX7_all_28 ?_
          replace hf := hf _ rfl
          refine g_aload_n hX 0 dX7_all_31 rfl rfl ?_
          refine g_bipush hX (v := (38 : Int32)) dX7_all_32 rfl ?_
          refine g_aload_nO hX 1 dX7_all_34 rfl rfl ?_
          refine g_aload_n hX 0 dX7_all_35 rfl rfl ?_
          refine g_callVAr hX hna 30 (n := 0) (mt_X7_compared X.l X.Γ W1 F1 L1 h1 _ _ _ _) ⟨(Nat.lt_of_lt_of_le hv_x0 (hc4 31)), hf⟩ q577 q579 qs10 q100 q580 ⟨rfl, hy_X7_compared⟩ ⟨by omega, by omega⟩ (Nat.lt_of_lt_of_le hv_x0 (hc4 31)) ff31 rfl rfl rfl (by simp [cat_rf, cat_i, cat_l, cat_r, cat_n]) dX7_all_36 (fun o6 ad7 χ7 hv7 hf hc7 => ?_)
          rw [← hc7.1 31 _ (Nat.lt_of_lt_of_le hv_x0 (hc4 31))]
          rw [rf_ext (d := 30) hc7 (fun x e => Nat.lt_of_lt_of_le (hv_x1 x e) (hc4 30))]
          refine g_callVAr hX hna 30 (n := 3) (mt_X7_joined X.l X.Γ _ _ _ _ _ _ _) ⟨(Nat.lt_of_lt_of_le (Nat.lt_of_lt_of_le hv_x0 (hc4 31)) (hc7.2 31)), (fun x e => Nat.lt_of_lt_of_le ((fun x e => Nat.lt_of_lt_of_le (hv_x1 x e) (hc4 30)) x e) (hc7.2 30)), hv7, hf⟩ q741 q743 qs18 q100 q744 ⟨rfl, hy_X7_joined⟩ ⟨by omega, by omega⟩ (Nat.lt_of_lt_of_le (Nat.lt_of_lt_of_le hv_x0 (hc4 31)) (hc7.2 31)) ff31 rfl rfl rfl (Nat.le_of_ble_eq_true rfl) dX7_all_39 (fun o8 ad9 χ9 hv9 hf hc9 => ?_)
          rw [← hc9.1 31 _ (Nat.lt_of_lt_of_le (Nat.lt_of_lt_of_le hv_x0 (hc4 31)) (hc7.2 31))]
          rw [rf_ext (d := 30) hc9 (fun x e => Nat.lt_of_lt_of_le ((fun x e => Nat.lt_of_lt_of_le (hv_x1 x e) (hc4 30)) x e) (hc7.2 30))]
          refine g_astore_nO hX dX7_all_42 rfl (by decide) rfl ?_
          refine g_goto hX 5 dX7_all_43 (by decide) ?_
          refine g_sub [1, 0] rfl ?_
          exact hK5 _ _ _ _ ((Nat.lt_of_lt_of_le (Nat.lt_of_lt_of_le (Nat.lt_of_lt_of_le hv_x0 (hc4 31)) (hc7.2 31)) (hc9.2 31))) (hv9) hf
  unfold w_X7_all at hf
  refine g_aload_n hX 0 dX7_all_0 rfl rfl ?_
  refine g_callVAr hX hna 30 (n := 0) (mt_X7_compared X.l X.Γ W1 F1 L1 h1 _ _ _ _) ⟨hv0, hf⟩ q577 q579 qs10 q100 q580 ⟨rfl, hy_X7_compared⟩ ⟨by omega, by omega⟩ hv0 ff31 rfl rfl rfl (Nat.le_of_ble_eq_true rfl) dX7_all_1 (fun o1 ad2 χ2 hv2 hf hc2 => ?_)
  rw [← hc2.1 31 _ hv0]
  refine g_astore_nO hX dX7_all_4 rfl (by decide) rfl ?_
  obtain ⟨n0, hf⟩ := hf
  refine g_sub [1, 0] rfl ?_
  exact B5 n0 _ _ _ _ ((Nat.lt_of_lt_of_le hv0 (hc2.2 31))) (hv2) hf

def w_X7_either_5 (W1 : Nat → St → (Option Nat → St → Prop) → Prop) (Q : Option Nat → St → Prop) : Nat → Nat → Option Nat → St → Prop
  | 0 => fun _ _ _ => False
  | n + 1 => fun x0 x1 χ => ((0 ≤ (gI χ 3201 x0 0) → (Q x1 χ)) ∧ (¬ 0 ≤ (gI χ 3201 x0 0) → (w_X7_here x0 χ (fun r3 χ4 => ((¬ r3 = (124 : Int32) → (Q x1 χ4)) ∧ (r3 = (124 : Int32) → (∀ χ5 : St, χ5 = (sI χ4 3200 x0 0 ((gI χ4 3200 x0 0) + (1 : Int32))) → (w_X7_all W1 x0 χ5 (fun o6 χ7 => (w_X7_joined x0 (124 : Int32) x1 o6 χ7 (fun o8 χ9 => (w_X7_either_5 W1 Q n x0 o8 χ9))))))))))))
def w_X7_either (W1 : Nat → St → (Option Nat → St → Prop) → Prop) (x0 : Nat) (χ : St) (Q : Option Nat → St → Prop) : Prop := (w_X7_all W1 x0 χ (fun o1 χ2 => (∃ k5, w_X7_either_5 W1 Q k5 x0 o1 χ2)))
set_option maxHeartbeats 4000000 in
theorem mt_X7_either (l : Launch) (Γ : Gh) (W1 : Nat → St → (Option Nat → St → Prop) → Prop) (F1 L1 : Nat) (h1 : ∀ (l : Launch) (Γ : Gh) (ad : Nat → Nat → Nat) (x0 : Nat) (χ : St) (Q : Option Nat → St → Prop), Mt l yX7_operand (ws_ yX7_operand cX7_operand 4 (some (.object "ChairOld$Node"))) (rmO F1 L1 χ) (Pm Γ ad χ [.ref (ad 31 x0)] (x0 < cn χ 31 ∧ W1 x0 χ Q)) (Qm Γ false ad χ (pR 30 Q)) (frB Γ)) (ad : Nat → Nat → Nat) (x0 : Nat) (χ : St) (Q : Option Nat → St → Prop) : Mt l yX7_either (ws_ yX7_either cX7_either 2 (some (.object "ChairOld$Node"))) (rmO (F1 + 9) (L1 + 199) χ) (Pm Γ ad χ [.ref (ad 31 x0)] (x0 < cn χ 31 ∧ w_X7_either W1 x0 χ Q)) (Qm Γ false ad χ (pR 30 Q)) (frB Γ) := by
  refine Mt.start (by decide) RX7 rfl (Nat.le_of_ble_eq_true rfl) ?_
  intro X hX hG _ _ hna _ ⟨hv0, hf⟩
  have B5 : ∀ (n : Nat) (ad : Nat → Nat → Nat) (x0 : Nat) (x1 : Option Nat) (χ : St), x0 < cn χ 31 → (∀ x, x1 = some x → x < cn χ 30) → w_X7_either_5 W1 Q n x0 x1 χ → G X ad χ 5 [(0, .ref (ad 31 x0)), (1, va_rf (x1.map (ad 30)))] [] := by
    intro n
    induction n with
    | zero => intro ad x0 x1 χ hv_x0 hv_x1 hf; exact hf.elim
    | succ n hK5 =>
      intro ad x0 x1 χ hv_x0 hv_x1 hf
      unfold w_X7_either_5 at hf
      refine g_aload_n hX 0 dX7_either_5 rfl rfl ?_
      refine g_getI hX (k := 1) hv_x0 ff31 rfl rfl in_X7 (by decide) q529 dX7_either_6 ?_
      refine g_if_ge hX 46 dX7_either_9 (by decide) (fun z => ?_) (fun z => ?_)
      · replace hf := hf.1 z
        refine g_aload_nO hX 1 dX7_either_46 rfl rfl ?_
        exact g_aret hX rfl rf_or ⟨_, rfl, hv_x1, hf⟩ dX7_either_47
      · replace hf := hf.2 z
        refine g_aload_n hX 0 dX7_either_12 rfl rfl ?_
        refine g_callVi hX (n := 0) (mt_X7_here X.l X.Γ _ _ _ _) ⟨hv_x0, hf⟩ q593 q595 qs14 q100 q596 ⟨rfl, hy_X7_here⟩ ⟨by omega, by omega⟩ hv_x0 ff31 rfl rfl rfl (Nat.le_of_ble_eq_true rfl) dX7_either_13 (fun r3 χ4 hf hc4 => ?_)
        refine g_bipush hX (v := (124 : Int32)) dX7_either_16 rfl ?_
        refine g_icmp_ne hX 46 dX7_either_18 (by decide) (fun z => ?_) (fun z => ?_)
        · replace hf := hf.1 z
          refine g_aload_nO hX 1 dX7_either_46 rfl rfl ?_
          exact g_aret hX rfl rf_or ⟨_, rfl, (fun x e => Nat.lt_of_lt_of_le (hv_x1 x e) (hc4 30)), hf⟩ dX7_either_47
        · replace hf := hf.2 z
          refine g_aload_n hX 0 dX7_either_21 rfl rfl ?_
          refine g_dup hX dX7_either_22 rfl ?_
          refine g_getI hX (k := 0) (Nat.lt_of_lt_of_le hv_x0 (hc4 31)) ff31 rfl rfl in_X7 (by decide) q528 dX7_either_23 ?_
          refine g_iconst hX (v := (1 : Int32)) dX7_either_26 rfl ?_
          refine g_iadd hX dX7_either_27 ?_
          refine g_putI hX (k := 0) (Nat.lt_of_lt_of_le hv_x0 (hc4 31)) ff31 rfl rfl in_X7 tyX7_ok nmX7 (by decide) q528 rfl rfl rfl rfl dX7_either_28 ?_
          replace hf := hf _ rfl
          refine g_aload_n hX 0 dX7_either_31 rfl rfl ?_
          refine g_bipush hX (v := (124 : Int32)) dX7_either_32 rfl ?_
          refine g_aload_nO hX 1 dX7_either_34 rfl rfl ?_
          refine g_aload_n hX 0 dX7_either_35 rfl rfl ?_
          refine g_callVAr hX hna 30 (n := 0) (mt_X7_all X.l X.Γ W1 F1 L1 h1 _ _ _ _) ⟨(Nat.lt_of_lt_of_le hv_x0 (hc4 31)), hf⟩ q573 q575 qs9 q100 q576 ⟨rfl, hy_X7_all⟩ ⟨by omega, by omega⟩ (Nat.lt_of_lt_of_le hv_x0 (hc4 31)) ff31 rfl rfl rfl (by simp [cat_rf, cat_i, cat_l, cat_r, cat_n]) dX7_either_36 (fun o6 ad7 χ7 hv7 hf hc7 => ?_)
          rw [← hc7.1 31 _ (Nat.lt_of_lt_of_le hv_x0 (hc4 31))]
          rw [rf_ext (d := 30) hc7 (fun x e => Nat.lt_of_lt_of_le (hv_x1 x e) (hc4 30))]
          refine g_callVAr hX hna 30 (n := 3) (mt_X7_joined X.l X.Γ _ _ _ _ _ _ _) ⟨(Nat.lt_of_lt_of_le (Nat.lt_of_lt_of_le hv_x0 (hc4 31)) (hc7.2 31)), (fun x e => Nat.lt_of_lt_of_le ((fun x e => Nat.lt_of_lt_of_le (hv_x1 x e) (hc4 30)) x e) (hc7.2 30)), hv7, hf⟩ q741 q743 qs18 q100 q744 ⟨rfl, hy_X7_joined⟩ ⟨by omega, by omega⟩ (Nat.lt_of_lt_of_le (Nat.lt_of_lt_of_le hv_x0 (hc4 31)) (hc7.2 31)) ff31 rfl rfl rfl (Nat.le_of_ble_eq_true rfl) dX7_either_39 (fun o8 ad9 χ9 hv9 hf hc9 => ?_)
          rw [← hc9.1 31 _ (Nat.lt_of_lt_of_le (Nat.lt_of_lt_of_le hv_x0 (hc4 31)) (hc7.2 31))]
          rw [rf_ext (d := 30) hc9 (fun x e => Nat.lt_of_lt_of_le ((fun x e => Nat.lt_of_lt_of_le (hv_x1 x e) (hc4 30)) x e) (hc7.2 30))]
          refine g_astore_nO hX dX7_either_42 rfl (by decide) rfl ?_
          refine g_goto hX 5 dX7_either_43 (by decide) ?_
          refine g_sub [1, 0] rfl ?_
          exact hK5 _ _ _ _ ((Nat.lt_of_lt_of_le (Nat.lt_of_lt_of_le (Nat.lt_of_lt_of_le hv_x0 (hc4 31)) (hc7.2 31)) (hc9.2 31))) (hv9) hf
  unfold w_X7_either at hf
  refine g_aload_n hX 0 dX7_either_0 rfl rfl ?_
  refine g_callVAr hX hna 30 (n := 0) (mt_X7_all X.l X.Γ W1 F1 L1 h1 _ _ _ _) ⟨hv0, hf⟩ q573 q575 qs9 q100 q576 ⟨rfl, hy_X7_all⟩ ⟨by omega, by omega⟩ hv0 ff31 rfl rfl rfl (Nat.le_of_ble_eq_true rfl) dX7_either_1 (fun o1 ad2 χ2 hv2 hf hc2 => ?_)
  rw [← hc2.1 31 _ hv0]
  refine g_astore_nO hX dX7_either_4 rfl (by decide) rfl ?_
  obtain ⟨n0, hf⟩ := hf
  refine g_sub [1, 0] rfl ?_
  exact B5 n0 _ _ _ _ ((Nat.lt_of_lt_of_le hv0 (hc2.2 31))) (hv2) hf

def w_X7_opens (x0 : Nat) (χ : St) (Q : Int32 → St → Prop) : Prop := ((¬ (gI χ 3202 x0 0) = (6 : Int32) → (∀ χ1 : St, χ1 = (sI χ 3202 x0 0 ((gI χ 3202 x0 0) + (1 : Int32))) → (∀ χ2 : St, χ2 = (sI χ1 3200 x0 0 ((gI χ1 3200 x0 0) + (1 : Int32))) → (Q (1 : Int32) χ2)))) ∧ ((gI χ 3202 x0 0) = (6 : Int32) → (Q (0 : Int32) χ)))
set_option maxHeartbeats 4000000 in
theorem mt_X7_opens (l : Launch) (Γ : Gh) (ad : Nat → Nat → Nat) (x0 : Nat) (χ : St) (Q : Int32 → St → Prop) : Mt l yX7_opens (ws_ yX7_opens cX7_opens 1 (some .boolean)) (rmO (0) (0) χ) (Pm Γ ad χ [.ref (ad 31 x0)] (x0 < cn χ 31 ∧ w_X7_opens x0 χ Q)) (Qm Γ true ad χ (pI Q)) (frB Γ) := by
  refine Mt.start (by decide) RX7 rfl (Nat.le_of_ble_eq_true rfl) ?_
  intro X hX hG _ _ hna _ ⟨hv0, hf⟩
  unfold w_X7_opens at hf
  refine g_aload_n hX 0 dX7_opens_0 rfl rfl ?_
  refine g_getI hX (k := 2) hv0 ff31 rfl rfl in_X7 (by decide) q531 dX7_opens_1 ?_
  refine g_bipush hX (v := (6 : Int32)) dX7_opens_4 rfl ?_
  refine g_icmp_ne hX 11 dX7_opens_6 (by decide) (fun z => ?_) (fun z => ?_)
  · replace hf := hf.1 z
    refine g_aload_n hX 0 dX7_opens_11 rfl rfl ?_
    refine g_dup hX dX7_opens_12 rfl ?_
    refine g_getI hX (k := 2) hv0 ff31 rfl rfl in_X7 (by decide) q531 dX7_opens_13 ?_
    refine g_iconst hX (v := (1 : Int32)) dX7_opens_16 rfl ?_
    refine g_iadd hX dX7_opens_17 ?_
    refine g_putI hX (k := 2) hv0 ff31 rfl rfl in_X7 tyX7_ok nmX7 (by decide) q531 rfl rfl rfl rfl dX7_opens_18 ?_
    replace hf := hf _ rfl
    refine g_aload_n hX 0 dX7_opens_21 rfl rfl ?_
    refine g_dup hX dX7_opens_22 rfl ?_
    refine g_getI hX (k := 0) hv0 ff31 rfl rfl in_X7 (by decide) q528 dX7_opens_23 ?_
    refine g_iconst hX (v := (1 : Int32)) dX7_opens_26 rfl ?_
    refine g_iadd hX dX7_opens_27 ?_
    refine g_putI hX (k := 0) hv0 ff31 rfl rfl in_X7 tyX7_ok nmX7 (by decide) q528 rfl rfl rfl rfl dX7_opens_28 ?_
    replace hf := hf _ rfl
    refine g_iconst hX (v := (1 : Int32)) dX7_opens_31 rfl ?_
    exact g_zret hX rfl ⟨_, rfl, hf⟩ dX7_opens_32
  · replace hf := hf.2 z
    refine g_iconst hX (v := (0 : Int32)) dX7_opens_9 rfl ?_
    exact g_zret hX rfl ⟨_, rfl, hf⟩ dX7_opens_10

def w_X7_wrong (x0 : Nat) (χ : St) (Q : Option Nat → St → Prop) : Prop := ((0 ≤ (gI χ 3201 x0 0) → (Q none χ)) ∧ (¬ 0 ≤ (gI χ 3201 x0 0) → (∀ χ1 : St, χ1 = (sI χ 3201 x0 0 (gI χ 3200 x0 0)) → (Q none χ1))))
set_option maxHeartbeats 4000000 in
theorem mt_X7_wrong (l : Launch) (Γ : Gh) (ad : Nat → Nat → Nat) (x0 : Nat) (χ : St) (Q : Option Nat → St → Prop) : Mt l yX7_wrong (ws_ yX7_wrong cX7_wrong 1 (some (.object "ChairOld$Node"))) (rmO (0) (0) χ) (Pm Γ ad χ [.ref (ad 31 x0)] (x0 < cn χ 31 ∧ w_X7_wrong x0 χ Q)) (Qm Γ true ad χ (pR 30 Q)) (frB Γ) := by
  refine Mt.start (by decide) RX7 rfl (Nat.le_of_ble_eq_true rfl) ?_
  intro X hX hG _ _ hna _ ⟨hv0, hf⟩
  unfold w_X7_wrong at hf
  refine g_aload_n hX 0 dX7_wrong_0 rfl rfl ?_
  refine g_getI hX (k := 1) hv0 ff31 rfl rfl in_X7 (by decide) q529 dX7_wrong_1 ?_
  refine g_if_ge hX 15 dX7_wrong_4 (by decide) (fun z => ?_) (fun z => ?_)
  · replace hf := hf.1 z
    refine g_null hX dX7_wrong_15 ?_
    exact g_aret hX rfl (Or.inl rfl) ⟨none, rfl, (fun x e => by cases e), hf⟩ dX7_wrong_16
  · replace hf := hf.2 z
    refine g_aload_n hX 0 dX7_wrong_7 rfl rfl ?_
    refine g_aload_n hX 0 dX7_wrong_8 rfl rfl ?_
    refine g_getI hX (k := 0) hv0 ff31 rfl rfl in_X7 (by decide) q528 dX7_wrong_9 ?_
    refine g_putI hX (k := 1) hv0 ff31 rfl rfl in_X7 tyX7_ok nmX7 (by decide) q529 rfl rfl rfl rfl dX7_wrong_12 ?_
    replace hf := hf _ rfl
    refine g_null hX dX7_wrong_15 ?_
    exact g_aret hX rfl (Or.inl rfl) ⟨none, rfl, (fun x e => by cases e), hf⟩ dX7_wrong_16

def w_X7_operand_45 (W1 : Nat → St → (Option Nat → St → Prop) → Prop) (Q : Option Nat → St → Prop) (x0 : Nat) (x1 : Int32) (χ : St) : Prop := (w_X7_opens x0 χ (fun r5 χ6 => ((¬ r5 = 0 → (W1 x0 χ6 (fun o7 χ8 => (∀ χ9 : St, χ9 = (sI χ8 3202 x0 0 ((gI χ8 3202 x0 0) - (1 : Int32))) → (((gI χ9 3201 x0 0) < 0 → ((¬ x1 = (33 : Int32) → (uC χ9 + 1 ≤ 603072) ∧ (uS χ9 + 1 ≤ 7262314) ∧ ((∀ χ10 : St, χ10 = (alo χ9 30 2 1) → (w_X12_init (nO χ9 30) o7 χ10 (fun χ11 => (Q (some (nO χ9 30)) χ11)))))) ∧ (x1 = (33 : Int32) → (uC χ9 + 1 ≤ 603072) ∧ (uS χ9 + 1 ≤ 7262314) ∧ ((∀ χ12 : St, χ12 = (alo χ9 30 3 1) → (w_X11_init (nO χ9 30) o7 χ12 (fun χ13 => (Q (some (nO χ9 30)) χ13)))))))) ∧ (¬ (gI χ9 3201 x0 0) < 0 → (Q none χ9))))))) ∧ (r5 = 0 → (w_X7_wrong x0 χ6 (fun o14 χ15 => (Q o14 χ15)))))))
def w_X7_operand_245 (W1 : Nat → St → (Option Nat → St → Prop) → Prop) (Q : Option Nat → St → Prop) (x0 : Nat) (χ : St) : Prop := (w_X7_wrong x0 χ (fun o16 χ17 => (Q o16 χ17)))
def w_X7_operand_227 (W1 : Nat → St → (Option Nat → St → Prop) → Prop) (Q : Option Nat → St → Prop) (x0 : Nat) (x2 : Int32) (x3 : Int32) (χ : St) : Prop := ((x2 = 0 → (w_X7_operand_245 W1 Q x0 χ)) ∧ (¬ x2 = 0 → (w_X7_here x0 χ (fun r18 χ19 => (w_C_in r18 (48 : Int32) (57 : Int32) χ19 (fun r20 χ21 => ((r20 = 0 → (uC χ21 + 1 ≤ 603072) ∧ (uS χ21 + 1 ≤ 7262314) ∧ ((∀ χ22 : St, χ22 = (alo χ21 30 0 1) → (w_X13_init (nO χ21 30) x3 χ22 (fun χ23 => (Q (some (nO χ21 30)) χ23)))))) ∧ (¬ r20 = 0 → (w_X7_operand_245 W1 Q x0 χ21)))))))))
def w_X7_operand_179 (W1 : Nat → St → (Option Nat → St → Prop) → Prop) (Q : Option Nat → St → Prop) : Nat → Nat → Int32 → Int32 → St → Prop
  | 0 => fun _ _ _ _ => False
  | n + 1 => fun x0 x2 x3 χ => (((4 : Int32) ≤ x2 → (w_X7_operand_227 W1 Q x0 x2 x3 χ)) ∧ (¬ (4 : Int32) ≤ x2 → (w_X7_here x0 χ (fun r24 χ25 => (w_C_in r24 (48 : Int32) (57 : Int32) χ25 (fun r26 χ27 => ((r26 = 0 → (w_X7_operand_227 W1 Q x0 x2 x3 χ27)) ∧ (¬ r26 = 0 → (w_X7_here x0 χ27 (fun r28 χ29 => (∀ v30 : Int32, v30 = ((((10 : Int32) * x3) + r28) - (48 : Int32)) → (∀ χ31 : St, χ31 = (sI χ29 3200 x0 0 ((gI χ29 3200 x0 0) + (1 : Int32))) → (w_X7_operand_179 W1 Q n x0 (x2 + (1 : Int32)) v30 χ31)))))))))))))
def w_X7_operand_b (W1 : Nat → St → (Option Nat → St → Prop) → Prop) (x0 : Nat) (χ : St) (Q : Option Nat → St → Prop) : Prop := (w_X7_here x0 χ (fun r1 χ2 => (w_X7_isOne x0 3 χ2 (fun r3 χ4 => ((r3 = 0 → ((r1 = (33 : Int32) → (w_X7_operand_45 W1 Q x0 r1 χ4)) ∧ (¬ r1 = (33 : Int32) → ((¬ r1 = (45 : Int32) → ((¬ r1 = (40 : Int32) → (∃ k179, w_X7_operand_179 W1 Q k179 x0 (0 : Int32) (0 : Int32) χ4)) ∧ (r1 = (40 : Int32) → (w_X7_opens x0 χ4 (fun r32 χ33 => ((¬ r32 = 0 → (w_X7_either W1 x0 χ33 (fun o34 χ35 => (((gI χ35 3201 x0 0) < 0 → (w_X7_here x0 χ35 (fun r36 χ37 => ((r36 = (41 : Int32) → (∀ χ38 : St, χ38 = (sI χ37 3200 x0 0 ((gI χ37 3200 x0 0) + (1 : Int32))) → (∀ χ39 : St, χ39 = (sI χ38 3202 x0 0 ((gI χ38 3202 x0 0) - (1 : Int32))) → (Q o34 χ39)))) ∧ (¬ r36 = (41 : Int32) → (w_X7_wrong x0 χ37 (fun o40 χ41 => (Q o40 χ41)))))))) ∧ (¬ (gI χ35 3201 x0 0) < 0 → (Q none χ35)))))) ∧ (r32 = 0 → (w_X7_wrong x0 χ33 (fun o42 χ43 => (Q o42 χ43)))))))))) ∧ (r1 = (45 : Int32) → (w_X7_operand_45 W1 Q x0 r1 χ4)))))) ∧ (¬ r3 = 0 → (∀ χ44 : St, χ44 = (sI χ4 3200 x0 0 ((gI χ4 3200 x0 0) + (1 : Int32))) → (uC χ44 + 1 ≤ 603072) ∧ (uS χ44 + 1 ≤ 7262314) ∧ ((∀ χ45 : St, χ45 = (alo χ44 30 1 1) → (w_X10_init (nO χ44 30) r1 χ45 (fun χ46 => (Q (some (nO χ44 30)) χ46))))))))))))
set_option maxHeartbeats 4000000 in
theorem mt_X7_operand_b (l : Launch) (Γ : Gh) (W1 : Nat → St → (Option Nat → St → Prop) → Prop) (F1 L1 : Nat) (h1 : ∀ (l : Launch) (Γ : Gh) (ad : Nat → Nat → Nat) (x0 : Nat) (χ : St) (Q : Option Nat → St → Prop), Mt l yX7_operand (ws_ yX7_operand cX7_operand 4 (some (.object "ChairOld$Node"))) (rmO F1 L1 χ) (Pm Γ ad χ [.ref (ad 31 x0)] (x0 < cn χ 31 ∧ W1 x0 χ Q)) (Qm Γ false ad χ (pR 30 Q)) (frB Γ)) (ad : Nat → Nat → Nat) (x0 : Nat) (χ : St) (Q : Option Nat → St → Prop) : Mt l yX7_operand (ws_ yX7_operand cX7_operand 4 (some (.object "ChairOld$Node"))) (rmO (F1 + 10) (L1 + 220) χ) (Pm Γ ad χ [.ref (ad 31 x0)] (x0 < cn χ 31 ∧ w_X7_operand_b W1 x0 χ Q)) (Qm Γ false ad χ (pR 30 Q)) (frB Γ) := by
  refine Mt.start (by decide) RX7 rfl (Nat.le_of_ble_eq_true rfl) ?_
  intro X hX hG _ _ hna _ ⟨hv0, hf⟩
  have B45 : ∀ (ad : Nat → Nat → Nat) (x0 : Nat) (x1 : Int32) (χ : St), x0 < cn χ 31 → w_X7_operand_45 W1 Q x0 x1 χ → G X ad χ 45 [(0, .ref (ad 31 x0)), (1, .int x1)] [] := by
    intro ad x0 x1 χ hv_x0 hf
    unfold w_X7_operand_45 at hf
    refine g_aload_n hX 0 dX7_operand_45 rfl rfl ?_
    refine g_callVi hX (n := 0) (mt_X7_opens X.l X.Γ _ _ _ _) ⟨hv_x0, hf⟩ q701 q703 qs16 q100 q704 ⟨rfl, hy_X7_opens⟩ ⟨by omega, by omega⟩ hv_x0 ff31 rfl rfl rfl (Nat.le_of_ble_eq_true rfl) dX7_operand_46 (fun r5 χ6 hf hc6 => ?_)
    refine g_if_ne hX 57 dX7_operand_49 (by decide) (fun z => ?_) (fun z => ?_)
    · replace hf := hf.1 z
      refine g_aload_n hX 0 dX7_operand_57 rfl rfl ?_
      refine g_callVAr hX hna 30 (n := 0) (h1 X.l X.Γ _ _ _ _) ⟨(Nat.lt_of_lt_of_le hv_x0 (hc6 31)), hf⟩ q589 q591 qs13 q100 q592 ⟨rfl, hy_X7_operand⟩ ⟨by omega, by omega⟩ (Nat.lt_of_lt_of_le hv_x0 (hc6 31)) ff31 rfl rfl rfl (Nat.le_of_ble_eq_true rfl) dX7_operand_58 (fun o7 ad8 χ8 hv8 hf hc8 => ?_)
      rw [← hc8.1 31 _ (Nat.lt_of_lt_of_le hv_x0 (hc6 31))]
      refine g_astore_nO hX dX7_operand_61 rfl (by decide) rfl ?_
      refine g_aload_n hX 1 dX7_operand_62 rfl rfl ?_
      refine g_dup hX dX7_operand_63 rfl ?_
      refine g_getI hX (k := 2) (Nat.lt_of_lt_of_le (Nat.lt_of_lt_of_le hv_x0 (hc6 31)) (hc8.2 31)) ff31 rfl rfl in_X7 (by decide) q531 dX7_operand_64 ?_
      refine g_iconst hX (v := (1 : Int32)) dX7_operand_67 rfl ?_
      refine g_isub hX dX7_operand_68 ?_
      refine g_putI hX (k := 2) (Nat.lt_of_lt_of_le (Nat.lt_of_lt_of_le hv_x0 (hc6 31)) (hc8.2 31)) ff31 rfl rfl in_X7 tyX7_ok nmX7 (by decide) q531 rfl rfl rfl rfl dX7_operand_69 ?_
      replace hf := hf _ rfl
      refine g_aload_n hX 1 dX7_operand_72 rfl rfl ?_
      refine g_getI hX (k := 1) (Nat.lt_of_lt_of_le (Nat.lt_of_lt_of_le hv_x0 (hc6 31)) (hc8.2 31)) ff31 rfl rfl in_X7 (by decide) q529 dX7_operand_73 ?_
      refine g_if_lt hX 81 dX7_operand_76 (by decide) (fun z => ?_) (fun z => ?_)
      · replace hf := hf.1 z
        refine g_iload_n hX 2 dX7_operand_81 rfl rfl ?_
        refine g_bipush hX (v := (33 : Int32)) dX7_operand_82 rfl ?_
        refine g_icmp_ne hX 98 dX7_operand_84 (by decide) (fun z => ?_) (fun z => ?_)
        · replace hf := hf.1 z
          refine g_new hX hna (c := 30) (t := 2) tyX12 rfl rfl (by decide) rfl in_X12 tyX12_ok df_X12 q719 q720 q110 hf.1 hf.2.1 dX7_operand_98 (fun ad10 hE10 => ?_)
          replace hf := hf.2.2 _ rfl
          rw [← hE10.1 31 _ (Nat.lt_of_lt_of_le (Nat.lt_of_lt_of_le hv_x0 (hc6 31)) (hc8.2 31))]
          rw [rf_ext (d := 30) hE10 hv8]
          refine g_dup hX dX7_operand_101 rfl ?_
          refine g_aload_nO hX 0 dX7_operand_102 rfl rfl ?_
          refine g_callIv hX (n := 1) (mt_X12_init X.l X.Γ _ _ _ _ _) ⟨(new_lt rfl), (fun x e => Nat.lt_of_lt_of_le (hv8 x e) (hE10.2 30)), hf⟩ rfl q721 q722 q110 q723 hy_X12_init ⟨by omega, by omega⟩ rfl rfl (Nat.le_of_ble_eq_true rfl) dX7_operand_103 (fun χ11 hf hc11 => ?_)
          exact g_aret hX rfl (Or.inr ⟨_, rfl⟩) ⟨some _, rfl, (fun x e => by cases e; exact (Nat.lt_of_lt_of_le (new_lt rfl) (hc11 30))), hf⟩ dX7_operand_106
        · replace hf := hf.2 z
          refine g_new hX hna (c := 30) (t := 3) tyX11 rfl rfl (by decide) rfl in_X11 tyX11_ok df_X11 q709 q710 q109 hf.1 hf.2.1 dX7_operand_87 (fun ad12 hE12 => ?_)
          replace hf := hf.2.2 _ rfl
          rw [← hE12.1 31 _ (Nat.lt_of_lt_of_le (Nat.lt_of_lt_of_le hv_x0 (hc6 31)) (hc8.2 31))]
          rw [rf_ext (d := 30) hE12 hv8]
          refine g_dup hX dX7_operand_90 rfl ?_
          refine g_aload_nO hX 0 dX7_operand_91 rfl rfl ?_
          refine g_callIv hX (n := 1) (mt_X11_init X.l X.Γ _ _ _ _ _) ⟨(new_lt rfl), (fun x e => Nat.lt_of_lt_of_le (hv8 x e) (hE12.2 30)), hf⟩ rfl q711 q712 q109 q713 hy_X11_init ⟨by omega, by omega⟩ rfl rfl (Nat.le_of_ble_eq_true rfl) dX7_operand_92 (fun χ13 hf hc13 => ?_)
          refine g_goto hX 106 dX7_operand_95 (by decide) ?_
          exact g_aret hX rfl (Or.inr ⟨_, rfl⟩) ⟨some _, rfl, (fun x e => by cases e; exact (Nat.lt_of_lt_of_le (new_lt rfl) (hc13 30))), hf⟩ dX7_operand_106
      · replace hf := hf.2 z
        refine g_null hX dX7_operand_79 ?_
        exact g_aret hX rfl (Or.inl rfl) ⟨none, rfl, (fun x e => by cases e), hf⟩ dX7_operand_80
    · replace hf := hf.2 z
      refine g_aload_n hX 0 dX7_operand_52 rfl rfl ?_
      refine g_callVr hX 30 (n := 0) (mt_X7_wrong X.l X.Γ _ _ _ _) ⟨(Nat.lt_of_lt_of_le hv_x0 (hc6 31)), hf⟩ q705 q707 qs17 q100 q708 ⟨rfl, hy_X7_wrong⟩ ⟨by omega, by omega⟩ (Nat.lt_of_lt_of_le hv_x0 (hc6 31)) ff31 rfl rfl rfl (Nat.le_of_ble_eq_true rfl) dX7_operand_53 (fun o14 χ15 hv15 hf hc15 => ?_)
      exact g_aret hX rfl rf_or ⟨_, rfl, hv15, hf⟩ dX7_operand_56
  have B245 : ∀ (ad : Nat → Nat → Nat) (x0 : Nat) (χ : St), x0 < cn χ 31 → w_X7_operand_245 W1 Q x0 χ → G X ad χ 245 [(0, .ref (ad 31 x0))] [] := by
    intro ad x0 χ hv_x0 hf
    unfold w_X7_operand_245 at hf
    refine g_aload_n hX 0 dX7_operand_245 rfl rfl ?_
    refine g_callVr hX 30 (n := 0) (mt_X7_wrong X.l X.Γ _ _ _ _) ⟨hv_x0, hf⟩ q705 q707 qs17 q100 q708 ⟨rfl, hy_X7_wrong⟩ ⟨by omega, by omega⟩ hv_x0 ff31 rfl rfl rfl (Nat.le_of_ble_eq_true rfl) dX7_operand_246 (fun o16 χ17 hv17 hf hc17 => ?_)
    refine g_goto hX 260 dX7_operand_249 (by decide) ?_
    exact g_aret hX rfl rf_or ⟨_, rfl, hv17, hf⟩ dX7_operand_260
  have B227 : ∀ (ad : Nat → Nat → Nat) (x0 : Nat) (x2 : Int32) (x3 : Int32) (χ : St), x0 < cn χ 31 → w_X7_operand_227 W1 Q x0 x2 x3 χ → G X ad χ 227 [(0, .ref (ad 31 x0)), (2, .int x2), (3, .int x3)] [] := by
    intro ad x0 x2 x3 χ hv_x0 hf
    unfold w_X7_operand_227 at hf
    refine g_iload_n hX 1 dX7_operand_227 rfl rfl ?_
    refine g_if_eq hX 245 dX7_operand_228 (by decide) (fun z => ?_) (fun z => ?_)
    · replace hf := hf.1 z
      refine g_sub [0] rfl ?_
      exact B245 _ _ _ (hv_x0) hf
    · replace hf := hf.2 z
      refine g_aload_n hX 0 dX7_operand_231 rfl rfl ?_
      refine g_callVi hX (n := 0) (mt_X7_here X.l X.Γ _ _ _ _) ⟨hv_x0, hf⟩ q593 q595 qs14 q100 q596 ⟨rfl, hy_X7_here⟩ ⟨by omega, by omega⟩ hv_x0 ff31 rfl rfl rfl (Nat.le_of_ble_eq_true rfl) dX7_operand_232 (fun r18 χ19 hf hc19 => ?_)
      refine g_bipush hX (v := (48 : Int32)) dX7_operand_235 rfl ?_
      refine g_bipush hX (v := (57 : Int32)) dX7_operand_237 rfl ?_
      refine g_callSNi hX (n := 3) (mt_C_in X.l X.Γ _ _ _ _ _ _) hf q729 q282 q85 q283 hy_C_in ⟨by omega, by omega⟩ rfl rfl (Nat.le_of_ble_eq_true rfl) dX7_operand_239 (fun r20 χ21 hf hc21 => ?_)
      refine g_if_eq hX 252 dX7_operand_242 (by decide) (fun z => ?_) (fun z => ?_)
      · replace hf := hf.1 z
        refine g_new hX hna (c := 30) (t := 0) tyX13 rfl rfl (by decide) rfl in_X13 tyX13_ok df_X13 q730 q731 q111 hf.1 hf.2.1 dX7_operand_252 (fun ad22 hE22 => ?_)
        replace hf := hf.2.2 _ rfl
        rw [← hE22.1 31 _ (Nat.lt_of_lt_of_le (Nat.lt_of_lt_of_le hv_x0 (hc19 31)) (hc21 31))]
        refine g_dup hX dX7_operand_255 rfl ?_
        refine g_iload_n hX 2 dX7_operand_256 rfl rfl ?_
        refine g_callIv hX (n := 1) (mt_X13_init X.l X.Γ _ _ _ _ _) ⟨(new_lt rfl), hf⟩ rfl q732 q733 q111 q734 hy_X13_init ⟨by omega, by omega⟩ rfl rfl (Nat.le_of_ble_eq_true rfl) dX7_operand_257 (fun χ23 hf hc23 => ?_)
        exact g_aret hX rfl (Or.inr ⟨_, rfl⟩) ⟨some _, rfl, (fun x e => by cases e; exact (Nat.lt_of_lt_of_le (new_lt rfl) (hc23 30))), hf⟩ dX7_operand_260
      · replace hf := hf.2 z
        refine g_sub [0] rfl ?_
        exact B245 _ _ _ ((Nat.lt_of_lt_of_le (Nat.lt_of_lt_of_le hv_x0 (hc19 31)) (hc21 31))) hf
  have B179 : ∀ (n : Nat) (ad : Nat → Nat → Nat) (x0 : Nat) (x2 : Int32) (x3 : Int32) (χ : St), x0 < cn χ 31 → w_X7_operand_179 W1 Q n x0 x2 x3 χ → G X ad χ 179 [(0, .ref (ad 31 x0)), (2, .int x2), (3, .int x3)] [] := by
    intro n
    induction n with
    | zero => intro ad x0 x2 x3 χ hv_x0 hf; exact hf.elim
    | succ n hK179 =>
      intro ad x0 x2 x3 χ hv_x0 hf
      unfold w_X7_operand_179 at hf
      refine g_iload_n hX 1 dX7_operand_179 rfl rfl ?_
      refine g_iconst hX (v := (4 : Int32)) dX7_operand_180 rfl ?_
      refine g_icmp_ge hX 227 dX7_operand_181 (by decide) (fun z => ?_) (fun z => ?_)
      · replace hf := hf.1 z
        exact B227 _ _ _ _ _ (hv_x0) hf
      · replace hf := hf.2 z
        refine g_aload_n hX 0 dX7_operand_184 rfl rfl ?_
        refine g_callVi hX (n := 0) (mt_X7_here X.l X.Γ _ _ _ _) ⟨hv_x0, hf⟩ q593 q595 qs14 q100 q596 ⟨rfl, hy_X7_here⟩ ⟨by omega, by omega⟩ hv_x0 ff31 rfl rfl rfl (Nat.le_of_ble_eq_true rfl) dX7_operand_185 (fun r24 χ25 hf hc25 => ?_)
        refine g_bipush hX (v := (48 : Int32)) dX7_operand_188 rfl ?_
        refine g_bipush hX (v := (57 : Int32)) dX7_operand_190 rfl ?_
        refine g_callSNi hX (n := 3) (mt_C_in X.l X.Γ _ _ _ _ _ _) hf q729 q282 q85 q283 hy_C_in ⟨by omega, by omega⟩ rfl rfl (Nat.le_of_ble_eq_true rfl) dX7_operand_192 (fun r26 χ27 hf hc27 => ?_)
        refine g_if_eq hX 227 dX7_operand_195 (by decide) (fun z => ?_) (fun z => ?_)
        · replace hf := hf.1 z
          exact B227 _ _ _ _ _ ((Nat.lt_of_lt_of_le (Nat.lt_of_lt_of_le hv_x0 (hc25 31)) (hc27 31))) hf
        · replace hf := hf.2 z
          refine g_bipush hX (v := (10 : Int32)) dX7_operand_198 rfl ?_
          refine g_iload_n hX 2 dX7_operand_200 rfl rfl ?_
          refine g_imul hX dX7_operand_201 ?_
          refine g_aload_n hX 0 dX7_operand_202 rfl rfl ?_
          refine g_callVi hX (n := 0) (mt_X7_here X.l X.Γ _ _ _ _) ⟨(Nat.lt_of_lt_of_le (Nat.lt_of_lt_of_le hv_x0 (hc25 31)) (hc27 31)), hf⟩ q593 q595 qs14 q100 q596 ⟨rfl, hy_X7_here⟩ ⟨by omega, by omega⟩ (Nat.lt_of_lt_of_le (Nat.lt_of_lt_of_le hv_x0 (hc25 31)) (hc27 31)) ff31 rfl rfl rfl (Nat.le_of_ble_eq_true rfl) dX7_operand_203 (fun r28 χ29 hf hc29 => ?_)
          refine g_iadd hX dX7_operand_206 ?_
          refine g_bipush hX (v := (48 : Int32)) dX7_operand_207 rfl ?_
          refine g_isub hX dX7_operand_209 ?_
          replace hf := hf _ rfl
          refine g_istore_n hX dX7_operand_210 rfl (by decide) rfl ?_
          refine g_iinc hX (v := _) 2 dX7_operand_211 rfl rfl (by decide) rfl ?_
          refine g_aload_n hX 2 dX7_operand_214 rfl rfl ?_
          refine g_dup hX dX7_operand_215 rfl ?_
          refine g_getI hX (k := 0) (Nat.lt_of_lt_of_le (Nat.lt_of_lt_of_le (Nat.lt_of_lt_of_le hv_x0 (hc25 31)) (hc27 31)) (hc29 31)) ff31 rfl rfl in_X7 (by decide) q528 dX7_operand_216 ?_
          refine g_iconst hX (v := (1 : Int32)) dX7_operand_219 rfl ?_
          refine g_iadd hX dX7_operand_220 ?_
          refine g_putI hX (k := 0) (Nat.lt_of_lt_of_le (Nat.lt_of_lt_of_le (Nat.lt_of_lt_of_le hv_x0 (hc25 31)) (hc27 31)) (hc29 31)) ff31 rfl rfl in_X7 tyX7_ok nmX7 (by decide) q528 rfl rfl rfl rfl dX7_operand_221 ?_
          replace hf := hf _ rfl
          refine g_goto hX 179 dX7_operand_224 (by decide) ?_
          refine g_sub [2, 0, 1] rfl ?_
          exact hK179 _ _ _ _ _ ((Nat.lt_of_lt_of_le (Nat.lt_of_lt_of_le (Nat.lt_of_lt_of_le hv_x0 (hc25 31)) (hc27 31)) (hc29 31))) hf
  unfold w_X7_operand_b at hf
  refine g_aload_n hX 0 dX7_operand_0 rfl rfl ?_
  refine g_callVi hX (n := 0) (mt_X7_here X.l X.Γ _ _ _ _) ⟨hv0, hf⟩ q593 q595 qs14 q100 q596 ⟨rfl, hy_X7_here⟩ ⟨by omega, by omega⟩ hv0 ff31 rfl rfl rfl (Nat.le_of_ble_eq_true rfl) dX7_operand_1 (fun r1 χ2 hf hc2 => ?_)
  refine g_istore_n hX dX7_operand_4 rfl (by decide) rfl ?_
  refine g_aload_n hX 1 dX7_operand_5 rfl rfl ?_
  refine g_ldcS hX (q := stA X.Γ 3) hX.2.2.2.2.2.2.2.1.2.2.2.1.2.1.2.2.2 dX7_operand_6 ?_
  refine g_callVi hX (n := 1) (mt_X7_isOne X.l X.Γ _ _ _ _ _) ⟨(Nat.lt_of_lt_of_le hv0 (hc2 31)), (by decide), hf⟩ q598 q600 qs15 q100 q601 ⟨rfl, hy_X7_isOne⟩ ⟨by omega, by omega⟩ (Nat.lt_of_lt_of_le hv0 (hc2 31)) ff31 rfl rfl rfl (Nat.le_of_ble_eq_true rfl) dX7_operand_8 (fun r3 χ4 hf hc4 => ?_)
  refine g_if_eq hX 33 dX7_operand_11 (by decide) (fun z => ?_) (fun z => ?_)
  · replace hf := hf.1 z
    refine g_iload_n hX 0 dX7_operand_33 rfl rfl ?_
    refine g_bipush hX (v := (33 : Int32)) dX7_operand_34 rfl ?_
    refine g_icmp_eq hX 45 dX7_operand_36 (by decide) (fun z => ?_) (fun z => ?_)
    · replace hf := hf.1 z
      refine g_sub [1, 0] rfl ?_
      exact B45 _ _ _ _ ((Nat.lt_of_lt_of_le (Nat.lt_of_lt_of_le hv0 (hc2 31)) (hc4 31))) hf
    · replace hf := hf.2 z
      refine g_iload_n hX 0 dX7_operand_39 rfl rfl ?_
      refine g_bipush hX (v := (45 : Int32)) dX7_operand_40 rfl ?_
      refine g_icmp_ne hX 107 dX7_operand_42 (by decide) (fun z => ?_) (fun z => ?_)
      · replace hf := hf.1 z
        refine g_iload_n hX 0 dX7_operand_107 rfl rfl ?_
        refine g_bipush hX (v := (40 : Int32)) dX7_operand_108 rfl ?_
        refine g_icmp_ne hX 175 dX7_operand_110 (by decide) (fun z => ?_) (fun z => ?_)
        · replace hf := hf.1 z
          refine g_iconst hX (v := (0 : Int32)) dX7_operand_175 rfl ?_
          refine g_istore_n hX dX7_operand_176 rfl (by decide) rfl ?_
          refine g_iconst hX (v := (0 : Int32)) dX7_operand_177 rfl ?_
          refine g_istore_n hX dX7_operand_178 rfl (by decide) rfl ?_
          obtain ⟨n0, hf⟩ := hf
          refine g_sub [3, 1, 0] rfl ?_
          exact B179 n0 _ _ _ _ _ ((Nat.lt_of_lt_of_le (Nat.lt_of_lt_of_le hv0 (hc2 31)) (hc4 31))) hf
        · replace hf := hf.2 z
          refine g_aload_n hX 1 dX7_operand_113 rfl rfl ?_
          refine g_callVi hX (n := 0) (mt_X7_opens X.l X.Γ _ _ _ _) ⟨(Nat.lt_of_lt_of_le (Nat.lt_of_lt_of_le hv0 (hc2 31)) (hc4 31)), hf⟩ q701 q703 qs16 q100 q704 ⟨rfl, hy_X7_opens⟩ ⟨by omega, by omega⟩ (Nat.lt_of_lt_of_le (Nat.lt_of_lt_of_le hv0 (hc2 31)) (hc4 31)) ff31 rfl rfl rfl (Nat.le_of_ble_eq_true rfl) dX7_operand_114 (fun r32 χ33 hf hc33 => ?_)
          refine g_if_ne hX 125 dX7_operand_117 (by decide) (fun z => ?_) (fun z => ?_)
          · replace hf := hf.1 z
            refine g_aload_n hX 1 dX7_operand_125 rfl rfl ?_
            refine g_callVAr hX hna 30 (n := 0) (mt_X7_either X.l X.Γ W1 F1 L1 h1 _ _ _ _) ⟨(Nat.lt_of_lt_of_le (Nat.lt_of_lt_of_le (Nat.lt_of_lt_of_le hv0 (hc2 31)) (hc4 31)) (hc33 31)), hf⟩ q569 q571 qs8 q100 q572 ⟨rfl, hy_X7_either⟩ ⟨by omega, by omega⟩ (Nat.lt_of_lt_of_le (Nat.lt_of_lt_of_le (Nat.lt_of_lt_of_le hv0 (hc2 31)) (hc4 31)) (hc33 31)) ff31 rfl rfl rfl (Nat.le_of_ble_eq_true rfl) dX7_operand_126 (fun o34 ad35 χ35 hv35 hf hc35 => ?_)
            rw [← hc35.1 31 _ (Nat.lt_of_lt_of_le (Nat.lt_of_lt_of_le (Nat.lt_of_lt_of_le hv0 (hc2 31)) (hc4 31)) (hc33 31))]
            refine g_astore_nO hX dX7_operand_129 rfl (by decide) rfl ?_
            refine g_aload_n hX 2 dX7_operand_130 rfl rfl ?_
            refine g_getI hX (k := 1) (Nat.lt_of_lt_of_le (Nat.lt_of_lt_of_le (Nat.lt_of_lt_of_le (Nat.lt_of_lt_of_le hv0 (hc2 31)) (hc4 31)) (hc33 31)) (hc35.2 31)) ff31 rfl rfl in_X7 (by decide) q529 dX7_operand_131 ?_
            refine g_if_lt hX 139 dX7_operand_134 (by decide) (fun z => ?_) (fun z => ?_)
            · replace hf := hf.1 z
              refine g_aload_n hX 2 dX7_operand_139 rfl rfl ?_
              refine g_callVi hX (n := 0) (mt_X7_here X.l X.Γ _ _ _ _) ⟨(Nat.lt_of_lt_of_le (Nat.lt_of_lt_of_le (Nat.lt_of_lt_of_le (Nat.lt_of_lt_of_le hv0 (hc2 31)) (hc4 31)) (hc33 31)) (hc35.2 31)), hf⟩ q593 q595 qs14 q100 q596 ⟨rfl, hy_X7_here⟩ ⟨by omega, by omega⟩ (Nat.lt_of_lt_of_le (Nat.lt_of_lt_of_le (Nat.lt_of_lt_of_le (Nat.lt_of_lt_of_le hv0 (hc2 31)) (hc4 31)) (hc33 31)) (hc35.2 31)) ff31 rfl rfl rfl (Nat.le_of_ble_eq_true rfl) dX7_operand_140 (fun r36 χ37 hf hc37 => ?_)
              refine g_bipush hX (v := (41 : Int32)) dX7_operand_143 rfl ?_
              refine g_icmp_eq hX 153 dX7_operand_145 (by decide) (fun z => ?_) (fun z => ?_)
              · replace hf := hf.1 z
                refine g_aload_n hX 2 dX7_operand_153 rfl rfl ?_
                refine g_dup hX dX7_operand_154 rfl ?_
                refine g_getI hX (k := 0) (Nat.lt_of_lt_of_le (Nat.lt_of_lt_of_le (Nat.lt_of_lt_of_le (Nat.lt_of_lt_of_le (Nat.lt_of_lt_of_le hv0 (hc2 31)) (hc4 31)) (hc33 31)) (hc35.2 31)) (hc37 31)) ff31 rfl rfl in_X7 (by decide) q528 dX7_operand_155 ?_
                refine g_iconst hX (v := (1 : Int32)) dX7_operand_158 rfl ?_
                refine g_iadd hX dX7_operand_159 ?_
                refine g_putI hX (k := 0) (Nat.lt_of_lt_of_le (Nat.lt_of_lt_of_le (Nat.lt_of_lt_of_le (Nat.lt_of_lt_of_le (Nat.lt_of_lt_of_le hv0 (hc2 31)) (hc4 31)) (hc33 31)) (hc35.2 31)) (hc37 31)) ff31 rfl rfl in_X7 tyX7_ok nmX7 (by decide) q528 rfl rfl rfl rfl dX7_operand_160 ?_
                replace hf := hf _ rfl
                refine g_aload_n hX 2 dX7_operand_163 rfl rfl ?_
                refine g_dup hX dX7_operand_164 rfl ?_
                refine g_getI hX (k := 2) (Nat.lt_of_lt_of_le (Nat.lt_of_lt_of_le (Nat.lt_of_lt_of_le (Nat.lt_of_lt_of_le (Nat.lt_of_lt_of_le hv0 (hc2 31)) (hc4 31)) (hc33 31)) (hc35.2 31)) (hc37 31)) ff31 rfl rfl in_X7 (by decide) q531 dX7_operand_165 ?_
                refine g_iconst hX (v := (1 : Int32)) dX7_operand_168 rfl ?_
                refine g_isub hX dX7_operand_169 ?_
                refine g_putI hX (k := 2) (Nat.lt_of_lt_of_le (Nat.lt_of_lt_of_le (Nat.lt_of_lt_of_le (Nat.lt_of_lt_of_le (Nat.lt_of_lt_of_le hv0 (hc2 31)) (hc4 31)) (hc33 31)) (hc35.2 31)) (hc37 31)) ff31 rfl rfl in_X7 tyX7_ok nmX7 (by decide) q531 rfl rfl rfl rfl dX7_operand_170 ?_
                replace hf := hf _ rfl
                refine g_aload_nO hX 0 dX7_operand_173 rfl rfl ?_
                exact g_aret hX rfl rf_or ⟨_, rfl, (fun x e => Nat.lt_of_lt_of_le (hv35 x e) (hc37 30)), hf⟩ dX7_operand_174
              · replace hf := hf.2 z
                refine g_aload_n hX 2 dX7_operand_148 rfl rfl ?_
                refine g_callVr hX 30 (n := 0) (mt_X7_wrong X.l X.Γ _ _ _ _) ⟨(Nat.lt_of_lt_of_le (Nat.lt_of_lt_of_le (Nat.lt_of_lt_of_le (Nat.lt_of_lt_of_le (Nat.lt_of_lt_of_le hv0 (hc2 31)) (hc4 31)) (hc33 31)) (hc35.2 31)) (hc37 31)), hf⟩ q705 q707 qs17 q100 q708 ⟨rfl, hy_X7_wrong⟩ ⟨by omega, by omega⟩ (Nat.lt_of_lt_of_le (Nat.lt_of_lt_of_le (Nat.lt_of_lt_of_le (Nat.lt_of_lt_of_le (Nat.lt_of_lt_of_le hv0 (hc2 31)) (hc4 31)) (hc33 31)) (hc35.2 31)) (hc37 31)) ff31 rfl rfl rfl (Nat.le_of_ble_eq_true rfl) dX7_operand_149 (fun o40 χ41 hv41 hf hc41 => ?_)
                exact g_aret hX rfl rf_or ⟨_, rfl, hv41, hf⟩ dX7_operand_152
            · replace hf := hf.2 z
              refine g_null hX dX7_operand_137 ?_
              exact g_aret hX rfl (Or.inl rfl) ⟨none, rfl, (fun x e => by cases e), hf⟩ dX7_operand_138
          · replace hf := hf.2 z
            refine g_aload_n hX 1 dX7_operand_120 rfl rfl ?_
            refine g_callVr hX 30 (n := 0) (mt_X7_wrong X.l X.Γ _ _ _ _) ⟨(Nat.lt_of_lt_of_le (Nat.lt_of_lt_of_le (Nat.lt_of_lt_of_le hv0 (hc2 31)) (hc4 31)) (hc33 31)), hf⟩ q705 q707 qs17 q100 q708 ⟨rfl, hy_X7_wrong⟩ ⟨by omega, by omega⟩ (Nat.lt_of_lt_of_le (Nat.lt_of_lt_of_le (Nat.lt_of_lt_of_le hv0 (hc2 31)) (hc4 31)) (hc33 31)) ff31 rfl rfl rfl (Nat.le_of_ble_eq_true rfl) dX7_operand_121 (fun o42 χ43 hv43 hf hc43 => ?_)
            exact g_aret hX rfl rf_or ⟨_, rfl, hv43, hf⟩ dX7_operand_124
      · replace hf := hf.2 z
        refine g_sub [1, 0] rfl ?_
        exact B45 _ _ _ _ ((Nat.lt_of_lt_of_le (Nat.lt_of_lt_of_le hv0 (hc2 31)) (hc4 31))) hf
  · replace hf := hf.2 z
    refine g_aload_n hX 1 dX7_operand_14 rfl rfl ?_
    refine g_dup hX dX7_operand_15 rfl ?_
    refine g_getI hX (k := 0) (Nat.lt_of_lt_of_le (Nat.lt_of_lt_of_le hv0 (hc2 31)) (hc4 31)) ff31 rfl rfl in_X7 (by decide) q528 dX7_operand_16 ?_
    refine g_iconst hX (v := (1 : Int32)) dX7_operand_19 rfl ?_
    refine g_iadd hX dX7_operand_20 ?_
    refine g_putI hX (k := 0) (Nat.lt_of_lt_of_le (Nat.lt_of_lt_of_le hv0 (hc2 31)) (hc4 31)) ff31 rfl rfl in_X7 tyX7_ok nmX7 (by decide) q528 rfl rfl rfl rfl dX7_operand_21 ?_
    replace hf := hf _ rfl
    refine g_new hX hna (c := 30) (t := 1) tyX10 rfl rfl (by decide) rfl in_X10 tyX10_ok df_X10 q688 q689 q108 hf.1 hf.2.1 dX7_operand_24 (fun ad45 hE45 => ?_)
    replace hf := hf.2.2 _ rfl
    rw [← hE45.1 31 _ (Nat.lt_of_lt_of_le (Nat.lt_of_lt_of_le hv0 (hc2 31)) (hc4 31))]
    refine g_dup hX dX7_operand_27 rfl ?_
    refine g_iload_n hX 0 dX7_operand_28 rfl rfl ?_
    refine g_callIv hX (n := 1) (mt_X10_init X.l X.Γ _ _ _ _ _) ⟨(new_lt rfl), hf⟩ rfl q690 q691 q108 q692 hy_X10_init ⟨by omega, by omega⟩ rfl rfl (Nat.le_of_ble_eq_true rfl) dX7_operand_29 (fun χ46 hf hc46 => ?_)
    exact g_aret hX rfl (Or.inr ⟨_, rfl⟩) ⟨some _, rfl, (fun x e => by cases e; exact (Nat.lt_of_lt_of_le (new_lt rfl) (hc46 30))), hf⟩ dX7_operand_32
def w_X7_operand : Nat → Nat → St → (Option Nat → St → Prop) → Prop
  | 0 => fun _ _ _ => False
  | d + 1 => fun x0 χ Q => w_X7_operand_b (w_X7_operand d) x0 χ Q
theorem mt_X7_operand (l : Launch) (Γ : Gh) (d : Nat) : ∀ (ad : Nat → Nat → Nat) (x0 : Nat) (χ : St) (Q : Option Nat → St → Prop), Mt l yX7_operand (ws_ yX7_operand cX7_operand 4 (some (.object "ChairOld$Node"))) (rmO (10 * d) (220 * d) χ) (Pm Γ ad χ [.ref (ad 31 x0)] (x0 < cn χ 31 ∧ w_X7_operand d x0 χ Q)) (Qm Γ false ad χ (pR 30 Q)) (frB Γ) := by
  have key : ∀ (d : Nat) (l : Launch) (Γ : Gh) (ad : Nat → Nat → Nat) (x0 : Nat) (χ : St) (Q : Option Nat → St → Prop), Mt l yX7_operand (ws_ yX7_operand cX7_operand 4 (some (.object "ChairOld$Node"))) (rmO (10 * d) (220 * d) χ) (Pm Γ ad χ [.ref (ad 31 x0)] (x0 < cn χ 31 ∧ w_X7_operand d x0 χ Q)) (Qm Γ false ad χ (pR 30 Q)) (frB Γ) := by
    intro d
    induction d with
    | zero => intro l Γ ad x0 χ Q; exact Mt.no (fun h => h.2)
    | succ d ih => intro l Γ ad x0 χ Q; exact mt_X7_operand_b l Γ (w_X7_operand d) (10 * d) (220 * d) ih ad x0 χ Q
  exact key d l Γ

def w_X7_line (x0 : Nat) (χ : St) (Q : Option Nat → St → Prop) : Prop := (uC χ + 1 ≤ 603072) ∧ (uS χ + 3 ≤ 7262314) ∧ ((∀ χ1 : St, χ1 = (alo χ 24 0 3) → (w_X8_init (nO χ 24) χ1 (fun χ2 => (w_X7_either (w_X7_operand 8) x0 χ2 (fun o3 χ4 => (∀ χ5 : St, χ5 = (sR χ4 2501 (nO χ 24) 0 o3) → ((0 ≤ (gI χ5 3201 x0 0) → (Q (some (nO χ 24)) χ5)) ∧ (¬ 0 ≤ (gI χ5 3201 x0 0) → (w_X7_here x0 χ5 (fun r6 χ7 => ((r6 = (63 : Int32) → (∀ χ8 : St, χ8 = (sI χ7 3200 x0 0 ((gI χ7 3200 x0 0) + (1 : Int32))) → (∃ z9, (gR χ8 2501 (nO χ 24) 0) = some z9 ∧ ((∀ χ10 : St, χ10 = (sR χ8 2500 (nO χ 24) 0 (some z9)) → (w_X7_either (w_X7_operand 8) x0 χ10 (fun o11 χ12 => (∀ χ13 : St, χ13 = (sR χ12 2501 (nO χ 24) 0 o11) → (Q (some (nO χ 24)) χ13))))))))) ∧ (¬ r6 = (63 : Int32) → (Q (some (nO χ 24)) χ7))))))))))))))
set_option maxHeartbeats 4000000 in
theorem mt_X7_line (l : Launch) (Γ : Gh) (ad : Nat → Nat → Nat) (x0 : Nat) (χ : St) (Q : Option Nat → St → Prop) : Mt l yX7_line (ws_ yX7_line cX7_line 2 (some (.object "ChairOld$Line"))) (rmO (90) (1980) χ) (Pm Γ ad χ [.ref (ad 31 x0)] (x0 < cn χ 31 ∧ w_X7_line x0 χ Q)) (Qm Γ false ad χ (pR 24 Q)) (frB Γ) := by
  refine Mt.start (by decide) RX7 rfl (Nat.le_of_ble_eq_true rfl) ?_
  intro X hX hG _ _ hna _ ⟨hv0, hf⟩
  unfold w_X7_line at hf
  refine g_new hX hna (c := 24) (t := 0) tyX8 rfl rfl (by decide) rfl in_X8 tyX8_ok df_X8 q550 q551 q101 hf.1 hf.2.1 dX7_line_0 (fun ad1 hE1 => ?_)
  replace hf := hf.2.2 _ rfl
  rw [← hE1.1 31 _ hv0]
  refine g_dup hX dX7_line_3 rfl ?_
  refine g_callINv hX (n := 0) (mt_X8_init X.l X.Γ _ _ _ _) ⟨(new_lt rfl), hf⟩ rfl q552 q553 q101 q554 hy_X8_init (by decide) rfl rfl (Nat.le_of_ble_eq_true rfl) dX7_line_4 (fun χ2 hf hc2 => ?_)
  refine g_astore_n hX dX7_line_7 rfl (by decide) rfl ?_
  refine g_aload_n hX 0 dX7_line_8 rfl rfl ?_
  refine g_aload_n hX 1 dX7_line_9 rfl rfl ?_
  refine g_callVAr hX hna 30 (n := 0) (mt_X7_either X.l X.Γ (w_X7_operand 8) (10 * 8) (220 * 8) (fun l Γ => mt_X7_operand l Γ 8) _ _ _ _) ⟨(Nat.lt_of_lt_of_le (Nat.lt_of_lt_of_le hv0 (hE1.2 31)) (hc2 31)), hf⟩ q569 q571 qs8 q100 q572 ⟨rfl, hy_X7_either⟩ (by decide) (Nat.lt_of_lt_of_le (Nat.lt_of_lt_of_le hv0 (hE1.2 31)) (hc2 31)) ff31 rfl rfl rfl (Nat.le_of_ble_eq_true rfl) dX7_line_10 (fun o3 ad4 χ4 hv4 hf hc4 => ?_)
  rw [← hc4.1 31 _ (Nat.lt_of_lt_of_le (Nat.lt_of_lt_of_le hv0 (hE1.2 31)) (hc2 31))]
  rw [← hc4.1 24 _ (Nat.lt_of_lt_of_le (new_lt rfl) (hc2 24))]
  refine g_putRN hX (v := _) (k := 1) (Nat.lt_of_lt_of_le (Nat.lt_of_lt_of_le (new_lt rfl) (hc2 24)) (hc4.2 24)) ff24 rfl rfl in_X8 tyX8_ok nmX8 (by decide) (by decide) (by decide) rfl rfl q558 rfl rfl nar_rf fits_rf hv4 dX7_line_13 ?_
  replace hf := hf _ rfl
  refine g_aload_n hX 1 dX7_line_16 rfl rfl ?_
  refine g_getI hX (k := 1) (Nat.lt_of_lt_of_le (Nat.lt_of_lt_of_le (Nat.lt_of_lt_of_le hv0 (hE1.2 31)) (hc2 31)) (hc4.2 31)) ff31 rfl rfl in_X7 (by decide) q529 dX7_line_17 ?_
  refine g_if_ge hX 32 dX7_line_20 (by decide) (fun z => ?_) (fun z => ?_)
  · replace hf := hf.1 z
    refine g_aload_n hX 0 dX7_line_32 rfl rfl ?_
    exact g_aret hX rfl (Or.inr ⟨_, rfl⟩) ⟨some _, rfl, (fun x e => by cases e; exact (Nat.lt_of_lt_of_le (Nat.lt_of_lt_of_le (new_lt rfl) (hc2 24)) (hc4.2 24))), hf⟩ dX7_line_33
  · replace hf := hf.2 z
    refine g_aload_n hX 1 dX7_line_23 rfl rfl ?_
    refine g_callVi hX (n := 0) (mt_X7_here X.l X.Γ _ _ _ _) ⟨(Nat.lt_of_lt_of_le (Nat.lt_of_lt_of_le (Nat.lt_of_lt_of_le hv0 (hE1.2 31)) (hc2 31)) (hc4.2 31)), hf⟩ q593 q595 qs14 q100 q596 ⟨rfl, hy_X7_here⟩ (by decide) (Nat.lt_of_lt_of_le (Nat.lt_of_lt_of_le (Nat.lt_of_lt_of_le hv0 (hE1.2 31)) (hc2 31)) (hc4.2 31)) ff31 rfl rfl rfl (Nat.le_of_ble_eq_true rfl) dX7_line_24 (fun r6 χ7 hf hc7 => ?_)
    refine g_bipush hX (v := (63 : Int32)) dX7_line_27 rfl ?_
    refine g_icmp_eq hX 34 dX7_line_29 (by decide) (fun z => ?_) (fun z => ?_)
    · replace hf := hf.1 z
      refine g_aload_n hX 1 dX7_line_34 rfl rfl ?_
      refine g_dup hX dX7_line_35 rfl ?_
      refine g_getI hX (k := 0) (Nat.lt_of_lt_of_le (Nat.lt_of_lt_of_le (Nat.lt_of_lt_of_le (Nat.lt_of_lt_of_le hv0 (hE1.2 31)) (hc2 31)) (hc4.2 31)) (hc7 31)) ff31 rfl rfl in_X7 (by decide) q528 dX7_line_36 ?_
      refine g_iconst hX (v := (1 : Int32)) dX7_line_39 rfl ?_
      refine g_iadd hX dX7_line_40 ?_
      refine g_putI hX (k := 0) (Nat.lt_of_lt_of_le (Nat.lt_of_lt_of_le (Nat.lt_of_lt_of_le (Nat.lt_of_lt_of_le hv0 (hE1.2 31)) (hc2 31)) (hc4.2 31)) (hc7 31)) ff31 rfl rfl in_X7 tyX7_ok nmX7 (by decide) q528 rfl rfl rfl rfl dX7_line_41 ?_
      replace hf := hf _ rfl
      refine g_aload_n hX 0 dX7_line_44 rfl rfl ?_
      refine g_aload_n hX 0 dX7_line_45 rfl rfl ?_
      obtain ⟨z9, hz9, hf⟩ := hf
      refine g_getEN hX (k := 1) (Nat.lt_of_lt_of_le (Nat.lt_of_lt_of_le (Nat.lt_of_lt_of_le (new_lt rfl) (hc2 24)) (hc4.2 24)) (hc7 24)) ff24 rfl (by decide) (by decide) rfl rfl rfl in_X8 (by decide) q558 dX7_line_46 hz9 (fun hvz9 => ?_)
      refine g_putRN hX (v := some _) (k := 0) (Nat.lt_of_lt_of_le (Nat.lt_of_lt_of_le (Nat.lt_of_lt_of_le (new_lt rfl) (hc2 24)) (hc4.2 24)) (hc7 24)) ff24 rfl rfl in_X8 tyX8_ok nmX8 (by decide) (by decide) (by decide) rfl rfl q556 rfl rfl nar_rf fits_rf (fun x e => by cases e; exact hvz9) dX7_line_49 ?_
      replace hf := hf _ rfl
      refine g_aload_n hX 0 dX7_line_52 rfl rfl ?_
      refine g_aload_n hX 1 dX7_line_53 rfl rfl ?_
      refine g_callVAr hX hna 30 (n := 0) (mt_X7_either X.l X.Γ (w_X7_operand 8) (10 * 8) (220 * 8) (fun l Γ => mt_X7_operand l Γ 8) _ _ _ _) ⟨(Nat.lt_of_lt_of_le (Nat.lt_of_lt_of_le (Nat.lt_of_lt_of_le (Nat.lt_of_lt_of_le hv0 (hE1.2 31)) (hc2 31)) (hc4.2 31)) (hc7 31)), hf⟩ q569 q571 qs8 q100 q572 ⟨rfl, hy_X7_either⟩ (by decide) (Nat.lt_of_lt_of_le (Nat.lt_of_lt_of_le (Nat.lt_of_lt_of_le (Nat.lt_of_lt_of_le hv0 (hE1.2 31)) (hc2 31)) (hc4.2 31)) (hc7 31)) ff31 rfl rfl rfl (Nat.le_of_ble_eq_true rfl) dX7_line_54 (fun o11 ad12 χ12 hv12 hf hc12 => ?_)
      rw [← hc12.1 31 _ (Nat.lt_of_lt_of_le (Nat.lt_of_lt_of_le (Nat.lt_of_lt_of_le (Nat.lt_of_lt_of_le hv0 (hE1.2 31)) (hc2 31)) (hc4.2 31)) (hc7 31))]
      rw [← hc12.1 24 _ (Nat.lt_of_lt_of_le (Nat.lt_of_lt_of_le (Nat.lt_of_lt_of_le (new_lt rfl) (hc2 24)) (hc4.2 24)) (hc7 24))]
      refine g_putRN hX (v := _) (k := 1) (Nat.lt_of_lt_of_le (Nat.lt_of_lt_of_le (Nat.lt_of_lt_of_le (Nat.lt_of_lt_of_le (new_lt rfl) (hc2 24)) (hc4.2 24)) (hc7 24)) (hc12.2 24)) ff24 rfl rfl in_X8 tyX8_ok nmX8 (by decide) (by decide) (by decide) rfl rfl q558 rfl rfl nar_rf fits_rf hv12 dX7_line_57 ?_
      replace hf := hf _ rfl
      refine g_aload_n hX 0 dX7_line_60 rfl rfl ?_
      exact g_aret hX rfl (Or.inr ⟨_, rfl⟩) ⟨some _, rfl, (fun x e => by cases e; exact (Nat.lt_of_lt_of_le (Nat.lt_of_lt_of_le (Nat.lt_of_lt_of_le (Nat.lt_of_lt_of_le (new_lt rfl) (hc2 24)) (hc4.2 24)) (hc7 24)) (hc12.2 24))), hf⟩ dX7_line_61
    · replace hf := hf.2 z
      refine g_aload_n hX 0 dX7_line_32 rfl rfl ?_
      exact g_aret hX rfl (Or.inr ⟨_, rfl⟩) ⟨some _, rfl, (fun x e => by cases e; exact (Nat.lt_of_lt_of_le (Nat.lt_of_lt_of_le (Nat.lt_of_lt_of_le (new_lt rfl) (hc2 24)) (hc4.2 24)) (hc7 24))), hf⟩ dX7_line_33

def w_X7_lines_49 (Q : Option Nat → St → Prop) (x0 : Nat) (x1 : Nat) (χ : St) : Prop := ((0 ≤ (gI χ 3201 x0 0) → (Q (some x1) χ)) ∧ (¬ 0 ≤ (gI χ 3201 x0 0) → ((gR χ 3203 x0 0) = some 0) ∧ ((((gI χ 108 0 0) ≤ (gI χ 3200 x0 0) → (Q (some x1) χ)) ∧ (¬ (gI χ 108 0 0) ≤ (gI χ 3200 x0 0) → (∀ χ4 : St, χ4 = (sI χ 3201 x0 0 (gI χ 3200 x0 0)) → (Q (some x1) χ4)))))))
def w_X7_lines_7 (Q : Option Nat → St → Prop) : Nat → Nat → Nat → Nat → St → Prop
  | 0 => fun _ _ _ _ => False
  | n + 1 => fun x0 x1 x2 χ => ((0 ≤ (gI χ 3201 x0 0) → (w_X7_lines_49 Q x0 x1 χ)) ∧ (¬ 0 ≤ (gI χ 3201 x0 0) → (w_X7_here x0 χ (fun r5 χ6 => ((¬ r5 = (59 : Int32) → (w_X7_lines_49 Q x0 x1 χ6)) ∧ (r5 = (59 : Int32) → (∀ χ7 : St, χ7 = (sI χ6 3200 x0 0 ((gI χ6 3200 x0 0) + (1 : Int32))) → (w_X7_line x0 χ7 (fun o8 χ9 => (∃ z10, o8 = some z10 ∧ ((∀ χ11 : St, χ11 = (sR χ9 2502 x2 0 (some z10)) → (∃ z12, (gR χ11 2502 x2 0) = some z12 ∧ ((w_X7_lines_7 Q n x0 x1 z12 χ11)))))))))))))))
def w_X7_lines (x0 : Nat) (χ : St) (Q : Option Nat → St → Prop) : Prop := (w_X7_line x0 χ (fun o1 χ2 => (∃ z3, o1 = some z3 ∧ ((∃ k7, w_X7_lines_7 Q k7 x0 z3 z3 χ2)))))
set_option maxHeartbeats 4000000 in
theorem mt_X7_lines (l : Launch) (Γ : Gh) (ad : Nat → Nat → Nat) (x0 : Nat) (χ : St) (Q : Option Nat → St → Prop) : Mt l yX7_lines (ws_ yX7_lines cX7_lines 3 (some (.object "ChairOld$Line"))) (rmO (91) (2001) χ) (Pm Γ ad χ [.ref (ad 31 x0)] (x0 < cn χ 31 ∧ w_X7_lines x0 χ Q)) (Qm Γ false ad χ (pR 24 Q)) (frB Γ) := by
  refine Mt.start (by decide) RX7 rfl (Nat.le_of_ble_eq_true rfl) ?_
  intro X hX hG _ _ hna _ ⟨hv0, hf⟩
  have B49 : ∀ (ad : Nat → Nat → Nat) (x0 : Nat) (x1 : Nat) (χ : St), x0 < cn χ 31 → x1 < cn χ 24 → w_X7_lines_49 Q x0 x1 χ → G X ad χ 49 [(0, .ref (ad 31 x0)), (1, .ref (ad 24 x1))] [] := by
    intro ad x0 x1 χ hv_x0 hv_x1 hf
    unfold w_X7_lines_49 at hf
    refine g_aload_n hX 0 dX7_lines_49 rfl rfl ?_
    refine g_getI hX (k := 1) hv_x0 ff31 rfl rfl in_X7 (by decide) q529 dX7_lines_50 ?_
    refine g_if_ge hX 78 dX7_lines_53 (by decide) (fun z => ?_) (fun z => ?_)
    · replace hf := hf.1 z
      refine g_aload_n hX 1 dX7_lines_78 rfl rfl ?_
      exact g_aret hX rfl (Or.inr ⟨_, rfl⟩) ⟨some _, rfl, (fun x e => by cases e; exact hv_x1), hf⟩ dX7_lines_79
    · replace hf := hf.2 z
      refine g_aload_n hX 0 dX7_lines_56 rfl rfl ?_
      refine g_getI hX (k := 0) hv_x0 ff31 rfl rfl in_X7 (by decide) q528 dX7_lines_57 ?_
      refine g_aload_n hX 0 dX7_lines_60 rfl rfl ?_
      refine g_getE hX (k := 3) hv_x0 ff31 rfl (by decide) (by decide) rfl rfl rfl in_X7 (by decide) q532 dX7_lines_61 hf.1 (fun _ => ?_)
      replace hf := hf.2
      refine g_getIN hX (k := 8) (fc0 _) ff0 rfl rfl in_X0 (by decide) q207 dX7_lines_64 ?_
      refine g_icmp_ge hX 78 dX7_lines_67 (by decide) (fun z => ?_) (fun z => ?_)
      · replace hf := hf.1 z
        refine g_aload_n hX 1 dX7_lines_78 rfl rfl ?_
        exact g_aret hX rfl (Or.inr ⟨_, rfl⟩) ⟨some _, rfl, (fun x e => by cases e; exact hv_x1), hf⟩ dX7_lines_79
      · replace hf := hf.2 z
        refine g_aload_n hX 0 dX7_lines_70 rfl rfl ?_
        refine g_aload_n hX 0 dX7_lines_71 rfl rfl ?_
        refine g_getI hX (k := 0) hv_x0 ff31 rfl rfl in_X7 (by decide) q528 dX7_lines_72 ?_
        refine g_putI hX (k := 1) hv_x0 ff31 rfl rfl in_X7 tyX7_ok nmX7 (by decide) q529 rfl rfl rfl rfl dX7_lines_75 ?_
        replace hf := hf _ rfl
        refine g_aload_n hX 1 dX7_lines_78 rfl rfl ?_
        exact g_aret hX rfl (Or.inr ⟨_, rfl⟩) ⟨some _, rfl, (fun x e => by cases e; exact hv_x1), hf⟩ dX7_lines_79
  have B7 : ∀ (n : Nat) (ad : Nat → Nat → Nat) (x0 : Nat) (x1 : Nat) (x2 : Nat) (χ : St), x0 < cn χ 31 → x1 < cn χ 24 → x2 < cn χ 24 → w_X7_lines_7 Q n x0 x1 x2 χ → G X ad χ 7 [(0, .ref (ad 31 x0)), (1, .ref (ad 24 x1)), (2, .ref (ad 24 x2))] [] := by
    intro n
    induction n with
    | zero => intro ad x0 x1 x2 χ hv_x0 hv_x1 hv_x2 hf; exact hf.elim
    | succ n hK7 =>
      intro ad x0 x1 x2 χ hv_x0 hv_x1 hv_x2 hf
      unfold w_X7_lines_7 at hf
      refine g_aload_n hX 0 dX7_lines_7 rfl rfl ?_
      refine g_getI hX (k := 1) hv_x0 ff31 rfl rfl in_X7 (by decide) q529 dX7_lines_8 ?_
      refine g_if_ge hX 49 dX7_lines_11 (by decide) (fun z => ?_) (fun z => ?_)
      · replace hf := hf.1 z
        refine g_sub [0, 1] rfl ?_
        exact B49 _ _ _ _ (hv_x0) (hv_x1) hf
      · replace hf := hf.2 z
        refine g_aload_n hX 0 dX7_lines_14 rfl rfl ?_
        refine g_callVi hX (n := 0) (mt_X7_here X.l X.Γ _ _ _ _) ⟨hv_x0, hf⟩ q593 q595 qs14 q100 q596 ⟨rfl, hy_X7_here⟩ (by decide) hv_x0 ff31 rfl rfl rfl (Nat.le_of_ble_eq_true rfl) dX7_lines_15 (fun r5 χ6 hf hc6 => ?_)
        refine g_bipush hX (v := (59 : Int32)) dX7_lines_18 rfl ?_
        refine g_icmp_ne hX 49 dX7_lines_20 (by decide) (fun z => ?_) (fun z => ?_)
        · replace hf := hf.1 z
          refine g_sub [0, 1] rfl ?_
          exact B49 _ _ _ _ ((Nat.lt_of_lt_of_le hv_x0 (hc6 31))) ((Nat.lt_of_lt_of_le hv_x1 (hc6 24))) hf
        · replace hf := hf.2 z
          refine g_aload_n hX 0 dX7_lines_23 rfl rfl ?_
          refine g_dup hX dX7_lines_24 rfl ?_
          refine g_getI hX (k := 0) (Nat.lt_of_lt_of_le hv_x0 (hc6 31)) ff31 rfl rfl in_X7 (by decide) q528 dX7_lines_25 ?_
          refine g_iconst hX (v := (1 : Int32)) dX7_lines_28 rfl ?_
          refine g_iadd hX dX7_lines_29 ?_
          refine g_putI hX (k := 0) (Nat.lt_of_lt_of_le hv_x0 (hc6 31)) ff31 rfl rfl in_X7 tyX7_ok nmX7 (by decide) q528 rfl rfl rfl rfl dX7_lines_30 ?_
          replace hf := hf _ rfl
          refine g_aload_n hX 2 dX7_lines_33 rfl rfl ?_
          refine g_aload_n hX 0 dX7_lines_34 rfl rfl ?_
          refine g_callVAr hX hna 24 (n := 0) (mt_X7_line X.l X.Γ _ _ _ _) ⟨(Nat.lt_of_lt_of_le hv_x0 (hc6 31)), hf⟩ q546 q548 qs7 q100 q549 ⟨rfl, hy_X7_line⟩ (by decide) (Nat.lt_of_lt_of_le hv_x0 (hc6 31)) ff31 rfl rfl rfl (Nat.le_of_ble_eq_true rfl) dX7_lines_35 (fun o8 ad9 χ9 hv9 hf hc9 => ?_)
          rw [← hc9.1 31 _ (Nat.lt_of_lt_of_le hv_x0 (hc6 31))]
          rw [← hc9.1 24 _ (Nat.lt_of_lt_of_le hv_x1 (hc6 24))]
          rw [← hc9.1 24 _ (Nat.lt_of_lt_of_le hv_x2 (hc6 24))]
          obtain ⟨z10, rfl, hf⟩ := hf
          refine g_putRN hX (v := some _) (k := 2) (Nat.lt_of_lt_of_le (Nat.lt_of_lt_of_le hv_x2 (hc6 24)) (hc9.2 24)) ff24 rfl rfl in_X8 tyX8_ok nmX8 (by decide) (by decide) (by decide) rfl rfl q560 rfl rfl nar_rf fits_rf (fun x e => by cases e; exact (hv9 _ rfl)) dX7_lines_38 ?_
          replace hf := hf _ rfl
          refine g_aload_n hX 2 dX7_lines_41 rfl rfl ?_
          obtain ⟨z12, hz12, hf⟩ := hf
          refine g_getEN hX (k := 2) (Nat.lt_of_lt_of_le (Nat.lt_of_lt_of_le hv_x2 (hc6 24)) (hc9.2 24)) ff24 rfl (by decide) (by decide) rfl rfl rfl in_X8 (by decide) q560 dX7_lines_42 hz12 (fun hvz12 => ?_)
          refine g_astore_n hX dX7_lines_45 rfl (by decide) rfl ?_
          refine g_goto hX 7 dX7_lines_46 (by decide) ?_
          refine g_sub [1, 2, 0] rfl ?_
          exact hK7 _ _ _ _ _ ((Nat.lt_of_lt_of_le (Nat.lt_of_lt_of_le hv_x0 (hc6 31)) (hc9.2 31))) ((Nat.lt_of_lt_of_le (Nat.lt_of_lt_of_le hv_x1 (hc6 24)) (hc9.2 24))) (hvz12) hf
  unfold w_X7_lines at hf
  refine g_aload_n hX 0 dX7_lines_0 rfl rfl ?_
  refine g_callVAr hX hna 24 (n := 0) (mt_X7_line X.l X.Γ _ _ _ _) ⟨hv0, hf⟩ q546 q548 qs7 q100 q549 ⟨rfl, hy_X7_line⟩ (by decide) hv0 ff31 rfl rfl rfl (Nat.le_of_ble_eq_true rfl) dX7_lines_1 (fun o1 ad2 χ2 hv2 hf hc2 => ?_)
  rw [← hc2.1 31 _ hv0]
  obtain ⟨z3, rfl, hf⟩ := hf
  refine g_astore_n hX dX7_lines_4 rfl (by decide) rfl ?_
  refine g_aload_n hX 0 dX7_lines_5 rfl rfl ?_
  refine g_astore_n hX dX7_lines_6 rfl (by decide) rfl ?_
  obtain ⟨n0, hf⟩ := hf
  refine g_sub [2, 1, 0] rfl ?_
  exact B7 n0 _ _ _ _ _ ((Nat.lt_of_lt_of_le hv0 (hc2.2 31))) ((hv2 _ rfl)) ((hv2 _ rfl)) hf

def w_C_law (x1 : Int32) (χ : St) (Q : Int32 → St → Prop) : Prop := (w_C_isMark x1 χ (fun r1 χ2 => ((¬ r1 = 0 → (uC χ2 + 1 ≤ 603072) ∧ (uS χ2 + 4 ≤ 7262314) ∧ ((∀ χ3 : St, χ3 = (alo χ2 31 0 4) → (w_X7_init (nO χ2 31) χ3 (fun χ4 => (w_X7_lines (nO χ2 31) χ4 (fun o5 χ6 => (∃ z7, o5 = some z7 ∧ ((∀ χ8 : St, χ8 = (sI χ6 108 0 0 (0 : Int32)) → (((gI χ8 3201 (nO χ2 31) 0) < 0 → (vp_in x1 6) ∧ ((∀ χ10 : St, χ10 = (sR χ8 2002 x1.toNatClampNeg 0 (some z7)) → (Q (1 : Int32) χ10)))) ∧ (¬ (gI χ8 3201 (nO χ2 31) 0) < 0 → (Q ((-100 : Int32) - (gI χ8 3201 (nO χ2 31) 0)) χ8))))))))))))) ∧ (r1 = 0 → (Q (-1 : Int32) χ2)))))
set_option maxHeartbeats 4000000 in
theorem mt_C_law (l : Launch) (Γ : Gh) (ad : Nat → Nat → Nat) (x1 : Int32) (χ : St) (Q : Int32 → St → Prop) : Mt l yX0_law (ws_ yX0_law cX0_law 4 (some .int)) (rmO (92) (2023) χ) (Pm Γ ad χ [.ref (ad 0 0), .int x1] (w_C_law x1 χ Q)) (Qm Γ false ad χ (pI Q)) (frB Γ) := by
  refine Mt.start (by decide) RX0 rfl (Nat.le_of_ble_eq_true rfl) ?_
  intro X hX hG _ _ hna _ hf
  unfold w_C_law at hf
  refine g_iload_n hX 1 dX0_law_0 rfl rfl ?_
  refine g_callSi hX (n := 1) (mt_C_isMark X.l X.Γ _ _ _ _) hf q462 q463 q85 q464 hy_C_isMark (by decide) rfl rfl (Nat.le_of_ble_eq_true rfl) dX0_law_1 (fun r1 χ2 hf hc2 => ?_)
  refine g_if_ne hX 9 dX0_law_4 (by decide) (fun z => ?_) (fun z => ?_)
  · replace hf := hf.1 z
    refine g_new hX hna (c := 31) (t := 0) tyX7 rfl rfl (by decide) rfl in_X7 tyX7_ok df_X7 q522 q523 q100 hf.1 hf.2.1 dX0_law_9 (fun ad3 hE3 => ?_)
    replace hf := hf.2.2 _ rfl
    rw [← hE3.1 0 0 (fc0 _)]
    refine g_dup hX dX0_law_12 rfl ?_
    refine g_aload_n hX 0 dX0_law_13 rfl rfl ?_
    refine g_callINv hX (n := 1) (mt_X7_init X.l X.Γ _ _ _ _) ⟨(new_lt rfl), hf⟩ rfl q524 q525 q100 q526 hy_X7_init (by decide) rfl rfl (Nat.le_of_ble_eq_true rfl) dX0_law_14 (fun χ4 hf hc4 => ?_)
    refine g_astore_n hX dX0_law_17 rfl (by decide) rfl ?_
    refine g_aload_n hX 0 dX0_law_18 rfl rfl ?_
    refine g_callVAr hX hna 24 (n := 0) (mt_X7_lines X.l X.Γ _ _ _ _) ⟨(Nat.lt_of_lt_of_le (new_lt rfl) (hc4 31)), hf⟩ q542 q543 q544 q100 q545 ⟨rfl, hy_X7_lines⟩ (by decide) (Nat.lt_of_lt_of_le (new_lt rfl) (hc4 31)) ff31 rfl rfl rfl (Nat.le_of_ble_eq_true rfl) dX0_law_19 (fun o5 ad6 χ6 hv6 hf hc6 => ?_)
    rw [← hc6.1 0 0 (fc0 _)]
    rw [← hc6.1 31 _ (Nat.lt_of_lt_of_le (new_lt rfl) (hc4 31))]
    obtain ⟨z7, rfl, hf⟩ := hf
    refine g_astore_n hX dX0_law_22 rfl (by decide) rfl ?_
    refine g_aload_n hX 2 dX0_law_23 rfl rfl ?_
    refine g_iconst hX (v := (0 : Int32)) dX0_law_24 rfl ?_
    refine g_putI hX (k := 8) (fc0 _) ff0 rfl rfl in_X0 tyX0_ok nmX0 (by decide) q208 rfl rfl rfl rfl dX0_law_25 ?_
    replace hf := hf _ rfl
    refine g_aload_n hX 1 dX0_law_28 rfl rfl ?_
    refine g_getIN hX (k := 1) (Nat.lt_of_lt_of_le (Nat.lt_of_lt_of_le (new_lt rfl) (hc4 31)) (hc6.2 31)) ff31 rfl rfl in_X7 (by decide) q530 dX0_law_29 ?_
    refine g_if_lt hX 43 dX0_law_32 (by decide) (fun z => ?_) (fun z => ?_)
    · replace hf := hf.1 z
      refine g_aload_n hX 2 dX0_law_43 rfl rfl ?_
      refine g_getK hX (k := 2) (d := 3) (fc0 _) ff0 rfl (by decide) rfl rfl in_X0 (by decide) q200 dX0_law_44 ?_
      refine g_iload_n hX 3 dX0_law_47 rfl rfl ?_
      have hg9 := hf.1
      replace hf := hf.2
      refine g_aaldK hX (fc3 _) ff3 rfl hg9 dX0_law_48 ?_
      refine g_aload_n hX 0 dX0_law_49 rfl rfl ?_
      refine g_putRN hX (v := some _) (k := 2) (fc19 (vp_lt hg9)) ff19 rfl rfl in_X2 tyX2_ok nmX2 (by decide) (by decide) (by decide) rfl rfl q168 rfl rfl nar_rf fits_rf (fun x e => by cases e; exact (hv6 _ rfl)) dX0_law_50 ?_
      replace hf := hf _ rfl
      refine g_iconst hX (v := (1 : Int32)) dX0_law_53 rfl ?_
      exact g_iret hX ⟨_, rfl, hf⟩ dX0_law_54
    · replace hf := hf.2 z
      refine g_bipush hX (v := (-100 : Int32)) dX0_law_35 rfl ?_
      refine g_aload_n hX 1 dX0_law_37 rfl rfl ?_
      refine g_getIN hX (k := 1) (Nat.lt_of_lt_of_le (Nat.lt_of_lt_of_le (new_lt rfl) (hc4 31)) (hc6.2 31)) ff31 rfl rfl in_X7 (by decide) q530 dX0_law_38 ?_
      refine g_isub hX dX0_law_41 ?_
      exact g_iret hX ⟨_, rfl, hf⟩ dX0_law_42
  · replace hf := hf.2 z
    refine g_iconst hX (v := (-1 : Int32)) dX0_law_7 rfl ?_
    exact g_iret hX ⟨_, rfl, hf⟩ dX0_law_8
