set_option maxRecDepth 100000
set_option maxHeartbeats 4000000
theorem ap_l {α : Type} {l l2 : List α} {a : Nat} {x : α} (h : l[a]? = some x) : (l ++ l2)[a]? = some x := by
  rw [List.getElem?_append_left (List.getElem?_eq_some_iff.mp h).1]; exact h
theorem st_self {α : Type} {l : List α} {a : Nat} {x y : α} (h : l[a]? = some x) : (l.set a y)[a]? = some y := by
  rw [List.getElem?_set_self (List.getElem?_eq_some_iff.mp h).1]
theorem kn_o {C : String} (v : Option Nat) : narrow (.object C) (va_rf v) = va_rf v := nar_rf
theorem kn_a {t : FieldType} (v : Option Nat) : narrow (.array t) (va_rf v) = va_rf v := nar_rfa
theorem kf_o {C : String} (v : Option Nat) : fits (.object C) (va_rf v) = true := fits_rf
theorem kf_a {t : FieldType} (v : Option Nat) : fits (.array t) (va_rf v) = true := fits_rfa
theorem dk_X0 : ∀ j, j < 25 → defaultValue (tyX0 j) = vp_V [.null, .null, .null, .int 0, .null, .int 0, .int 0, .null, .int 0, .null, .null, .null, .null, .null, .long 0, .null, .null, .null, .int 0, .int 0, .int 0, .null, .null, .int 0, .null] j := fun j hj => by
  rcases (show j = 0 ∨ j = 1 ∨ j = 2 ∨ j = 3 ∨ j = 4 ∨ j = 5 ∨ j = 6 ∨ j = 7 ∨ j = 8 ∨ j = 9 ∨ j = 10 ∨ j = 11 ∨ j = 12 ∨ j = 13 ∨ j = 14 ∨ j = 15 ∨ j = 16 ∨ j = 17 ∨ j = 18 ∨ j = 19 ∨ j = 20 ∨ j = 21 ∨ j = 22 ∨ j = 23 ∨ j = 24 by omega) with rfl | rfl | rfl | rfl | rfl | rfl | rfl | rfl | rfl | rfl | rfl | rfl | rfl | rfl | rfl | rfl | rfl | rfl | rfl | rfl | rfl | rfl | rfl | rfl | rfl <;> rfl
theorem dk_X1 : ∀ j, j < 2 → defaultValue (tyX1 j) = vp_V [.int 0, .int 0] j := fun j hj => by
  rcases (show j = 0 ∨ j = 1 by omega) with rfl | rfl <;> rfl
theorem dk_X2 : ∀ j, j < 3 → defaultValue (tyX2 j) = vp_V [.int 0, .int 0, .null] j := fun j hj => by
  rcases (show j = 0 ∨ j = 1 ∨ j = 2 by omega) with rfl | rfl | rfl <;> rfl
theorem dk_X3 : ∀ j, j < 1 → defaultValue (tyX3 j) = vp_V [.null] j := fun j hj => by
  rcases (show j = 0 by omega) with rfl <;> rfl
theorem dk_X4 : ∀ j, j < 44 → defaultValue (tyX4 j) = vp_V [.null, .null, .null, .null, .int 0, .int 0, .int 0, .null, .null, .null, .null, .int 0, .null, .null, .int 0, .int 0, .int 0, .int 0, .int 0, .null, .null, .null, .null, .null, .long 0, .null, .null, .int 0, .null, .null, .null, .null, .int 0, .int 0, .int 0, .null, .null, .int 0, .int 0, .int 0, .null, .null, .null, .null] j := fun j hj => by
  rcases (show j = 0 ∨ j = 1 ∨ j = 2 ∨ j = 3 ∨ j = 4 ∨ j = 5 ∨ j = 6 ∨ j = 7 ∨ j = 8 ∨ j = 9 ∨ j = 10 ∨ j = 11 ∨ j = 12 ∨ j = 13 ∨ j = 14 ∨ j = 15 ∨ j = 16 ∨ j = 17 ∨ j = 18 ∨ j = 19 ∨ j = 20 ∨ j = 21 ∨ j = 22 ∨ j = 23 ∨ j = 24 ∨ j = 25 ∨ j = 26 ∨ j = 27 ∨ j = 28 ∨ j = 29 ∨ j = 30 ∨ j = 31 ∨ j = 32 ∨ j = 33 ∨ j = 34 ∨ j = 35 ∨ j = 36 ∨ j = 37 ∨ j = 38 ∨ j = 39 ∨ j = 40 ∨ j = 41 ∨ j = 42 ∨ j = 43 by omega) with rfl | rfl | rfl | rfl | rfl | rfl | rfl | rfl | rfl | rfl | rfl | rfl | rfl | rfl | rfl | rfl | rfl | rfl | rfl | rfl | rfl | rfl | rfl | rfl | rfl | rfl | rfl | rfl | rfl | rfl | rfl | rfl | rfl | rfl | rfl | rfl | rfl | rfl | rfl | rfl | rfl | rfl | rfl | rfl <;> rfl
theorem hk_X1_init : yX1_init.cls ≠ "java/lang/invoke/MethodHandle" ∧ yX1_init.cls ≠ "java/lang/invoke/VarHandle" ∧ (parseMethodDescriptor yX1_init.desc).map (fun d => d.parameters.length) = some 0 := by decide +kernel
theorem hk_X2_init : yX2_init.cls ≠ "java/lang/invoke/MethodHandle" ∧ yX2_init.cls ≠ "java/lang/invoke/VarHandle" ∧ (parseMethodDescriptor yX2_init.desc).map (fun d => d.parameters.length) = some 0 := by decide +kernel
theorem hk_X3_init : yX3_init.cls ≠ "java/lang/invoke/MethodHandle" ∧ yX3_init.cls ≠ "java/lang/invoke/VarHandle" ∧ (parseMethodDescriptor yX3_init.desc).map (fun d => d.parameters.length) = some 0 := by decide +kernel
theorem hk_C_init : yX0_init.cls ≠ "java/lang/invoke/MethodHandle" ∧ yX0_init.cls ≠ "java/lang/invoke/VarHandle" ∧ (parseMethodDescriptor yX0_init.desc).map (fun d => d.parameters.length) = some 0 := by decide +kernel
theorem hk_M_init : yX4_init.cls ≠ "java/lang/invoke/MethodHandle" ∧ yX4_init.cls ≠ "java/lang/invoke/VarHandle" ∧ (parseMethodDescriptor yX4_init.desc).map (fun d => d.parameters.length) = some 0 := by decide +kernel
theorem mk_X1_init (l : Launch) (Γ : Gh) (cs : List va_E) (a w : Nat) (ha : cs[a]? = some (.inr (1, [.int 0, .int 0]))) : Mt l yX1_init (ws_ yX1_init cX1_init 1 none) (rmO 1 20 (χk cs.length w)) (Pk Γ cs [.ref (Γ.1 + a)]) (Qk Γ cs.length w (cs.set a (.inr (1, [.int 1, .int 0]))) (w + 0)) (frB Γ) := by
  refine Mt.startK (by decide) RX1 rfl (Nat.le_of_ble_eq_true rfl) ?_
  intro X hX hQ hG h0 _
  subst hG
  refine k_aload_n hX 0 dX1_init_0 rfl rfl ?_
  refine k_objInit hX q148 q138 q139 (by decide) (Nat.le_of_ble_eq_true rfl) dX1_init_1 ?_
  refine k_aload_n hX 0 dX1_init_4 rfl rfl ?_
  refine k_iconst hX (v := (1 : Int32)) dX1_init_5 rfl ?_
  refine k_put hX (k := 0) ha (by decide) rfl in_X1 tyX1_ok nmX1 (by decide) q149 rfl rfl rfl rfl dX1_init_6 ?_
  exact k_vret hX hQ h0 dX1_init_9
theorem mk_X2_init (l : Launch) (Γ : Gh) (cs : List va_E) (a w : Nat) (ha : cs[a]? = some (.inr (2, [.int 0, .int 0, .null]))) : Mt l yX2_init (ws_ yX2_init cX2_init 1 none) (rmO 1 20 (χk cs.length w)) (Pk Γ cs [.ref (Γ.1 + a)]) (Qk Γ cs.length w (cs.set a (.inr (2, [.int 1, .int 10, .null]))) (w + 0)) (frB Γ) := by
  refine Mt.startK (by decide) RX2 rfl (Nat.le_of_ble_eq_true rfl) ?_
  intro X hX hQ hG h0 _
  subst hG
  refine k_aload_n hX 0 dX2_init_0 rfl rfl ?_
  refine k_objInit hX q163 q138 q139 (by decide) (Nat.le_of_ble_eq_true rfl) dX2_init_1 ?_
  refine k_aload_n hX 0 dX2_init_4 rfl rfl ?_
  refine k_iconst hX (v := (1 : Int32)) dX2_init_5 rfl ?_
  refine k_put hX (k := 0) ha (by decide) rfl in_X2 tyX2_ok nmX2 (by decide) q164 rfl rfl rfl rfl dX2_init_6 ?_
  refine k_aload_n hX 0 dX2_init_9 rfl rfl ?_
  refine k_bipush hX (v := (10 : Int32)) dX2_init_10 rfl ?_
  refine k_put hX (k := 1) (st_self ha) (by decide) rfl in_X2 tyX2_ok nmX2 (by decide) q166 rfl rfl rfl rfl dX2_init_12 ?_
  rw [List.set_set]
  exact k_vret hX hQ h0 dX2_init_15
theorem mk_X3_init (l : Launch) (Γ : Gh) (cs : List va_E) (a w : Nat) (ha : cs[a]? = some (.inr (3, [.null]))) (hu : cs.length + 1 ≤ 603072) (hs : w + 128 ≤ 7262314) : Mt l yX3_init (ws_ yX3_init cX3_init 1 none) (rmO 1 20 (χk cs.length w)) (Pk Γ cs [.ref (Γ.1 + a)]) (Qk Γ cs.length w ((cs ++ [.inl (Γ.2.2.2 0, 128, .inl (fun _ => 0))]).set a (.inr (3, [.ref (Γ.1 + cs.length)]))) (w + 128)) (frB Γ) := by
  refine Mt.startK (by decide) RX3 rfl (Nat.le_of_ble_eq_true rfl) ?_
  intro X hX hQ hG h0 _
  subst hG
  refine k_aload_n hX 0 dX3_init_0 rfl rfl ?_
  refine k_objInit hX q183 q138 q139 (by decide) (Nat.le_of_ble_eq_true rfl) dX3_init_1 ?_
  refine k_aload_n hX 0 dX3_init_4 rfl rfl ?_
  refine k_sipush hX (v := (128 : Int32)) dX3_init_5 rfl ?_
  refine k_newI hX (e := 0) (L := 128) (n := cs.length) (tyy := .int) rfl rfl rfl (fun _ _ z => z) (by decide) rfl rfl q191 (by decide) hu hs dX3_init_8 ?_
  refine k_putF hX rfl (k := 0) (ap_l ha) (by decide) rfl in_X3 tyX3_ok nmX3 (by decide) q184 rfl rfl rfl (kn_a (some _)) (kf_a (some _)) dX3_init_10 ?_
  exact k_vret hX hQ h0 dX3_init_13
abbrev cs0_C_init (Γ : Gh) : List va_E := [.inr (0, [.null, .null, .null, .int 0, .null, .int 0, .int 0, .null, .int 0, .null, .null, .null, .null, .null, .long 0, .null, .null, .null, .int 0, .int 0, .int 0, .null, .null, .int 0, .null])]
abbrev csC (Γ : Gh) : List va_E := [.inr (0, [.ref (Γ.1 + 1), .ref (Γ.1 + 2), .ref (Γ.1 + 9), .int 0, .ref (Γ.1 + 16), .int 0, .int 0, .ref (Γ.1 + 17), .int 0, .ref (Γ.1 + 18), .ref (Γ.1 + 20), .ref (Γ.1 + 21), .ref (Γ.1 + 22), .ref (Γ.1 + 23), .long 0, .ref (Γ.1 + 24), .ref (Γ.1 + 25), .ref (Γ.1 + 26), .int 0, .int (-1), .int 0, .ref (Γ.1 + 27), .ref (Γ.1 + 28), .int 0, .ref (Γ.1 + 29)]), .inl (Γ.2.2.2 5, 8, .inr (.inr (.inr (.inr (fun _ => none))))), .inl (Γ.2.2.2 6, 6, .inr (.inr (.inr (.inr (va_up (va_up (va_up (va_up (va_up (va_up (fun _ => none) 0 (some (Γ.1 + 3))) 1 (some (Γ.1 + 4))) 2 (some (Γ.1 + 5))) 3 (some (Γ.1 + 6))) 4 (some (Γ.1 + 7))) 5 (some (Γ.1 + 8))))))), .inr (1, [.int 1, .int 0]), .inr (1, [.int 1, .int 0]), .inr (1, [.int 1, .int 0]), .inr (1, [.int 1, .int 0]), .inr (1, [.int 1, .int 0]), .inr (1, [.int 1, .int 0]), .inl (Γ.2.2.2 7, 6, .inr (.inr (.inr (.inr (va_up (va_up (va_up (va_up (va_up (va_up (fun _ => none) 0 (some (Γ.1 + 10))) 1 (some (Γ.1 + 11))) 2 (some (Γ.1 + 12))) 3 (some (Γ.1 + 13))) 4 (some (Γ.1 + 14))) 5 (some (Γ.1 + 15))))))), .inr (2, [.int 1, .int 10, .null]), .inr (2, [.int 1, .int 10, .null]), .inr (2, [.int 1, .int 10, .null]), .inr (2, [.int 1, .int 10, .null]), .inr (2, [.int 1, .int 10, .null]), .inr (2, [.int 1, .int 10, .null]), .inl (Γ.2.2.2 8, 40, .inr (.inr (.inr (.inr (fun _ => none))))), .inl (Γ.2.2.2 1, 120, .inl (fun _ => 0)), .inr (3, [.ref (Γ.1 + 19)]), .inl (Γ.2.2.2 0, 128, .inl (fun _ => 0)), .inl (Γ.2.2.2 0, 1080, .inl (fun _ => 0)), .inl (Γ.2.2.2 3, 180, .inr (.inl (fun _ => 0))), .inl (Γ.2.2.2 3, 6, .inr (.inl (fun _ => 0))), .inl (Γ.2.2.2 1, 6, .inl (fun _ => 0)), .inl (Γ.2.2.2 0, 8, .inl (fun _ => 0)), .inl (Γ.2.2.2 0, 8, .inl (fun _ => 0)), .inl (Γ.2.2.2 9, 10, .inr (.inr (.inr (.inr (fun _ => none))))), .inl (Γ.2.2.2 1, 24, .inl (fun _ => 0)), .inl (Γ.2.2.2 10, 50, .inr (.inr (.inr (.inr (fun _ => none))))), .inl (Γ.2.2.2 11, 6, .inr (.inr (.inr (.inr (fun _ => none)))))]
theorem mk_C_init (l : Launch) (Γ : Gh) : Mt l yX0_init (ws_ yX0_init cX0_init 1 none) (rmO 2 40 (χk 1 25)) (Pk Γ (cs0_C_init Γ) [.ref (Γ.1 + 0)]) (Qk Γ 1 25 (csC Γ) 1742) (frB Γ) := by
  refine Mt.startK (cs := cs0_C_init Γ) (cs' := csC Γ) (w := 25) (w' := 1742) (by decide) RX0 rfl (Nat.le_of_ble_eq_true rfl) ?_
  intro X hX hQ hG h0 _
  subst hG
  refine k_aload_n hX 0 dX0_init_0 rfl rfl ?_
  refine k_objInit hX q137 q138 q139 (by decide) (Nat.le_of_ble_eq_true rfl) dX0_init_1 ?_
  refine k_aload_n hX 0 dX0_init_4 rfl rfl ?_
  refine k_bipush hX (v := (8 : Int32)) dX0_init_5 rfl ?_
  refine k_newA hX (e := 5) (L := 8) (n := 1) rfl rfl rfl q140 q141 (by decide) (by decide) (by decide) dX0_init_7 ?_
  refine k_putF hX rfl (k := 0) rfl (by decide) rfl in_X0 tyX0_ok nmX0 (by decide) q198 rfl rfl rfl (kn_a (some _)) (kf_a (some _)) dX0_init_10 ?_
  refine k_aload_n hX 0 dX0_init_13 rfl rfl ?_
  refine k_bipush hX (v := (6 : Int32)) dX0_init_14 rfl ?_
  refine k_newA hX (e := 6) (L := 6) (n := 2) rfl rfl rfl q142 q143 (by decide) (by decide) (by decide) dX0_init_16 ?_
  refine k_dup hX dX0_init_19 rfl ?_
  refine k_iconst hX (v := (0 : Int32)) dX0_init_20 rfl ?_
  refine k_new hX (ci := 1) (fs := [.int 0, .int 0]) (n := 3) tyX1 rfl rfl in_X1 tyX1_ok dk_X1 q142 q144 q86 (by decide) (by decide) dX0_init_21 ?_
  refine k_dup hX dX0_init_24 rfl ?_
  refine k_callIN hX (a := 3) (mk_X1_init X.l X.Γ _ 3 _ rfl) rfl q145 q146 q86 q147 hk_X1_init (by decide) (by decide) (by decide) (Nat.le_of_ble_eq_true rfl) dX0_init_25 ?_
  refine k_aast hX (a := 2) (z := 3) rfl rfl (by decide) rfl rfl (AsOk.self hX rfl) dX0_init_28 ?_
  refine k_dup hX dX0_init_29 rfl ?_
  refine k_iconst hX (v := (1 : Int32)) dX0_init_30 rfl ?_
  refine k_new hX (ci := 1) (fs := [.int 0, .int 0]) (n := 4) tyX1 rfl rfl in_X1 tyX1_ok dk_X1 q142 q144 q86 (by decide) (by decide) dX0_init_31 ?_
  refine k_dup hX dX0_init_34 rfl ?_
  refine k_callIN hX (a := 4) (mk_X1_init X.l X.Γ _ 4 _ rfl) rfl q145 q146 q86 q147 hk_X1_init (by decide) (by decide) (by decide) (Nat.le_of_ble_eq_true rfl) dX0_init_35 ?_
  refine k_aast hX (a := 2) (z := 4) rfl rfl (by decide) rfl rfl (AsOk.self hX rfl) dX0_init_38 ?_
  refine k_dup hX dX0_init_39 rfl ?_
  refine k_iconst hX (v := (2 : Int32)) dX0_init_40 rfl ?_
  refine k_new hX (ci := 1) (fs := [.int 0, .int 0]) (n := 5) tyX1 rfl rfl in_X1 tyX1_ok dk_X1 q142 q144 q86 (by decide) (by decide) dX0_init_41 ?_
  refine k_dup hX dX0_init_44 rfl ?_
  refine k_callIN hX (a := 5) (mk_X1_init X.l X.Γ _ 5 _ rfl) rfl q145 q146 q86 q147 hk_X1_init (by decide) (by decide) (by decide) (Nat.le_of_ble_eq_true rfl) dX0_init_45 ?_
  refine k_aast hX (a := 2) (z := 5) rfl rfl (by decide) rfl rfl (AsOk.self hX rfl) dX0_init_48 ?_
  refine k_dup hX dX0_init_49 rfl ?_
  refine k_iconst hX (v := (3 : Int32)) dX0_init_50 rfl ?_
  refine k_new hX (ci := 1) (fs := [.int 0, .int 0]) (n := 6) tyX1 rfl rfl in_X1 tyX1_ok dk_X1 q142 q144 q86 (by decide) (by decide) dX0_init_51 ?_
  refine k_dup hX dX0_init_54 rfl ?_
  refine k_callIN hX (a := 6) (mk_X1_init X.l X.Γ _ 6 _ rfl) rfl q145 q146 q86 q147 hk_X1_init (by decide) (by decide) (by decide) (Nat.le_of_ble_eq_true rfl) dX0_init_55 ?_
  refine k_aast hX (a := 2) (z := 6) rfl rfl (by decide) rfl rfl (AsOk.self hX rfl) dX0_init_58 ?_
  refine k_dup hX dX0_init_59 rfl ?_
  refine k_iconst hX (v := (4 : Int32)) dX0_init_60 rfl ?_
  refine k_new hX (ci := 1) (fs := [.int 0, .int 0]) (n := 7) tyX1 rfl rfl in_X1 tyX1_ok dk_X1 q142 q144 q86 (by decide) (by decide) dX0_init_61 ?_
  refine k_dup hX dX0_init_64 rfl ?_
  refine k_callIN hX (a := 7) (mk_X1_init X.l X.Γ _ 7 _ rfl) rfl q145 q146 q86 q147 hk_X1_init (by decide) (by decide) (by decide) (Nat.le_of_ble_eq_true rfl) dX0_init_65 ?_
  refine k_aast hX (a := 2) (z := 7) rfl rfl (by decide) rfl rfl (AsOk.self hX rfl) dX0_init_68 ?_
  refine k_dup hX dX0_init_69 rfl ?_
  refine k_iconst hX (v := (5 : Int32)) dX0_init_70 rfl ?_
  refine k_new hX (ci := 1) (fs := [.int 0, .int 0]) (n := 8) tyX1 rfl rfl in_X1 tyX1_ok dk_X1 q142 q144 q86 (by decide) (by decide) dX0_init_71 ?_
  refine k_dup hX dX0_init_74 rfl ?_
  refine k_callIN hX (a := 8) (mk_X1_init X.l X.Γ _ 8 _ rfl) rfl q145 q146 q86 q147 hk_X1_init (by decide) (by decide) (by decide) (Nat.le_of_ble_eq_true rfl) dX0_init_75 ?_
  refine k_aast hX (a := 2) (z := 8) rfl rfl (by decide) rfl rfl (AsOk.self hX rfl) dX0_init_78 ?_
  refine k_putF hX rfl (k := 1) rfl (by decide) rfl in_X0 tyX0_ok nmX0 (by decide) q199 rfl rfl rfl (kn_a (some _)) (kf_a (some _)) dX0_init_79 ?_
  refine k_aload_n hX 0 dX0_init_82 rfl rfl ?_
  refine k_bipush hX (v := (6 : Int32)) dX0_init_83 rfl ?_
  refine k_newA hX (e := 7) (L := 6) (n := 9) rfl rfl rfl q157 q158 (by decide) (by decide) (by decide) dX0_init_85 ?_
  refine k_dup hX dX0_init_88 rfl ?_
  refine k_iconst hX (v := (0 : Int32)) dX0_init_89 rfl ?_
  refine k_new hX (ci := 2) (fs := [.int 0, .int 0, .null]) (n := 10) tyX2 rfl rfl in_X2 tyX2_ok dk_X2 q157 q159 q87 (by decide) (by decide) dX0_init_90 ?_
  refine k_dup hX dX0_init_93 rfl ?_
  refine k_callIN hX (a := 10) (mk_X2_init X.l X.Γ _ 10 _ rfl) rfl q160 q161 q87 q162 hk_X2_init (by decide) (by decide) (by decide) (Nat.le_of_ble_eq_true rfl) dX0_init_94 ?_
  refine k_aast hX (a := 9) (z := 10) rfl rfl (by decide) rfl rfl (AsOk.self hX rfl) dX0_init_97 ?_
  refine k_dup hX dX0_init_98 rfl ?_
  refine k_iconst hX (v := (1 : Int32)) dX0_init_99 rfl ?_
  refine k_new hX (ci := 2) (fs := [.int 0, .int 0, .null]) (n := 11) tyX2 rfl rfl in_X2 tyX2_ok dk_X2 q157 q159 q87 (by decide) (by decide) dX0_init_100 ?_
  refine k_dup hX dX0_init_103 rfl ?_
  refine k_callIN hX (a := 11) (mk_X2_init X.l X.Γ _ 11 _ rfl) rfl q160 q161 q87 q162 hk_X2_init (by decide) (by decide) (by decide) (Nat.le_of_ble_eq_true rfl) dX0_init_104 ?_
  refine k_aast hX (a := 9) (z := 11) rfl rfl (by decide) rfl rfl (AsOk.self hX rfl) dX0_init_107 ?_
  refine k_dup hX dX0_init_108 rfl ?_
  refine k_iconst hX (v := (2 : Int32)) dX0_init_109 rfl ?_
  refine k_new hX (ci := 2) (fs := [.int 0, .int 0, .null]) (n := 12) tyX2 rfl rfl in_X2 tyX2_ok dk_X2 q157 q159 q87 (by decide) (by decide) dX0_init_110 ?_
  refine k_dup hX dX0_init_113 rfl ?_
  refine k_callIN hX (a := 12) (mk_X2_init X.l X.Γ _ 12 _ rfl) rfl q160 q161 q87 q162 hk_X2_init (by decide) (by decide) (by decide) (Nat.le_of_ble_eq_true rfl) dX0_init_114 ?_
  refine k_aast hX (a := 9) (z := 12) rfl rfl (by decide) rfl rfl (AsOk.self hX rfl) dX0_init_117 ?_
  refine k_dup hX dX0_init_118 rfl ?_
  refine k_iconst hX (v := (3 : Int32)) dX0_init_119 rfl ?_
  refine k_new hX (ci := 2) (fs := [.int 0, .int 0, .null]) (n := 13) tyX2 rfl rfl in_X2 tyX2_ok dk_X2 q157 q159 q87 (by decide) (by decide) dX0_init_120 ?_
  refine k_dup hX dX0_init_123 rfl ?_
  refine k_callIN hX (a := 13) (mk_X2_init X.l X.Γ _ 13 _ rfl) rfl q160 q161 q87 q162 hk_X2_init (by decide) (by decide) (by decide) (Nat.le_of_ble_eq_true rfl) dX0_init_124 ?_
  refine k_aast hX (a := 9) (z := 13) rfl rfl (by decide) rfl rfl (AsOk.self hX rfl) dX0_init_127 ?_
  refine k_dup hX dX0_init_128 rfl ?_
  refine k_iconst hX (v := (4 : Int32)) dX0_init_129 rfl ?_
  refine k_new hX (ci := 2) (fs := [.int 0, .int 0, .null]) (n := 14) tyX2 rfl rfl in_X2 tyX2_ok dk_X2 q157 q159 q87 (by decide) (by decide) dX0_init_130 ?_
  refine k_dup hX dX0_init_133 rfl ?_
  refine k_callIN hX (a := 14) (mk_X2_init X.l X.Γ _ 14 _ rfl) rfl q160 q161 q87 q162 hk_X2_init (by decide) (by decide) (by decide) (Nat.le_of_ble_eq_true rfl) dX0_init_134 ?_
  refine k_aast hX (a := 9) (z := 14) rfl rfl (by decide) rfl rfl (AsOk.self hX rfl) dX0_init_137 ?_
  refine k_dup hX dX0_init_138 rfl ?_
  refine k_iconst hX (v := (5 : Int32)) dX0_init_139 rfl ?_
  refine k_new hX (ci := 2) (fs := [.int 0, .int 0, .null]) (n := 15) tyX2 rfl rfl in_X2 tyX2_ok dk_X2 q157 q159 q87 (by decide) (by decide) dX0_init_140 ?_
  refine k_dup hX dX0_init_143 rfl ?_
  refine k_callIN hX (a := 15) (mk_X2_init X.l X.Γ _ 15 _ rfl) rfl q160 q161 q87 q162 hk_X2_init (by decide) (by decide) (by decide) (Nat.le_of_ble_eq_true rfl) dX0_init_144 ?_
  refine k_aast hX (a := 9) (z := 15) rfl rfl (by decide) rfl rfl (AsOk.self hX rfl) dX0_init_147 ?_
  refine k_putF hX rfl (k := 2) rfl (by decide) rfl in_X0 tyX0_ok nmX0 (by decide) q200 rfl rfl rfl (kn_a (some _)) (kf_a (some _)) dX0_init_148 ?_
  refine k_aload_n hX 0 dX0_init_151 rfl rfl ?_
  refine k_bipush hX (v := (40 : Int32)) dX0_init_152 rfl ?_
  refine k_newA hX (e := 8) (L := 40) (n := 16) rfl rfl rfl q176 q177 (by decide) (by decide) (by decide) dX0_init_154 ?_
  refine k_putF hX rfl (k := 4) rfl (by decide) rfl in_X0 tyX0_ok nmX0 (by decide) q202 rfl rfl rfl (kn_a (some _)) (kf_a (some _)) dX0_init_157 ?_
  refine k_aload_n hX 0 dX0_init_160 rfl rfl ?_
  refine k_bipush hX (v := (120 : Int32)) dX0_init_161 rfl ?_
  refine k_newI hX (e := 1) (L := 120) (n := 17) (tyy := .byte) rfl rfl rfl (fun _ _ z => z) (by decide) rfl rfl q190 (by decide) (by decide) (by decide) dX0_init_163 ?_
  refine k_putF hX rfl (k := 7) rfl (by decide) rfl in_X0 tyX0_ok nmX0 (by decide) q205 rfl rfl rfl (kn_a (some _)) (kf_a (some _)) dX0_init_165 ?_
  refine k_aload_n hX 0 dX0_init_168 rfl rfl ?_
  refine k_new hX (ci := 3) (fs := [.null]) (n := 18) tyX3 rfl rfl in_X3 tyX3_ok dk_X3 q178 q179 q88 (by decide) (by decide) dX0_init_169 ?_
  refine k_dup hX dX0_init_172 rfl ?_
  refine k_callIN hX (a := 18) (mk_X3_init X.l X.Γ _ 18 _ rfl (by decide) (by decide)) rfl q180 q181 q88 q182 hk_X3_init (by decide) (by decide) (by decide) (Nat.le_of_ble_eq_true rfl) dX0_init_173 ?_
  refine k_putF hX rfl (k := 9) rfl (by decide) rfl in_X0 tyX0_ok nmX0 (by decide) q209 rfl rfl rfl (kn_o (some _)) (kf_o (some _)) dX0_init_176 ?_
  refine k_aload_n hX 0 dX0_init_179 rfl rfl ?_
  refine k_sipush hX (v := (1080 : Int32)) dX0_init_180 rfl ?_
  refine k_newI hX (e := 0) (L := 1080) (n := 20) (tyy := .int) rfl rfl rfl (fun _ _ z => z) (by decide) rfl rfl q191 (by decide) (by decide) (by decide) dX0_init_183 ?_
  refine k_putF hX rfl (k := 10) rfl (by decide) rfl in_X0 tyX0_ok nmX0 (by decide) q210 rfl rfl rfl (kn_a (some _)) (kf_a (some _)) dX0_init_185 ?_
  refine k_aload_n hX 0 dX0_init_188 rfl rfl ?_
  refine k_sipush hX (v := (180 : Int32)) dX0_init_189 rfl ?_
  refine k_newL hX (e := 3) (L := 180) (n := 21) (tyy := .long) rfl rfl rfl (fun _ _ z => z) (by decide) rfl rfl q276 (by decide) (by decide) (by decide) dX0_init_192 ?_
  refine k_putF hX rfl (k := 11) rfl (by decide) rfl in_X0 tyX0_ok nmX0 (by decide) q211 rfl rfl rfl (kn_a (some _)) (kf_a (some _)) dX0_init_194 ?_
  refine k_aload_n hX 0 dX0_init_197 rfl rfl ?_
  refine k_bipush hX (v := (6 : Int32)) dX0_init_198 rfl ?_
  refine k_newL hX (e := 3) (L := 6) (n := 22) (tyy := .long) rfl rfl rfl (fun _ _ z => z) (by decide) rfl rfl q276 (by decide) (by decide) (by decide) dX0_init_200 ?_
  refine k_putF hX rfl (k := 12) rfl (by decide) rfl in_X0 tyX0_ok nmX0 (by decide) q212 rfl rfl rfl (kn_a (some _)) (kf_a (some _)) dX0_init_202 ?_
  refine k_aload_n hX 0 dX0_init_205 rfl rfl ?_
  refine k_bipush hX (v := (6 : Int32)) dX0_init_206 rfl ?_
  refine k_newI hX (e := 1) (L := 6) (n := 23) (tyy := .byte) rfl rfl rfl (fun _ _ z => z) (by decide) rfl rfl q190 (by decide) (by decide) (by decide) dX0_init_208 ?_
  refine k_putF hX rfl (k := 13) rfl (by decide) rfl in_X0 tyX0_ok nmX0 (by decide) q213 rfl rfl rfl (kn_a (some _)) (kf_a (some _)) dX0_init_210 ?_
  refine k_aload_n hX 0 dX0_init_213 rfl rfl ?_
  refine k_bipush hX (v := (8 : Int32)) dX0_init_214 rfl ?_
  refine k_newI hX (e := 0) (L := 8) (n := 24) (tyy := .int) rfl rfl rfl (fun _ _ z => z) (by decide) rfl rfl q191 (by decide) (by decide) (by decide) dX0_init_216 ?_
  refine k_putF hX rfl (k := 15) rfl (by decide) rfl in_X0 tyX0_ok nmX0 (by decide) q215 rfl rfl rfl (kn_a (some _)) (kf_a (some _)) dX0_init_218 ?_
  refine k_aload_n hX 0 dX0_init_221 rfl rfl ?_
  refine k_bipush hX (v := (8 : Int32)) dX0_init_222 rfl ?_
  refine k_newI hX (e := 0) (L := 8) (n := 25) (tyy := .int) rfl rfl rfl (fun _ _ z => z) (by decide) rfl rfl q191 (by decide) (by decide) (by decide) dX0_init_224 ?_
  refine k_putF hX rfl (k := 16) rfl (by decide) rfl in_X0 tyX0_ok nmX0 (by decide) q216 rfl rfl rfl (kn_a (some _)) (kf_a (some _)) dX0_init_226 ?_
  refine k_aload_n hX 0 dX0_init_229 rfl rfl ?_
  refine k_bipush hX (v := (10 : Int32)) dX0_init_230 rfl ?_
  refine k_newA hX (e := 9) (L := 10) (n := 26) rfl rfl rfl q192 q193 (by decide) (by decide) (by decide) dX0_init_232 ?_
  refine k_putF hX rfl (k := 17) rfl (by decide) rfl in_X0 tyX0_ok nmX0 (by decide) q217 rfl rfl rfl (kn_a (some _)) (kf_a (some _)) dX0_init_235 ?_
  refine k_aload_n hX 0 dX0_init_238 rfl rfl ?_
  refine k_iconst hX (v := (-1 : Int32)) dX0_init_239 rfl ?_
  refine k_put hX (k := 19) rfl (by decide) rfl in_X0 tyX0_ok nmX0 (by decide) q219 rfl rfl rfl rfl dX0_init_240 ?_
  refine k_aload_n hX 0 dX0_init_243 rfl rfl ?_
  refine k_bipush hX (v := (24 : Int32)) dX0_init_244 rfl ?_
  refine k_newI hX (e := 1) (L := 24) (n := 27) (tyy := .byte) rfl rfl rfl (fun _ _ z => z) (by decide) rfl rfl q190 (by decide) (by decide) (by decide) dX0_init_246 ?_
  refine k_putF hX rfl (k := 21) rfl (by decide) rfl in_X0 tyX0_ok nmX0 (by decide) q221 rfl rfl rfl (kn_a (some _)) (kf_a (some _)) dX0_init_248 ?_
  refine k_aload_n hX 0 dX0_init_251 rfl rfl ?_
  refine k_bipush hX (v := (50 : Int32)) dX0_init_252 rfl ?_
  refine k_newA hX (e := 10) (L := 50) (n := 28) rfl rfl rfl q194 q195 (by decide) (by decide) (by decide) dX0_init_254 ?_
  refine k_putF hX rfl (k := 22) rfl (by decide) rfl in_X0 tyX0_ok nmX0 (by decide) q222 rfl rfl rfl (kn_a (some _)) (kf_a (some _)) dX0_init_257 ?_
  refine k_aload_n hX 0 dX0_init_260 rfl rfl ?_
  refine k_bipush hX (v := (6 : Int32)) dX0_init_261 rfl ?_
  refine k_newA hX (e := 11) (L := 6) (n := 29) rfl rfl rfl q196 q197 (by decide) (by decide) (by decide) dX0_init_263 ?_
  refine k_putF hX rfl (k := 24) rfl (by decide) rfl in_X0 tyX0_ok nmX0 (by decide) q224 rfl rfl rfl (kn_a (some _)) (kf_a (some _)) dX0_init_266 ?_
  exact k_vret hX hQ h0 dX0_init_269
abbrev cs0_M_init (Γ : Gh) : List va_E := [.inr (0, [.ref (Γ.1 + 1), .ref (Γ.1 + 2), .ref (Γ.1 + 9), .int 0, .ref (Γ.1 + 16), .int 0, .int 0, .ref (Γ.1 + 17), .int 0, .ref (Γ.1 + 18), .ref (Γ.1 + 20), .ref (Γ.1 + 21), .ref (Γ.1 + 22), .ref (Γ.1 + 23), .long 0, .ref (Γ.1 + 24), .ref (Γ.1 + 25), .ref (Γ.1 + 26), .int 0, .int (-1), .int 0, .ref (Γ.1 + 27), .ref (Γ.1 + 28), .int 0, .ref (Γ.1 + 29)]), .inl (Γ.2.2.2 5, 8, .inr (.inr (.inr (.inr (fun _ => none))))), .inl (Γ.2.2.2 6, 6, .inr (.inr (.inr (.inr (va_up (va_up (va_up (va_up (va_up (va_up (fun _ => none) 0 (some (Γ.1 + 3))) 1 (some (Γ.1 + 4))) 2 (some (Γ.1 + 5))) 3 (some (Γ.1 + 6))) 4 (some (Γ.1 + 7))) 5 (some (Γ.1 + 8))))))), .inr (1, [.int 1, .int 0]), .inr (1, [.int 1, .int 0]), .inr (1, [.int 1, .int 0]), .inr (1, [.int 1, .int 0]), .inr (1, [.int 1, .int 0]), .inr (1, [.int 1, .int 0]), .inl (Γ.2.2.2 7, 6, .inr (.inr (.inr (.inr (va_up (va_up (va_up (va_up (va_up (va_up (fun _ => none) 0 (some (Γ.1 + 10))) 1 (some (Γ.1 + 11))) 2 (some (Γ.1 + 12))) 3 (some (Γ.1 + 13))) 4 (some (Γ.1 + 14))) 5 (some (Γ.1 + 15))))))), .inr (2, [.int 1, .int 10, .null]), .inr (2, [.int 1, .int 10, .null]), .inr (2, [.int 1, .int 10, .null]), .inr (2, [.int 1, .int 10, .null]), .inr (2, [.int 1, .int 10, .null]), .inr (2, [.int 1, .int 10, .null]), .inl (Γ.2.2.2 8, 40, .inr (.inr (.inr (.inr (fun _ => none))))), .inl (Γ.2.2.2 1, 120, .inl (fun _ => 0)), .inr (3, [.ref (Γ.1 + 19)]), .inl (Γ.2.2.2 0, 128, .inl (fun _ => 0)), .inl (Γ.2.2.2 0, 1080, .inl (fun _ => 0)), .inl (Γ.2.2.2 3, 180, .inr (.inl (fun _ => 0))), .inl (Γ.2.2.2 3, 6, .inr (.inl (fun _ => 0))), .inl (Γ.2.2.2 1, 6, .inl (fun _ => 0)), .inl (Γ.2.2.2 0, 8, .inl (fun _ => 0)), .inl (Γ.2.2.2 0, 8, .inl (fun _ => 0)), .inl (Γ.2.2.2 9, 10, .inr (.inr (.inr (.inr (fun _ => none))))), .inl (Γ.2.2.2 1, 24, .inl (fun _ => 0)), .inl (Γ.2.2.2 10, 50, .inr (.inr (.inr (.inr (fun _ => none))))), .inl (Γ.2.2.2 11, 6, .inr (.inr (.inr (.inr (fun _ => none))))), .inr (4, [.null, .null, .null, .null, .int 0, .int 0, .int 0, .null, .null, .null, .null, .int 0, .null, .null, .int 0, .int 0, .int 0, .int 0, .int 0, .null, .null, .null, .null, .null, .long 0, .null, .null, .int 0, .null, .null, .null, .null, .int 0, .int 0, .int 0, .null, .null, .int 0, .int 0, .int 0, .null, .null, .null, .null])]
abbrev csM (Γ : Gh) : List va_E := [.inr (0, [.ref (Γ.1 + 1), .ref (Γ.1 + 2), .ref (Γ.1 + 9), .int 0, .ref (Γ.1 + 16), .int 0, .int 0, .ref (Γ.1 + 17), .int 0, .ref (Γ.1 + 18), .ref (Γ.1 + 20), .ref (Γ.1 + 21), .ref (Γ.1 + 22), .ref (Γ.1 + 23), .long 0, .ref (Γ.1 + 24), .ref (Γ.1 + 25), .ref (Γ.1 + 26), .int 0, .int (-1), .int 0, .ref (Γ.1 + 27), .ref (Γ.1 + 28), .int 0, .ref (Γ.1 + 29)]), .inl (Γ.2.2.2 5, 8, .inr (.inr (.inr (.inr (fun _ => none))))), .inl (Γ.2.2.2 6, 6, .inr (.inr (.inr (.inr (va_up (va_up (va_up (va_up (va_up (va_up (fun _ => none) 0 (some (Γ.1 + 3))) 1 (some (Γ.1 + 4))) 2 (some (Γ.1 + 5))) 3 (some (Γ.1 + 6))) 4 (some (Γ.1 + 7))) 5 (some (Γ.1 + 8))))))), .inr (1, [.int 1, .int 0]), .inr (1, [.int 1, .int 0]), .inr (1, [.int 1, .int 0]), .inr (1, [.int 1, .int 0]), .inr (1, [.int 1, .int 0]), .inr (1, [.int 1, .int 0]), .inl (Γ.2.2.2 7, 6, .inr (.inr (.inr (.inr (va_up (va_up (va_up (va_up (va_up (va_up (fun _ => none) 0 (some (Γ.1 + 10))) 1 (some (Γ.1 + 11))) 2 (some (Γ.1 + 12))) 3 (some (Γ.1 + 13))) 4 (some (Γ.1 + 14))) 5 (some (Γ.1 + 15))))))), .inr (2, [.int 1, .int 10, .null]), .inr (2, [.int 1, .int 10, .null]), .inr (2, [.int 1, .int 10, .null]), .inr (2, [.int 1, .int 10, .null]), .inr (2, [.int 1, .int 10, .null]), .inr (2, [.int 1, .int 10, .null]), .inl (Γ.2.2.2 8, 40, .inr (.inr (.inr (.inr (fun _ => none))))), .inl (Γ.2.2.2 1, 120, .inl (fun _ => 0)), .inr (3, [.ref (Γ.1 + 19)]), .inl (Γ.2.2.2 0, 128, .inl (fun _ => 0)), .inl (Γ.2.2.2 0, 1080, .inl (fun _ => 0)), .inl (Γ.2.2.2 3, 180, .inr (.inl (fun _ => 0))), .inl (Γ.2.2.2 3, 6, .inr (.inl (fun _ => 0))), .inl (Γ.2.2.2 1, 6, .inl (fun _ => 0)), .inl (Γ.2.2.2 0, 8, .inl (fun _ => 0)), .inl (Γ.2.2.2 0, 8, .inl (fun _ => 0)), .inl (Γ.2.2.2 9, 10, .inr (.inr (.inr (.inr (fun _ => none))))), .inl (Γ.2.2.2 1, 24, .inl (fun _ => 0)), .inl (Γ.2.2.2 10, 50, .inr (.inr (.inr (.inr (fun _ => none))))), .inl (Γ.2.2.2 11, 6, .inr (.inr (.inr (.inr (fun _ => none))))), .inr (4, [.ref (Γ.1 + 31), .ref (Γ.1 + 32), .ref (Γ.1 + 33), .ref (Γ.1 + 34), .int 0, .int 0, .int 0, .ref (Γ.1 + 35), .ref (Γ.1 + 36), .ref (Γ.1 + 37), .ref (Γ.1 + 38), .int 0, .ref (Γ.1 + 39), .ref (Γ.1 + 40), .int 0, .int 0, .int 0, .int 0, .int 0, .ref (Γ.1 + 41), .ref (Γ.1 + 42), .ref (Γ.1 + 43), .ref (Γ.1 + 44), .ref (Γ.1 + 45), .long 0, .ref (Γ.1 + 46), .ref (Γ.1 + 47), .int 0, .ref (Γ.1 + 48), .ref (Γ.1 + 49), .ref (Γ.1 + 50), .ref (Γ.1 + 51), .int 0, .int 0, .int 0, .ref (Γ.1 + 52), .ref (Γ.1 + 53), .int 0, .int 0, .int 0, .ref (Γ.1 + 54), .ref (Γ.1 + 55), .ref (Γ.1 + 56), .ref (Γ.1 + 57)]), .inl (Γ.2.2.2 0, 24, .inl (upd (upd (upd (upd (upd (upd (upd (upd (upd (upd (upd (upd (upd (upd (upd (upd (upd (upd (fun _ => 0) 12 1) 18 10) 13 1) 19 10) 14 1) 20 10) 15 1) 21 10) 16 1) 22 10) 17 1) 23 10) 0 1) 1 1) 2 1) 3 1) 4 1) 5 1)), .inl (Γ.2.2.2 0, 40, .inl (fun _ => 0)), .inl (Γ.2.2.2 0, 40, .inl (fun _ => 0)), .inl (Γ.2.2.2 0, 40, .inl (fun _ => 0)), .inl (Γ.2.2.2 0, 8, .inl (fun _ => 0)), .inl (Γ.2.2.2 0, 8, .inl (fun _ => 0)), .inl (Γ.2.2.2 0, 48, .inl (fun _ => 0)), .inl (Γ.2.2.2 0, 120, .inl (fun _ => 0)), .inl (Γ.2.2.2 0, 720, .inl (fun _ => 0)), .inl (Γ.2.2.2 0, 6, .inl (upd (upd (upd (upd (upd (upd (fun _ => 0) 0 (-1)) 1 (-1)) 2 (-1)) 3 (-1)) 4 (-1)) 5 (-1))), .inl (Γ.2.2.2 0, 4, .inl (fun _ => 0)), .inl (Γ.2.2.2 0, 1080, .inl (fun _ => 0)), .inl (Γ.2.2.2 0, 6, .inl (fun _ => 0)), .inl (Γ.2.2.2 3, 180, .inr (.inl (fun _ => 0))), .inl (Γ.2.2.2 3, 6, .inr (.inl (fun _ => 0))), .inl (Γ.2.2.2 0, 8, .inl (fun _ => 0)), .inl (Γ.2.2.2 0, 8, .inl (fun _ => 0)), .inl (Γ.2.2.2 0, 10, .inl (fun _ => 0)), .inl (Γ.2.2.2 0, 10, .inl (fun _ => 0)), .inl (Γ.2.2.2 0, 10, .inl (fun _ => 0)), .inl (Γ.2.2.2 0, 48, .inl (fun _ => 0)), .inl (Γ.2.2.2 0, 50, .inl (fun _ => 0)), .inl (Γ.2.2.2 0, 24, .inl (fun _ => 0)), .inl (Γ.2.2.2 0, 6, .inl (upd (upd (upd (upd (upd (upd (fun _ => 0) 0 (-1)) 1 (-1)) 2 (-1)) 3 (-1)) 4 (-1)) 5 (-1))), .inl (Γ.2.2.2 0, 6, .inl (fun _ => 0)), .inl (Γ.2.2.2 3, 360, .inr (.inl (fun _ => 0))), .inl (Γ.2.2.2 3, 60, .inr (.inl (fun _ => 0)))]
theorem mk_M_init (l : Launch) (Γ : Gh) : Mt l yX4_init (ws_ yX4_init cX4_init 2 none) (rmO 1 20 (χk 31 1786)) (Pk Γ (cs0_M_init Γ) [.ref (Γ.1 + 30)]) (Qk Γ 31 1786 (csM Γ) 4716) (frB Γ) := by
  refine Mt.startK (cs := cs0_M_init Γ) (cs' := csM Γ) (w := 1786) (w' := 4716) (by decide) RX4 rfl (Nat.le_of_ble_eq_true rfl) ?_
  intro X hX hQ hG h0 _
  subst hG
  refine k_aload_n hX 0 dX4_init_0 rfl rfl ?_
  refine k_objInit hX q1504 q138 q139 (by decide) (Nat.le_of_ble_eq_true rfl) dX4_init_1 ?_
  refine k_aload_n hX 0 dX4_init_4 rfl rfl ?_
  refine k_bipush hX (v := (24 : Int32)) dX4_init_5 rfl ?_
  refine k_newI hX (e := 0) (L := 24) (n := 31) (tyy := .int) rfl rfl rfl (fun _ _ z => z) (by decide) rfl rfl q191 (by decide) (by decide) (by decide) dX4_init_7 ?_
  refine k_putF hX rfl (k := 0) rfl (by decide) rfl in_X4 tyX4_ok nmX4 (by decide) q1505 rfl rfl rfl (kn_a (some _)) (kf_a (some _)) dX4_init_9 ?_
  refine k_aload_n hX 0 dX4_init_12 rfl rfl ?_
  refine k_bipush hX (v := (40 : Int32)) dX4_init_13 rfl ?_
  refine k_newI hX (e := 0) (L := 40) (n := 32) (tyy := .int) rfl rfl rfl (fun _ _ z => z) (by decide) rfl rfl q191 (by decide) (by decide) (by decide) dX4_init_15 ?_
  refine k_putF hX rfl (k := 1) rfl (by decide) rfl in_X4 tyX4_ok nmX4 (by decide) q1506 rfl rfl rfl (kn_a (some _)) (kf_a (some _)) dX4_init_17 ?_
  refine k_aload_n hX 0 dX4_init_20 rfl rfl ?_
  refine k_bipush hX (v := (40 : Int32)) dX4_init_21 rfl ?_
  refine k_newI hX (e := 0) (L := 40) (n := 33) (tyy := .int) rfl rfl rfl (fun _ _ z => z) (by decide) rfl rfl q191 (by decide) (by decide) (by decide) dX4_init_23 ?_
  refine k_putF hX rfl (k := 2) rfl (by decide) rfl in_X4 tyX4_ok nmX4 (by decide) q1507 rfl rfl rfl (kn_a (some _)) (kf_a (some _)) dX4_init_25 ?_
  refine k_aload_n hX 0 dX4_init_28 rfl rfl ?_
  refine k_bipush hX (v := (40 : Int32)) dX4_init_29 rfl ?_
  refine k_newI hX (e := 0) (L := 40) (n := 34) (tyy := .int) rfl rfl rfl (fun _ _ z => z) (by decide) rfl rfl q191 (by decide) (by decide) (by decide) dX4_init_31 ?_
  refine k_putF hX rfl (k := 3) rfl (by decide) rfl in_X4 tyX4_ok nmX4 (by decide) q1508 rfl rfl rfl (kn_a (some _)) (kf_a (some _)) dX4_init_33 ?_
  refine k_aload_n hX 0 dX4_init_36 rfl rfl ?_
  refine k_bipush hX (v := (8 : Int32)) dX4_init_37 rfl ?_
  refine k_newI hX (e := 0) (L := 8) (n := 35) (tyy := .int) rfl rfl rfl (fun _ _ z => z) (by decide) rfl rfl q191 (by decide) (by decide) (by decide) dX4_init_39 ?_
  refine k_putF hX rfl (k := 7) rfl (by decide) rfl in_X4 tyX4_ok nmX4 (by decide) q1512 rfl rfl rfl (kn_a (some _)) (kf_a (some _)) dX4_init_41 ?_
  refine k_aload_n hX 0 dX4_init_44 rfl rfl ?_
  refine k_bipush hX (v := (8 : Int32)) dX4_init_45 rfl ?_
  refine k_newI hX (e := 0) (L := 8) (n := 36) (tyy := .int) rfl rfl rfl (fun _ _ z => z) (by decide) rfl rfl q191 (by decide) (by decide) (by decide) dX4_init_47 ?_
  refine k_putF hX rfl (k := 8) rfl (by decide) rfl in_X4 tyX4_ok nmX4 (by decide) q1513 rfl rfl rfl (kn_a (some _)) (kf_a (some _)) dX4_init_49 ?_
  refine k_aload_n hX 0 dX4_init_52 rfl rfl ?_
  refine k_bipush hX (v := (48 : Int32)) dX4_init_53 rfl ?_
  refine k_newI hX (e := 0) (L := 48) (n := 37) (tyy := .int) rfl rfl rfl (fun _ _ z => z) (by decide) rfl rfl q191 (by decide) (by decide) (by decide) dX4_init_55 ?_
  refine k_putF hX rfl (k := 9) rfl (by decide) rfl in_X4 tyX4_ok nmX4 (by decide) q1514 rfl rfl rfl (kn_a (some _)) (kf_a (some _)) dX4_init_57 ?_
  refine k_aload_n hX 0 dX4_init_60 rfl rfl ?_
  refine k_bipush hX (v := (120 : Int32)) dX4_init_61 rfl ?_
  refine k_newI hX (e := 0) (L := 120) (n := 38) (tyy := .int) rfl rfl rfl (fun _ _ z => z) (by decide) rfl rfl q191 (by decide) (by decide) (by decide) dX4_init_63 ?_
  refine k_putF hX rfl (k := 10) rfl (by decide) rfl in_X4 tyX4_ok nmX4 (by decide) q1515 rfl rfl rfl (kn_a (some _)) (kf_a (some _)) dX4_init_65 ?_
  refine k_aload_n hX 0 dX4_init_68 rfl rfl ?_
  refine k_sipush hX (v := (720 : Int32)) dX4_init_69 rfl ?_
  refine k_newI hX (e := 0) (L := 720) (n := 39) (tyy := .int) rfl rfl rfl (fun _ _ z => z) (by decide) rfl rfl q191 (by decide) (by decide) (by decide) dX4_init_72 ?_
  refine k_putF hX rfl (k := 12) rfl (by decide) rfl in_X4 tyX4_ok nmX4 (by decide) q1517 rfl rfl rfl (kn_a (some _)) (kf_a (some _)) dX4_init_74 ?_
  refine k_aload_n hX 0 dX4_init_77 rfl rfl ?_
  refine k_bipush hX (v := (6 : Int32)) dX4_init_78 rfl ?_
  refine k_newI hX (e := 0) (L := 6) (n := 40) (tyy := .int) rfl rfl rfl (fun _ _ z => z) (by decide) rfl rfl q191 (by decide) (by decide) (by decide) dX4_init_80 ?_
  refine k_putF hX rfl (k := 13) rfl (by decide) rfl in_X4 tyX4_ok nmX4 (by decide) q1518 rfl rfl rfl (kn_a (some _)) (kf_a (some _)) dX4_init_82 ?_
  refine k_aload_n hX 0 dX4_init_85 rfl rfl ?_
  refine k_iconst hX (v := (4 : Int32)) dX4_init_86 rfl ?_
  refine k_newI hX (e := 0) (L := 4) (n := 41) (tyy := .int) rfl rfl rfl (fun _ _ z => z) (by decide) rfl rfl q191 (by decide) (by decide) (by decide) dX4_init_87 ?_
  refine k_putF hX rfl (k := 19) rfl (by decide) rfl in_X4 tyX4_ok nmX4 (by decide) q1524 rfl rfl rfl (kn_a (some _)) (kf_a (some _)) dX4_init_89 ?_
  refine k_aload_n hX 0 dX4_init_92 rfl rfl ?_
  refine k_sipush hX (v := (1080 : Int32)) dX4_init_93 rfl ?_
  refine k_newI hX (e := 0) (L := 1080) (n := 42) (tyy := .int) rfl rfl rfl (fun _ _ z => z) (by decide) rfl rfl q191 (by decide) (by decide) (by decide) dX4_init_96 ?_
  refine k_putF hX rfl (k := 20) rfl (by decide) rfl in_X4 tyX4_ok nmX4 (by decide) q1525 rfl rfl rfl (kn_a (some _)) (kf_a (some _)) dX4_init_98 ?_
  refine k_aload_n hX 0 dX4_init_101 rfl rfl ?_
  refine k_bipush hX (v := (6 : Int32)) dX4_init_102 rfl ?_
  refine k_newI hX (e := 0) (L := 6) (n := 43) (tyy := .int) rfl rfl rfl (fun _ _ z => z) (by decide) rfl rfl q191 (by decide) (by decide) (by decide) dX4_init_104 ?_
  refine k_putF hX rfl (k := 21) rfl (by decide) rfl in_X4 tyX4_ok nmX4 (by decide) q1526 rfl rfl rfl (kn_a (some _)) (kf_a (some _)) dX4_init_106 ?_
  refine k_aload_n hX 0 dX4_init_109 rfl rfl ?_
  refine k_sipush hX (v := (180 : Int32)) dX4_init_110 rfl ?_
  refine k_newL hX (e := 3) (L := 180) (n := 44) (tyy := .long) rfl rfl rfl (fun _ _ z => z) (by decide) rfl rfl q276 (by decide) (by decide) (by decide) dX4_init_113 ?_
  refine k_putF hX rfl (k := 22) rfl (by decide) rfl in_X4 tyX4_ok nmX4 (by decide) q1527 rfl rfl rfl (kn_a (some _)) (kf_a (some _)) dX4_init_115 ?_
  refine k_aload_n hX 0 dX4_init_118 rfl rfl ?_
  refine k_bipush hX (v := (6 : Int32)) dX4_init_119 rfl ?_
  refine k_newL hX (e := 3) (L := 6) (n := 45) (tyy := .long) rfl rfl rfl (fun _ _ z => z) (by decide) rfl rfl q276 (by decide) (by decide) (by decide) dX4_init_121 ?_
  refine k_putF hX rfl (k := 23) rfl (by decide) rfl in_X4 tyX4_ok nmX4 (by decide) q1528 rfl rfl rfl (kn_a (some _)) (kf_a (some _)) dX4_init_123 ?_
  refine k_aload_n hX 0 dX4_init_126 rfl rfl ?_
  refine k_bipush hX (v := (8 : Int32)) dX4_init_127 rfl ?_
  refine k_newI hX (e := 0) (L := 8) (n := 46) (tyy := .int) rfl rfl rfl (fun _ _ z => z) (by decide) rfl rfl q191 (by decide) (by decide) (by decide) dX4_init_129 ?_
  refine k_putF hX rfl (k := 25) rfl (by decide) rfl in_X4 tyX4_ok nmX4 (by decide) q1530 rfl rfl rfl (kn_a (some _)) (kf_a (some _)) dX4_init_131 ?_
  refine k_aload_n hX 0 dX4_init_134 rfl rfl ?_
  refine k_bipush hX (v := (8 : Int32)) dX4_init_135 rfl ?_
  refine k_newI hX (e := 0) (L := 8) (n := 47) (tyy := .int) rfl rfl rfl (fun _ _ z => z) (by decide) rfl rfl q191 (by decide) (by decide) (by decide) dX4_init_137 ?_
  refine k_putF hX rfl (k := 26) rfl (by decide) rfl in_X4 tyX4_ok nmX4 (by decide) q1531 rfl rfl rfl (kn_a (some _)) (kf_a (some _)) dX4_init_139 ?_
  refine k_aload_n hX 0 dX4_init_142 rfl rfl ?_
  refine k_bipush hX (v := (10 : Int32)) dX4_init_143 rfl ?_
  refine k_newI hX (e := 0) (L := 10) (n := 48) (tyy := .int) rfl rfl rfl (fun _ _ z => z) (by decide) rfl rfl q191 (by decide) (by decide) (by decide) dX4_init_145 ?_
  refine k_putF hX rfl (k := 28) rfl (by decide) rfl in_X4 tyX4_ok nmX4 (by decide) q1533 rfl rfl rfl (kn_a (some _)) (kf_a (some _)) dX4_init_147 ?_
  refine k_aload_n hX 0 dX4_init_150 rfl rfl ?_
  refine k_bipush hX (v := (10 : Int32)) dX4_init_151 rfl ?_
  refine k_newI hX (e := 0) (L := 10) (n := 49) (tyy := .int) rfl rfl rfl (fun _ _ z => z) (by decide) rfl rfl q191 (by decide) (by decide) (by decide) dX4_init_153 ?_
  refine k_putF hX rfl (k := 29) rfl (by decide) rfl in_X4 tyX4_ok nmX4 (by decide) q1534 rfl rfl rfl (kn_a (some _)) (kf_a (some _)) dX4_init_155 ?_
  refine k_aload_n hX 0 dX4_init_158 rfl rfl ?_
  refine k_bipush hX (v := (10 : Int32)) dX4_init_159 rfl ?_
  refine k_newI hX (e := 0) (L := 10) (n := 50) (tyy := .int) rfl rfl rfl (fun _ _ z => z) (by decide) rfl rfl q191 (by decide) (by decide) (by decide) dX4_init_161 ?_
  refine k_putF hX rfl (k := 30) rfl (by decide) rfl in_X4 tyX4_ok nmX4 (by decide) q1535 rfl rfl rfl (kn_a (some _)) (kf_a (some _)) dX4_init_163 ?_
  refine k_aload_n hX 0 dX4_init_166 rfl rfl ?_
  refine k_bipush hX (v := (48 : Int32)) dX4_init_167 rfl ?_
  refine k_newI hX (e := 0) (L := 48) (n := 51) (tyy := .int) rfl rfl rfl (fun _ _ z => z) (by decide) rfl rfl q191 (by decide) (by decide) (by decide) dX4_init_169 ?_
  refine k_putF hX rfl (k := 31) rfl (by decide) rfl in_X4 tyX4_ok nmX4 (by decide) q1536 rfl rfl rfl (kn_a (some _)) (kf_a (some _)) dX4_init_171 ?_
  refine k_aload_n hX 0 dX4_init_174 rfl rfl ?_
  refine k_bipush hX (v := (50 : Int32)) dX4_init_175 rfl ?_
  refine k_newI hX (e := 0) (L := 50) (n := 52) (tyy := .int) rfl rfl rfl (fun _ _ z => z) (by decide) rfl rfl q191 (by decide) (by decide) (by decide) dX4_init_177 ?_
  refine k_putF hX rfl (k := 35) rfl (by decide) rfl in_X4 tyX4_ok nmX4 (by decide) q1540 rfl rfl rfl (kn_a (some _)) (kf_a (some _)) dX4_init_179 ?_
  refine k_aload_n hX 0 dX4_init_182 rfl rfl ?_
  refine k_bipush hX (v := (24 : Int32)) dX4_init_183 rfl ?_
  refine k_newI hX (e := 0) (L := 24) (n := 53) (tyy := .int) rfl rfl rfl (fun _ _ z => z) (by decide) rfl rfl q191 (by decide) (by decide) (by decide) dX4_init_185 ?_
  refine k_putF hX rfl (k := 36) rfl (by decide) rfl in_X4 tyX4_ok nmX4 (by decide) q1541 rfl rfl rfl (kn_a (some _)) (kf_a (some _)) dX4_init_187 ?_
  refine k_aload_n hX 0 dX4_init_190 rfl rfl ?_
  refine k_bipush hX (v := (6 : Int32)) dX4_init_191 rfl ?_
  refine k_newI hX (e := 0) (L := 6) (n := 54) (tyy := .int) rfl rfl rfl (fun _ _ z => z) (by decide) rfl rfl q191 (by decide) (by decide) (by decide) dX4_init_193 ?_
  refine k_putF hX rfl (k := 40) rfl (by decide) rfl in_X4 tyX4_ok nmX4 (by decide) q1545 rfl rfl rfl (kn_a (some _)) (kf_a (some _)) dX4_init_195 ?_
  refine k_aload_n hX 0 dX4_init_198 rfl rfl ?_
  refine k_bipush hX (v := (6 : Int32)) dX4_init_199 rfl ?_
  refine k_newI hX (e := 0) (L := 6) (n := 55) (tyy := .int) rfl rfl rfl (fun _ _ z => z) (by decide) rfl rfl q191 (by decide) (by decide) (by decide) dX4_init_201 ?_
  refine k_putF hX rfl (k := 41) rfl (by decide) rfl in_X4 tyX4_ok nmX4 (by decide) q1546 rfl rfl rfl (kn_a (some _)) (kf_a (some _)) dX4_init_203 ?_
  refine k_aload_n hX 0 dX4_init_206 rfl rfl ?_
  refine k_sipush hX (v := (360 : Int32)) dX4_init_207 rfl ?_
  refine k_newL hX (e := 3) (L := 360) (n := 56) (tyy := .long) rfl rfl rfl (fun _ _ z => z) (by decide) rfl rfl q276 (by decide) (by decide) (by decide) dX4_init_210 ?_
  refine k_putF hX rfl (k := 42) rfl (by decide) rfl in_X4 tyX4_ok nmX4 (by decide) q1547 rfl rfl rfl (kn_a (some _)) (kf_a (some _)) dX4_init_212 ?_
  refine k_aload_n hX 0 dX4_init_215 rfl rfl ?_
  refine k_bipush hX (v := (60 : Int32)) dX4_init_216 rfl ?_
  refine k_newL hX (e := 3) (L := 60) (n := 57) (tyy := .long) rfl rfl rfl (fun _ _ z => z) (by decide) rfl rfl q276 (by decide) (by decide) (by decide) dX4_init_218 ?_
  refine k_putF hX rfl (k := 43) rfl (by decide) rfl in_X4 tyX4_ok nmX4 (by decide) q1548 rfl rfl rfl (kn_a (some _)) (kf_a (some _)) dX4_init_220 ?_
  refine k_iconst hX (v := (0 : Int32)) dX4_init_223 rfl ?_
  refine k_istore_n hX dX4_init_224 rfl (by decide) rfl ?_
  refine k_iload_n hX 0 dX4_init_225 rfl rfl ?_
  refine k_bipush hX (v := (6 : Int32)) dX4_init_226 rfl ?_
  refine k_icmp_ge hX 244 dX4_init_228 (by decide) (fun z => absurd z (by decide)) (fun _ => ?_)
  refine k_aload_n hX 1 dX4_init_231 rfl rfl ?_
  refine k_get hX (a := 30) (k := 40) rfl rfl rfl in_X4 (by decide) q1545 dX4_init_232 ?_
  refine k_iload_n hX 0 dX4_init_235 rfl rfl ?_
  refine k_iconst hX (v := (-1 : Int32)) dX4_init_236 rfl ?_
  refine k_iast hX (a := 54) (e := 0) rfl rfl (by decide) dX4_init_237 ?_
  refine k_iinc hX (v := _) 0 dX4_init_238 rfl rfl (by decide) rfl ?_
  rw [show ((0 : Int32) + (1 : Int32)) = (1 : Int32) from by decide]
  refine k_goto hX 225 dX4_init_241 (by decide) ?_
  refine k_iload_n hX 0 dX4_init_225 rfl rfl ?_
  refine k_bipush hX (v := (6 : Int32)) dX4_init_226 rfl ?_
  refine k_icmp_ge hX 244 dX4_init_228 (by decide) (fun z => absurd z (by decide)) (fun _ => ?_)
  refine k_aload_n hX 1 dX4_init_231 rfl rfl ?_
  refine k_get hX (a := 30) (k := 40) rfl rfl rfl in_X4 (by decide) q1545 dX4_init_232 ?_
  refine k_iload_n hX 0 dX4_init_235 rfl rfl ?_
  refine k_iconst hX (v := (-1 : Int32)) dX4_init_236 rfl ?_
  refine k_iast hX (a := 54) (e := 0) rfl rfl (by decide) dX4_init_237 ?_
  refine k_iinc hX (v := _) 0 dX4_init_238 rfl rfl (by decide) rfl ?_
  rw [show ((1 : Int32) + (1 : Int32)) = (2 : Int32) from by decide]
  refine k_goto hX 225 dX4_init_241 (by decide) ?_
  refine k_iload_n hX 0 dX4_init_225 rfl rfl ?_
  refine k_bipush hX (v := (6 : Int32)) dX4_init_226 rfl ?_
  refine k_icmp_ge hX 244 dX4_init_228 (by decide) (fun z => absurd z (by decide)) (fun _ => ?_)
  refine k_aload_n hX 1 dX4_init_231 rfl rfl ?_
  refine k_get hX (a := 30) (k := 40) rfl rfl rfl in_X4 (by decide) q1545 dX4_init_232 ?_
  refine k_iload_n hX 0 dX4_init_235 rfl rfl ?_
  refine k_iconst hX (v := (-1 : Int32)) dX4_init_236 rfl ?_
  refine k_iast hX (a := 54) (e := 0) rfl rfl (by decide) dX4_init_237 ?_
  refine k_iinc hX (v := _) 0 dX4_init_238 rfl rfl (by decide) rfl ?_
  rw [show ((2 : Int32) + (1 : Int32)) = (3 : Int32) from by decide]
  refine k_goto hX 225 dX4_init_241 (by decide) ?_
  refine k_iload_n hX 0 dX4_init_225 rfl rfl ?_
  refine k_bipush hX (v := (6 : Int32)) dX4_init_226 rfl ?_
  refine k_icmp_ge hX 244 dX4_init_228 (by decide) (fun z => absurd z (by decide)) (fun _ => ?_)
  refine k_aload_n hX 1 dX4_init_231 rfl rfl ?_
  refine k_get hX (a := 30) (k := 40) rfl rfl rfl in_X4 (by decide) q1545 dX4_init_232 ?_
  refine k_iload_n hX 0 dX4_init_235 rfl rfl ?_
  refine k_iconst hX (v := (-1 : Int32)) dX4_init_236 rfl ?_
  refine k_iast hX (a := 54) (e := 0) rfl rfl (by decide) dX4_init_237 ?_
  refine k_iinc hX (v := _) 0 dX4_init_238 rfl rfl (by decide) rfl ?_
  rw [show ((3 : Int32) + (1 : Int32)) = (4 : Int32) from by decide]
  refine k_goto hX 225 dX4_init_241 (by decide) ?_
  refine k_iload_n hX 0 dX4_init_225 rfl rfl ?_
  refine k_bipush hX (v := (6 : Int32)) dX4_init_226 rfl ?_
  refine k_icmp_ge hX 244 dX4_init_228 (by decide) (fun z => absurd z (by decide)) (fun _ => ?_)
  refine k_aload_n hX 1 dX4_init_231 rfl rfl ?_
  refine k_get hX (a := 30) (k := 40) rfl rfl rfl in_X4 (by decide) q1545 dX4_init_232 ?_
  refine k_iload_n hX 0 dX4_init_235 rfl rfl ?_
  refine k_iconst hX (v := (-1 : Int32)) dX4_init_236 rfl ?_
  refine k_iast hX (a := 54) (e := 0) rfl rfl (by decide) dX4_init_237 ?_
  refine k_iinc hX (v := _) 0 dX4_init_238 rfl rfl (by decide) rfl ?_
  rw [show ((4 : Int32) + (1 : Int32)) = (5 : Int32) from by decide]
  refine k_goto hX 225 dX4_init_241 (by decide) ?_
  refine k_iload_n hX 0 dX4_init_225 rfl rfl ?_
  refine k_bipush hX (v := (6 : Int32)) dX4_init_226 rfl ?_
  refine k_icmp_ge hX 244 dX4_init_228 (by decide) (fun z => absurd z (by decide)) (fun _ => ?_)
  refine k_aload_n hX 1 dX4_init_231 rfl rfl ?_
  refine k_get hX (a := 30) (k := 40) rfl rfl rfl in_X4 (by decide) q1545 dX4_init_232 ?_
  refine k_iload_n hX 0 dX4_init_235 rfl rfl ?_
  refine k_iconst hX (v := (-1 : Int32)) dX4_init_236 rfl ?_
  refine k_iast hX (a := 54) (e := 0) rfl rfl (by decide) dX4_init_237 ?_
  refine k_iinc hX (v := _) 0 dX4_init_238 rfl rfl (by decide) rfl ?_
  rw [show ((5 : Int32) + (1 : Int32)) = (6 : Int32) from by decide]
  refine k_goto hX 225 dX4_init_241 (by decide) ?_
  refine k_iload_n hX 0 dX4_init_225 rfl rfl ?_
  refine k_bipush hX (v := (6 : Int32)) dX4_init_226 rfl ?_
  refine k_icmp_ge hX 244 dX4_init_228 (by decide) (fun _ => ?_) (fun z => absurd (by decide) z)
  refine k_iconst hX (v := (0 : Int32)) dX4_init_244 rfl ?_
  refine k_istore_n hX dX4_init_245 rfl (by decide) rfl ?_
  refine k_iload_n hX 0 dX4_init_246 rfl rfl ?_
  refine k_bipush hX (v := (6 : Int32)) dX4_init_247 rfl ?_
  refine k_icmp_ge hX 286 dX4_init_249 (by decide) (fun z => absurd z (by decide)) (fun _ => ?_)
  refine k_aload_n hX 1 dX4_init_252 rfl rfl ?_
  refine k_get hX (a := 30) (k := 13) rfl rfl rfl in_X4 (by decide) q1518 dX4_init_253 ?_
  refine k_iload_n hX 0 dX4_init_256 rfl rfl ?_
  refine k_iconst hX (v := (-1 : Int32)) dX4_init_257 rfl ?_
  refine k_iast hX (a := 40) (e := 0) rfl rfl (by decide) dX4_init_258 ?_
  refine k_aload_n hX 1 dX4_init_259 rfl rfl ?_
  refine k_get hX (a := 30) (k := 0) rfl rfl rfl in_X4 (by decide) q1505 dX4_init_260 ?_
  refine k_bipush hX (v := (12 : Int32)) dX4_init_263 rfl ?_
  refine k_iload_n hX 0 dX4_init_265 rfl rfl ?_
  refine k_iadd hX dX4_init_266 ?_
  rw [show ((12 : Int32) + (0 : Int32)) = (12 : Int32) from by decide]
  refine k_iconst hX (v := (1 : Int32)) dX4_init_267 rfl ?_
  refine k_iast hX (a := 31) (e := 0) rfl rfl (by decide) dX4_init_268 ?_
  refine k_aload_n hX 1 dX4_init_269 rfl rfl ?_
  refine k_get hX (a := 30) (k := 0) rfl rfl rfl in_X4 (by decide) q1505 dX4_init_270 ?_
  refine k_bipush hX (v := (18 : Int32)) dX4_init_273 rfl ?_
  refine k_iload_n hX 0 dX4_init_275 rfl rfl ?_
  refine k_iadd hX dX4_init_276 ?_
  rw [show ((18 : Int32) + (0 : Int32)) = (18 : Int32) from by decide]
  refine k_bipush hX (v := (10 : Int32)) dX4_init_277 rfl ?_
  refine k_iast hX (a := 31) (e := 0) rfl rfl (by decide) dX4_init_279 ?_
  refine k_iinc hX (v := _) 0 dX4_init_280 rfl rfl (by decide) rfl ?_
  rw [show ((0 : Int32) + (1 : Int32)) = (1 : Int32) from by decide]
  refine k_goto hX 246 dX4_init_283 (by decide) ?_
  refine k_iload_n hX 0 dX4_init_246 rfl rfl ?_
  refine k_bipush hX (v := (6 : Int32)) dX4_init_247 rfl ?_
  refine k_icmp_ge hX 286 dX4_init_249 (by decide) (fun z => absurd z (by decide)) (fun _ => ?_)
  refine k_aload_n hX 1 dX4_init_252 rfl rfl ?_
  refine k_get hX (a := 30) (k := 13) rfl rfl rfl in_X4 (by decide) q1518 dX4_init_253 ?_
  refine k_iload_n hX 0 dX4_init_256 rfl rfl ?_
  refine k_iconst hX (v := (-1 : Int32)) dX4_init_257 rfl ?_
  refine k_iast hX (a := 40) (e := 0) rfl rfl (by decide) dX4_init_258 ?_
  refine k_aload_n hX 1 dX4_init_259 rfl rfl ?_
  refine k_get hX (a := 30) (k := 0) rfl rfl rfl in_X4 (by decide) q1505 dX4_init_260 ?_
  refine k_bipush hX (v := (12 : Int32)) dX4_init_263 rfl ?_
  refine k_iload_n hX 0 dX4_init_265 rfl rfl ?_
  refine k_iadd hX dX4_init_266 ?_
  rw [show ((12 : Int32) + (1 : Int32)) = (13 : Int32) from by decide]
  refine k_iconst hX (v := (1 : Int32)) dX4_init_267 rfl ?_
  refine k_iast hX (a := 31) (e := 0) rfl rfl (by decide) dX4_init_268 ?_
  refine k_aload_n hX 1 dX4_init_269 rfl rfl ?_
  refine k_get hX (a := 30) (k := 0) rfl rfl rfl in_X4 (by decide) q1505 dX4_init_270 ?_
  refine k_bipush hX (v := (18 : Int32)) dX4_init_273 rfl ?_
  refine k_iload_n hX 0 dX4_init_275 rfl rfl ?_
  refine k_iadd hX dX4_init_276 ?_
  rw [show ((18 : Int32) + (1 : Int32)) = (19 : Int32) from by decide]
  refine k_bipush hX (v := (10 : Int32)) dX4_init_277 rfl ?_
  refine k_iast hX (a := 31) (e := 0) rfl rfl (by decide) dX4_init_279 ?_
  refine k_iinc hX (v := _) 0 dX4_init_280 rfl rfl (by decide) rfl ?_
  rw [show ((1 : Int32) + (1 : Int32)) = (2 : Int32) from by decide]
  refine k_goto hX 246 dX4_init_283 (by decide) ?_
  refine k_iload_n hX 0 dX4_init_246 rfl rfl ?_
  refine k_bipush hX (v := (6 : Int32)) dX4_init_247 rfl ?_
  refine k_icmp_ge hX 286 dX4_init_249 (by decide) (fun z => absurd z (by decide)) (fun _ => ?_)
  refine k_aload_n hX 1 dX4_init_252 rfl rfl ?_
  refine k_get hX (a := 30) (k := 13) rfl rfl rfl in_X4 (by decide) q1518 dX4_init_253 ?_
  refine k_iload_n hX 0 dX4_init_256 rfl rfl ?_
  refine k_iconst hX (v := (-1 : Int32)) dX4_init_257 rfl ?_
  refine k_iast hX (a := 40) (e := 0) rfl rfl (by decide) dX4_init_258 ?_
  refine k_aload_n hX 1 dX4_init_259 rfl rfl ?_
  refine k_get hX (a := 30) (k := 0) rfl rfl rfl in_X4 (by decide) q1505 dX4_init_260 ?_
  refine k_bipush hX (v := (12 : Int32)) dX4_init_263 rfl ?_
  refine k_iload_n hX 0 dX4_init_265 rfl rfl ?_
  refine k_iadd hX dX4_init_266 ?_
  rw [show ((12 : Int32) + (2 : Int32)) = (14 : Int32) from by decide]
  refine k_iconst hX (v := (1 : Int32)) dX4_init_267 rfl ?_
  refine k_iast hX (a := 31) (e := 0) rfl rfl (by decide) dX4_init_268 ?_
  refine k_aload_n hX 1 dX4_init_269 rfl rfl ?_
  refine k_get hX (a := 30) (k := 0) rfl rfl rfl in_X4 (by decide) q1505 dX4_init_270 ?_
  refine k_bipush hX (v := (18 : Int32)) dX4_init_273 rfl ?_
  refine k_iload_n hX 0 dX4_init_275 rfl rfl ?_
  refine k_iadd hX dX4_init_276 ?_
  rw [show ((18 : Int32) + (2 : Int32)) = (20 : Int32) from by decide]
  refine k_bipush hX (v := (10 : Int32)) dX4_init_277 rfl ?_
  refine k_iast hX (a := 31) (e := 0) rfl rfl (by decide) dX4_init_279 ?_
  refine k_iinc hX (v := _) 0 dX4_init_280 rfl rfl (by decide) rfl ?_
  rw [show ((2 : Int32) + (1 : Int32)) = (3 : Int32) from by decide]
  refine k_goto hX 246 dX4_init_283 (by decide) ?_
  refine k_iload_n hX 0 dX4_init_246 rfl rfl ?_
  refine k_bipush hX (v := (6 : Int32)) dX4_init_247 rfl ?_
  refine k_icmp_ge hX 286 dX4_init_249 (by decide) (fun z => absurd z (by decide)) (fun _ => ?_)
  refine k_aload_n hX 1 dX4_init_252 rfl rfl ?_
  refine k_get hX (a := 30) (k := 13) rfl rfl rfl in_X4 (by decide) q1518 dX4_init_253 ?_
  refine k_iload_n hX 0 dX4_init_256 rfl rfl ?_
  refine k_iconst hX (v := (-1 : Int32)) dX4_init_257 rfl ?_
  refine k_iast hX (a := 40) (e := 0) rfl rfl (by decide) dX4_init_258 ?_
  refine k_aload_n hX 1 dX4_init_259 rfl rfl ?_
  refine k_get hX (a := 30) (k := 0) rfl rfl rfl in_X4 (by decide) q1505 dX4_init_260 ?_
  refine k_bipush hX (v := (12 : Int32)) dX4_init_263 rfl ?_
  refine k_iload_n hX 0 dX4_init_265 rfl rfl ?_
  refine k_iadd hX dX4_init_266 ?_
  rw [show ((12 : Int32) + (3 : Int32)) = (15 : Int32) from by decide]
  refine k_iconst hX (v := (1 : Int32)) dX4_init_267 rfl ?_
  refine k_iast hX (a := 31) (e := 0) rfl rfl (by decide) dX4_init_268 ?_
  refine k_aload_n hX 1 dX4_init_269 rfl rfl ?_
  refine k_get hX (a := 30) (k := 0) rfl rfl rfl in_X4 (by decide) q1505 dX4_init_270 ?_
  refine k_bipush hX (v := (18 : Int32)) dX4_init_273 rfl ?_
  refine k_iload_n hX 0 dX4_init_275 rfl rfl ?_
  refine k_iadd hX dX4_init_276 ?_
  rw [show ((18 : Int32) + (3 : Int32)) = (21 : Int32) from by decide]
  refine k_bipush hX (v := (10 : Int32)) dX4_init_277 rfl ?_
  refine k_iast hX (a := 31) (e := 0) rfl rfl (by decide) dX4_init_279 ?_
  refine k_iinc hX (v := _) 0 dX4_init_280 rfl rfl (by decide) rfl ?_
  rw [show ((3 : Int32) + (1 : Int32)) = (4 : Int32) from by decide]
  refine k_goto hX 246 dX4_init_283 (by decide) ?_
  refine k_iload_n hX 0 dX4_init_246 rfl rfl ?_
  refine k_bipush hX (v := (6 : Int32)) dX4_init_247 rfl ?_
  refine k_icmp_ge hX 286 dX4_init_249 (by decide) (fun z => absurd z (by decide)) (fun _ => ?_)
  refine k_aload_n hX 1 dX4_init_252 rfl rfl ?_
  refine k_get hX (a := 30) (k := 13) rfl rfl rfl in_X4 (by decide) q1518 dX4_init_253 ?_
  refine k_iload_n hX 0 dX4_init_256 rfl rfl ?_
  refine k_iconst hX (v := (-1 : Int32)) dX4_init_257 rfl ?_
  refine k_iast hX (a := 40) (e := 0) rfl rfl (by decide) dX4_init_258 ?_
  refine k_aload_n hX 1 dX4_init_259 rfl rfl ?_
  refine k_get hX (a := 30) (k := 0) rfl rfl rfl in_X4 (by decide) q1505 dX4_init_260 ?_
  refine k_bipush hX (v := (12 : Int32)) dX4_init_263 rfl ?_
  refine k_iload_n hX 0 dX4_init_265 rfl rfl ?_
  refine k_iadd hX dX4_init_266 ?_
  rw [show ((12 : Int32) + (4 : Int32)) = (16 : Int32) from by decide]
  refine k_iconst hX (v := (1 : Int32)) dX4_init_267 rfl ?_
  refine k_iast hX (a := 31) (e := 0) rfl rfl (by decide) dX4_init_268 ?_
  refine k_aload_n hX 1 dX4_init_269 rfl rfl ?_
  refine k_get hX (a := 30) (k := 0) rfl rfl rfl in_X4 (by decide) q1505 dX4_init_270 ?_
  refine k_bipush hX (v := (18 : Int32)) dX4_init_273 rfl ?_
  refine k_iload_n hX 0 dX4_init_275 rfl rfl ?_
  refine k_iadd hX dX4_init_276 ?_
  rw [show ((18 : Int32) + (4 : Int32)) = (22 : Int32) from by decide]
  refine k_bipush hX (v := (10 : Int32)) dX4_init_277 rfl ?_
  refine k_iast hX (a := 31) (e := 0) rfl rfl (by decide) dX4_init_279 ?_
  refine k_iinc hX (v := _) 0 dX4_init_280 rfl rfl (by decide) rfl ?_
  rw [show ((4 : Int32) + (1 : Int32)) = (5 : Int32) from by decide]
  refine k_goto hX 246 dX4_init_283 (by decide) ?_
  refine k_iload_n hX 0 dX4_init_246 rfl rfl ?_
  refine k_bipush hX (v := (6 : Int32)) dX4_init_247 rfl ?_
  refine k_icmp_ge hX 286 dX4_init_249 (by decide) (fun z => absurd z (by decide)) (fun _ => ?_)
  refine k_aload_n hX 1 dX4_init_252 rfl rfl ?_
  refine k_get hX (a := 30) (k := 13) rfl rfl rfl in_X4 (by decide) q1518 dX4_init_253 ?_
  refine k_iload_n hX 0 dX4_init_256 rfl rfl ?_
  refine k_iconst hX (v := (-1 : Int32)) dX4_init_257 rfl ?_
  refine k_iast hX (a := 40) (e := 0) rfl rfl (by decide) dX4_init_258 ?_
  refine k_aload_n hX 1 dX4_init_259 rfl rfl ?_
  refine k_get hX (a := 30) (k := 0) rfl rfl rfl in_X4 (by decide) q1505 dX4_init_260 ?_
  refine k_bipush hX (v := (12 : Int32)) dX4_init_263 rfl ?_
  refine k_iload_n hX 0 dX4_init_265 rfl rfl ?_
  refine k_iadd hX dX4_init_266 ?_
  rw [show ((12 : Int32) + (5 : Int32)) = (17 : Int32) from by decide]
  refine k_iconst hX (v := (1 : Int32)) dX4_init_267 rfl ?_
  refine k_iast hX (a := 31) (e := 0) rfl rfl (by decide) dX4_init_268 ?_
  refine k_aload_n hX 1 dX4_init_269 rfl rfl ?_
  refine k_get hX (a := 30) (k := 0) rfl rfl rfl in_X4 (by decide) q1505 dX4_init_270 ?_
  refine k_bipush hX (v := (18 : Int32)) dX4_init_273 rfl ?_
  refine k_iload_n hX 0 dX4_init_275 rfl rfl ?_
  refine k_iadd hX dX4_init_276 ?_
  rw [show ((18 : Int32) + (5 : Int32)) = (23 : Int32) from by decide]
  refine k_bipush hX (v := (10 : Int32)) dX4_init_277 rfl ?_
  refine k_iast hX (a := 31) (e := 0) rfl rfl (by decide) dX4_init_279 ?_
  refine k_iinc hX (v := _) 0 dX4_init_280 rfl rfl (by decide) rfl ?_
  rw [show ((5 : Int32) + (1 : Int32)) = (6 : Int32) from by decide]
  refine k_goto hX 246 dX4_init_283 (by decide) ?_
  refine k_iload_n hX 0 dX4_init_246 rfl rfl ?_
  refine k_bipush hX (v := (6 : Int32)) dX4_init_247 rfl ?_
  refine k_icmp_ge hX 286 dX4_init_249 (by decide) (fun _ => ?_) (fun z => absurd (by decide) z)
  refine k_iconst hX (v := (0 : Int32)) dX4_init_286 rfl ?_
  refine k_istore_n hX dX4_init_287 rfl (by decide) rfl ?_
  refine k_iload_n hX 0 dX4_init_288 rfl rfl ?_
  refine k_bipush hX (v := (6 : Int32)) dX4_init_289 rfl ?_
  refine k_icmp_ge hX 307 dX4_init_291 (by decide) (fun z => absurd z (by decide)) (fun _ => ?_)
  refine k_aload_n hX 1 dX4_init_294 rfl rfl ?_
  refine k_get hX (a := 30) (k := 0) rfl rfl rfl in_X4 (by decide) q1505 dX4_init_295 ?_
  refine k_iload_n hX 0 dX4_init_298 rfl rfl ?_
  refine k_iconst hX (v := (1 : Int32)) dX4_init_299 rfl ?_
  refine k_iast hX (a := 31) (e := 0) rfl rfl (by decide) dX4_init_300 ?_
  refine k_iinc hX (v := _) 0 dX4_init_301 rfl rfl (by decide) rfl ?_
  rw [show ((0 : Int32) + (1 : Int32)) = (1 : Int32) from by decide]
  refine k_goto hX 288 dX4_init_304 (by decide) ?_
  refine k_iload_n hX 0 dX4_init_288 rfl rfl ?_
  refine k_bipush hX (v := (6 : Int32)) dX4_init_289 rfl ?_
  refine k_icmp_ge hX 307 dX4_init_291 (by decide) (fun z => absurd z (by decide)) (fun _ => ?_)
  refine k_aload_n hX 1 dX4_init_294 rfl rfl ?_
  refine k_get hX (a := 30) (k := 0) rfl rfl rfl in_X4 (by decide) q1505 dX4_init_295 ?_
  refine k_iload_n hX 0 dX4_init_298 rfl rfl ?_
  refine k_iconst hX (v := (1 : Int32)) dX4_init_299 rfl ?_
  refine k_iast hX (a := 31) (e := 0) rfl rfl (by decide) dX4_init_300 ?_
  refine k_iinc hX (v := _) 0 dX4_init_301 rfl rfl (by decide) rfl ?_
  rw [show ((1 : Int32) + (1 : Int32)) = (2 : Int32) from by decide]
  refine k_goto hX 288 dX4_init_304 (by decide) ?_
  refine k_iload_n hX 0 dX4_init_288 rfl rfl ?_
  refine k_bipush hX (v := (6 : Int32)) dX4_init_289 rfl ?_
  refine k_icmp_ge hX 307 dX4_init_291 (by decide) (fun z => absurd z (by decide)) (fun _ => ?_)
  refine k_aload_n hX 1 dX4_init_294 rfl rfl ?_
  refine k_get hX (a := 30) (k := 0) rfl rfl rfl in_X4 (by decide) q1505 dX4_init_295 ?_
  refine k_iload_n hX 0 dX4_init_298 rfl rfl ?_
  refine k_iconst hX (v := (1 : Int32)) dX4_init_299 rfl ?_
  refine k_iast hX (a := 31) (e := 0) rfl rfl (by decide) dX4_init_300 ?_
  refine k_iinc hX (v := _) 0 dX4_init_301 rfl rfl (by decide) rfl ?_
  rw [show ((2 : Int32) + (1 : Int32)) = (3 : Int32) from by decide]
  refine k_goto hX 288 dX4_init_304 (by decide) ?_
  refine k_iload_n hX 0 dX4_init_288 rfl rfl ?_
  refine k_bipush hX (v := (6 : Int32)) dX4_init_289 rfl ?_
  refine k_icmp_ge hX 307 dX4_init_291 (by decide) (fun z => absurd z (by decide)) (fun _ => ?_)
  refine k_aload_n hX 1 dX4_init_294 rfl rfl ?_
  refine k_get hX (a := 30) (k := 0) rfl rfl rfl in_X4 (by decide) q1505 dX4_init_295 ?_
  refine k_iload_n hX 0 dX4_init_298 rfl rfl ?_
  refine k_iconst hX (v := (1 : Int32)) dX4_init_299 rfl ?_
  refine k_iast hX (a := 31) (e := 0) rfl rfl (by decide) dX4_init_300 ?_
  refine k_iinc hX (v := _) 0 dX4_init_301 rfl rfl (by decide) rfl ?_
  rw [show ((3 : Int32) + (1 : Int32)) = (4 : Int32) from by decide]
  refine k_goto hX 288 dX4_init_304 (by decide) ?_
  refine k_iload_n hX 0 dX4_init_288 rfl rfl ?_
  refine k_bipush hX (v := (6 : Int32)) dX4_init_289 rfl ?_
  refine k_icmp_ge hX 307 dX4_init_291 (by decide) (fun z => absurd z (by decide)) (fun _ => ?_)
  refine k_aload_n hX 1 dX4_init_294 rfl rfl ?_
  refine k_get hX (a := 30) (k := 0) rfl rfl rfl in_X4 (by decide) q1505 dX4_init_295 ?_
  refine k_iload_n hX 0 dX4_init_298 rfl rfl ?_
  refine k_iconst hX (v := (1 : Int32)) dX4_init_299 rfl ?_
  refine k_iast hX (a := 31) (e := 0) rfl rfl (by decide) dX4_init_300 ?_
  refine k_iinc hX (v := _) 0 dX4_init_301 rfl rfl (by decide) rfl ?_
  rw [show ((4 : Int32) + (1 : Int32)) = (5 : Int32) from by decide]
  refine k_goto hX 288 dX4_init_304 (by decide) ?_
  refine k_iload_n hX 0 dX4_init_288 rfl rfl ?_
  refine k_bipush hX (v := (6 : Int32)) dX4_init_289 rfl ?_
  refine k_icmp_ge hX 307 dX4_init_291 (by decide) (fun z => absurd z (by decide)) (fun _ => ?_)
  refine k_aload_n hX 1 dX4_init_294 rfl rfl ?_
  refine k_get hX (a := 30) (k := 0) rfl rfl rfl in_X4 (by decide) q1505 dX4_init_295 ?_
  refine k_iload_n hX 0 dX4_init_298 rfl rfl ?_
  refine k_iconst hX (v := (1 : Int32)) dX4_init_299 rfl ?_
  refine k_iast hX (a := 31) (e := 0) rfl rfl (by decide) dX4_init_300 ?_
  refine k_iinc hX (v := _) 0 dX4_init_301 rfl rfl (by decide) rfl ?_
  rw [show ((5 : Int32) + (1 : Int32)) = (6 : Int32) from by decide]
  refine k_goto hX 288 dX4_init_304 (by decide) ?_
  refine k_iload_n hX 0 dX4_init_288 rfl rfl ?_
  refine k_bipush hX (v := (6 : Int32)) dX4_init_289 rfl ?_
  refine k_icmp_ge hX 307 dX4_init_291 (by decide) (fun _ => ?_) (fun z => absurd (by decide) z)
  exact k_vret hX hQ h0 dX4_init_307
