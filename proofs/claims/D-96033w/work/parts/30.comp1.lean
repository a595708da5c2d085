set_option maxRecDepth 100000
theorem df_X1 : ∀ j, j < 2 → defaultValue (tyX1 j) = vp_V (List.map dfl fl18) j := fun j hj => by
  rcases (show j = 0 ∨ j = 1 by omega) with rfl | rfl <;> rfl
theorem df_X2 : ∀ j, j < 3 → defaultValue (tyX2 j) = vp_V (List.map dfl fl19) j := fun j hj => by
  rcases (show j = 0 ∨ j = 1 ∨ j = 2 by omega) with rfl | rfl | rfl <;> rfl
theorem df_X5 : ∀ j, j < 4 → defaultValue (tyX5 j) = vp_V (List.map dfl fl20) j := fun j hj => by
  rcases (show j = 0 ∨ j = 1 ∨ j = 2 ∨ j = 3 by omega) with rfl | rfl | rfl | rfl <;> rfl
theorem df_X6 : ∀ j, j < 4 → defaultValue (tyX6 j) = vp_V (List.map dfl fl21) j := fun j hj => by
  rcases (show j = 0 ∨ j = 1 ∨ j = 2 ∨ j = 3 by omega) with rfl | rfl | rfl | rfl <;> rfl
theorem df_X15 : ∀ j, j < 3 → defaultValue (tyX15 j) = vp_V (List.map dfl fl22) j := fun j hj => by
  rcases (show j = 0 ∨ j = 1 ∨ j = 2 by omega) with rfl | rfl | rfl <;> rfl
theorem df_X17 : ∀ j, j < 2 → defaultValue (tyX17 j) = vp_V (List.map dfl [(0, 2400), (100, 2401)]) j := fun j hj => by
  rcases (show j = 0 ∨ j = 1 by omega) with rfl | rfl <;> rfl
theorem df_X18 : ∀ j, j < 3 → defaultValue (tyX18 j) = vp_V (List.map dfl [(0, 2400), (100, 2401), (100, 2402)]) j := fun j hj => by
  rcases (show j = 0 ∨ j = 1 ∨ j = 2 by omega) with rfl | rfl | rfl <;> rfl
theorem df_X19 : ∀ j, j < 3 → defaultValue (tyX19 j) = vp_V (List.map dfl [(0, 2400), (100, 2401), (100, 2403)]) j := fun j hj => by
  rcases (show j = 0 ∨ j = 1 ∨ j = 2 by omega) with rfl | rfl | rfl <;> rfl
theorem df_X20 : ∀ j, j < 4 → defaultValue (tyX20 j) = vp_V (List.map dfl [(0, 2400), (100, 2401), (100, 2403), (100, 2404)]) j := fun j hj => by
  rcases (show j = 0 ∨ j = 1 ∨ j = 2 ∨ j = 3 by omega) with rfl | rfl | rfl | rfl <;> rfl
theorem df_X21 : ∀ j, j < 4 → defaultValue (tyX21 j) = vp_V (List.map dfl [(0, 2400), (100, 2401), (100, 2402), (100, 2405)]) j := fun j hj => by
  rcases (show j = 0 ∨ j = 1 ∨ j = 2 ∨ j = 3 by omega) with rfl | rfl | rfl | rfl <;> rfl
theorem df_X22 : ∀ j, j < 5 → defaultValue (tyX22 j) = vp_V (List.map dfl [(0, 2400), (100, 2401), (100, 2403), (100, 2404), (100, 2406)]) j := fun j hj => by
  rcases (show j = 0 ∨ j = 1 ∨ j = 2 ∨ j = 3 ∨ j = 4 by omega) with rfl | rfl | rfl | rfl | rfl <;> rfl
theorem df_X23 : ∀ j, j < 3 → defaultValue (tyX23 j) = vp_V (List.map dfl [(0, 2400), (100, 2401), (100, 2407)]) j := fun j hj => by
  rcases (show j = 0 ∨ j = 1 ∨ j = 2 by omega) with rfl | rfl | rfl <;> rfl
theorem df_X24 : ∀ j, j < 5 → defaultValue (tyX24 j) = vp_V (List.map dfl [(0, 2400), (100, 2401), (100, 2402), (100, 2405), (100, 2408)]) j := fun j hj => by
  rcases (show j = 0 ∨ j = 1 ∨ j = 2 ∨ j = 3 ∨ j = 4 by omega) with rfl | rfl | rfl | rfl | rfl <;> rfl
theorem df_X26 : ∀ j, j < 1 → defaultValue (tyX26 j) = vp_V (List.map dfl [(125, 2410)]) j := fun j hj => by
  rcases (show j = 0 by omega) with rfl <;> rfl
theorem df_X27 : ∀ j, j < 1 → defaultValue (tyX27 j) = vp_V (List.map dfl [(126, 2411)]) j := fun j hj => by
  rcases (show j = 0 by omega) with rfl <;> rfl
theorem df_X28 : ∀ j, j < 1 → defaultValue (tyX28 j) = vp_V (List.map dfl [(127, 2412)]) j := fun j hj => by
  rcases (show j = 0 by omega) with rfl <;> rfl
theorem df_X29 : ∀ j, j < 1 → defaultValue (tyX29 j) = vp_V (List.map dfl [(128, 2413)]) j := fun j hj => by
  rcases (show j = 0 by omega) with rfl <;> rfl
theorem df_X30 : ∀ j, j < 1 → defaultValue (tyX30 j) = vp_V (List.map dfl [(129, 2414)]) j := fun j hj => by
  rcases (show j = 0 by omega) with rfl <;> rfl
theorem df_X8 : ∀ j, j < 3 → defaultValue (tyX8 j) = vp_V (List.map dfl fl24) j := fun j hj => by
  rcases (show j = 0 ∨ j = 1 ∨ j = 2 by omega) with rfl | rfl | rfl <;> rfl
theorem df_X13 : ∀ j, j < 1 → defaultValue (tyX13 j) = vp_V (List.map dfl [(0, 3100)]) j := fun j hj => by
  rcases (show j = 0 by omega) with rfl <;> rfl
theorem df_X10 : ∀ j, j < 1 → defaultValue (tyX10 j) = vp_V (List.map dfl [(0, 3105)]) j := fun j hj => by
  rcases (show j = 0 by omega) with rfl <;> rfl
theorem df_X12 : ∀ j, j < 1 → defaultValue (tyX12 j) = vp_V (List.map dfl [(130, 3101)]) j := fun j hj => by
  rcases (show j = 0 by omega) with rfl <;> rfl
theorem df_X11 : ∀ j, j < 1 → defaultValue (tyX11 j) = vp_V (List.map dfl [(130, 3102)]) j := fun j hj => by
  rcases (show j = 0 by omega) with rfl <;> rfl
theorem df_X14 : ∀ j, j < 3 → defaultValue (tyX14 j) = vp_V (List.map dfl [(0, 3106), (130, 3103), (130, 3104)]) j := fun j hj => by
  rcases (show j = 0 ∨ j = 1 ∨ j = 2 by omega) with rfl | rfl | rfl <;> rfl
theorem df_X7 : ∀ j, j < 4 → defaultValue (tyX7 j) = vp_V (List.map dfl fl31) j := fun j hj => by
  rcases (show j = 0 ∨ j = 1 ∨ j = 2 ∨ j = 3 by omega) with rfl | rfl | rfl | rfl <;> rfl
theorem hy_J13_bitCount : yJ13_bitCount.cls ≠ "java/lang/invoke/MethodHandle" ∧ yJ13_bitCount.cls ≠ "java/lang/invoke/VarHandle" ∧ (parseMethodDescriptor yJ13_bitCount.desc).map (fun d => d.parameters.length) = some 1 := by decide +kernel
theorem hy_J4_indexOf : yJ4_indexOf.cls ≠ "java/lang/invoke/MethodHandle" ∧ yJ4_indexOf.cls ≠ "java/lang/invoke/VarHandle" ∧ (parseMethodDescriptor yJ4_indexOf.desc).map (fun d => d.parameters.length) = some 1 := by decide +kernel
theorem hy_J4_indexOf_2 : yJ4_indexOf_2.cls ≠ "java/lang/invoke/MethodHandle" ∧ yJ4_indexOf_2.cls ≠ "java/lang/invoke/VarHandle" ∧ (parseMethodDescriptor yJ4_indexOf_2.desc).map (fun d => d.parameters.length) = some 2 := by decide +kernel
theorem hy_J4_isLatin1 : yJ4_isLatin1.cls ≠ "java/lang/invoke/MethodHandle" ∧ yJ4_isLatin1.cls ≠ "java/lang/invoke/VarHandle" ∧ (parseMethodDescriptor yJ4_isLatin1.desc).map (fun d => d.parameters.length) = some 0 := by decide +kernel
theorem hy_J4_length : yJ4_length.cls ≠ "java/lang/invoke/MethodHandle" ∧ yJ4_length.cls ≠ "java/lang/invoke/VarHandle" ∧ (parseMethodDescriptor yJ4_length.desc).map (fun d => d.parameters.length) = some 0 := by decide +kernel
theorem hy_J4_coder : yJ4_coder.cls ≠ "java/lang/invoke/MethodHandle" ∧ yJ4_coder.cls ≠ "java/lang/invoke/VarHandle" ∧ (parseMethodDescriptor yJ4_coder.desc).map (fun d => d.parameters.length) = some 0 := by decide +kernel
theorem hy_J8_indexOf : yJ8_indexOf.cls ≠ "java/lang/invoke/MethodHandle" ∧ yJ8_indexOf.cls ≠ "java/lang/invoke/VarHandle" ∧ (parseMethodDescriptor yJ8_indexOf.desc).map (fun d => d.parameters.length) = some 4 := by decide +kernel
theorem hy_J8_canEncode : yJ8_canEncode.cls ≠ "java/lang/invoke/MethodHandle" ∧ yJ8_canEncode.cls ≠ "java/lang/invoke/VarHandle" ∧ (parseMethodDescriptor yJ8_canEncode.desc).map (fun d => d.parameters.length) = some 1 := by decide +kernel
theorem hy_J8_indexOfChar : yJ8_indexOfChar.cls ≠ "java/lang/invoke/MethodHandle" ∧ yJ8_indexOfChar.cls ≠ "java/lang/invoke/VarHandle" ∧ (parseMethodDescriptor yJ8_indexOfChar.desc).map (fun d => d.parameters.length) = some 4 := by decide +kernel
theorem hy_C_part : yX0_part.cls ≠ "java/lang/invoke/MethodHandle" ∧ yX0_part.cls ≠ "java/lang/invoke/VarHandle" ∧ (parseMethodDescriptor yX0_part.desc).map (fun d => d.parameters.length) = some 1 := by decide +kernel
theorem hy_C_in : yX0_in.cls ≠ "java/lang/invoke/MethodHandle" ∧ yX0_in.cls ≠ "java/lang/invoke/VarHandle" ∧ (parseMethodDescriptor yX0_in.desc).map (fun d => d.parameters.length) = some 3 := by decide +kernel
theorem hy_C_addPart : yX0_addPart.cls ≠ "java/lang/invoke/MethodHandle" ∧ yX0_addPart.cls ≠ "java/lang/invoke/VarHandle" ∧ (parseMethodDescriptor yX0_addPart.desc).map (fun d => d.parameters.length) = some 2 := by decide +kernel
theorem hy_C_parts : yX0_parts.cls ≠ "java/lang/invoke/MethodHandle" ∧ yX0_parts.cls ≠ "java/lang/invoke/VarHandle" ∧ (parseMethodDescriptor yX0_parts.desc).map (fun d => d.parameters.length) = some 3 := by decide +kernel
theorem hy_C_isShelf : yX0_isShelf.cls ≠ "java/lang/invoke/MethodHandle" ∧ yX0_isShelf.cls ≠ "java/lang/invoke/VarHandle" ∧ (parseMethodDescriptor yX0_isShelf.desc).map (fun d => d.parameters.length) = some 1 := by decide +kernel
theorem hy_C_find : yX0_find.cls ≠ "java/lang/invoke/MethodHandle" ∧ yX0_find.cls ≠ "java/lang/invoke/VarHandle" ∧ (parseMethodDescriptor yX0_find.desc).map (fun d => d.parameters.length) = some 2 := by decide +kernel
theorem hy_C_isFound : yX0_isFound.cls ≠ "java/lang/invoke/MethodHandle" ∧ yX0_isFound.cls ≠ "java/lang/invoke/VarHandle" ∧ (parseMethodDescriptor yX0_isFound.desc).map (fun d => d.parameters.length) = some 1 := by decide +kernel
theorem hy_C_isPart : yX0_isPart.cls ≠ "java/lang/invoke/MethodHandle" ∧ yX0_isPart.cls ≠ "java/lang/invoke/VarHandle" ∧ (parseMethodDescriptor yX0_isPart.desc).map (fun d => d.parameters.length) = some 1 := by decide +kernel
theorem hy_C_isMark : yX0_isMark.cls ≠ "java/lang/invoke/MethodHandle" ∧ yX0_isMark.cls ≠ "java/lang/invoke/VarHandle" ∧ (parseMethodDescriptor yX0_isMark.desc).map (fun d => d.parameters.length) = some 1 := by decide +kernel
theorem hy_C_of : yX0_of.cls ≠ "java/lang/invoke/MethodHandle" ∧ yX0_of.cls ≠ "java/lang/invoke/VarHandle" ∧ (parseMethodDescriptor yX0_of.desc).map (fun d => d.parameters.length) = some 2 := by decide +kernel
theorem hy_C_isKind : yX0_isKind.cls ≠ "java/lang/invoke/MethodHandle" ∧ yX0_isKind.cls ≠ "java/lang/invoke/VarHandle" ∧ (parseMethodDescriptor yX0_isKind.desc).map (fun d => d.parameters.length) = some 1 := by decide +kernel
theorem hy_C_undo : yX0_undo.cls ≠ "java/lang/invoke/MethodHandle" ∧ yX0_undo.cls ≠ "java/lang/invoke/VarHandle" ∧ (parseMethodDescriptor yX0_undo.desc).map (fun d => d.parameters.length) = some 0 := by decide +kernel
theorem hy_C_setTo : yX0_setTo.cls ≠ "java/lang/invoke/MethodHandle" ∧ yX0_setTo.cls ≠ "java/lang/invoke/VarHandle" ∧ (parseMethodDescriptor yX0_setTo.desc).map (fun d => d.parameters.length) = some 3 := by decide +kernel
theorem hy_C_redo : yX0_redo.cls ≠ "java/lang/invoke/MethodHandle" ∧ yX0_redo.cls ≠ "java/lang/invoke/VarHandle" ∧ (parseMethodDescriptor yX0_redo.desc).map (fun d => d.parameters.length) = some 0 := by decide +kernel
theorem hy_C_mend : yX0_mend.cls ≠ "java/lang/invoke/MethodHandle" ∧ yX0_mend.cls ≠ "java/lang/invoke/VarHandle" ∧ (parseMethodDescriptor yX0_mend.desc).map (fun d => d.parameters.length) = some 3 := by decide +kernel
theorem hy_C_become : yX0_become.cls ≠ "java/lang/invoke/MethodHandle" ∧ yX0_become.cls ≠ "java/lang/invoke/VarHandle" ∧ (parseMethodDescriptor yX0_become.desc).map (fun d => d.parameters.length) = some 4 := by decide +kernel
theorem hy_C_feed : yX0_feed.cls ≠ "java/lang/invoke/MethodHandle" ∧ yX0_feed.cls ≠ "java/lang/invoke/VarHandle" ∧ (parseMethodDescriptor yX0_feed.desc).map (fun d => d.parameters.length) = some 1 := by decide +kernel
theorem hy_C_law : yX0_law.cls ≠ "java/lang/invoke/MethodHandle" ∧ yX0_law.cls ≠ "java/lang/invoke/VarHandle" ∧ (parseMethodDescriptor yX0_law.desc).map (fun d => d.parameters.length) = some 1 := by decide +kernel
theorem hy_C_number : yX0_number.cls ≠ "java/lang/invoke/MethodHandle" ∧ yX0_number.cls ≠ "java/lang/invoke/VarHandle" ∧ (parseMethodDescriptor yX0_number.desc).map (fun d => d.parameters.length) = some 2 := by decide +kernel
theorem hy_C_isTime : yX0_isTime.cls ≠ "java/lang/invoke/MethodHandle" ∧ yX0_isTime.cls ≠ "java/lang/invoke/VarHandle" ∧ (parseMethodDescriptor yX0_isTime.desc).map (fun d => d.parameters.length) = some 1 := by decide +kernel
theorem hy_C_numberOf : yX0_numberOf.cls ≠ "java/lang/invoke/MethodHandle" ∧ yX0_numberOf.cls ≠ "java/lang/invoke/VarHandle" ∧ (parseMethodDescriptor yX0_numberOf.desc).map (fun d => d.parameters.length) = some 4 := by decide +kernel
theorem hy_C_gives : yX0_gives.cls ≠ "java/lang/invoke/MethodHandle" ∧ yX0_gives.cls ≠ "java/lang/invoke/VarHandle" ∧ (parseMethodDescriptor yX0_gives.desc).map (fun d => d.parameters.length) = some 2 := by decide +kernel
theorem hy_C_likely : yX0_likely.cls ≠ "java/lang/invoke/MethodHandle" ∧ yX0_likely.cls ≠ "java/lang/invoke/VarHandle" ∧ (parseMethodDescriptor yX0_likely.desc).map (fun d => d.parameters.length) = some 2 := by decide +kernel
theorem hy_C_isPartKind : yX0_isPartKind.cls ≠ "java/lang/invoke/MethodHandle" ∧ yX0_isPartKind.cls ≠ "java/lang/invoke/VarHandle" ∧ (parseMethodDescriptor yX0_isPartKind.desc).map (fun d => d.parameters.length) = some 1 := by decide +kernel
theorem hy_C_findWeights : yX0_findWeights.cls ≠ "java/lang/invoke/MethodHandle" ∧ yX0_findWeights.cls ≠ "java/lang/invoke/VarHandle" ∧ (parseMethodDescriptor yX0_findWeights.desc).map (fun d => d.parameters.length) = some 1 := by decide +kernel
theorem hy_C_findNumbers : yX0_findNumbers.cls ≠ "java/lang/invoke/MethodHandle" ∧ yX0_findNumbers.cls ≠ "java/lang/invoke/VarHandle" ∧ (parseMethodDescriptor yX0_findNumbers.desc).map (fun d => d.parameters.length) = some 1 := by decide +kernel
theorem hy_C_weigh : yX0_weigh.cls ≠ "java/lang/invoke/MethodHandle" ∧ yX0_weigh.cls ≠ "java/lang/invoke/VarHandle" ∧ (parseMethodDescriptor yX0_weigh.desc).map (fun d => d.parameters.length) = some 0 := by decide +kernel
theorem hy_C_numberAt : yX0_numberAt.cls ≠ "java/lang/invoke/MethodHandle" ∧ yX0_numberAt.cls ≠ "java/lang/invoke/VarHandle" ∧ (parseMethodDescriptor yX0_numberAt.desc).map (fun d => d.parameters.length) = some 2 := by decide +kernel
theorem hy_C_common : yX0_common.cls ≠ "java/lang/invoke/MethodHandle" ∧ yX0_common.cls ≠ "java/lang/invoke/VarHandle" ∧ (parseMethodDescriptor yX0_common.desc).map (fun d => d.parameters.length) = some 2 := by decide +kernel
theorem hy_C_percent : yX0_percent.cls ≠ "java/lang/invoke/MethodHandle" ∧ yX0_percent.cls ≠ "java/lang/invoke/VarHandle" ∧ (parseMethodDescriptor yX0_percent.desc).map (fun d => d.parameters.length) = some 1 := by decide +kernel
theorem hy_C_percentOf : yX0_percentOf.cls ≠ "java/lang/invoke/MethodHandle" ∧ yX0_percentOf.cls ≠ "java/lang/invoke/VarHandle" ∧ (parseMethodDescriptor yX0_percentOf.desc).map (fun d => d.parameters.length) = some 1 := by decide +kernel
theorem hy_C_likeliest : yX0_likeliest.cls ≠ "java/lang/invoke/MethodHandle" ∧ yX0_likeliest.cls ≠ "java/lang/invoke/VarHandle" ∧ (parseMethodDescriptor yX0_likeliest.desc).map (fun d => d.parameters.length) = some 1 := by decide +kernel
theorem hy_C_best : yX0_best.cls ≠ "java/lang/invoke/MethodHandle" ∧ yX0_best.cls ≠ "java/lang/invoke/VarHandle" ∧ (parseMethodDescriptor yX0_best.desc).map (fun d => d.parameters.length) = some 0 := by decide +kernel
theorem hy_C_when : yX0_when.cls ≠ "java/lang/invoke/MethodHandle" ∧ yX0_when.cls ≠ "java/lang/invoke/VarHandle" ∧ (parseMethodDescriptor yX0_when.desc).map (fun d => d.parameters.length) = some 2 := by decide +kernel
theorem hy_C_whenOf : yX0_whenOf.cls ≠ "java/lang/invoke/MethodHandle" ∧ yX0_whenOf.cls ≠ "java/lang/invoke/VarHandle" ∧ (parseMethodDescriptor yX0_whenOf.desc).map (fun d => d.parameters.length) = some 1 := by decide +kernel
theorem hy_C_whole : yX0_whole.cls ≠ "java/lang/invoke/MethodHandle" ∧ yX0_whole.cls ≠ "java/lang/invoke/VarHandle" ∧ (parseMethodDescriptor yX0_whole.desc).map (fun d => d.parameters.length) = some 1 := by decide +kernel
theorem hy_C_two : yX0_two.cls ≠ "java/lang/invoke/MethodHandle" ∧ yX0_two.cls ≠ "java/lang/invoke/VarHandle" ∧ (parseMethodDescriptor yX0_two.desc).map (fun d => d.parameters.length) = some 0 := by decide +kernel
theorem hy_C_odd : yX0_odd.cls ≠ "java/lang/invoke/MethodHandle" ∧ yX0_odd.cls ≠ "java/lang/invoke/VarHandle" ∧ (parseMethodDescriptor yX0_odd.desc).map (fun d => d.parameters.length) = some 0 := by decide +kernel
theorem hy_C_next : yX0_next.cls ≠ "java/lang/invoke/MethodHandle" ∧ yX0_next.cls ≠ "java/lang/invoke/VarHandle" ∧ (parseMethodDescriptor yX0_next.desc).map (fun d => d.parameters.length) = some 1 := by decide +kernel
theorem hy_C_named : yX0_named.cls ≠ "java/lang/invoke/MethodHandle" ∧ yX0_named.cls ≠ "java/lang/invoke/VarHandle" ∧ (parseMethodDescriptor yX0_named.desc).map (fun d => d.parameters.length) = some 2 := by decide +kernel
theorem hy_C_isSet : yX0_isSet.cls ≠ "java/lang/invoke/MethodHandle" ∧ yX0_isSet.cls ≠ "java/lang/invoke/VarHandle" ∧ (parseMethodDescriptor yX0_isSet.desc).map (fun d => d.parameters.length) = some 1 := by decide +kernel
theorem hy_C_unseen : yX0_unseen.cls ≠ "java/lang/invoke/MethodHandle" ∧ yX0_unseen.cls ≠ "java/lang/invoke/VarHandle" ∧ (parseMethodDescriptor yX0_unseen.desc).map (fun d => d.parameters.length) = some 1 := by decide +kernel
theorem hy_C_namedOf : yX0_namedOf.cls ≠ "java/lang/invoke/MethodHandle" ∧ yX0_namedOf.cls ≠ "java/lang/invoke/VarHandle" ∧ (parseMethodDescriptor yX0_namedOf.desc).map (fun d => d.parameters.length) = some 3 := by decide +kernel
theorem hy_C_namedBy : yX0_namedBy.cls ≠ "java/lang/invoke/MethodHandle" ∧ yX0_namedBy.cls ≠ "java/lang/invoke/VarHandle" ∧ (parseMethodDescriptor yX0_namedBy.desc).map (fun d => d.parameters.length) = some 3 := by decide +kernel
theorem hy_C_plan : yX0_plan.cls ≠ "java/lang/invoke/MethodHandle" ∧ yX0_plan.cls ≠ "java/lang/invoke/VarHandle" ∧ (parseMethodDescriptor yX0_plan.desc).map (fun d => d.parameters.length) = some 2 := by decide +kernel
theorem hy_C_minutesOf : yX0_minutesOf.cls ≠ "java/lang/invoke/MethodHandle" ∧ yX0_minutesOf.cls ≠ "java/lang/invoke/VarHandle" ∧ (parseMethodDescriptor yX0_minutesOf.desc).map (fun d => d.parameters.length) = some 1 := by decide +kernel
theorem hy_C_believed : yX0_believed.cls ≠ "java/lang/invoke/MethodHandle" ∧ yX0_believed.cls ≠ "java/lang/invoke/VarHandle" ∧ (parseMethodDescriptor yX0_believed.desc).map (fun d => d.parameters.length) = some 2 := by decide +kernel
theorem hy_C_believedBy : yX0_believedBy.cls ≠ "java/lang/invoke/MethodHandle" ∧ yX0_believedBy.cls ≠ "java/lang/invoke/VarHandle" ∧ (parseMethodDescriptor yX0_believedBy.desc).map (fun d => d.parameters.length) = some 1 := by decide +kernel
theorem hy_C_weighMade : yX0_weighMade.cls ≠ "java/lang/invoke/MethodHandle" ∧ yX0_weighMade.cls ≠ "java/lang/invoke/VarHandle" ∧ (parseMethodDescriptor yX0_weighMade.desc).map (fun d => d.parameters.length) = some 1 := by decide +kernel
theorem hy_C_cheapest : yX0_cheapest.cls ≠ "java/lang/invoke/MethodHandle" ∧ yX0_cheapest.cls ≠ "java/lang/invoke/VarHandle" ∧ (parseMethodDescriptor yX0_cheapest.desc).map (fun d => d.parameters.length) = some 3 := by decide +kernel
theorem hy_C_costOf : yX0_costOf.cls ≠ "java/lang/invoke/MethodHandle" ∧ yX0_costOf.cls ≠ "java/lang/invoke/VarHandle" ∧ (parseMethodDescriptor yX0_costOf.desc).map (fun d => d.parameters.length) = some 1 := by decide +kernel
theorem hy_C_spoils : yX0_spoils.cls ≠ "java/lang/invoke/MethodHandle" ∧ yX0_spoils.cls ≠ "java/lang/invoke/VarHandle" ∧ (parseMethodDescriptor yX0_spoils.desc).map (fun d => d.parameters.length) = some 2 := by decide +kernel
theorem hy_C_price : yX0_price.cls ≠ "java/lang/invoke/MethodHandle" ∧ yX0_price.cls ≠ "java/lang/invoke/VarHandle" ∧ (parseMethodDescriptor yX0_price.desc).map (fun d => d.parameters.length) = some 1 := by decide +kernel
theorem hy_C_priceOf : yX0_priceOf.cls ≠ "java/lang/invoke/MethodHandle" ∧ yX0_priceOf.cls ≠ "java/lang/invoke/VarHandle" ∧ (parseMethodDescriptor yX0_priceOf.desc).map (fun d => d.parameters.length) = some 1 := by decide +kernel
theorem hy_C_paper : yX0_paper.cls ≠ "java/lang/invoke/MethodHandle" ∧ yX0_paper.cls ≠ "java/lang/invoke/VarHandle" ∧ (parseMethodDescriptor yX0_paper.desc).map (fun d => d.parameters.length) = some 2 := by decide +kernel
theorem hy_C_papers : yX0_papers.cls ≠ "java/lang/invoke/MethodHandle" ∧ yX0_papers.cls ≠ "java/lang/invoke/VarHandle" ∧ (parseMethodDescriptor yX0_papers.desc).map (fun d => d.parameters.length) = some 1 := by decide +kernel
theorem hy_C_clash : yX0_clash.cls ≠ "java/lang/invoke/MethodHandle" ∧ yX0_clash.cls ≠ "java/lang/invoke/VarHandle" ∧ (parseMethodDescriptor yX0_clash.desc).map (fun d => d.parameters.length) = some 0 := by decide +kernel
theorem hy_C_gaps : yX0_gaps.cls ≠ "java/lang/invoke/MethodHandle" ∧ yX0_gaps.cls ≠ "java/lang/invoke/VarHandle" ∧ (parseMethodDescriptor yX0_gaps.desc).map (fun d => d.parameters.length) = some 0 := by decide +kernel
theorem hy_C_houseOf : yX0_houseOf.cls ≠ "java/lang/invoke/MethodHandle" ∧ yX0_houseOf.cls ≠ "java/lang/invoke/VarHandle" ∧ (parseMethodDescriptor yX0_houseOf.desc).map (fun d => d.parameters.length) = some 1 := by decide +kernel
theorem hy_C_house : yX0_house.cls ≠ "java/lang/invoke/MethodHandle" ∧ yX0_house.cls ≠ "java/lang/invoke/VarHandle" ∧ (parseMethodDescriptor yX0_house.desc).map (fun d => d.parameters.length) = some 1 := by decide +kernel
theorem hy_C_drawn : yX0_drawn.cls ≠ "java/lang/invoke/MethodHandle" ∧ yX0_drawn.cls ≠ "java/lang/invoke/VarHandle" ∧ (parseMethodDescriptor yX0_drawn.desc).map (fun d => d.parameters.length) = some 3 := by decide +kernel
theorem hy_C_image : yX0_image.cls ≠ "java/lang/invoke/MethodHandle" ∧ yX0_image.cls ≠ "java/lang/invoke/VarHandle" ∧ (parseMethodDescriptor yX0_image.desc).map (fun d => d.parameters.length) = some 0 := by decide +kernel
theorem hy_C_back : yX0_back.cls ≠ "java/lang/invoke/MethodHandle" ∧ yX0_back.cls ≠ "java/lang/invoke/VarHandle" ∧ (parseMethodDescriptor yX0_back.desc).map (fun d => d.parameters.length) = some 0 := by decide +kernel
theorem hy_C_body : yX0_body.cls ≠ "java/lang/invoke/MethodHandle" ∧ yX0_body.cls ≠ "java/lang/invoke/VarHandle" ∧ (parseMethodDescriptor yX0_body.desc).map (fun d => d.parameters.length) = some 1 := by decide +kernel
theorem hy_C_made : yX0_made.cls ≠ "java/lang/invoke/MethodHandle" ∧ yX0_made.cls ≠ "java/lang/invoke/VarHandle" ∧ (parseMethodDescriptor yX0_made.desc).map (fun d => d.parameters.length) = some 1 := by decide +kernel
theorem hy_C_act : yX0_act.cls ≠ "java/lang/invoke/MethodHandle" ∧ yX0_act.cls ≠ "java/lang/invoke/VarHandle" ∧ (parseMethodDescriptor yX0_act.desc).map (fun d => d.parameters.length) = some 3 := by decide +kernel
theorem hy_C_isBody : yX0_isBody.cls ≠ "java/lang/invoke/MethodHandle" ∧ yX0_isBody.cls ≠ "java/lang/invoke/VarHandle" ∧ (parseMethodDescriptor yX0_isBody.desc).map (fun d => d.parameters.length) = some 1 := by decide +kernel
theorem hy_C_ran : yX0_ran.cls ≠ "java/lang/invoke/MethodHandle" ∧ yX0_ran.cls ≠ "java/lang/invoke/VarHandle" ∧ (parseMethodDescriptor yX0_ran.desc).map (fun d => d.parameters.length) = some 1 := by decide +kernel
theorem hy_C_trace : yX0_trace.cls ≠ "java/lang/invoke/MethodHandle" ∧ yX0_trace.cls ≠ "java/lang/invoke/VarHandle" ∧ (parseMethodDescriptor yX0_trace.desc).map (fun d => d.parameters.length) = some 1 := by decide +kernel
theorem hy_C_keep : yX0_keep.cls ≠ "java/lang/invoke/MethodHandle" ∧ yX0_keep.cls ≠ "java/lang/invoke/VarHandle" ∧ (parseMethodDescriptor yX0_keep.desc).map (fun d => d.parameters.length) = some 2 := by decide +kernel
theorem hy_C_row : yX0_row.cls ≠ "java/lang/invoke/MethodHandle" ∧ yX0_row.cls ≠ "java/lang/invoke/VarHandle" ∧ (parseMethodDescriptor yX0_row.desc).map (fun d => d.parameters.length) = some 3 := by decide +kernel
theorem hy_C_newRow : yX0_newRow.cls ≠ "java/lang/invoke/MethodHandle" ∧ yX0_newRow.cls ≠ "java/lang/invoke/VarHandle" ∧ (parseMethodDescriptor yX0_newRow.desc).map (fun d => d.parameters.length) = some 2 := by decide +kernel
theorem hy_C_put : yX0_put.cls ≠ "java/lang/invoke/MethodHandle" ∧ yX0_put.cls ≠ "java/lang/invoke/VarHandle" ∧ (parseMethodDescriptor yX0_put.desc).map (fun d => d.parameters.length) = some 3 := by decide +kernel
theorem hy_C_element : yX0_element.cls ≠ "java/lang/invoke/MethodHandle" ∧ yX0_element.cls ≠ "java/lang/invoke/VarHandle" ∧ (parseMethodDescriptor yX0_element.desc).map (fun d => d.parameters.length) = some 2 := by decide +kernel
theorem hy_C_shift : yX0_shift.cls ≠ "java/lang/invoke/MethodHandle" ∧ yX0_shift.cls ≠ "java/lang/invoke/VarHandle" ∧ (parseMethodDescriptor yX0_shift.desc).map (fun d => d.parameters.length) = some 5 := by decide +kernel
theorem hy_C_taken : yX0_taken.cls ≠ "java/lang/invoke/MethodHandle" ∧ yX0_taken.cls ≠ "java/lang/invoke/VarHandle" ∧ (parseMethodDescriptor yX0_taken.desc).map (fun d => d.parameters.length) = some 2 := by decide +kernel
theorem hy_C_count : yX0_count.cls ≠ "java/lang/invoke/MethodHandle" ∧ yX0_count.cls ≠ "java/lang/invoke/VarHandle" ∧ (parseMethodDescriptor yX0_count.desc).map (fun d => d.parameters.length) = some 1 := by decide +kernel
theorem hy_C_lookedAll : yX0_lookedAll.cls ≠ "java/lang/invoke/MethodHandle" ∧ yX0_lookedAll.cls ≠ "java/lang/invoke/VarHandle" ∧ (parseMethodDescriptor yX0_lookedAll.desc).map (fun d => d.parameters.length) = some 0 := by decide +kernel
theorem hy_X1_init : yX1_init.cls ≠ "java/lang/invoke/MethodHandle" ∧ yX1_init.cls ≠ "java/lang/invoke/VarHandle" ∧ (parseMethodDescriptor yX1_init.desc).map (fun d => d.parameters.length) = some 0 := by decide +kernel
theorem hy_X10_init : yX10_init.cls ≠ "java/lang/invoke/MethodHandle" ∧ yX10_init.cls ≠ "java/lang/invoke/VarHandle" ∧ (parseMethodDescriptor yX10_init.desc).map (fun d => d.parameters.length) = some 1 := by decide +kernel
theorem hy_X10_value : yX10_value.cls ≠ "java/lang/invoke/MethodHandle" ∧ yX10_value.cls ≠ "java/lang/invoke/VarHandle" ∧ (parseMethodDescriptor yX10_value.desc).map (fun d => d.parameters.length) = some 1 := by decide +kernel
theorem hy_X11_init : yX11_init.cls ≠ "java/lang/invoke/MethodHandle" ∧ yX11_init.cls ≠ "java/lang/invoke/VarHandle" ∧ (parseMethodDescriptor yX11_init.desc).map (fun d => d.parameters.length) = some 1 := by decide +kernel
theorem hy_X11_value : yX11_value.cls ≠ "java/lang/invoke/MethodHandle" ∧ yX11_value.cls ≠ "java/lang/invoke/VarHandle" ∧ (parseMethodDescriptor yX11_value.desc).map (fun d => d.parameters.length) = some 1 := by decide +kernel
theorem hy_X12_init : yX12_init.cls ≠ "java/lang/invoke/MethodHandle" ∧ yX12_init.cls ≠ "java/lang/invoke/VarHandle" ∧ (parseMethodDescriptor yX12_init.desc).map (fun d => d.parameters.length) = some 1 := by decide +kernel
theorem hy_X12_value : yX12_value.cls ≠ "java/lang/invoke/MethodHandle" ∧ yX12_value.cls ≠ "java/lang/invoke/VarHandle" ∧ (parseMethodDescriptor yX12_value.desc).map (fun d => d.parameters.length) = some 1 := by decide +kernel
theorem hy_X13_init : yX13_init.cls ≠ "java/lang/invoke/MethodHandle" ∧ yX13_init.cls ≠ "java/lang/invoke/VarHandle" ∧ (parseMethodDescriptor yX13_init.desc).map (fun d => d.parameters.length) = some 1 := by decide +kernel
theorem hy_X13_value : yX13_value.cls ≠ "java/lang/invoke/MethodHandle" ∧ yX13_value.cls ≠ "java/lang/invoke/VarHandle" ∧ (parseMethodDescriptor yX13_value.desc).map (fun d => d.parameters.length) = some 1 := by decide +kernel
theorem hy_X14_init : yX14_init.cls ≠ "java/lang/invoke/MethodHandle" ∧ yX14_init.cls ≠ "java/lang/invoke/VarHandle" ∧ (parseMethodDescriptor yX14_init.desc).map (fun d => d.parameters.length) = some 3 := by decide +kernel
theorem hy_X14_value : yX14_value.cls ≠ "java/lang/invoke/MethodHandle" ∧ yX14_value.cls ≠ "java/lang/invoke/VarHandle" ∧ (parseMethodDescriptor yX14_value.desc).map (fun d => d.parameters.length) = some 1 := by decide +kernel
theorem hy_X14_is : yX14_is.cls ≠ "java/lang/invoke/MethodHandle" ∧ yX14_is.cls ≠ "java/lang/invoke/VarHandle" ∧ (parseMethodDescriptor yX14_is.desc).map (fun d => d.parameters.length) = some 1 := by decide +kernel
theorem hy_X15_init : yX15_init.cls ≠ "java/lang/invoke/MethodHandle" ∧ yX15_init.cls ≠ "java/lang/invoke/VarHandle" ∧ (parseMethodDescriptor yX15_init.desc).map (fun d => d.parameters.length) = some 3 := by decide +kernel
theorem hy_X15_meets : yX15_meets.cls ≠ "java/lang/invoke/MethodHandle" ∧ yX15_meets.cls ≠ "java/lang/invoke/VarHandle" ∧ (parseMethodDescriptor yX15_meets.desc).map (fun d => d.parameters.length) = some 1 := by decide +kernel
theorem hy_X15_has : yX15_has.cls ≠ "java/lang/invoke/MethodHandle" ∧ yX15_has.cls ≠ "java/lang/invoke/VarHandle" ∧ (parseMethodDescriptor yX15_has.desc).map (fun d => d.parameters.length) = some 1 := by decide +kernel
theorem hy_X16_init : yX16_init.cls ≠ "java/lang/invoke/MethodHandle" ∧ yX16_init.cls ≠ "java/lang/invoke/VarHandle" ∧ (parseMethodDescriptor yX16_init.desc).map (fun d => d.parameters.length) = some 0 := by decide +kernel
theorem hy_X17_init : yX17_init.cls ≠ "java/lang/invoke/MethodHandle" ∧ yX17_init.cls ≠ "java/lang/invoke/VarHandle" ∧ (parseMethodDescriptor yX17_init.desc).map (fun d => d.parameters.length) = some 2 := by decide +kernel
theorem hy_X17_ages : yX17_ages.cls ≠ "java/lang/invoke/MethodHandle" ∧ yX17_ages.cls ≠ "java/lang/invoke/VarHandle" ∧ (parseMethodDescriptor yX17_ages.desc).map (fun d => d.parameters.length) = some 1 := by decide +kernel
theorem hy_X17_tells : yX17_tells.cls ≠ "java/lang/invoke/MethodHandle" ∧ yX17_tells.cls ≠ "java/lang/invoke/VarHandle" ∧ (parseMethodDescriptor yX17_tells.desc).map (fun d => d.parameters.length) = some 1 := by decide +kernel
theorem hy_X17_shows : yX17_shows.cls ≠ "java/lang/invoke/MethodHandle" ∧ yX17_shows.cls ≠ "java/lang/invoke/VarHandle" ∧ (parseMethodDescriptor yX17_shows.desc).map (fun d => d.parameters.length) = some 1 := by decide +kernel
theorem hy_X17_joins : yX17_joins.cls ≠ "java/lang/invoke/MethodHandle" ∧ yX17_joins.cls ≠ "java/lang/invoke/VarHandle" ∧ (parseMethodDescriptor yX17_joins.desc).map (fun d => d.parameters.length) = some 1 := by decide +kernel
theorem hy_X17_isUnder : yX17_isUnder.cls ≠ "java/lang/invoke/MethodHandle" ∧ yX17_isUnder.cls ≠ "java/lang/invoke/VarHandle" ∧ (parseMethodDescriptor yX17_isUnder.desc).map (fun d => d.parameters.length) = some 1 := by decide +kernel
theorem hy_X17_kind : yX17_kind.cls ≠ "java/lang/invoke/MethodHandle" ∧ yX17_kind.cls ≠ "java/lang/invoke/VarHandle" ∧ (parseMethodDescriptor yX17_kind.desc).map (fun d => d.parameters.length) = some 0 := by decide +kernel
theorem hy_X18_init : yX18_init.cls ≠ "java/lang/invoke/MethodHandle" ∧ yX18_init.cls ≠ "java/lang/invoke/VarHandle" ∧ (parseMethodDescriptor yX18_init.desc).map (fun d => d.parameters.length) = some 2 := by decide +kernel
theorem hy_X18_ages : yX18_ages.cls ≠ "java/lang/invoke/MethodHandle" ∧ yX18_ages.cls ≠ "java/lang/invoke/VarHandle" ∧ (parseMethodDescriptor yX18_ages.desc).map (fun d => d.parameters.length) = some 1 := by decide +kernel
theorem hy_X18_isUnder : yX18_isUnder.cls ≠ "java/lang/invoke/MethodHandle" ∧ yX18_isUnder.cls ≠ "java/lang/invoke/VarHandle" ∧ (parseMethodDescriptor yX18_isUnder.desc).map (fun d => d.parameters.length) = some 1 := by decide +kernel
theorem hy_X18_kind : yX18_kind.cls ≠ "java/lang/invoke/MethodHandle" ∧ yX18_kind.cls ≠ "java/lang/invoke/VarHandle" ∧ (parseMethodDescriptor yX18_kind.desc).map (fun d => d.parameters.length) = some 0 := by decide +kernel
theorem hy_X19_init : yX19_init.cls ≠ "java/lang/invoke/MethodHandle" ∧ yX19_init.cls ≠ "java/lang/invoke/VarHandle" ∧ (parseMethodDescriptor yX19_init.desc).map (fun d => d.parameters.length) = some 2 := by decide +kernel
theorem hy_X19_joins : yX19_joins.cls ≠ "java/lang/invoke/MethodHandle" ∧ yX19_joins.cls ≠ "java/lang/invoke/VarHandle" ∧ (parseMethodDescriptor yX19_joins.desc).map (fun d => d.parameters.length) = some 1 := by decide +kernel
theorem hy_X19_isUnder : yX19_isUnder.cls ≠ "java/lang/invoke/MethodHandle" ∧ yX19_isUnder.cls ≠ "java/lang/invoke/VarHandle" ∧ (parseMethodDescriptor yX19_isUnder.desc).map (fun d => d.parameters.length) = some 1 := by decide +kernel
theorem hy_X19_kind : yX19_kind.cls ≠ "java/lang/invoke/MethodHandle" ∧ yX19_kind.cls ≠ "java/lang/invoke/VarHandle" ∧ (parseMethodDescriptor yX19_kind.desc).map (fun d => d.parameters.length) = some 0 := by decide +kernel
theorem hy_X2_init : yX2_init.cls ≠ "java/lang/invoke/MethodHandle" ∧ yX2_init.cls ≠ "java/lang/invoke/VarHandle" ∧ (parseMethodDescriptor yX2_init.desc).map (fun d => d.parameters.length) = some 0 := by decide +kernel
theorem hy_X20_init : yX20_init.cls ≠ "java/lang/invoke/MethodHandle" ∧ yX20_init.cls ≠ "java/lang/invoke/VarHandle" ∧ (parseMethodDescriptor yX20_init.desc).map (fun d => d.parameters.length) = some 2 := by decide +kernel
theorem hy_X20_joins : yX20_joins.cls ≠ "java/lang/invoke/MethodHandle" ∧ yX20_joins.cls ≠ "java/lang/invoke/VarHandle" ∧ (parseMethodDescriptor yX20_joins.desc).map (fun d => d.parameters.length) = some 1 := by decide +kernel
theorem hy_X20_shows : yX20_shows.cls ≠ "java/lang/invoke/MethodHandle" ∧ yX20_shows.cls ≠ "java/lang/invoke/VarHandle" ∧ (parseMethodDescriptor yX20_shows.desc).map (fun d => d.parameters.length) = some 1 := by decide +kernel
theorem hy_X20_isUnder : yX20_isUnder.cls ≠ "java/lang/invoke/MethodHandle" ∧ yX20_isUnder.cls ≠ "java/lang/invoke/VarHandle" ∧ (parseMethodDescriptor yX20_isUnder.desc).map (fun d => d.parameters.length) = some 1 := by decide +kernel
theorem hy_X20_kind : yX20_kind.cls ≠ "java/lang/invoke/MethodHandle" ∧ yX20_kind.cls ≠ "java/lang/invoke/VarHandle" ∧ (parseMethodDescriptor yX20_kind.desc).map (fun d => d.parameters.length) = some 0 := by decide +kernel
theorem hy_X21_init : yX21_init.cls ≠ "java/lang/invoke/MethodHandle" ∧ yX21_init.cls ≠ "java/lang/invoke/VarHandle" ∧ (parseMethodDescriptor yX21_init.desc).map (fun d => d.parameters.length) = some 2 := by decide +kernel
theorem hy_X21_shows : yX21_shows.cls ≠ "java/lang/invoke/MethodHandle" ∧ yX21_shows.cls ≠ "java/lang/invoke/VarHandle" ∧ (parseMethodDescriptor yX21_shows.desc).map (fun d => d.parameters.length) = some 1 := by decide +kernel
theorem hy_X21_isUnder : yX21_isUnder.cls ≠ "java/lang/invoke/MethodHandle" ∧ yX21_isUnder.cls ≠ "java/lang/invoke/VarHandle" ∧ (parseMethodDescriptor yX21_isUnder.desc).map (fun d => d.parameters.length) = some 1 := by decide +kernel
theorem hy_X21_kind : yX21_kind.cls ≠ "java/lang/invoke/MethodHandle" ∧ yX21_kind.cls ≠ "java/lang/invoke/VarHandle" ∧ (parseMethodDescriptor yX21_kind.desc).map (fun d => d.parameters.length) = some 0 := by decide +kernel
theorem hy_X22_init : yX22_init.cls ≠ "java/lang/invoke/MethodHandle" ∧ yX22_init.cls ≠ "java/lang/invoke/VarHandle" ∧ (parseMethodDescriptor yX22_init.desc).map (fun d => d.parameters.length) = some 2 := by decide +kernel
theorem hy_X22_tells : yX22_tells.cls ≠ "java/lang/invoke/MethodHandle" ∧ yX22_tells.cls ≠ "java/lang/invoke/VarHandle" ∧ (parseMethodDescriptor yX22_tells.desc).map (fun d => d.parameters.length) = some 1 := by decide +kernel
theorem hy_X22_kind : yX22_kind.cls ≠ "java/lang/invoke/MethodHandle" ∧ yX22_kind.cls ≠ "java/lang/invoke/VarHandle" ∧ (parseMethodDescriptor yX22_kind.desc).map (fun d => d.parameters.length) = some 0 := by decide +kernel
theorem hy_X23_init : yX23_init.cls ≠ "java/lang/invoke/MethodHandle" ∧ yX23_init.cls ≠ "java/lang/invoke/VarHandle" ∧ (parseMethodDescriptor yX23_init.desc).map (fun d => d.parameters.length) = some 2 := by decide +kernel
theorem hy_X23_ages : yX23_ages.cls ≠ "java/lang/invoke/MethodHandle" ∧ yX23_ages.cls ≠ "java/lang/invoke/VarHandle" ∧ (parseMethodDescriptor yX23_ages.desc).map (fun d => d.parameters.length) = some 1 := by decide +kernel
theorem hy_X23_kind : yX23_kind.cls ≠ "java/lang/invoke/MethodHandle" ∧ yX23_kind.cls ≠ "java/lang/invoke/VarHandle" ∧ (parseMethodDescriptor yX23_kind.desc).map (fun d => d.parameters.length) = some 0 := by decide +kernel
theorem hy_X24_init : yX24_init.cls ≠ "java/lang/invoke/MethodHandle" ∧ yX24_init.cls ≠ "java/lang/invoke/VarHandle" ∧ (parseMethodDescriptor yX24_init.desc).map (fun d => d.parameters.length) = some 2 := by decide +kernel
theorem hy_X24_joins : yX24_joins.cls ≠ "java/lang/invoke/MethodHandle" ∧ yX24_joins.cls ≠ "java/lang/invoke/VarHandle" ∧ (parseMethodDescriptor yX24_joins.desc).map (fun d => d.parameters.length) = some 1 := by decide +kernel
theorem hy_X24_tells : yX24_tells.cls ≠ "java/lang/invoke/MethodHandle" ∧ yX24_tells.cls ≠ "java/lang/invoke/VarHandle" ∧ (parseMethodDescriptor yX24_tells.desc).map (fun d => d.parameters.length) = some 1 := by decide +kernel
theorem hy_X24_kind : yX24_kind.cls ≠ "java/lang/invoke/MethodHandle" ∧ yX24_kind.cls ≠ "java/lang/invoke/VarHandle" ∧ (parseMethodDescriptor yX24_kind.desc).map (fun d => d.parameters.length) = some 0 := by decide +kernel
theorem hy_X3_clear : yX3_clear.cls ≠ "java/lang/invoke/MethodHandle" ∧ yX3_clear.cls ≠ "java/lang/invoke/VarHandle" ∧ (parseMethodDescriptor yX3_clear.desc).map (fun d => d.parameters.length) = some 0 := by decide +kernel
theorem hy_X5_init : yX5_init.cls ≠ "java/lang/invoke/MethodHandle" ∧ yX5_init.cls ≠ "java/lang/invoke/VarHandle" ∧ (parseMethodDescriptor yX5_init.desc).map (fun d => d.parameters.length) = some 2 := by decide +kernel
theorem hy_X5_looked : yX5_looked.cls ≠ "java/lang/invoke/MethodHandle" ∧ yX5_looked.cls ≠ "java/lang/invoke/VarHandle" ∧ (parseMethodDescriptor yX5_looked.desc).map (fun d => d.parameters.length) = some 0 := by decide +kernel
theorem hy_X6_init : yX6_init.cls ≠ "java/lang/invoke/MethodHandle" ∧ yX6_init.cls ≠ "java/lang/invoke/VarHandle" ∧ (parseMethodDescriptor yX6_init.desc).map (fun d => d.parameters.length) = some 4 := by decide +kernel
theorem hy_X7_init : yX7_init.cls ≠ "java/lang/invoke/MethodHandle" ∧ yX7_init.cls ≠ "java/lang/invoke/VarHandle" ∧ (parseMethodDescriptor yX7_init.desc).map (fun d => d.parameters.length) = some 1 := by decide +kernel
theorem hy_X7_lines : yX7_lines.cls ≠ "java/lang/invoke/MethodHandle" ∧ yX7_lines.cls ≠ "java/lang/invoke/VarHandle" ∧ (parseMethodDescriptor yX7_lines.desc).map (fun d => d.parameters.length) = some 0 := by decide +kernel
theorem hy_X7_line : yX7_line.cls ≠ "java/lang/invoke/MethodHandle" ∧ yX7_line.cls ≠ "java/lang/invoke/VarHandle" ∧ (parseMethodDescriptor yX7_line.desc).map (fun d => d.parameters.length) = some 0 := by decide +kernel
theorem hy_X7_either : yX7_either.cls ≠ "java/lang/invoke/MethodHandle" ∧ yX7_either.cls ≠ "java/lang/invoke/VarHandle" ∧ (parseMethodDescriptor yX7_either.desc).map (fun d => d.parameters.length) = some 0 := by decide +kernel
theorem hy_X7_all : yX7_all.cls ≠ "java/lang/invoke/MethodHandle" ∧ yX7_all.cls ≠ "java/lang/invoke/VarHandle" ∧ (parseMethodDescriptor yX7_all.desc).map (fun d => d.parameters.length) = some 0 := by decide +kernel
theorem hy_X7_compared : yX7_compared.cls ≠ "java/lang/invoke/MethodHandle" ∧ yX7_compared.cls ≠ "java/lang/invoke/VarHandle" ∧ (parseMethodDescriptor yX7_compared.desc).map (fun d => d.parameters.length) = some 0 := by decide +kernel
theorem hy_X7_sum : yX7_sum.cls ≠ "java/lang/invoke/MethodHandle" ∧ yX7_sum.cls ≠ "java/lang/invoke/VarHandle" ∧ (parseMethodDescriptor yX7_sum.desc).map (fun d => d.parameters.length) = some 0 := by decide +kernel
theorem hy_X7_product : yX7_product.cls ≠ "java/lang/invoke/MethodHandle" ∧ yX7_product.cls ≠ "java/lang/invoke/VarHandle" ∧ (parseMethodDescriptor yX7_product.desc).map (fun d => d.parameters.length) = some 0 := by decide +kernel
theorem hy_X7_operand : yX7_operand.cls ≠ "java/lang/invoke/MethodHandle" ∧ yX7_operand.cls ≠ "java/lang/invoke/VarHandle" ∧ (parseMethodDescriptor yX7_operand.desc).map (fun d => d.parameters.length) = some 0 := by decide +kernel
theorem hy_X7_here : yX7_here.cls ≠ "java/lang/invoke/MethodHandle" ∧ yX7_here.cls ≠ "java/lang/invoke/VarHandle" ∧ (parseMethodDescriptor yX7_here.desc).map (fun d => d.parameters.length) = some 0 := by decide +kernel
theorem hy_X7_isOne : yX7_isOne.cls ≠ "java/lang/invoke/MethodHandle" ∧ yX7_isOne.cls ≠ "java/lang/invoke/VarHandle" ∧ (parseMethodDescriptor yX7_isOne.desc).map (fun d => d.parameters.length) = some 1 := by decide +kernel
theorem hy_X7_opens : yX7_opens.cls ≠ "java/lang/invoke/MethodHandle" ∧ yX7_opens.cls ≠ "java/lang/invoke/VarHandle" ∧ (parseMethodDescriptor yX7_opens.desc).map (fun d => d.parameters.length) = some 0 := by decide +kernel
theorem hy_X7_wrong : yX7_wrong.cls ≠ "java/lang/invoke/MethodHandle" ∧ yX7_wrong.cls ≠ "java/lang/invoke/VarHandle" ∧ (parseMethodDescriptor yX7_wrong.desc).map (fun d => d.parameters.length) = some 0 := by decide +kernel
theorem hy_X7_joined : yX7_joined.cls ≠ "java/lang/invoke/MethodHandle" ∧ yX7_joined.cls ≠ "java/lang/invoke/VarHandle" ∧ (parseMethodDescriptor yX7_joined.desc).map (fun d => d.parameters.length) = some 3 := by decide +kernel
theorem hy_X8_init : yX8_init.cls ≠ "java/lang/invoke/MethodHandle" ∧ yX8_init.cls ≠ "java/lang/invoke/VarHandle" ∧ (parseMethodDescriptor yX8_init.desc).map (fun d => d.parameters.length) = some 0 := by decide +kernel
theorem hy_X9_init : yX9_init.cls ≠ "java/lang/invoke/MethodHandle" ∧ yX9_init.cls ≠ "java/lang/invoke/VarHandle" ∧ (parseMethodDescriptor yX9_init.desc).map (fun d => d.parameters.length) = some 0 := by decide +kernel
def w_X13_value (W1 : Nat → St → (Int32 → St → Prop) → Prop) (x0 : Nat) (χ : St) (Q : Int32 → St → Prop) : Prop := (tg χ 30 x0 = 0) ∧ ((Q (gI χ 3100 x0 0) χ))
set_option maxHeartbeats 4000000 in
theorem mt_X13_value (l : Launch) (Γ : Gh) (W1 : Nat → St → (Int32 → St → Prop) → Prop) (F1 L1 : Nat) (h1 : MtN W1 F1 L1) (ad : Nat → Nat → Nat) (x0 : Nat) (χ : St) (Q : Int32 → St → Prop) : Mt l yX13_value (ws_ yX13_value cX13_value 2 (some .int)) (rmO (F1 + 2) (L1 + 40) χ) (Pm Γ ad χ [.ref (ad 30 x0), .ref (ad 6 0)] (x0 < cn χ 30 ∧ w_X13_value W1 x0 χ Q)) (Qm Γ true ad χ (pI Q)) (frB Γ) := by
  refine Mt.start (by decide) RX13 rfl (Nat.le_of_ble_eq_true rfl) ?_
  intro X hX hG _ _ hna _ ⟨hv0, hf⟩
  unfold w_X13_value at hf
  refine g_aload_n hX 0 dX13_value_0 rfl rfl ?_
  have hg1 := hf.1
  replace hf := hf.2
  refine g_getI hX (k := 0) hv0 (ff30_0 hg1) rfl rfl in_X13 (by decide) q736 dX13_value_1 ?_
  exact g_iret hX ⟨_, rfl, hf⟩ dX13_value_4

def w_X10_value (W1 : Nat → St → (Int32 → St → Prop) → Prop) (x0 : Nat) (χ : St) (Q : Int32 → St → Prop) : Prop := (tg χ 30 x0 = 1) ∧ ((vp_in (gI χ 3105 x0 0) 128) ∧ ((Q (gI χ 7 0 (gI χ 3105 x0 0).toNatClampNeg) χ)))
set_option maxHeartbeats 4000000 in
theorem mt_X10_value (l : Launch) (Γ : Gh) (W1 : Nat → St → (Int32 → St → Prop) → Prop) (F1 L1 : Nat) (h1 : MtN W1 F1 L1) (ad : Nat → Nat → Nat) (x0 : Nat) (χ : St) (Q : Int32 → St → Prop) : Mt l yX10_value (ws_ yX10_value cX10_value 2 (some .int)) (rmO (F1 + 2) (L1 + 40) χ) (Pm Γ ad χ [.ref (ad 30 x0), .ref (ad 6 0)] (x0 < cn χ 30 ∧ w_X10_value W1 x0 χ Q)) (Qm Γ true ad χ (pI Q)) (frB Γ) := by
  refine Mt.start (by decide) RX10 rfl (Nat.le_of_ble_eq_true rfl) ?_
  intro X hX hG _ _ hna _ ⟨hv0, hf⟩
  unfold w_X10_value at hf
  refine g_aload_n hX 1 dX10_value_0 rfl rfl ?_
  refine g_getKN hX (k := 0) (d := 7) (fc6 _) ff6 rfl (by decide) rfl rfl in_X3 (by decide) q185 dX10_value_1 ?_
  refine g_aload_n hX 0 dX10_value_4 rfl rfl ?_
  have hg1 := hf.1
  replace hf := hf.2
  refine g_getI hX (k := 0) hv0 (ff30_1 hg1) rfl rfl in_X10 (by decide) q697 dX10_value_5 ?_
  refine g_iald hX (fc7 _) ff7 rfl hf.1 dX10_value_8 ?_
  replace hf := hf.2
  exact g_iret hX ⟨_, rfl, hf⟩ dX10_value_9

def w_X12_value (W1 : Nat → St → (Int32 → St → Prop) → Prop) (x0 : Nat) (χ : St) (Q : Int32 → St → Prop) : Prop := (tg χ 30 x0 = 2) ∧ ((∃ z2, (gR χ 3101 x0 0) = some z2 ∧ ((W1 z2 χ (fun r3 χ4 => (Q (-r3) χ4))))))
set_option maxHeartbeats 4000000 in
theorem mt_X12_value (l : Launch) (Γ : Gh) (W1 : Nat → St → (Int32 → St → Prop) → Prop) (F1 L1 : Nat) (h1 : MtN W1 F1 L1) (ad : Nat → Nat → Nat) (x0 : Nat) (χ : St) (Q : Int32 → St → Prop) : Mt l yX12_value (ws_ yX12_value cX12_value 2 (some .int)) (rmO (F1 + 2) (L1 + 40) χ) (Pm Γ ad χ [.ref (ad 30 x0), .ref (ad 6 0)] (x0 < cn χ 30 ∧ w_X12_value W1 x0 χ Q)) (Qm Γ true ad χ (pI Q)) (frB Γ) := by
  refine Mt.start (by decide) RX12 rfl (Nat.le_of_ble_eq_true rfl) ?_
  intro X hX hG _ _ hna _ ⟨hv0, hf⟩
  unfold w_X12_value at hf
  refine g_aload_n hX 0 dX12_value_0 rfl rfl ?_
  have hg1 := hf.1
  replace hf := hf.2
  obtain ⟨z2, hz2, hf⟩ := hf
  refine g_getE hX (k := 0) hv0 (ff30_2 hg1) rfl (by decide) (by decide) rfl rfl rfl in_X12 (by decide) q725 dX12_value_1 hz2 (fun hvz2 => ?_)
  refine g_aload_n hX 1 dX12_value_4 rfl rfl ?_
  refine g_callNode hX h1 hf q797 ⟨by omega, by omega⟩ hvz2 (Nat.le_of_ble_eq_true rfl) dX12_value_5 (fun r3 χ4 hf hc4 => ?_)
  refine g_ineg hX dX12_value_8 ?_
  exact g_iret hX ⟨_, rfl, hf⟩ dX12_value_9

def w_X11_value (W1 : Nat → St → (Int32 → St → Prop) → Prop) (x0 : Nat) (χ : St) (Q : Int32 → St → Prop) : Prop := (tg χ 30 x0 = 3) ∧ ((∃ z2, (gR χ 3102 x0 0) = some z2 ∧ ((W1 z2 χ (fun r3 χ4 => ((¬ r3 = 0 → (Q (0 : Int32) χ4)) ∧ (r3 = 0 → (Q (1 : Int32) χ4))))))))
set_option maxHeartbeats 4000000 in
theorem mt_X11_value (l : Launch) (Γ : Gh) (W1 : Nat → St → (Int32 → St → Prop) → Prop) (F1 L1 : Nat) (h1 : MtN W1 F1 L1) (ad : Nat → Nat → Nat) (x0 : Nat) (χ : St) (Q : Int32 → St → Prop) : Mt l yX11_value (ws_ yX11_value cX11_value 2 (some .int)) (rmO (F1 + 2) (L1 + 40) χ) (Pm Γ ad χ [.ref (ad 30 x0), .ref (ad 6 0)] (x0 < cn χ 30 ∧ w_X11_value W1 x0 χ Q)) (Qm Γ true ad χ (pI Q)) (frB Γ) := by
  refine Mt.start (by decide) RX11 rfl (Nat.le_of_ble_eq_true rfl) ?_
  intro X hX hG _ _ hna _ ⟨hv0, hf⟩
  unfold w_X11_value at hf
  refine g_aload_n hX 0 dX11_value_0 rfl rfl ?_
  have hg1 := hf.1
  replace hf := hf.2
  obtain ⟨z2, hz2, hf⟩ := hf
  refine g_getE hX (k := 0) hv0 (ff30_3 hg1) rfl (by decide) (by decide) rfl rfl rfl in_X11 (by decide) q715 dX11_value_1 hz2 (fun hvz2 => ?_)
  refine g_aload_n hX 1 dX11_value_4 rfl rfl ?_
  refine g_callNode hX h1 hf q787 ⟨by omega, by omega⟩ hvz2 (Nat.le_of_ble_eq_true rfl) dX11_value_5 (fun r3 χ4 hf hc4 => ?_)
  refine g_if_ne hX 15 dX11_value_8 (by decide) (fun z => ?_) (fun z => ?_)
  · replace hf := hf.1 z
    refine g_iconst hX (v := (0 : Int32)) dX11_value_15 rfl ?_
    exact g_iret hX ⟨_, rfl, hf⟩ dX11_value_16
  · replace hf := hf.2 z
    refine g_iconst hX (v := (1 : Int32)) dX11_value_11 rfl ?_
    refine g_goto hX 16 dX11_value_12 (by decide) ?_
    exact g_iret hX ⟨_, rfl, hf⟩ dX11_value_16

def w_X14_is (x0 : Int32) (χ : St) (Q : Int32 → St → Prop) : Prop := ((x0 = 0 → (Q (0 : Int32) χ)) ∧ (¬ x0 = 0 → (Q (1 : Int32) χ)))
set_option maxHeartbeats 4000000 in
theorem mt_X14_is (l : Launch) (Γ : Gh) (ad : Nat → Nat → Nat) (x0 : Int32) (χ : St) (Q : Int32 → St → Prop) : Mt l yX14_is (ws_ yX14_is cX14_is 1 (some .int)) (rmO (0) (0) χ) (Pm Γ ad χ [.int x0] (w_X14_is x0 χ Q)) (Qm Γ true ad χ (pI Q)) (frB Γ) := by
  refine Mt.start (by decide) RX14 rfl (Nat.le_of_ble_eq_true rfl) ?_
  intro X hX hG _ _ hna _ hf
  unfold w_X14_is at hf
  refine g_iload_n hX 0 dX14_is_0 rfl rfl ?_
  refine g_if_eq hX 8 dX14_is_1 (by decide) (fun z => ?_) (fun z => ?_)
  · replace hf := hf.1 z
    refine g_iconst hX (v := (0 : Int32)) dX14_is_8 rfl ?_
    exact g_iret hX ⟨_, rfl, hf⟩ dX14_is_9
  · replace hf := hf.2 z
    refine g_iconst hX (v := (1 : Int32)) dX14_is_4 rfl ?_
    refine g_goto hX 9 dX14_is_5 (by decide) ?_
    exact g_iret hX ⟨_, rfl, hf⟩ dX14_is_9

def w_X14_value_246 (W1 : Nat → St → (Int32 → St → Prop) → Prop) (Q : Int32 → St → Prop) (z0 : Int32) (χ : St) : Prop := (w_X14_is z0 χ (fun r11 χ12 => (Q r11 χ12)))
def w_X14_value_245 (W1 : Nat → St → (Int32 → St → Prop) → Prop) (Q : Int32 → St → Prop) (χ : St) : Prop := (w_X14_value_246 W1 Q (0 : Int32) χ)
def w_X14_value_263 (W1 : Nat → St → (Int32 → St → Prop) → Prop) (Q : Int32 → St → Prop) (z0 : Int32) (χ : St) : Prop := (w_X14_is z0 χ (fun r13 χ14 => (Q r13 χ14)))
def w_X14_value_258 (W1 : Nat → St → (Int32 → St → Prop) → Prop) (Q : Int32 → St → Prop) (χ : St) : Prop := (w_X14_value_263 W1 Q (1 : Int32) χ)
def w_X14_value_201 (W1 : Nat → St → (Int32 → St → Prop) → Prop) (Q : Int32 → St → Prop) (z0 : Int32) (χ : St) : Prop := (w_X14_is z0 χ (fun r15 χ16 => (Q r15 χ16)))
def w_X14_value_215 (W1 : Nat → St → (Int32 → St → Prop) → Prop) (Q : Int32 → St → Prop) (z0 : Int32) (χ : St) : Prop := (w_X14_is z0 χ (fun r17 χ18 => (Q r17 χ18)))
def w_X14_value_229 (W1 : Nat → St → (Int32 → St → Prop) → Prop) (Q : Int32 → St → Prop) (z0 : Int32) (χ : St) : Prop := (w_X14_is z0 χ (fun r19 χ20 => (Q r19 χ20)))
def w_X14_value (W1 : Nat → St → (Int32 → St → Prop) → Prop) (x0 : Nat) (χ : St) (Q : Int32 → St → Prop) : Prop := (tg χ 30 x0 = 4) ∧ ((∃ z2, (gR χ 3103 x0 0) = some z2 ∧ ((W1 z2 χ (fun r3 χ4 => (tg χ4 30 x0 = 4) ∧ ((∃ z6, (gR χ4 3104 x0 0) = some z6 ∧ ((W1 z6 χ4 (fun r7 χ8 => (tg χ8 30 x0 = 4) ∧ ((∀ v10 : Int32, v10 = (gI χ8 3106 x0 0) → ((v10 = (37 : Int32) → ((r7 = 0 → (Q (0 : Int32) χ8)) ∧ (¬ r7 = 0 → ((¬ r7 = (-1 : Int32) → (¬ r7 = 0) ∧ ((Q (r3 - r3 / r7 * r7) χ8))) ∧ (r7 = (-1 : Int32) → (Q (0 : Int32) χ8)))))) ∧ (v10 = (38 : Int32) → ((r3 = 0 → (w_X14_value_245 W1 Q χ8)) ∧ (¬ r3 = 0 → ((r7 = 0 → (w_X14_value_245 W1 Q χ8)) ∧ (¬ r7 = 0 → (w_X14_value_246 W1 Q (1 : Int32) χ8)))))) ∧ (v10 = (39 : Int32) → ((¬ r3 = 0 → (w_X14_value_258 W1 Q χ8)) ∧ (r3 = 0 → ((r7 = 0 → (w_X14_value_263 W1 Q (0 : Int32) χ8)) ∧ (¬ r7 = 0 → (w_X14_value_258 W1 Q χ8)))))) ∧ (v10 = (40 : Int32) → ((¬ r3 = 0 → (w_X14_value_258 W1 Q χ8)) ∧ (r3 = 0 → ((r7 = 0 → (w_X14_value_263 W1 Q (0 : Int32) χ8)) ∧ (¬ r7 = 0 → (w_X14_value_258 W1 Q χ8)))))) ∧ (v10 = (41 : Int32) → ((¬ r3 = 0 → (w_X14_value_258 W1 Q χ8)) ∧ (r3 = 0 → ((r7 = 0 → (w_X14_value_263 W1 Q (0 : Int32) χ8)) ∧ (¬ r7 = 0 → (w_X14_value_258 W1 Q χ8)))))) ∧ (v10 = (42 : Int32) → (Q (r3 * r7) χ8)) ∧ (v10 = (43 : Int32) → (Q (r3 + r7) χ8)) ∧ (v10 = (44 : Int32) → ((¬ r3 = 0 → (w_X14_value_258 W1 Q χ8)) ∧ (r3 = 0 → ((r7 = 0 → (w_X14_value_263 W1 Q (0 : Int32) χ8)) ∧ (¬ r7 = 0 → (w_X14_value_258 W1 Q χ8)))))) ∧ (v10 = (45 : Int32) → (Q (r3 - r7) χ8)) ∧ (v10 = (46 : Int32) → ((¬ r3 = 0 → (w_X14_value_258 W1 Q χ8)) ∧ (r3 = 0 → ((r7 = 0 → (w_X14_value_263 W1 Q (0 : Int32) χ8)) ∧ (¬ r7 = 0 → (w_X14_value_258 W1 Q χ8)))))) ∧ (v10 = (47 : Int32) → ((¬ r7 = 0 → ((¬ r7 = (-1 : Int32) → (¬ r7 = 0) ∧ ((Q (r3 / r7) χ8))) ∧ (r7 = (-1 : Int32) → (Q (-r3) χ8)))) ∧ (r7 = 0 → (Q (0 : Int32) χ8)))) ∧ (v10 = (48 : Int32) → ((¬ r3 = 0 → (w_X14_value_258 W1 Q χ8)) ∧ (r3 = 0 → ((r7 = 0 → (w_X14_value_263 W1 Q (0 : Int32) χ8)) ∧ (¬ r7 = 0 → (w_X14_value_258 W1 Q χ8)))))) ∧ (v10 = (49 : Int32) → ((¬ r3 = 0 → (w_X14_value_258 W1 Q χ8)) ∧ (r3 = 0 → ((r7 = 0 → (w_X14_value_263 W1 Q (0 : Int32) χ8)) ∧ (¬ r7 = 0 → (w_X14_value_258 W1 Q χ8)))))) ∧ (v10 = (50 : Int32) → ((¬ r3 = 0 → (w_X14_value_258 W1 Q χ8)) ∧ (r3 = 0 → ((r7 = 0 → (w_X14_value_263 W1 Q (0 : Int32) χ8)) ∧ (¬ r7 = 0 → (w_X14_value_258 W1 Q χ8)))))) ∧ (v10 = (51 : Int32) → ((¬ r3 = 0 → (w_X14_value_258 W1 Q χ8)) ∧ (r3 = 0 → ((r7 = 0 → (w_X14_value_263 W1 Q (0 : Int32) χ8)) ∧ (¬ r7 = 0 → (w_X14_value_258 W1 Q χ8)))))) ∧ (v10 = (52 : Int32) → ((¬ r3 = 0 → (w_X14_value_258 W1 Q χ8)) ∧ (r3 = 0 → ((r7 = 0 → (w_X14_value_263 W1 Q (0 : Int32) χ8)) ∧ (¬ r7 = 0 → (w_X14_value_258 W1 Q χ8)))))) ∧ (v10 = (53 : Int32) → ((¬ r3 = 0 → (w_X14_value_258 W1 Q χ8)) ∧ (r3 = 0 → ((r7 = 0 → (w_X14_value_263 W1 Q (0 : Int32) χ8)) ∧ (¬ r7 = 0 → (w_X14_value_258 W1 Q χ8)))))) ∧ (v10 = (54 : Int32) → ((¬ r3 = 0 → (w_X14_value_258 W1 Q χ8)) ∧ (r3 = 0 → ((r7 = 0 → (w_X14_value_263 W1 Q (0 : Int32) χ8)) ∧ (¬ r7 = 0 → (w_X14_value_258 W1 Q χ8)))))) ∧ (v10 = (55 : Int32) → ((¬ r3 = 0 → (w_X14_value_258 W1 Q χ8)) ∧ (r3 = 0 → ((r7 = 0 → (w_X14_value_263 W1 Q (0 : Int32) χ8)) ∧ (¬ r7 = 0 → (w_X14_value_258 W1 Q χ8)))))) ∧ (v10 = (56 : Int32) → ((¬ r3 = 0 → (w_X14_value_258 W1 Q χ8)) ∧ (r3 = 0 → ((r7 = 0 → (w_X14_value_263 W1 Q (0 : Int32) χ8)) ∧ (¬ r7 = 0 → (w_X14_value_258 W1 Q χ8)))))) ∧ (v10 = (57 : Int32) → ((¬ r3 = 0 → (w_X14_value_258 W1 Q χ8)) ∧ (r3 = 0 → ((r7 = 0 → (w_X14_value_263 W1 Q (0 : Int32) χ8)) ∧ (¬ r7 = 0 → (w_X14_value_258 W1 Q χ8)))))) ∧ (v10 = (58 : Int32) → ((¬ r3 = 0 → (w_X14_value_258 W1 Q χ8)) ∧ (r3 = 0 → ((r7 = 0 → (w_X14_value_263 W1 Q (0 : Int32) χ8)) ∧ (¬ r7 = 0 → (w_X14_value_258 W1 Q χ8)))))) ∧ (v10 = (59 : Int32) → ((¬ r3 = 0 → (w_X14_value_258 W1 Q χ8)) ∧ (r3 = 0 → ((r7 = 0 → (w_X14_value_263 W1 Q (0 : Int32) χ8)) ∧ (¬ r7 = 0 → (w_X14_value_258 W1 Q χ8)))))) ∧ (v10 = (60 : Int32) → ((r7 ≤ r3 → (w_X14_value_201 W1 Q (0 : Int32) χ8)) ∧ (¬ r7 ≤ r3 → (w_X14_value_201 W1 Q (1 : Int32) χ8)))) ∧ (v10 = (61 : Int32) → ((¬ r3 = r7 → (w_X14_value_215 W1 Q (0 : Int32) χ8)) ∧ (r3 = r7 → (w_X14_value_215 W1 Q (1 : Int32) χ8)))) ∧ (v10 = (62 : Int32) → ((r3 ≤ r7 → (w_X14_value_229 W1 Q (0 : Int32) χ8)) ∧ (¬ r3 ≤ r7 → (w_X14_value_229 W1 Q (1 : Int32) χ8)))) ∧ (¬ v10 = (37 : Int32) → ¬ v10 = (38 : Int32) → ¬ v10 = (39 : Int32) → ¬ v10 = (40 : Int32) → ¬ v10 = (41 : Int32) → ¬ v10 = (42 : Int32) → ¬ v10 = (43 : Int32) → ¬ v10 = (44 : Int32) → ¬ v10 = (45 : Int32) → ¬ v10 = (46 : Int32) → ¬ v10 = (47 : Int32) → ¬ v10 = (48 : Int32) → ¬ v10 = (49 : Int32) → ¬ v10 = (50 : Int32) → ¬ v10 = (51 : Int32) → ¬ v10 = (52 : Int32) → ¬ v10 = (53 : Int32) → ¬ v10 = (54 : Int32) → ¬ v10 = (55 : Int32) → ¬ v10 = (56 : Int32) → ¬ v10 = (57 : Int32) → ¬ v10 = (58 : Int32) → ¬ v10 = (59 : Int32) → ¬ v10 = (60 : Int32) → ¬ v10 = (61 : Int32) → ¬ v10 = (62 : Int32) → ((¬ r3 = 0 → (w_X14_value_258 W1 Q χ8)) ∧ (r3 = 0 → ((r7 = 0 → (w_X14_value_263 W1 Q (0 : Int32) χ8)) ∧ (¬ r7 = 0 → (w_X14_value_258 W1 Q χ8)))))))))))))))))))
set_option maxHeartbeats 4000000 in
theorem mt_X14_value (l : Launch) (Γ : Gh) (W1 : Nat → St → (Int32 → St → Prop) → Prop) (F1 L1 : Nat) (h1 : MtN W1 F1 L1) (ad : Nat → Nat → Nat) (x0 : Nat) (χ : St) (Q : Int32 → St → Prop) : Mt l yX14_value (ws_ yX14_value cX14_value 4 (some .int)) (rmO (F1 + 2) (L1 + 40) χ) (Pm Γ ad χ [.ref (ad 30 x0), .ref (ad 6 0)] (x0 < cn χ 30 ∧ w_X14_value W1 x0 χ Q)) (Qm Γ true ad χ (pI Q)) (frB Γ) := by
  refine Mt.start (by decide) RX14 rfl (Nat.le_of_ble_eq_true rfl) ?_
  intro X hX hG _ _ hna _ ⟨hv0, hf⟩
  have B246 : ∀ (ad : Nat → Nat → Nat) (z0 : Int32) (χ : St), w_X14_value_246 W1 Q z0 χ → G X ad χ 246 [] [.int z0] := by
    intro ad z0 χ hf
    unfold w_X14_value_246 at hf
    refine g_callSi hX (n := 1) (mt_X14_is X.l X.Γ _ _ _ _) hf q798 q799 q112 q800 hy_X14_is ⟨by omega, by omega⟩ rfl rfl (Nat.le_of_ble_eq_true rfl) dX14_value_246 (fun r11 χ12 hf hc12 => ?_)
    exact g_iret hX ⟨_, rfl, hf⟩ dX14_value_249
  have B245 : ∀ (ad : Nat → Nat → Nat) (χ : St), w_X14_value_245 W1 Q χ → G X ad χ 245 [] [] := by
    intro ad χ hf
    unfold w_X14_value_245 at hf
    refine g_iconst hX (v := (0 : Int32)) dX14_value_245 rfl ?_
    exact B246 _ _ _ hf
  have B263 : ∀ (ad : Nat → Nat → Nat) (z0 : Int32) (χ : St), w_X14_value_263 W1 Q z0 χ → G X ad χ 263 [] [.int z0] := by
    intro ad z0 χ hf
    unfold w_X14_value_263 at hf
    refine g_callSi hX (n := 1) (mt_X14_is X.l X.Γ _ _ _ _) hf q798 q799 q112 q800 hy_X14_is ⟨by omega, by omega⟩ rfl rfl (Nat.le_of_ble_eq_true rfl) dX14_value_263 (fun r13 χ14 hf hc14 => ?_)
    exact g_iret hX ⟨_, rfl, hf⟩ dX14_value_266
  have B258 : ∀ (ad : Nat → Nat → Nat) (χ : St), w_X14_value_258 W1 Q χ → G X ad χ 258 [] [] := by
    intro ad χ hf
    unfold w_X14_value_258 at hf
    refine g_iconst hX (v := (1 : Int32)) dX14_value_258 rfl ?_
    refine g_goto hX 263 dX14_value_259 (by decide) ?_
    exact B263 _ _ _ hf
  have B201 : ∀ (ad : Nat → Nat → Nat) (z0 : Int32) (χ : St), w_X14_value_201 W1 Q z0 χ → G X ad χ 201 [] [.int z0] := by
    intro ad z0 χ hf
    unfold w_X14_value_201 at hf
    refine g_callSi hX (n := 1) (mt_X14_is X.l X.Γ _ _ _ _) hf q798 q799 q112 q800 hy_X14_is ⟨by omega, by omega⟩ rfl rfl (Nat.le_of_ble_eq_true rfl) dX14_value_201 (fun r15 χ16 hf hc16 => ?_)
    exact g_iret hX ⟨_, rfl, hf⟩ dX14_value_204
  have B215 : ∀ (ad : Nat → Nat → Nat) (z0 : Int32) (χ : St), w_X14_value_215 W1 Q z0 χ → G X ad χ 215 [] [.int z0] := by
    intro ad z0 χ hf
    unfold w_X14_value_215 at hf
    refine g_callSi hX (n := 1) (mt_X14_is X.l X.Γ _ _ _ _) hf q798 q799 q112 q800 hy_X14_is ⟨by omega, by omega⟩ rfl rfl (Nat.le_of_ble_eq_true rfl) dX14_value_215 (fun r17 χ18 hf hc18 => ?_)
    exact g_iret hX ⟨_, rfl, hf⟩ dX14_value_218
  have B229 : ∀ (ad : Nat → Nat → Nat) (z0 : Int32) (χ : St), w_X14_value_229 W1 Q z0 χ → G X ad χ 229 [] [.int z0] := by
    intro ad z0 χ hf
    unfold w_X14_value_229 at hf
    refine g_callSi hX (n := 1) (mt_X14_is X.l X.Γ _ _ _ _) hf q798 q799 q112 q800 hy_X14_is ⟨by omega, by omega⟩ rfl rfl (Nat.le_of_ble_eq_true rfl) dX14_value_229 (fun r19 χ20 hf hc20 => ?_)
    exact g_iret hX ⟨_, rfl, hf⟩ dX14_value_232
  unfold w_X14_value at hf
  refine g_aload_n hX 0 dX14_value_0 rfl rfl ?_
  have hg1 := hf.1
  replace hf := hf.2
  obtain ⟨z2, hz2, hf⟩ := hf
  refine g_getE hX (k := 1) hv0 (ff30_4 hg1) rfl (by decide) (by decide) rfl rfl rfl in_X14 (by decide) q752 dX14_value_1 hz2 (fun hvz2 => ?_)
  refine g_aload_n hX 1 dX14_value_4 rfl rfl ?_
  refine g_callNode hX h1 hf q794 ⟨by omega, by omega⟩ hvz2 (Nat.le_of_ble_eq_true rfl) dX14_value_5 (fun r3 χ4 hf hc4 => ?_)
  refine g_istore_n hX dX14_value_8 rfl (by decide) rfl ?_
  refine g_aload_n hX 1 dX14_value_9 rfl rfl ?_
  have hg5 := hf.1
  replace hf := hf.2
  obtain ⟨z6, hz6, hf⟩ := hf
  refine g_getE hX (k := 2) (Nat.lt_of_lt_of_le hv0 (hc4 30)) (ff30_4 hg5) rfl (by decide) (by decide) rfl rfl rfl in_X14 (by decide) q753 dX14_value_10 hz6 (fun hvz6 => ?_)
  refine g_aload_n hX 2 dX14_value_13 rfl rfl ?_
  refine g_callNode hX h1 hf q794 ⟨by omega, by omega⟩ hvz6 (Nat.le_of_ble_eq_true rfl) dX14_value_14 (fun r7 χ8 hf hc8 => ?_)
  refine g_istore_n hX dX14_value_17 rfl (by decide) rfl ?_
  refine g_aload_n hX 2 dX14_value_18 rfl rfl ?_
  have hg9 := hf.1
  replace hf := hf.2
  refine g_getI hX (k := 0) (Nat.lt_of_lt_of_le (Nat.lt_of_lt_of_le hv0 (hc4 30)) (hc8 30)) (ff30_4 hg9) rfl rfl in_X14 (by decide) q751 dX14_value_19 ?_
  replace hf := hf _ rfl
  by_cases z37 : (gI χ8 3106 x0 0) = (37 : Int32)
  · replace hf := hf.1 z37
    refine g_tableIn hX 174 dX14_value_22 (by rw [z37]; decide) (by rw [z37]; decide) (by rw [z37] <;> rfl) (by decide) ?_
    refine g_iload_n hX 0 dX14_value_174 rfl rfl ?_
    refine g_if_eq hX 183 dX14_value_175 (by decide) (fun z => ?_) (fun z => ?_)
    · replace hf := hf.1 z
      refine g_iconst hX (v := (0 : Int32)) dX14_value_183 rfl ?_
      refine g_goto hX 190 dX14_value_184 (by decide) ?_
      exact g_iret hX ⟨_, rfl, hf⟩ dX14_value_190
    · replace hf := hf.2 z
      refine g_iload_n hX 0 dX14_value_178 rfl rfl ?_
      refine g_iconst hX (v := (-1 : Int32)) dX14_value_179 rfl ?_
      refine g_icmp_ne hX 187 dX14_value_180 (by decide) (fun z => ?_) (fun z => ?_)
      · replace hf := hf.1 z
        refine g_iload_n hX 1 dX14_value_187 rfl rfl ?_
        refine g_iload_n hX 0 dX14_value_188 rfl rfl ?_
        refine g_irem hX dX14_value_189 hf.1 ?_
        replace hf := hf.2
        exact g_iret hX ⟨_, rfl, hf⟩ dX14_value_190
      · replace hf := hf.2 z
        refine g_iconst hX (v := (0 : Int32)) dX14_value_183 rfl ?_
        refine g_goto hX 190 dX14_value_184 (by decide) ?_
        exact g_iret hX ⟨_, rfl, hf⟩ dX14_value_190
  replace hf := hf.2
  by_cases z38 : (gI χ8 3106 x0 0) = (38 : Int32)
  · replace hf := hf.1 z38
    refine g_tableIn hX 233 dX14_value_22 (by rw [z38]; decide) (by rw [z38]; decide) (by rw [z38] <;> rfl) (by decide) ?_
    refine g_iload_n hX 1 dX14_value_233 rfl rfl ?_
    refine g_if_eq hX 245 dX14_value_234 (by decide) (fun z => ?_) (fun z => ?_)
    · replace hf := hf.1 z
      refine g_sub [] rfl ?_
      exact B245 _ _ hf
    · replace hf := hf.2 z
      refine g_iload_n hX 0 dX14_value_237 rfl rfl ?_
      refine g_if_eq hX 245 dX14_value_238 (by decide) (fun z => ?_) (fun z => ?_)
      · replace hf := hf.1 z
        refine g_sub [] rfl ?_
        exact B245 _ _ hf
      · replace hf := hf.2 z
        refine g_iconst hX (v := (1 : Int32)) dX14_value_241 rfl ?_
        refine g_goto hX 246 dX14_value_242 (by decide) ?_
        refine g_sub [] rfl ?_
        exact B246 _ _ _ hf
  replace hf := hf.2
  by_cases z39 : (gI χ8 3106 x0 0) = (39 : Int32)
  · replace hf := hf.1 z39
    refine g_tableIn hX 250 dX14_value_22 (by rw [z39]; decide) (by rw [z39]; decide) (by rw [z39] <;> rfl) (by decide) ?_
    refine g_iload_n hX 1 dX14_value_250 rfl rfl ?_
    refine g_if_ne hX 258 dX14_value_251 (by decide) (fun z => ?_) (fun z => ?_)
    · replace hf := hf.1 z
      refine g_sub [] rfl ?_
      exact B258 _ _ hf
    · replace hf := hf.2 z
      refine g_iload_n hX 0 dX14_value_254 rfl rfl ?_
      refine g_if_eq hX 262 dX14_value_255 (by decide) (fun z => ?_) (fun z => ?_)
      · replace hf := hf.1 z
        refine g_iconst hX (v := (0 : Int32)) dX14_value_262 rfl ?_
        refine g_sub [] rfl ?_
        exact B263 _ _ _ hf
      · replace hf := hf.2 z
        refine g_sub [] rfl ?_
        exact B258 _ _ hf
  replace hf := hf.2
  by_cases z40 : (gI χ8 3106 x0 0) = (40 : Int32)
  · replace hf := hf.1 z40
    refine g_tableIn hX 250 dX14_value_22 (by rw [z40]; decide) (by rw [z40]; decide) (by rw [z40] <;> rfl) (by decide) ?_
    refine g_iload_n hX 1 dX14_value_250 rfl rfl ?_
    refine g_if_ne hX 258 dX14_value_251 (by decide) (fun z => ?_) (fun z => ?_)
    · replace hf := hf.1 z
      refine g_sub [] rfl ?_
      exact B258 _ _ hf
    · replace hf := hf.2 z
      refine g_iload_n hX 0 dX14_value_254 rfl rfl ?_
      refine g_if_eq hX 262 dX14_value_255 (by decide) (fun z => ?_) (fun z => ?_)
      · replace hf := hf.1 z
        refine g_iconst hX (v := (0 : Int32)) dX14_value_262 rfl ?_
        refine g_sub [] rfl ?_
        exact B263 _ _ _ hf
      · replace hf := hf.2 z
        refine g_sub [] rfl ?_
        exact B258 _ _ hf
  replace hf := hf.2
  by_cases z41 : (gI χ8 3106 x0 0) = (41 : Int32)
  · replace hf := hf.1 z41
    refine g_tableIn hX 250 dX14_value_22 (by rw [z41]; decide) (by rw [z41]; decide) (by rw [z41] <;> rfl) (by decide) ?_
    refine g_iload_n hX 1 dX14_value_250 rfl rfl ?_
    refine g_if_ne hX 258 dX14_value_251 (by decide) (fun z => ?_) (fun z => ?_)
    · replace hf := hf.1 z
      refine g_sub [] rfl ?_
      exact B258 _ _ hf
    · replace hf := hf.2 z
      refine g_iload_n hX 0 dX14_value_254 rfl rfl ?_
      refine g_if_eq hX 262 dX14_value_255 (by decide) (fun z => ?_) (fun z => ?_)
      · replace hf := hf.1 z
        refine g_iconst hX (v := (0 : Int32)) dX14_value_262 rfl ?_
        refine g_sub [] rfl ?_
        exact B263 _ _ _ hf
      · replace hf := hf.2 z
        refine g_sub [] rfl ?_
        exact B258 _ _ hf
  replace hf := hf.2
  by_cases z42 : (gI χ8 3106 x0 0) = (42 : Int32)
  · replace hf := hf.1 z42
    refine g_tableIn hX 148 dX14_value_22 (by rw [z42]; decide) (by rw [z42]; decide) (by rw [z42] <;> rfl) (by decide) ?_
    refine g_iload_n hX 1 dX14_value_148 rfl rfl ?_
    refine g_iload_n hX 0 dX14_value_149 rfl rfl ?_
    refine g_imul hX dX14_value_150 ?_
    exact g_iret hX ⟨_, rfl, hf⟩ dX14_value_151
  replace hf := hf.2
  by_cases z43 : (gI χ8 3106 x0 0) = (43 : Int32)
  · replace hf := hf.1 z43
    refine g_tableIn hX 140 dX14_value_22 (by rw [z43]; decide) (by rw [z43]; decide) (by rw [z43] <;> rfl) (by decide) ?_
    refine g_iload_n hX 1 dX14_value_140 rfl rfl ?_
    refine g_iload_n hX 0 dX14_value_141 rfl rfl ?_
    refine g_iadd hX dX14_value_142 ?_
    exact g_iret hX ⟨_, rfl, hf⟩ dX14_value_143
  replace hf := hf.2
  by_cases z44 : (gI χ8 3106 x0 0) = (44 : Int32)
  · replace hf := hf.1 z44
    refine g_tableIn hX 250 dX14_value_22 (by rw [z44]; decide) (by rw [z44]; decide) (by rw [z44] <;> rfl) (by decide) ?_
    refine g_iload_n hX 1 dX14_value_250 rfl rfl ?_
    refine g_if_ne hX 258 dX14_value_251 (by decide) (fun z => ?_) (fun z => ?_)
    · replace hf := hf.1 z
      refine g_sub [] rfl ?_
      exact B258 _ _ hf
    · replace hf := hf.2 z
      refine g_iload_n hX 0 dX14_value_254 rfl rfl ?_
      refine g_if_eq hX 262 dX14_value_255 (by decide) (fun z => ?_) (fun z => ?_)
      · replace hf := hf.1 z
        refine g_iconst hX (v := (0 : Int32)) dX14_value_262 rfl ?_
        refine g_sub [] rfl ?_
        exact B263 _ _ _ hf
      · replace hf := hf.2 z
        refine g_sub [] rfl ?_
        exact B258 _ _ hf
  replace hf := hf.2
  by_cases z45 : (gI χ8 3106 x0 0) = (45 : Int32)
  · replace hf := hf.1 z45
    refine g_tableIn hX 144 dX14_value_22 (by rw [z45]; decide) (by rw [z45]; decide) (by rw [z45] <;> rfl) (by decide) ?_
    refine g_iload_n hX 1 dX14_value_144 rfl rfl ?_
    refine g_iload_n hX 0 dX14_value_145 rfl rfl ?_
    refine g_isub hX dX14_value_146 ?_
    exact g_iret hX ⟨_, rfl, hf⟩ dX14_value_147
  replace hf := hf.2
  by_cases z46 : (gI χ8 3106 x0 0) = (46 : Int32)
  · replace hf := hf.1 z46
    refine g_tableIn hX 250 dX14_value_22 (by rw [z46]; decide) (by rw [z46]; decide) (by rw [z46] <;> rfl) (by decide) ?_
    refine g_iload_n hX 1 dX14_value_250 rfl rfl ?_
    refine g_if_ne hX 258 dX14_value_251 (by decide) (fun z => ?_) (fun z => ?_)
    · replace hf := hf.1 z
      refine g_sub [] rfl ?_
      exact B258 _ _ hf
    · replace hf := hf.2 z
      refine g_iload_n hX 0 dX14_value_254 rfl rfl ?_
      refine g_if_eq hX 262 dX14_value_255 (by decide) (fun z => ?_) (fun z => ?_)
      · replace hf := hf.1 z
        refine g_iconst hX (v := (0 : Int32)) dX14_value_262 rfl ?_
        refine g_sub [] rfl ?_
        exact B263 _ _ _ hf
      · replace hf := hf.2 z
        refine g_sub [] rfl ?_
        exact B258 _ _ hf
  replace hf := hf.2
  by_cases z47 : (gI χ8 3106 x0 0) = (47 : Int32)
  · replace hf := hf.1 z47
    refine g_tableIn hX 152 dX14_value_22 (by rw [z47]; decide) (by rw [z47]; decide) (by rw [z47] <;> rfl) (by decide) ?_
    refine g_iload_n hX 0 dX14_value_152 rfl rfl ?_
    refine g_if_ne hX 160 dX14_value_153 (by decide) (fun z => ?_) (fun z => ?_)
    · replace hf := hf.1 z
      refine g_iload_n hX 0 dX14_value_160 rfl rfl ?_
      refine g_iconst hX (v := (-1 : Int32)) dX14_value_161 rfl ?_
      refine g_icmp_ne hX 170 dX14_value_162 (by decide) (fun z => ?_) (fun z => ?_)
      · replace hf := hf.1 z
        refine g_iload_n hX 1 dX14_value_170 rfl rfl ?_
        refine g_iload_n hX 0 dX14_value_171 rfl rfl ?_
        refine g_idiv hX dX14_value_172 hf.1 ?_
        replace hf := hf.2
        exact g_iret hX ⟨_, rfl, hf⟩ dX14_value_173
      · replace hf := hf.2 z
        refine g_iload_n hX 1 dX14_value_165 rfl rfl ?_
        refine g_ineg hX dX14_value_166 ?_
        refine g_goto hX 173 dX14_value_167 (by decide) ?_
        exact g_iret hX ⟨_, rfl, hf⟩ dX14_value_173
    · replace hf := hf.2 z
      refine g_iconst hX (v := (0 : Int32)) dX14_value_156 rfl ?_
      refine g_goto hX 173 dX14_value_157 (by decide) ?_
      exact g_iret hX ⟨_, rfl, hf⟩ dX14_value_173
  replace hf := hf.2
  by_cases z48 : (gI χ8 3106 x0 0) = (48 : Int32)
  · replace hf := hf.1 z48
    refine g_tableIn hX 250 dX14_value_22 (by rw [z48]; decide) (by rw [z48]; decide) (by rw [z48] <;> rfl) (by decide) ?_
    refine g_iload_n hX 1 dX14_value_250 rfl rfl ?_
    refine g_if_ne hX 258 dX14_value_251 (by decide) (fun z => ?_) (fun z => ?_)
    · replace hf := hf.1 z
      refine g_sub [] rfl ?_
      exact B258 _ _ hf
    · replace hf := hf.2 z
      refine g_iload_n hX 0 dX14_value_254 rfl rfl ?_
      refine g_if_eq hX 262 dX14_value_255 (by decide) (fun z => ?_) (fun z => ?_)
      · replace hf := hf.1 z
        refine g_iconst hX (v := (0 : Int32)) dX14_value_262 rfl ?_
        refine g_sub [] rfl ?_
        exact B263 _ _ _ hf
      · replace hf := hf.2 z
        refine g_sub [] rfl ?_
        exact B258 _ _ hf
  replace hf := hf.2
  by_cases z49 : (gI χ8 3106 x0 0) = (49 : Int32)
  · replace hf := hf.1 z49
    refine g_tableIn hX 250 dX14_value_22 (by rw [z49]; decide) (by rw [z49]; decide) (by rw [z49] <;> rfl) (by decide) ?_
    refine g_iload_n hX 1 dX14_value_250 rfl rfl ?_
    refine g_if_ne hX 258 dX14_value_251 (by decide) (fun z => ?_) (fun z => ?_)
    · replace hf := hf.1 z
      refine g_sub [] rfl ?_
      exact B258 _ _ hf
    · replace hf := hf.2 z
      refine g_iload_n hX 0 dX14_value_254 rfl rfl ?_
      refine g_if_eq hX 262 dX14_value_255 (by decide) (fun z => ?_) (fun z => ?_)
      · replace hf := hf.1 z
        refine g_iconst hX (v := (0 : Int32)) dX14_value_262 rfl ?_
        refine g_sub [] rfl ?_
        exact B263 _ _ _ hf
      · replace hf := hf.2 z
        refine g_sub [] rfl ?_
        exact B258 _ _ hf
  replace hf := hf.2
  by_cases z50 : (gI χ8 3106 x0 0) = (50 : Int32)
  · replace hf := hf.1 z50
    refine g_tableIn hX 250 dX14_value_22 (by rw [z50]; decide) (by rw [z50]; decide) (by rw [z50] <;> rfl) (by decide) ?_
    refine g_iload_n hX 1 dX14_value_250 rfl rfl ?_
    refine g_if_ne hX 258 dX14_value_251 (by decide) (fun z => ?_) (fun z => ?_)
    · replace hf := hf.1 z
      refine g_sub [] rfl ?_
      exact B258 _ _ hf
    · replace hf := hf.2 z
      refine g_iload_n hX 0 dX14_value_254 rfl rfl ?_
      refine g_if_eq hX 262 dX14_value_255 (by decide) (fun z => ?_) (fun z => ?_)
      · replace hf := hf.1 z
        refine g_iconst hX (v := (0 : Int32)) dX14_value_262 rfl ?_
        refine g_sub [] rfl ?_
        exact B263 _ _ _ hf
      · replace hf := hf.2 z
        refine g_sub [] rfl ?_
        exact B258 _ _ hf
  replace hf := hf.2
  by_cases z51 : (gI χ8 3106 x0 0) = (51 : Int32)
  · replace hf := hf.1 z51
    refine g_tableIn hX 250 dX14_value_22 (by rw [z51]; decide) (by rw [z51]; decide) (by rw [z51] <;> rfl) (by decide) ?_
    refine g_iload_n hX 1 dX14_value_250 rfl rfl ?_
    refine g_if_ne hX 258 dX14_value_251 (by decide) (fun z => ?_) (fun z => ?_)
    · replace hf := hf.1 z
      refine g_sub [] rfl ?_
      exact B258 _ _ hf
    · replace hf := hf.2 z
      refine g_iload_n hX 0 dX14_value_254 rfl rfl ?_
      refine g_if_eq hX 262 dX14_value_255 (by decide) (fun z => ?_) (fun z => ?_)
      · replace hf := hf.1 z
        refine g_iconst hX (v := (0 : Int32)) dX14_value_262 rfl ?_
        refine g_sub [] rfl ?_
        exact B263 _ _ _ hf
      · replace hf := hf.2 z
        refine g_sub [] rfl ?_
        exact B258 _ _ hf
  replace hf := hf.2
  by_cases z52 : (gI χ8 3106 x0 0) = (52 : Int32)
  · replace hf := hf.1 z52
    refine g_tableIn hX 250 dX14_value_22 (by rw [z52]; decide) (by rw [z52]; decide) (by rw [z52] <;> rfl) (by decide) ?_
    refine g_iload_n hX 1 dX14_value_250 rfl rfl ?_
    refine g_if_ne hX 258 dX14_value_251 (by decide) (fun z => ?_) (fun z => ?_)
    · replace hf := hf.1 z
      refine g_sub [] rfl ?_
      exact B258 _ _ hf
    · replace hf := hf.2 z
      refine g_iload_n hX 0 dX14_value_254 rfl rfl ?_
      refine g_if_eq hX 262 dX14_value_255 (by decide) (fun z => ?_) (fun z => ?_)
      · replace hf := hf.1 z
        refine g_iconst hX (v := (0 : Int32)) dX14_value_262 rfl ?_
        refine g_sub [] rfl ?_
        exact B263 _ _ _ hf
      · replace hf := hf.2 z
        refine g_sub [] rfl ?_
        exact B258 _ _ hf
  replace hf := hf.2
  by_cases z53 : (gI χ8 3106 x0 0) = (53 : Int32)
  · replace hf := hf.1 z53
    refine g_tableIn hX 250 dX14_value_22 (by rw [z53]; decide) (by rw [z53]; decide) (by rw [z53] <;> rfl) (by decide) ?_
    refine g_iload_n hX 1 dX14_value_250 rfl rfl ?_
    refine g_if_ne hX 258 dX14_value_251 (by decide) (fun z => ?_) (fun z => ?_)
    · replace hf := hf.1 z
      refine g_sub [] rfl ?_
      exact B258 _ _ hf
    · replace hf := hf.2 z
      refine g_iload_n hX 0 dX14_value_254 rfl rfl ?_
      refine g_if_eq hX 262 dX14_value_255 (by decide) (fun z => ?_) (fun z => ?_)
      · replace hf := hf.1 z
        refine g_iconst hX (v := (0 : Int32)) dX14_value_262 rfl ?_
        refine g_sub [] rfl ?_
        exact B263 _ _ _ hf
      · replace hf := hf.2 z
        refine g_sub [] rfl ?_
        exact B258 _ _ hf
  replace hf := hf.2
  by_cases z54 : (gI χ8 3106 x0 0) = (54 : Int32)
  · replace hf := hf.1 z54
    refine g_tableIn hX 250 dX14_value_22 (by rw [z54]; decide) (by rw [z54]; decide) (by rw [z54] <;> rfl) (by decide) ?_
    refine g_iload_n hX 1 dX14_value_250 rfl rfl ?_
    refine g_if_ne hX 258 dX14_value_251 (by decide) (fun z => ?_) (fun z => ?_)
    · replace hf := hf.1 z
      refine g_sub [] rfl ?_
      exact B258 _ _ hf
    · replace hf := hf.2 z
      refine g_iload_n hX 0 dX14_value_254 rfl rfl ?_
      refine g_if_eq hX 262 dX14_value_255 (by decide) (fun z => ?_) (fun z => ?_)
      · replace hf := hf.1 z
        refine g_iconst hX (v := (0 : Int32)) dX14_value_262 rfl ?_
        refine g_sub [] rfl ?_
        exact B263 _ _ _ hf
      · replace hf := hf.2 z
        refine g_sub [] rfl ?_
        exact B258 _ _ hf
  replace hf := hf.2
  by_cases z55 : (gI χ8 3106 x0 0) = (55 : Int32)
  · replace hf := hf.1 z55
    refine g_tableIn hX 250 dX14_value_22 (by rw [z55]; decide) (by rw [z55]; decide) (by rw [z55] <;> rfl) (by decide) ?_
    refine g_iload_n hX 1 dX14_value_250 rfl rfl ?_
    refine g_if_ne hX 258 dX14_value_251 (by decide) (fun z => ?_) (fun z => ?_)
    · replace hf := hf.1 z
      refine g_sub [] rfl ?_
      exact B258 _ _ hf
    · replace hf := hf.2 z
      refine g_iload_n hX 0 dX14_value_254 rfl rfl ?_
      refine g_if_eq hX 262 dX14_value_255 (by decide) (fun z => ?_) (fun z => ?_)
      · replace hf := hf.1 z
        refine g_iconst hX (v := (0 : Int32)) dX14_value_262 rfl ?_
        refine g_sub [] rfl ?_
        exact B263 _ _ _ hf
      · replace hf := hf.2 z
        refine g_sub [] rfl ?_
        exact B258 _ _ hf
  replace hf := hf.2
  by_cases z56 : (gI χ8 3106 x0 0) = (56 : Int32)
  · replace hf := hf.1 z56
    refine g_tableIn hX 250 dX14_value_22 (by rw [z56]; decide) (by rw [z56]; decide) (by rw [z56] <;> rfl) (by decide) ?_
    refine g_iload_n hX 1 dX14_value_250 rfl rfl ?_
    refine g_if_ne hX 258 dX14_value_251 (by decide) (fun z => ?_) (fun z => ?_)
    · replace hf := hf.1 z
      refine g_sub [] rfl ?_
      exact B258 _ _ hf
    · replace hf := hf.2 z
      refine g_iload_n hX 0 dX14_value_254 rfl rfl ?_
      refine g_if_eq hX 262 dX14_value_255 (by decide) (fun z => ?_) (fun z => ?_)
      · replace hf := hf.1 z
        refine g_iconst hX (v := (0 : Int32)) dX14_value_262 rfl ?_
        refine g_sub [] rfl ?_
        exact B263 _ _ _ hf
      · replace hf := hf.2 z
        refine g_sub [] rfl ?_
        exact B258 _ _ hf
  replace hf := hf.2
  by_cases z57 : (gI χ8 3106 x0 0) = (57 : Int32)
  · replace hf := hf.1 z57
    refine g_tableIn hX 250 dX14_value_22 (by rw [z57]; decide) (by rw [z57]; decide) (by rw [z57] <;> rfl) (by decide) ?_
    refine g_iload_n hX 1 dX14_value_250 rfl rfl ?_
    refine g_if_ne hX 258 dX14_value_251 (by decide) (fun z => ?_) (fun z => ?_)
    · replace hf := hf.1 z
      refine g_sub [] rfl ?_
      exact B258 _ _ hf
    · replace hf := hf.2 z
      refine g_iload_n hX 0 dX14_value_254 rfl rfl ?_
      refine g_if_eq hX 262 dX14_value_255 (by decide) (fun z => ?_) (fun z => ?_)
      · replace hf := hf.1 z
        refine g_iconst hX (v := (0 : Int32)) dX14_value_262 rfl ?_
        refine g_sub [] rfl ?_
        exact B263 _ _ _ hf
      · replace hf := hf.2 z
        refine g_sub [] rfl ?_
        exact B258 _ _ hf
  replace hf := hf.2
  by_cases z58 : (gI χ8 3106 x0 0) = (58 : Int32)
  · replace hf := hf.1 z58
    refine g_tableIn hX 250 dX14_value_22 (by rw [z58]; decide) (by rw [z58]; decide) (by rw [z58] <;> rfl) (by decide) ?_
    refine g_iload_n hX 1 dX14_value_250 rfl rfl ?_
    refine g_if_ne hX 258 dX14_value_251 (by decide) (fun z => ?_) (fun z => ?_)
    · replace hf := hf.1 z
      refine g_sub [] rfl ?_
      exact B258 _ _ hf
    · replace hf := hf.2 z
      refine g_iload_n hX 0 dX14_value_254 rfl rfl ?_
      refine g_if_eq hX 262 dX14_value_255 (by decide) (fun z => ?_) (fun z => ?_)
      · replace hf := hf.1 z
        refine g_iconst hX (v := (0 : Int32)) dX14_value_262 rfl ?_
        refine g_sub [] rfl ?_
        exact B263 _ _ _ hf
      · replace hf := hf.2 z
        refine g_sub [] rfl ?_
        exact B258 _ _ hf
  replace hf := hf.2
  by_cases z59 : (gI χ8 3106 x0 0) = (59 : Int32)
  · replace hf := hf.1 z59
    refine g_tableIn hX 250 dX14_value_22 (by rw [z59]; decide) (by rw [z59]; decide) (by rw [z59] <;> rfl) (by decide) ?_
    refine g_iload_n hX 1 dX14_value_250 rfl rfl ?_
    refine g_if_ne hX 258 dX14_value_251 (by decide) (fun z => ?_) (fun z => ?_)
    · replace hf := hf.1 z
      refine g_sub [] rfl ?_
      exact B258 _ _ hf
    · replace hf := hf.2 z
      refine g_iload_n hX 0 dX14_value_254 rfl rfl ?_
      refine g_if_eq hX 262 dX14_value_255 (by decide) (fun z => ?_) (fun z => ?_)
      · replace hf := hf.1 z
        refine g_iconst hX (v := (0 : Int32)) dX14_value_262 rfl ?_
        refine g_sub [] rfl ?_
        exact B263 _ _ _ hf
      · replace hf := hf.2 z
        refine g_sub [] rfl ?_
        exact B258 _ _ hf
  replace hf := hf.2
  by_cases z60 : (gI χ8 3106 x0 0) = (60 : Int32)
  · replace hf := hf.1 z60
    refine g_tableIn hX 191 dX14_value_22 (by rw [z60]; decide) (by rw [z60]; decide) (by rw [z60] <;> rfl) (by decide) ?_
    refine g_iload_n hX 1 dX14_value_191 rfl rfl ?_
    refine g_iload_n hX 0 dX14_value_192 rfl rfl ?_
    refine g_icmp_ge hX 200 dX14_value_193 (by decide) (fun z => ?_) (fun z => ?_)
    · replace hf := hf.1 z
      refine g_iconst hX (v := (0 : Int32)) dX14_value_200 rfl ?_
      refine g_sub [] rfl ?_
      exact B201 _ _ _ hf
    · replace hf := hf.2 z
      refine g_iconst hX (v := (1 : Int32)) dX14_value_196 rfl ?_
      refine g_goto hX 201 dX14_value_197 (by decide) ?_
      refine g_sub [] rfl ?_
      exact B201 _ _ _ hf
  replace hf := hf.2
  by_cases z61 : (gI χ8 3106 x0 0) = (61 : Int32)
  · replace hf := hf.1 z61
    refine g_tableIn hX 205 dX14_value_22 (by rw [z61]; decide) (by rw [z61]; decide) (by rw [z61] <;> rfl) (by decide) ?_
    refine g_iload_n hX 1 dX14_value_205 rfl rfl ?_
    refine g_iload_n hX 0 dX14_value_206 rfl rfl ?_
    refine g_icmp_ne hX 214 dX14_value_207 (by decide) (fun z => ?_) (fun z => ?_)
    · replace hf := hf.1 z
      refine g_iconst hX (v := (0 : Int32)) dX14_value_214 rfl ?_
      refine g_sub [] rfl ?_
      exact B215 _ _ _ hf
    · replace hf := hf.2 z
      refine g_iconst hX (v := (1 : Int32)) dX14_value_210 rfl ?_
      refine g_goto hX 215 dX14_value_211 (by decide) ?_
      refine g_sub [] rfl ?_
      exact B215 _ _ _ hf
  replace hf := hf.2
  by_cases z62 : (gI χ8 3106 x0 0) = (62 : Int32)
  · replace hf := hf.1 z62
    refine g_tableIn hX 219 dX14_value_22 (by rw [z62]; decide) (by rw [z62]; decide) (by rw [z62] <;> rfl) (by decide) ?_
    refine g_iload_n hX 1 dX14_value_219 rfl rfl ?_
    refine g_iload_n hX 0 dX14_value_220 rfl rfl ?_
    refine g_icmp_le hX 228 dX14_value_221 (by decide) (fun z => ?_) (fun z => ?_)
    · replace hf := hf.1 z
      refine g_iconst hX (v := (0 : Int32)) dX14_value_228 rfl ?_
      refine g_sub [] rfl ?_
      exact B229 _ _ _ hf
    · replace hf := hf.2 z
      refine g_iconst hX (v := (1 : Int32)) dX14_value_224 rfl ?_
      refine g_goto hX 229 dX14_value_225 (by decide) ?_
      refine g_sub [] rfl ?_
      exact B229 _ _ _ hf
  replace hf := hf.2
  replace hf := hf z37 z38 z39 z40 z41 z42 z43 z44 z45 z46 z47 z48 z49 z50 z51 z52 z53 z54 z55 z56 z57 z58 z59 z60 z61 z62
  refine g_tableOut hX 250 dX14_value_22 (tb_out (fun v h1 h2 => ?_)) (by decide) ?_
  · have h3 : v = 37 ∨ v = 38 ∨ v = 39 ∨ v = 40 ∨ v = 41 ∨ v = 42 ∨ v = 43 ∨ v = 44 ∨ v = 45 ∨ v = 46 ∨ v = 47 ∨ v = 48 ∨ v = 49 ∨ v = 50 ∨ v = 51 ∨ v = 52 ∨ v = 53 ∨ v = 54 ∨ v = 55 ∨ v = 56 ∨ v = 57 ∨ v = 58 ∨ v = 59 ∨ v = 60 ∨ v = 61 ∨ v = 62 := by omega
    rcases h3 with rfl | rfl | rfl | rfl | rfl | rfl | rfl | rfl | rfl | rfl | rfl | rfl | rfl | rfl | rfl | rfl | rfl | rfl | rfl | rfl | rfl | rfl | rfl | rfl | rfl | rfl
    · exact z37
    · exact z38
    · exact z39
    · exact z40
    · exact z41
    · exact z42
    · exact z43
    · exact z44
    · exact z45
    · exact z46
    · exact z47
    · exact z48
    · exact z49
    · exact z50
    · exact z51
    · exact z52
    · exact z53
    · exact z54
    · exact z55
    · exact z56
    · exact z57
    · exact z58
    · exact z59
    · exact z60
    · exact z61
    · exact z62
  refine g_iload_n hX 1 dX14_value_250 rfl rfl ?_
  refine g_if_ne hX 258 dX14_value_251 (by decide) (fun z => ?_) (fun z => ?_)
  · replace hf := hf.1 z
    refine g_sub [] rfl ?_
    exact B258 _ _ hf
  · replace hf := hf.2 z
    refine g_iload_n hX 0 dX14_value_254 rfl rfl ?_
    refine g_if_eq hX 262 dX14_value_255 (by decide) (fun z => ?_) (fun z => ?_)
    · replace hf := hf.1 z
      refine g_iconst hX (v := (0 : Int32)) dX14_value_262 rfl ?_
      refine g_sub [] rfl ?_
      exact B263 _ _ _ hf
    · replace hf := hf.2 z
      refine g_sub [] rfl ?_
      exact B258 _ _ hf

def w_value_b (W1 : Nat → St → (Int32 → St → Prop) → Prop) (i : Nat) (χ : St) (Q : Int32 → St → Prop) : Prop := tg χ 30 i < 5 ∧ (tg χ 30 i = 0 → w_X13_value W1 i χ Q) ∧ (tg χ 30 i = 1 → w_X10_value W1 i χ Q) ∧ (tg χ 30 i = 2 → w_X12_value W1 i χ Q) ∧ (tg χ 30 i = 3 → w_X11_value W1 i χ Q) ∧ (tg χ 30 i = 4 → w_X14_value W1 i χ Q)
def w_value : Nat → Nat → St → (Int32 → St → Prop) → Prop
  | 0 => fun _ _ _ => False
  | d + 1 => fun i χ Q => w_value_b (w_value d) i χ Q
theorem mtN_value (d : Nat) : MtN (w_value d) (2 * d) (40 * d) := by
  induction d with
  | zero => exact ⟨fun _ _ _ h => h.elim, fun _ _ _ _ _ _ => Mt.no (fun h => h.2.2), fun _ _ _ _ _ _ => Mt.no (fun h => h.2.2), fun _ _ _ _ _ _ => Mt.no (fun h => h.2.2), fun _ _ _ _ _ _ => Mt.no (fun h => h.2.2), fun _ _ _ _ _ _ => Mt.no (fun h => h.2.2)⟩
  | succ d ih => exact ⟨fun _ _ _ h => h.1, fun l Γ ad i χ Q => Mt.pre (fun h => ⟨h.2.1, h.2.2.2.1 h.1⟩) (mt_X13_value l Γ (w_value d) _ _ ih ad i χ Q), fun l Γ ad i χ Q => Mt.pre (fun h => ⟨h.2.1, h.2.2.2.2.1 h.1⟩) (mt_X10_value l Γ (w_value d) _ _ ih ad i χ Q), fun l Γ ad i χ Q => Mt.pre (fun h => ⟨h.2.1, h.2.2.2.2.2.1 h.1⟩) (mt_X12_value l Γ (w_value d) _ _ ih ad i χ Q), fun l Γ ad i χ Q => Mt.pre (fun h => ⟨h.2.1, h.2.2.2.2.2.2.1 h.1⟩) (mt_X11_value l Γ (w_value d) _ _ ih ad i χ Q), fun l Γ ad i χ Q => Mt.pre (fun h => ⟨h.2.1, h.2.2.2.2.2.2.2 h.1⟩) (mt_X14_value l Γ (w_value d) _ _ ih ad i χ Q)⟩

def w_J13_bitCount (x0 : Int32) (χ : St) (Q : Int32 → St → Prop) : Prop := (∀ v1 : Int32, v1 = (x0 - ((x0.toUInt32 >>> ((1 : Int32).toUInt32 &&& Int32.toUInt32 31)).toInt32 &&& (1431655765 : Int32))) → (∀ v2 : Int32, v2 = ((v1 &&& (858993459 : Int32)) + ((v1.toUInt32 >>> ((2 : Int32).toUInt32 &&& Int32.toUInt32 31)).toInt32 &&& (858993459 : Int32))) → (∀ v3 : Int32, v3 = ((v2 + (v2.toUInt32 >>> ((4 : Int32).toUInt32 &&& Int32.toUInt32 31)).toInt32) &&& (252645135 : Int32)) → (∀ v4 : Int32, v4 = (v3 + (v3.toUInt32 >>> ((8 : Int32).toUInt32 &&& Int32.toUInt32 31)).toInt32) → (∀ v5 : Int32, v5 = (v4 + (v4.toUInt32 >>> ((16 : Int32).toUInt32 &&& Int32.toUInt32 31)).toInt32) → (Q (v5 &&& (63 : Int32)) χ))))))
set_option maxHeartbeats 4000000 in
theorem mt_J13_bitCount (l : Launch) (Γ : Gh) (ad : Nat → Nat → Nat) (x0 : Int32) (χ : St) (Q : Int32 → St → Prop) : Mt l yJ13_bitCount (ws_ yJ13_bitCount cJ13_bitCount 1 (some .int)) (rmO (0) (0) χ) (Pm Γ ad χ [.int x0] (w_J13_bitCount x0 χ Q)) (Qm Γ true ad χ (pI Q)) (frB Γ) := by
  refine Mt.start (by decide) RJ13 rfl (Nat.le_of_ble_eq_true rfl) ?_
  intro X hX hG _ _ hna _ hf
  unfold w_J13_bitCount at hf
  refine g_iload_n hX 0 dJ13_bitCount_0 rfl rfl ?_
  refine g_iload_n hX 0 dJ13_bitCount_1 rfl rfl ?_
  refine g_iconst hX (v := (1 : Int32)) dJ13_bitCount_2 rfl ?_
  refine g_iushr hX dJ13_bitCount_3 ?_
  refine g_ldcw hX q901 dJ13_bitCount_4 ?_
  refine g_iand hX dJ13_bitCount_7 ?_
  refine g_isub hX dJ13_bitCount_8 ?_
  replace hf := hf _ rfl
  refine g_istore_n hX dJ13_bitCount_9 rfl (by decide) rfl ?_
  refine g_iload_n hX 0 dJ13_bitCount_10 rfl rfl ?_
  refine g_ldcw hX q902 dJ13_bitCount_11 ?_
  refine g_iand hX dJ13_bitCount_14 ?_
  refine g_iload_n hX 0 dJ13_bitCount_15 rfl rfl ?_
  refine g_iconst hX (v := (2 : Int32)) dJ13_bitCount_16 rfl ?_
  refine g_iushr hX dJ13_bitCount_17 ?_
  refine g_ldcw hX q902 dJ13_bitCount_18 ?_
  refine g_iand hX dJ13_bitCount_21 ?_
  refine g_iadd hX dJ13_bitCount_22 ?_
  replace hf := hf _ rfl
  refine g_istore_n hX dJ13_bitCount_23 rfl (by decide) rfl ?_
  refine g_iload_n hX 0 dJ13_bitCount_24 rfl rfl ?_
  refine g_iload_n hX 0 dJ13_bitCount_25 rfl rfl ?_
  refine g_iconst hX (v := (4 : Int32)) dJ13_bitCount_26 rfl ?_
  refine g_iushr hX dJ13_bitCount_27 ?_
  refine g_iadd hX dJ13_bitCount_28 ?_
  refine g_ldcw hX q903 dJ13_bitCount_29 ?_
  refine g_iand hX dJ13_bitCount_32 ?_
  replace hf := hf _ rfl
  refine g_istore_n hX dJ13_bitCount_33 rfl (by decide) rfl ?_
  refine g_iload_n hX 0 dJ13_bitCount_34 rfl rfl ?_
  refine g_iload_n hX 0 dJ13_bitCount_35 rfl rfl ?_
  refine g_bipush hX (v := (8 : Int32)) dJ13_bitCount_36 rfl ?_
  refine g_iushr hX dJ13_bitCount_38 ?_
  refine g_iadd hX dJ13_bitCount_39 ?_
  replace hf := hf _ rfl
  refine g_istore_n hX dJ13_bitCount_40 rfl (by decide) rfl ?_
  refine g_iload_n hX 0 dJ13_bitCount_41 rfl rfl ?_
  refine g_iload_n hX 0 dJ13_bitCount_42 rfl rfl ?_
  refine g_bipush hX (v := (16 : Int32)) dJ13_bitCount_43 rfl ?_
  refine g_iushr hX dJ13_bitCount_45 ?_
  refine g_iadd hX dJ13_bitCount_46 ?_
  replace hf := hf _ rfl
  refine g_istore_n hX dJ13_bitCount_47 rfl (by decide) rfl ?_
  refine g_iload_n hX 0 dJ13_bitCount_48 rfl rfl ?_
  refine g_bipush hX (v := (63 : Int32)) dJ13_bitCount_49 rfl ?_
  refine g_iand hX dJ13_bitCount_51 ?_
  exact g_iret hX ⟨_, rfl, hf⟩ dJ13_bitCount_52

def w_C_in (x0 : Int32) (x1 : Int32) (x2 : Int32) (χ : St) (Q : Int32 → St → Prop) : Prop := ((x0 < x1 → (Q (0 : Int32) χ)) ∧ (¬ x0 < x1 → ((x2 < x0 → (Q (0 : Int32) χ)) ∧ (¬ x2 < x0 → (Q (1 : Int32) χ)))))
set_option maxHeartbeats 4000000 in
theorem mt_C_in (l : Launch) (Γ : Gh) (ad : Nat → Nat → Nat) (x0 : Int32) (x1 : Int32) (x2 : Int32) (χ : St) (Q : Int32 → St → Prop) : Mt l yX0_in (ws_ yX0_in cX0_in 3 (some .boolean)) (rmO (0) (0) χ) (Pm Γ ad χ [.int x0, .int x1, .int x2] (w_C_in x0 x1 x2 χ Q)) (Qm Γ true ad χ (pI Q)) (frB Γ) := by
  refine Mt.start (by decide) RX0 rfl (Nat.le_of_ble_eq_true rfl) ?_
  intro X hX hG _ _ hna _ hf
  unfold w_C_in at hf
  refine g_iload_n hX 0 dX0_in_0 rfl rfl ?_
  refine g_iload_n hX 1 dX0_in_1 rfl rfl ?_
  refine g_icmp_lt hX 14 dX0_in_2 (by decide) (fun z => ?_) (fun z => ?_)
  · replace hf := hf.1 z
    refine g_iconst hX (v := (0 : Int32)) dX0_in_14 rfl ?_
    exact g_zret hX rfl ⟨_, rfl, hf⟩ dX0_in_15
  · replace hf := hf.2 z
    refine g_iload_n hX 0 dX0_in_5 rfl rfl ?_
    refine g_iload_n hX 2 dX0_in_6 rfl rfl ?_
    refine g_icmp_gt hX 14 dX0_in_7 (by decide) (fun z => ?_) (fun z => ?_)
    · replace hf := hf.1 z
      refine g_iconst hX (v := (0 : Int32)) dX0_in_14 rfl ?_
      exact g_zret hX rfl ⟨_, rfl, hf⟩ dX0_in_15
    · replace hf := hf.2 z
      refine g_iconst hX (v := (1 : Int32)) dX0_in_10 rfl ?_
      refine g_goto hX 15 dX0_in_11 (by decide) ?_
      exact g_zret hX rfl ⟨_, rfl, hf⟩ dX0_in_15

def w_X5_init (x0 : Nat) (x1 : Int32) (x2 : Int32) (χ : St) (Q : St → Prop) : Prop := (¬ (6 : Int32) < 0) ∧ (uC χ + 1 ≤ 603072) ∧ (uS χ + 6 ≤ 7262314) ∧ ((∀ χ1 : St, χ1 = (alo χ 25 6 6) → (∀ χ2 : St, χ2 = (sR χ1 2102 x0 0 (some (nO χ 25))) → (¬ (6 : Int32) < 0) ∧ (uC χ2 + 1 ≤ 603072) ∧ (uS χ2 + 6 ≤ 7262314) ∧ ((∀ χ3 : St, χ3 = (alo χ2 25 6 6) → (∀ χ4 : St, χ4 = (sR χ3 2103 x0 0 (some (nO χ2 25))) → (∀ χ5 : St, χ5 = (sI χ4 2100 x0 0 x1) → (∀ χ6 : St, χ6 = (sI χ5 2101 x0 0 x2) → (Q χ6)))))))))
set_option maxHeartbeats 4000000 in
theorem mt_X5_init (l : Launch) (Γ : Gh) (ad : Nat → Nat → Nat) (x0 : Nat) (x1 : Int32) (x2 : Int32) (χ : St) (Q : St → Prop) : Mt l yX5_init (ws_ yX5_init cX5_init 3 (none)) (rmO (1) (20) χ) (Pm Γ ad χ [.ref (ad 20 x0), .int x1, .int x2] (x0 < cn χ 20 ∧ w_X5_init x0 x1 x2 χ Q)) (Qm Γ false ad χ (pV Q)) (frB Γ) := by
  refine Mt.start (by decide) RX5 rfl (Nat.le_of_ble_eq_true rfl) ?_
  intro X hX hG _ _ hna _ ⟨hv0, hf⟩
  unfold w_X5_init at hf
  refine g_aload_n hX 0 dX5_init_0 rfl rfl ?_
  refine g_objInit hX q292 q138 q139 ⟨by decide, by decide⟩ (Nat.le_of_ble_eq_true rfl) dX5_init_1 ?_
  refine g_aload_n hX 0 dX5_init_4 rfl rfl ?_
  refine g_bipush hX (v := (6 : Int32)) dX5_init_5 rfl ?_
  refine g_newI hX hna (c := 25) (L := 6) (tyy := .byte) rfl rfl (fun _ _ z => z) (by decide) rfl rfl rfl rfl q190 hf.1 hf.2.1 hf.2.2.1 dX5_init_7 (fun ad1 hE1 => ?_)
  replace hf := hf.2.2.2 _ rfl
  rw [← hE1.1 20 _ hv0]
  refine g_putRF hX rfl (v := some _) (k := 2) (Nat.lt_of_lt_of_le hv0 (hE1.2 20)) ff20 rfl rfl in_X5 tyX5_ok nmX5 (by decide) (by decide) (by decide) rfl rfl q297 rfl rfl rfl nar_rfa fits_rfa (fun x e => by cases e; exact (new_lt rfl)) dX5_init_9 ?_
  replace hf := hf _ rfl
  refine g_aload_n hX 0 dX5_init_12 rfl rfl ?_
  refine g_bipush hX (v := (6 : Int32)) dX5_init_13 rfl ?_
  refine g_newI hX hna (c := 25) (L := 6) (tyy := .byte) rfl rfl (fun _ _ z => z) (by decide) rfl rfl rfl rfl q190 hf.1 hf.2.1 hf.2.2.1 dX5_init_15 (fun ad3 hE3 => ?_)
  replace hf := hf.2.2.2 _ rfl
  rw [← hE3.1 20 _ (Nat.lt_of_lt_of_le hv0 (hE1.2 20))]
  refine g_putRF hX rfl (v := some _) (k := 3) (Nat.lt_of_lt_of_le (Nat.lt_of_lt_of_le hv0 (hE1.2 20)) (hE3.2 20)) ff20 rfl rfl in_X5 tyX5_ok nmX5 (by decide) (by decide) (by decide) rfl rfl q299 rfl rfl rfl nar_rfa fits_rfa (fun x e => by cases e; exact (new_lt rfl)) dX5_init_17 ?_
  replace hf := hf _ rfl
  refine g_aload_n hX 0 dX5_init_20 rfl rfl ?_
  refine g_iload_n hX 1 dX5_init_21 rfl rfl ?_
  refine g_putIF hX rfl (k := 0) (Nat.lt_of_lt_of_le (Nat.lt_of_lt_of_le hv0 (hE1.2 20)) (hE3.2 20)) ff20 rfl rfl in_X5 tyX5_ok nmX5 (by decide) q293 rfl rfl rfl rfl rfl dX5_init_22 ?_
  replace hf := hf _ rfl
  refine g_aload_n hX 0 dX5_init_25 rfl rfl ?_
  refine g_iload_n hX 2 dX5_init_26 rfl rfl ?_
  refine g_putIF hX rfl (k := 1) (Nat.lt_of_lt_of_le (Nat.lt_of_lt_of_le hv0 (hE1.2 20)) (hE3.2 20)) ff20 rfl rfl in_X5 tyX5_ok nmX5 (by decide) q295 rfl rfl rfl rfl rfl dX5_init_27 ?_
  replace hf := hf _ rfl
  exact g_vret hX ⟨rfl, hf⟩ dX5_init_30

def w_C_addPart (x1 : Int32) (x2 : Int32) (χ : St) (Q : Int32 → St → Prop) : Prop := (uC χ + 1 ≤ 603072) ∧ (uS χ + 4 ≤ 7262314) ∧ ((∀ χ1 : St, χ1 = (alo χ 20 0 4) → (w_X5_init (nO χ 20) x1 x2 χ1 (fun χ2 => (vp_in (gI χ 103 0 0) 8) ∧ ((∀ χ3 : St, χ3 = (sR χ2 1 0 (gI χ 103 0 0).toNatClampNeg (some (nO χ 20))) → (∀ χ4 : St, χ4 = (sI χ3 103 0 0 ((gI χ3 103 0 0) + (1 : Int32))) → (Q ((gI χ4 103 0 0) - (1 : Int32)) χ4))))))))
set_option maxHeartbeats 4000000 in
theorem mt_C_addPart (l : Launch) (Γ : Gh) (ad : Nat → Nat → Nat) (x1 : Int32) (x2 : Int32) (χ : St) (Q : Int32 → St → Prop) : Mt l yX0_addPart (ws_ yX0_addPart cX0_addPart 3 (some .int)) (rmO (2) (42) χ) (Pm Γ ad χ [.ref (ad 0 0), .int x1, .int x2] (w_C_addPart x1 x2 χ Q)) (Qm Γ false ad χ (pI Q)) (frB Γ) := by
  refine Mt.start (by decide) RX0 rfl (Nat.le_of_ble_eq_true rfl) ?_
  intro X hX hG _ _ hna _ hf
  unfold w_C_addPart at hf
  refine g_aload_n hX 0 dX0_addPart_0 rfl rfl ?_
  refine g_getK hX (k := 0) (d := 1) (fc0 _) ff0 rfl (by decide) rfl rfl in_X0 (by decide) q198 dX0_addPart_1 ?_
  refine g_aload_n hX 0 dX0_addPart_4 rfl rfl ?_
  refine g_getI hX (k := 3) (fc0 _) ff0 rfl rfl in_X0 (by decide) q201 dX0_addPart_5 ?_
  refine g_new hX hna (c := 20) (t := 0) tyX5 rfl rfl (by decide) rfl in_X5 tyX5_ok df_X5 q140 q288 q90 hf.1 hf.2.1 dX0_addPart_8 (fun ad1 hE1 => ?_)
  replace hf := hf.2.2 _ rfl
  rw [← hE1.1 0 0 (fc0 _)]
  rw [← hE1.1 1 0 (fc1 _)]
  refine g_dup hX dX0_addPart_11 rfl ?_
  refine g_iload_n hX 1 dX0_addPart_12 rfl rfl ?_
  refine g_iload_n hX 2 dX0_addPart_13 rfl rfl ?_
  refine g_callIAv hX hna (n := 2) (mt_X5_init X.l X.Γ _ _ _ _ _ _) ⟨(new_lt rfl), hf⟩ rfl q289 q290 q90 q291 hy_X5_init (by decide) rfl rfl (Nat.le_of_ble_eq_true rfl) dX0_addPart_14 (fun ad2 χ2 hf hc2 => ?_)
  rw [← hc2.1 0 0 (fc0 _)]
  rw [← hc2.1 20 _ (new_lt rfl)]
  rw [← hc2.1 1 0 (fc1 _)]
  refine g_aast hX (fc1 _) ff1 rfl rfl hf.1 (Nat.lt_of_lt_of_le (new_lt rfl) (hc2.2 20)) ff20 rfl (AsOk.self hX rfl) dX0_addPart_17 ?_
  replace hf := hf.2
  replace hf := hf _ rfl
  refine g_aload_n hX 0 dX0_addPart_18 rfl rfl ?_
  refine g_dup hX dX0_addPart_19 rfl ?_
  refine g_getI hX (k := 3) (fc0 _) ff0 rfl rfl in_X0 (by decide) q201 dX0_addPart_20 ?_
  refine g_iconst hX (v := (1 : Int32)) dX0_addPart_23 rfl ?_
  refine g_iadd hX dX0_addPart_24 ?_
  refine g_putI hX (k := 3) (fc0 _) ff0 rfl rfl in_X0 tyX0_ok nmX0 (by decide) q201 rfl rfl rfl rfl dX0_addPart_25 ?_
  replace hf := hf _ rfl
  refine g_aload_n hX 0 dX0_addPart_28 rfl rfl ?_
  refine g_getI hX (k := 3) (fc0 _) ff0 rfl rfl in_X0 (by decide) q201 dX0_addPart_29 ?_
  refine g_iconst hX (v := (1 : Int32)) dX0_addPart_32 rfl ?_
  refine g_isub hX dX0_addPart_33 ?_
  exact g_iret hX ⟨_, rfl, hf⟩ dX0_addPart_34

def w_C_part (x1 : Int32) (χ : St) (Q : Int32 → St → Prop) : Prop := (w_C_in x1 (0 : Int32) (99 : Int32) χ (fun r1 χ2 => ((¬ r1 = 0 → ((¬ (gI χ2 103 0 0) = (8 : Int32) → (w_C_addPart (x1 / (10 : Int32)) (x1 - x1 / (10 : Int32) * (10 : Int32)) χ2 (fun r3 χ4 => (Q r3 χ4)))) ∧ ((gI χ2 103 0 0) = (8 : Int32) → (Q (-3 : Int32) χ2)))) ∧ (r1 = 0 → (Q (-1 : Int32) χ2)))))
set_option maxHeartbeats 4000000 in
theorem mt_C_part (l : Launch) (Γ : Gh) (ad : Nat → Nat → Nat) (x1 : Int32) (χ : St) (Q : Int32 → St → Prop) : Mt l yX0_part (ws_ yX0_part cX0_part 2 (some .int)) (rmO (3) (64) χ) (Pm Γ ad χ [.ref (ad 0 0), .int x1] (w_C_part x1 χ Q)) (Qm Γ false ad χ (pI Q)) (frB Γ) := by
  refine Mt.start (by decide) RX0 rfl (Nat.le_of_ble_eq_true rfl) ?_
  intro X hX hG _ _ hna _ hf
  unfold w_C_part at hf
  refine g_iload_n hX 1 dX0_part_0 rfl rfl ?_
  refine g_iconst hX (v := (0 : Int32)) dX0_part_1 rfl ?_
  refine g_bipush hX (v := (99 : Int32)) dX0_part_2 rfl ?_
  refine g_callSi hX (n := 3) (mt_C_in X.l X.Γ _ _ _ _ _ _) hf q281 q282 q85 q283 hy_C_in (by decide) rfl rfl (Nat.le_of_ble_eq_true rfl) dX0_part_4 (fun r1 χ2 hf hc2 => ?_)
  refine g_if_ne hX 12 dX0_part_7 (by decide) (fun z => ?_) (fun z => ?_)
  · replace hf := hf.1 z
    refine g_aload_n hX 0 dX0_part_12 rfl rfl ?_
    refine g_getI hX (k := 3) (fc0 _) ff0 rfl rfl in_X0 (by decide) q201 dX0_part_13 ?_
    refine g_bipush hX (v := (8 : Int32)) dX0_part_16 rfl ?_
    refine g_icmp_ne hX 26 dX0_part_18 (by decide) (fun z => ?_) (fun z => ?_)
    · replace hf := hf.1 z
      refine g_aload_n hX 0 dX0_part_26 rfl rfl ?_
      refine g_iload_n hX 1 dX0_part_27 rfl rfl ?_
      refine g_bipush hX (v := (10 : Int32)) dX0_part_28 rfl ?_
      refine g_idiv hX dX0_part_30 (by decide) ?_
      refine g_iload_n hX 1 dX0_part_31 rfl rfl ?_
      refine g_bipush hX (v := (10 : Int32)) dX0_part_32 rfl ?_
      refine g_irem hX dX0_part_34 (by decide) ?_
      refine g_callVAi hX hna (n := 2) (mt_C_addPart X.l X.Γ _ _ _ _ _) hf q284 q286 qs0 q85 q287 ⟨rfl, hy_C_addPart⟩ (by decide) (fc0 _) ff0 rfl rfl rfl (Nat.le_of_ble_eq_true rfl) dX0_part_35 (fun r3 ad4 χ4 hf hc4 => ?_)
      rw [← hc4.1 0 0 (fc0 _)]
      exact g_iret hX ⟨_, rfl, hf⟩ dX0_part_38
    · replace hf := hf.2 z
      refine g_bipush hX (v := (-3 : Int32)) dX0_part_21 rfl ?_
      refine g_goto hX 38 dX0_part_23 (by decide) ?_
      exact g_iret hX ⟨_, rfl, hf⟩ dX0_part_38
  · replace hf := hf.2 z
    refine g_iconst hX (v := (-1 : Int32)) dX0_part_10 rfl ?_
    exact g_iret hX ⟨_, rfl, hf⟩ dX0_part_11

def w_C_isShelf (x0 : Int32) (χ : St) (Q : Int32 → St → Prop) : Prop := (w_C_in x0 (0 : Int32) (5 : Int32) χ (fun r1 χ2 => (narrow .boolean (.int r1) = .int r1) ∧ ((Q r1 χ2))))
set_option maxHeartbeats 4000000 in
theorem mt_C_isShelf (l : Launch) (Γ : Gh) (ad : Nat → Nat → Nat) (x0 : Int32) (χ : St) (Q : Int32 → St → Prop) : Mt l yX0_isShelf (ws_ yX0_isShelf cX0_isShelf 1 (some .boolean)) (rmO (1) (22) χ) (Pm Γ ad χ [.int x0] (w_C_isShelf x0 χ Q)) (Qm Γ true ad χ (pI Q)) (frB Γ) := by
  refine Mt.start (by decide) RX0 rfl (Nat.le_of_ble_eq_true rfl) ?_
  intro X hX hG _ _ hna _ hf
  unfold w_C_isShelf at hf
  refine g_iload_n hX 0 dX0_isShelf_0 rfl rfl ?_
  refine g_iconst hX (v := (0 : Int32)) dX0_isShelf_1 rfl ?_
  refine g_iconst hX (v := (5 : Int32)) dX0_isShelf_2 rfl ?_
  refine g_callSi hX (n := 3) (mt_C_in X.l X.Γ _ _ _ _ _ _) hf q281 q282 q85 q283 hy_C_in (by decide) rfl rfl (Nat.le_of_ble_eq_true rfl) dX0_isShelf_3 (fun r1 χ2 hf hc2 => ?_)
  exact g_zret hX hf.1 ⟨_, rfl, hf.2⟩ dX0_isShelf_6

def w_C_isPart (x1 : Int32) (χ : St) (Q : Int32 → St → Prop) : Prop := (w_C_in x1 (0 : Int32) ((gI χ 103 0 0) - (1 : Int32)) χ (fun r1 χ2 => (narrow .boolean (.int r1) = .int r1) ∧ ((Q r1 χ2))))
set_option maxHeartbeats 4000000 in
theorem mt_C_isPart (l : Launch) (Γ : Gh) (ad : Nat → Nat → Nat) (x1 : Int32) (χ : St) (Q : Int32 → St → Prop) : Mt l yX0_isPart (ws_ yX0_isPart cX0_isPart 2 (some .boolean)) (rmO (1) (22) χ) (Pm Γ ad χ [.ref (ad 0 0), .int x1] (w_C_isPart x1 χ Q)) (Qm Γ true ad χ (pI Q)) (frB Γ) := by
  refine Mt.start (by decide) RX0 rfl (Nat.le_of_ble_eq_true rfl) ?_
  intro X hX hG _ _ hna _ hf
  unfold w_C_isPart at hf
  refine g_iload_n hX 1 dX0_isPart_0 rfl rfl ?_
  refine g_iconst hX (v := (0 : Int32)) dX0_isPart_1 rfl ?_
  refine g_aload_n hX 0 dX0_isPart_2 rfl rfl ?_
  refine g_getI hX (k := 3) (fc0 _) ff0 rfl rfl in_X0 (by decide) q201 dX0_isPart_3 ?_
  refine g_iconst hX (v := (1 : Int32)) dX0_isPart_6 rfl ?_
  refine g_isub hX dX0_isPart_7 ?_
  refine g_callSi hX (n := 3) (mt_C_in X.l X.Γ _ _ _ _ _ _) hf q281 q282 q85 q283 hy_C_in (by decide) rfl rfl (Nat.le_of_ble_eq_true rfl) dX0_isPart_8 (fun r1 χ2 hf hc2 => ?_)
  exact g_zret hX hf.1 ⟨_, rfl, hf.2⟩ dX0_isPart_11

def w_C_isMark (x0 : Int32) (χ : St) (Q : Int32 → St → Prop) : Prop := (w_C_in x0 (0 : Int32) (5 : Int32) χ (fun r1 χ2 => (narrow .boolean (.int r1) = .int r1) ∧ ((Q r1 χ2))))
set_option maxHeartbeats 4000000 in
theorem mt_C_isMark (l : Launch) (Γ : Gh) (ad : Nat → Nat → Nat) (x0 : Int32) (χ : St) (Q : Int32 → St → Prop) : Mt l yX0_isMark (ws_ yX0_isMark cX0_isMark 1 (some .boolean)) (rmO (1) (22) χ) (Pm Γ ad χ [.int x0] (w_C_isMark x0 χ Q)) (Qm Γ true ad χ (pI Q)) (frB Γ) := by
  refine Mt.start (by decide) RX0 rfl (Nat.le_of_ble_eq_true rfl) ?_
  intro X hX hG _ _ hna _ hf
  unfold w_C_isMark at hf
  refine g_iload_n hX 0 dX0_isMark_0 rfl rfl ?_
  refine g_iconst hX (v := (0 : Int32)) dX0_isMark_1 rfl ?_
  refine g_iconst hX (v := (5 : Int32)) dX0_isMark_2 rfl ?_
  refine g_callSi hX (n := 3) (mt_C_in X.l X.Γ _ _ _ _ _ _) hf q281 q282 q85 q283 hy_C_in (by decide) rfl rfl (Nat.le_of_ble_eq_true rfl) dX0_isMark_3 (fun r1 χ2 hf hc2 => ?_)
  exact g_zret hX hf.1 ⟨_, rfl, hf.2⟩ dX0_isMark_6

def w_C_isFound (x1 : Int32) (χ : St) (Q : Int32 → St → Prop) : Prop := ((x1 < 0 → (Q (0 : Int32) χ)) ∧ (¬ x1 < 0 → (w_C_isPart (x1 / (10 : Int32)) χ (fun r1 χ2 => ((r1 = 0 → (Q (0 : Int32) χ2)) ∧ (¬ r1 = 0 → (w_C_isMark (x1 - x1 / (10 : Int32) * (10 : Int32)) χ2 (fun r3 χ4 => ((r3 = 0 → (Q (0 : Int32) χ4)) ∧ (¬ r3 = 0 → (Q (1 : Int32) χ4)))))))))))
set_option maxHeartbeats 4000000 in
theorem mt_C_isFound (l : Launch) (Γ : Gh) (ad : Nat → Nat → Nat) (x1 : Int32) (χ : St) (Q : Int32 → St → Prop) : Mt l yX0_isFound (ws_ yX0_isFound cX0_isFound 2 (some .boolean)) (rmO (2) (43) χ) (Pm Γ ad χ [.ref (ad 0 0), .int x1] (w_C_isFound x1 χ Q)) (Qm Γ true ad χ (pI Q)) (frB Γ) := by
  refine Mt.start (by decide) RX0 rfl (Nat.le_of_ble_eq_true rfl) ?_
  intro X hX hG _ _ hna _ hf
  unfold w_C_isFound at hf
  refine g_iload_n hX 1 dX0_isFound_0 rfl rfl ?_
  refine g_if_lt hX 29 dX0_isFound_1 (by decide) (fun z => ?_) (fun z => ?_)
  · replace hf := hf.1 z
    refine g_iconst hX (v := (0 : Int32)) dX0_isFound_29 rfl ?_
    exact g_zret hX rfl ⟨_, rfl, hf⟩ dX0_isFound_30
  · replace hf := hf.2 z
    refine g_aload_n hX 0 dX0_isFound_4 rfl rfl ?_
    refine g_iload_n hX 1 dX0_isFound_5 rfl rfl ?_
    refine g_bipush hX (v := (10 : Int32)) dX0_isFound_6 rfl ?_
    refine g_idiv hX dX0_isFound_8 (by decide) ?_
    refine g_callVi hX (n := 1) (mt_C_isPart X.l X.Γ _ _ _ _) hf q458 q460 qs4 q85 q461 ⟨rfl, hy_C_isPart⟩ (by decide) (fc0 _) ff0 rfl rfl rfl (Nat.le_of_ble_eq_true rfl) dX0_isFound_9 (fun r1 χ2 hf hc2 => ?_)
    refine g_if_eq hX 29 dX0_isFound_12 (by decide) (fun z => ?_) (fun z => ?_)
    · replace hf := hf.1 z
      refine g_iconst hX (v := (0 : Int32)) dX0_isFound_29 rfl ?_
      exact g_zret hX rfl ⟨_, rfl, hf⟩ dX0_isFound_30
    · replace hf := hf.2 z
      refine g_iload_n hX 1 dX0_isFound_15 rfl rfl ?_
      refine g_bipush hX (v := (10 : Int32)) dX0_isFound_16 rfl ?_
      refine g_irem hX dX0_isFound_18 (by decide) ?_
      refine g_callSi hX (n := 1) (mt_C_isMark X.l X.Γ _ _ _ _) hf q462 q463 q85 q464 hy_C_isMark (by decide) rfl rfl (Nat.le_of_ble_eq_true rfl) dX0_isFound_19 (fun r3 χ4 hf hc4 => ?_)
      refine g_if_eq hX 29 dX0_isFound_22 (by decide) (fun z => ?_) (fun z => ?_)
      · replace hf := hf.1 z
        refine g_iconst hX (v := (0 : Int32)) dX0_isFound_29 rfl ?_
        exact g_zret hX rfl ⟨_, rfl, hf⟩ dX0_isFound_30
      · replace hf := hf.2 z
        refine g_iconst hX (v := (1 : Int32)) dX0_isFound_25 rfl ?_
        refine g_goto hX 30 dX0_isFound_26 (by decide) ?_
        exact g_zret hX rfl ⟨_, rfl, hf⟩ dX0_isFound_30

def w_C_find (x1 : Int32) (x2 : Int32) (χ : St) (Q : Int32 → St → Prop) : Prop := (w_C_isFound x1 χ (fun r1 χ2 => ((r1 = 0 → (Q (-1 : Int32) χ2)) ∧ (¬ r1 = 0 → (w_C_in x2 (0 : Int32) (2 : Int32) χ2 (fun r3 χ4 => ((¬ r3 = 0 → (vp_in (x1 / (10 : Int32)) 8) ∧ ((∃ z6, (gR χ4 1 0 (x1 / (10 : Int32)).toNatClampNeg) = some z6 ∧ ((∃ z7, (gR χ4 2102 z6 0) = some z7 ∧ ((vp_in (x1 - x1 / (10 : Int32) * (10 : Int32)) (tg χ4 25 z7)) ∧ ((∀ v8 : Int32, v8 = (gI χ4 25 z7 (x1 - x1 / (10 : Int32) * (10 : Int32)).toNatClampNeg) → (∃ z9, (gR χ4 2102 z6 0) = some z9 ∧ ((vp_in (x1 - x1 / (10 : Int32) * (10 : Int32)) (tg χ4 25 z9)) ∧ ((∀ χ10 : St, χ10 = (sI χ4 25 z9 (x1 - x1 / (10 : Int32) * (10 : Int32)).toNatClampNeg (vp_nar .byte x2.toInt8.toInt32)) → (Q v8 χ10))))))))))))) ∧ (r3 = 0 → (Q (-1 : Int32) χ4)))))))))
set_option maxHeartbeats 4000000 in
theorem mt_C_find (l : Launch) (Γ : Gh) (ad : Nat → Nat → Nat) (x1 : Int32) (x2 : Int32) (χ : St) (Q : Int32 → St → Prop) : Mt l yX0_find (ws_ yX0_find cX0_find 5 (some .int)) (rmO (3) (64) χ) (Pm Γ ad χ [.ref (ad 0 0), .int x1, .int x2] (w_C_find x1 x2 χ Q)) (Qm Γ true ad χ (pI Q)) (frB Γ) := by
  refine Mt.start (by decide) RX0 rfl (Nat.le_of_ble_eq_true rfl) ?_
  intro X hX hG _ _ hna _ hf
  unfold w_C_find at hf
  refine g_aload_n hX 0 dX0_find_0 rfl rfl ?_
  refine g_iload_n hX 1 dX0_find_1 rfl rfl ?_
  refine g_callVi hX (n := 1) (mt_C_isFound X.l X.Γ _ _ _ _) hf q454 q456 qs3 q85 q457 ⟨rfl, hy_C_isFound⟩ (by decide) (fc0 _) ff0 rfl rfl rfl (Nat.le_of_ble_eq_true rfl) dX0_find_2 (fun r1 χ2 hf hc2 => ?_)
  refine g_if_eq hX 17 dX0_find_5 (by decide) (fun z => ?_) (fun z => ?_)
  · replace hf := hf.1 z
    refine g_iconst hX (v := (-1 : Int32)) dX0_find_17 rfl ?_
    exact g_iret hX ⟨_, rfl, hf⟩ dX0_find_18
  · replace hf := hf.2 z
    refine g_iload_n hX 2 dX0_find_8 rfl rfl ?_
    refine g_iconst hX (v := (0 : Int32)) dX0_find_9 rfl ?_
    refine g_iconst hX (v := (2 : Int32)) dX0_find_10 rfl ?_
    refine g_callSi hX (n := 3) (mt_C_in X.l X.Γ _ _ _ _ _ _) hf q281 q282 q85 q283 hy_C_in (by decide) rfl rfl (Nat.le_of_ble_eq_true rfl) dX0_find_11 (fun r3 χ4 hf hc4 => ?_)
    refine g_if_ne hX 19 dX0_find_14 (by decide) (fun z => ?_) (fun z => ?_)
    · replace hf := hf.1 z
      refine g_aload_n hX 0 dX0_find_19 rfl rfl ?_
      refine g_getK hX (k := 0) (d := 1) (fc0 _) ff0 rfl (by decide) rfl rfl in_X0 (by decide) q198 dX0_find_20 ?_
      refine g_iload_n hX 1 dX0_find_23 rfl rfl ?_
      refine g_bipush hX (v := (10 : Int32)) dX0_find_24 rfl ?_
      refine g_idiv hX dX0_find_26 (by decide) ?_
      have hg5 := hf.1
      replace hf := hf.2
      obtain ⟨z6, hz6, hf⟩ := hf
      refine g_aaldE hX (fc1 _) ff1 rfl rfl hg5 dX0_find_27 hz6 (fun hvz6 => ?_)
      refine g_astore_n hX dX0_find_28 rfl (by decide) rfl ?_
      refine g_aload_n hX 0 dX0_find_29 rfl rfl ?_
      obtain ⟨z7, hz7, hf⟩ := hf
      refine g_getEN hX (k := 2) hvz6 ff20 rfl (by decide) (by decide) rfl rfl rfl in_X5 (by decide) q298 dX0_find_30 hz7 (fun hvz7 => ?_)
      refine g_iload_n hX 2 dX0_find_33 rfl rfl ?_
      refine g_bipush hX (v := (10 : Int32)) dX0_find_34 rfl ?_
      refine g_irem hX dX0_find_36 (by decide) ?_
      refine g_bald hX hvz7 ff25 rfl hf.1 dX0_find_37 ?_
      replace hf := hf.2
      replace hf := hf _ rfl
      refine g_istore hX dX0_find_38 (by decide) rfl ?_
      refine g_aload_n hX 1 dX0_find_40 rfl rfl ?_
      obtain ⟨z9, hz9, hf⟩ := hf
      refine g_getEN hX (k := 2) hvz6 ff20 rfl (by decide) (by decide) rfl rfl rfl in_X5 (by decide) q298 dX0_find_41 hz9 (fun hvz9 => ?_)
      refine g_iload_n hX 3 dX0_find_44 rfl rfl ?_
      refine g_bipush hX (v := (10 : Int32)) dX0_find_45 rfl ?_
      refine g_irem hX dX0_find_47 (by decide) ?_
      refine g_iload_n hX 4 dX0_find_48 rfl rfl ?_
      refine g_i2b hX dX0_find_49 ?_
      refine g_bast hX hvz9 ff25 rfl hf.1 dX0_find_50 ?_
      replace hf := hf.2
      replace hf := hf _ rfl
      refine g_iload hX 0 dX0_find_51 rfl ?_
      exact g_iret hX ⟨_, rfl, hf⟩ dX0_find_53
    · replace hf := hf.2 z
      refine g_iconst hX (v := (-1 : Int32)) dX0_find_17 rfl ?_
      exact g_iret hX ⟨_, rfl, hf⟩ dX0_find_18

def w_C_isKind (x0 : Int32) (χ : St) (Q : Int32 → St → Prop) : Prop := (w_C_in x0 (0 : Int32) (5 : Int32) χ (fun r1 χ2 => (narrow .boolean (.int r1) = .int r1) ∧ ((Q r1 χ2))))
set_option maxHeartbeats 4000000 in
theorem mt_C_isKind (l : Launch) (Γ : Gh) (ad : Nat → Nat → Nat) (x0 : Int32) (χ : St) (Q : Int32 → St → Prop) : Mt l yX0_isKind (ws_ yX0_isKind cX0_isKind 1 (some .boolean)) (rmO (1) (22) χ) (Pm Γ ad χ [.int x0] (w_C_isKind x0 χ Q)) (Qm Γ true ad χ (pI Q)) (frB Γ) := by
  refine Mt.start (by decide) RX0 rfl (Nat.le_of_ble_eq_true rfl) ?_
  intro X hX hG _ _ hna _ hf
  unfold w_C_isKind at hf
  refine g_iload_n hX 0 dX0_isKind_0 rfl rfl ?_
  refine g_iconst hX (v := (0 : Int32)) dX0_isKind_1 rfl ?_
  refine g_iconst hX (v := (5 : Int32)) dX0_isKind_2 rfl ?_
  refine g_callSi hX (n := 3) (mt_C_in X.l X.Γ _ _ _ _ _ _) hf q281 q282 q85 q283 hy_C_in (by decide) rfl rfl (Nat.le_of_ble_eq_true rfl) dX0_isKind_3 (fun r1 χ2 hf hc2 => ?_)
  exact g_zret hX hf.1 ⟨_, rfl, hf.2⟩ dX0_isKind_6

def w_C_of (x1 : Int32) (x2 : Int32) (χ : St) (Q : Int32 → St → Prop) : Prop := (w_C_in x2 (20 : Int32) (21 : Int32) χ (fun r1 χ2 => ((r1 = 0 → (w_C_in x2 (30 : Int32) (31 : Int32) χ2 (fun r3 χ4 => ((r3 = 0 → (w_C_isPart x1 χ4 (fun r5 χ6 => ((¬ r5 = 0 → ((¬ x2 = 0 → ((¬ x2 = (1 : Int32) → (w_C_in x2 (10 : Int32) (15 : Int32) χ6 (fun r7 χ8 => ((r7 = 0 → (Q (-1 : Int32) χ8)) ∧ (¬ r7 = 0 → (vp_in x1 8) ∧ ((∃ z10, (gR χ8 1 0 x1.toNatClampNeg) = some z10 ∧ ((∃ z11, (gR χ8 2102 z10 0) = some z11 ∧ ((vp_in (x2 - (10 : Int32)) (tg χ8 25 z11)) ∧ ((Q (gI χ8 25 z11 (x2 - (10 : Int32)).toNatClampNeg) χ8)))))))))))) ∧ (x2 = (1 : Int32) → (vp_in x1 8) ∧ ((∃ z13, (gR χ6 1 0 x1.toNatClampNeg) = some z13 ∧ ((Q (gI χ6 2101 z13 0) χ6))))))) ∧ (x2 = 0 → (vp_in x1 8) ∧ ((∃ z15, (gR χ6 1 0 x1.toNatClampNeg) = some z15 ∧ ((Q (gI χ6 2100 z15 0) χ6))))))) ∧ (r5 = 0 → (Q (-1 : Int32) χ6)))))) ∧ (¬ r3 = 0 → (w_C_isMark x1 χ4 (fun r16 χ17 => ((¬ r16 = 0 → ((¬ x2 = (30 : Int32) → (vp_in x1 6) ∧ ((Q (gI χ17 2001 x1.toNatClampNeg 0) χ17))) ∧ (x2 = (30 : Int32) → (vp_in x1 6) ∧ ((Q (gI χ17 2000 x1.toNatClampNeg 0) χ17))))) ∧ (r16 = 0 → (Q (-1 : Int32) χ17)))))))))) ∧ (¬ r1 = 0 → (w_C_isKind x1 χ2 (fun r20 χ21 => ((¬ r20 = 0 → ((¬ x2 = (20 : Int32) → (vp_in x1 6) ∧ ((Q (gI χ21 1901 x1.toNatClampNeg 0) χ21))) ∧ (x2 = (20 : Int32) → (vp_in x1 6) ∧ ((Q (gI χ21 1900 x1.toNatClampNeg 0) χ21))))) ∧ (r20 = 0 → (Q (-1 : Int32) χ21)))))))))
set_option maxHeartbeats 4000000 in
theorem mt_C_of (l : Launch) (Γ : Gh) (ad : Nat → Nat → Nat) (x1 : Int32) (x2 : Int32) (χ : St) (Q : Int32 → St → Prop) : Mt l yX0_of (ws_ yX0_of cX0_of 3 (some .int)) (rmO (2) (43) χ) (Pm Γ ad χ [.ref (ad 0 0), .int x1, .int x2] (w_C_of x1 x2 χ Q)) (Qm Γ true ad χ (pI Q)) (frB Γ) := by
  refine Mt.start (by decide) RX0 rfl (Nat.le_of_ble_eq_true rfl) ?_
  intro X hX hG _ _ hna _ hf
  unfold w_C_of at hf
  refine g_iload_n hX 2 dX0_of_0 rfl rfl ?_
  refine g_bipush hX (v := (20 : Int32)) dX0_of_1 rfl ?_
  refine g_bipush hX (v := (21 : Int32)) dX0_of_3 rfl ?_
  refine g_callSi hX (n := 3) (mt_C_in X.l X.Γ _ _ _ _ _ _) hf q281 q282 q85 q283 hy_C_in (by decide) rfl rfl (Nat.le_of_ble_eq_true rfl) dX0_of_5 (fun r1 χ2 hf hc2 => ?_)
  refine g_if_eq hX 50 dX0_of_8 (by decide) (fun z => ?_) (fun z => ?_)
  · replace hf := hf.1 z
    refine g_iload_n hX 2 dX0_of_50 rfl rfl ?_
    refine g_bipush hX (v := (30 : Int32)) dX0_of_51 rfl ?_
    refine g_bipush hX (v := (31 : Int32)) dX0_of_53 rfl ?_
    refine g_callSi hX (n := 3) (mt_C_in X.l X.Γ _ _ _ _ _ _) hf q281 q282 q85 q283 hy_C_in (by decide) rfl rfl (Nat.le_of_ble_eq_true rfl) dX0_of_55 (fun r3 χ4 hf hc4 => ?_)
    refine g_if_eq hX 100 dX0_of_58 (by decide) (fun z => ?_) (fun z => ?_)
    · replace hf := hf.1 z
      refine g_aload_n hX 0 dX0_of_100 rfl rfl ?_
      refine g_iload_n hX 1 dX0_of_101 rfl rfl ?_
      refine g_callVi hX (n := 1) (mt_C_isPart X.l X.Γ _ _ _ _) hf q458 q460 qs4 q85 q461 ⟨rfl, hy_C_isPart⟩ (by decide) (fc0 _) ff0 rfl rfl rfl (Nat.le_of_ble_eq_true rfl) dX0_of_102 (fun r5 χ6 hf hc6 => ?_)
      refine g_if_ne hX 110 dX0_of_105 (by decide) (fun z => ?_) (fun z => ?_)
      · replace hf := hf.1 z
        refine g_iload_n hX 2 dX0_of_110 rfl rfl ?_
        refine g_if_ne hX 126 dX0_of_111 (by decide) (fun z => ?_) (fun z => ?_)
        · replace hf := hf.1 z
          refine g_iload_n hX 2 dX0_of_126 rfl rfl ?_
          refine g_iconst hX (v := (1 : Int32)) dX0_of_127 rfl ?_
          refine g_icmp_ne hX 143 dX0_of_128 (by decide) (fun z => ?_) (fun z => ?_)
          · replace hf := hf.1 z
            refine g_iload_n hX 2 dX0_of_143 rfl rfl ?_
            refine g_bipush hX (v := (10 : Int32)) dX0_of_144 rfl ?_
            refine g_bipush hX (v := (15 : Int32)) dX0_of_146 rfl ?_
            refine g_callSi hX (n := 3) (mt_C_in X.l X.Γ _ _ _ _ _ _) hf q281 q282 q85 q283 hy_C_in (by decide) rfl rfl (Nat.le_of_ble_eq_true rfl) dX0_of_148 (fun r7 χ8 hf hc8 => ?_)
            refine g_if_eq hX 171 dX0_of_151 (by decide) (fun z => ?_) (fun z => ?_)
            · replace hf := hf.1 z
              refine g_iconst hX (v := (-1 : Int32)) dX0_of_171 rfl ?_
              exact g_iret hX ⟨_, rfl, hf⟩ dX0_of_172
            · replace hf := hf.2 z
              refine g_aload_n hX 0 dX0_of_154 rfl rfl ?_
              refine g_getK hX (k := 0) (d := 1) (fc0 _) ff0 rfl (by decide) rfl rfl in_X0 (by decide) q198 dX0_of_155 ?_
              refine g_iload_n hX 1 dX0_of_158 rfl rfl ?_
              have hg9 := hf.1
              replace hf := hf.2
              obtain ⟨z10, hz10, hf⟩ := hf
              refine g_aaldE hX (fc1 _) ff1 rfl rfl hg9 dX0_of_159 hz10 (fun hvz10 => ?_)
              obtain ⟨z11, hz11, hf⟩ := hf
              refine g_getEN hX (k := 2) hvz10 ff20 rfl (by decide) (by decide) rfl rfl rfl in_X5 (by decide) q298 dX0_of_160 hz11 (fun hvz11 => ?_)
              refine g_iload_n hX 2 dX0_of_163 rfl rfl ?_
              refine g_bipush hX (v := (10 : Int32)) dX0_of_164 rfl ?_
              refine g_isub hX dX0_of_166 ?_
              refine g_bald hX hvz11 ff25 rfl hf.1 dX0_of_167 ?_
              replace hf := hf.2
              refine g_goto hX 172 dX0_of_168 (by decide) ?_
              exact g_iret hX ⟨_, rfl, hf⟩ dX0_of_172
          · replace hf := hf.2 z
            refine g_aload_n hX 0 dX0_of_131 rfl rfl ?_
            refine g_getK hX (k := 0) (d := 1) (fc0 _) ff0 rfl (by decide) rfl rfl in_X0 (by decide) q198 dX0_of_132 ?_
            refine g_iload_n hX 1 dX0_of_135 rfl rfl ?_
            have hg12 := hf.1
            replace hf := hf.2
            obtain ⟨z13, hz13, hf⟩ := hf
            refine g_aaldE hX (fc1 _) ff1 rfl rfl hg12 dX0_of_136 hz13 (fun hvz13 => ?_)
            refine g_getIN hX (k := 1) hvz13 ff20 rfl rfl in_X5 (by decide) q296 dX0_of_137 ?_
            refine g_goto hX 172 dX0_of_140 (by decide) ?_
            exact g_iret hX ⟨_, rfl, hf⟩ dX0_of_172
        · replace hf := hf.2 z
          refine g_aload_n hX 0 dX0_of_114 rfl rfl ?_
          refine g_getK hX (k := 0) (d := 1) (fc0 _) ff0 rfl (by decide) rfl rfl in_X0 (by decide) q198 dX0_of_115 ?_
          refine g_iload_n hX 1 dX0_of_118 rfl rfl ?_
          have hg14 := hf.1
          replace hf := hf.2
          obtain ⟨z15, hz15, hf⟩ := hf
          refine g_aaldE hX (fc1 _) ff1 rfl rfl hg14 dX0_of_119 hz15 (fun hvz15 => ?_)
          refine g_getIN hX (k := 0) hvz15 ff20 rfl rfl in_X5 (by decide) q294 dX0_of_120 ?_
          refine g_goto hX 172 dX0_of_123 (by decide) ?_
          exact g_iret hX ⟨_, rfl, hf⟩ dX0_of_172
      · replace hf := hf.2 z
        refine g_iconst hX (v := (-1 : Int32)) dX0_of_108 rfl ?_
        exact g_iret hX ⟨_, rfl, hf⟩ dX0_of_109
    · replace hf := hf.2 z
      refine g_iload_n hX 1 dX0_of_61 rfl rfl ?_
      refine g_callSi hX (n := 1) (mt_C_isMark X.l X.Γ _ _ _ _) hf q462 q463 q85 q464 hy_C_isMark (by decide) rfl rfl (Nat.le_of_ble_eq_true rfl) dX0_of_62 (fun r16 χ17 hf hc17 => ?_)
      refine g_if_ne hX 72 dX0_of_65 (by decide) (fun z => ?_) (fun z => ?_)
      · replace hf := hf.1 z
        refine g_iload_n hX 2 dX0_of_72 rfl rfl ?_
        refine g_bipush hX (v := (30 : Int32)) dX0_of_73 rfl ?_
        refine g_icmp_ne hX 90 dX0_of_75 (by decide) (fun z => ?_) (fun z => ?_)
        · replace hf := hf.1 z
          refine g_aload_n hX 0 dX0_of_90 rfl rfl ?_
          refine g_getK hX (k := 2) (d := 3) (fc0 _) ff0 rfl (by decide) rfl rfl in_X0 (by decide) q200 dX0_of_91 ?_
          refine g_iload_n hX 1 dX0_of_94 rfl rfl ?_
          have hg18 := hf.1
          replace hf := hf.2
          refine g_aaldK hX (fc3 _) ff3 rfl hg18 dX0_of_95 ?_
          refine g_getIN hX (k := 1) (fc19 (vp_lt hg18)) ff19 rfl rfl in_X2 (by decide) q167 dX0_of_96 ?_
          exact g_iret hX ⟨_, rfl, hf⟩ dX0_of_99
        · replace hf := hf.2 z
          refine g_aload_n hX 0 dX0_of_78 rfl rfl ?_
          refine g_getK hX (k := 2) (d := 3) (fc0 _) ff0 rfl (by decide) rfl rfl in_X0 (by decide) q200 dX0_of_79 ?_
          refine g_iload_n hX 1 dX0_of_82 rfl rfl ?_
          have hg19 := hf.1
          replace hf := hf.2
          refine g_aaldK hX (fc3 _) ff3 rfl hg19 dX0_of_83 ?_
          refine g_getIN hX (k := 0) (fc19 (vp_lt hg19)) ff19 rfl rfl in_X2 (by decide) q165 dX0_of_84 ?_
          refine g_goto hX 99 dX0_of_87 (by decide) ?_
          exact g_iret hX ⟨_, rfl, hf⟩ dX0_of_99
      · replace hf := hf.2 z
        refine g_iconst hX (v := (-1 : Int32)) dX0_of_68 rfl ?_
        refine g_goto hX 99 dX0_of_69 (by decide) ?_
        exact g_iret hX ⟨_, rfl, hf⟩ dX0_of_99
  · replace hf := hf.2 z
    refine g_iload_n hX 1 dX0_of_11 rfl rfl ?_
    refine g_callSi hX (n := 1) (mt_C_isKind X.l X.Γ _ _ _ _) hf q469 q470 q85 q471 hy_C_isKind (by decide) rfl rfl (Nat.le_of_ble_eq_true rfl) dX0_of_12 (fun r20 χ21 hf hc21 => ?_)
    refine g_if_ne hX 22 dX0_of_15 (by decide) (fun z => ?_) (fun z => ?_)
    · replace hf := hf.1 z
      refine g_iload_n hX 2 dX0_of_22 rfl rfl ?_
      refine g_bipush hX (v := (20 : Int32)) dX0_of_23 rfl ?_
      refine g_icmp_ne hX 40 dX0_of_25 (by decide) (fun z => ?_) (fun z => ?_)
      · replace hf := hf.1 z
        refine g_aload_n hX 0 dX0_of_40 rfl rfl ?_
        refine g_getK hX (k := 1) (d := 2) (fc0 _) ff0 rfl (by decide) rfl rfl in_X0 (by decide) q199 dX0_of_41 ?_
        refine g_iload_n hX 1 dX0_of_44 rfl rfl ?_
        have hg22 := hf.1
        replace hf := hf.2
        refine g_aaldK hX (fc2 _) ff2 rfl hg22 dX0_of_45 ?_
        refine g_getIN hX (k := 1) (fc18 (vp_lt hg22)) ff18 rfl rfl in_X1 (by decide) q151 dX0_of_46 ?_
        exact g_iret hX ⟨_, rfl, hf⟩ dX0_of_49
      · replace hf := hf.2 z
        refine g_aload_n hX 0 dX0_of_28 rfl rfl ?_
        refine g_getK hX (k := 1) (d := 2) (fc0 _) ff0 rfl (by decide) rfl rfl in_X0 (by decide) q199 dX0_of_29 ?_
        refine g_iload_n hX 1 dX0_of_32 rfl rfl ?_
        have hg23 := hf.1
        replace hf := hf.2
        refine g_aaldK hX (fc2 _) ff2 rfl hg23 dX0_of_33 ?_
        refine g_getIN hX (k := 0) (fc18 (vp_lt hg23)) ff18 rfl rfl in_X1 (by decide) q150 dX0_of_34 ?_
        refine g_goto hX 49 dX0_of_37 (by decide) ?_
        exact g_iret hX ⟨_, rfl, hf⟩ dX0_of_49
    · replace hf := hf.2 z
      refine g_iconst hX (v := (-1 : Int32)) dX0_of_18 rfl ?_
      refine g_goto hX 49 dX0_of_19 (by decide) ?_
      exact g_iret hX ⟨_, rfl, hf⟩ dX0_of_49

def w_C_setTo (x1 : Int32) (x2 : Int32) (x3 : Int32) (χ : St) (Q : St → Prop) : Prop := (∀ v1 : Int32, v1 = x1 → ((v1 = (0 : Int32) → (vp_in x2 6) ∧ ((∀ χ3 : St, χ3 = (sI χ 1900 x2.toNatClampNeg 0 x3) → (Q χ3)))) ∧ (v1 = (1 : Int32) → (vp_in x2 6) ∧ ((∀ χ5 : St, χ5 = (sI χ 1901 x2.toNatClampNeg 0 x3) → (Q χ5)))) ∧ (v1 = (2 : Int32) → (vp_in x2 6) ∧ ((∀ χ7 : St, χ7 = (sI χ 2000 x2.toNatClampNeg 0 x3) → (Q χ7)))) ∧ (¬ v1 = (0 : Int32) → ¬ v1 = (1 : Int32) → ¬ v1 = (2 : Int32) → (vp_in x2 6) ∧ ((∀ χ9 : St, χ9 = (sI χ 2001 x2.toNatClampNeg 0 x3) → (Q χ9))))))
set_option maxHeartbeats 4000000 in
theorem mt_C_setTo (l : Launch) (Γ : Gh) (ad : Nat → Nat → Nat) (x1 : Int32) (x2 : Int32) (x3 : Int32) (χ : St) (Q : St → Prop) : Mt l yX0_setTo (ws_ yX0_setTo cX0_setTo 4 (none)) (rmO (0) (0) χ) (Pm Γ ad χ [.ref (ad 0 0), .int x1, .int x2, .int x3] (w_C_setTo x1 x2 x3 χ Q)) (Qm Γ true ad χ (pV Q)) (frB Γ) := by
  refine Mt.start (by decide) RX0 rfl (Nat.le_of_ble_eq_true rfl) ?_
  intro X hX hG _ _ hna _ hf
  unfold w_C_setTo at hf
  refine g_iload_n hX 1 dX0_setTo_0 rfl rfl ?_
  replace hf := hf _ rfl
  by_cases z0 : x1 = (0 : Int32)
  · replace hf := hf.1 z0
    refine g_tableIn hX 28 dX0_setTo_1 (by rw [z0]; decide) (by rw [z0]; decide) (by rw [z0] <;> rfl) (by decide) ?_
    refine g_aload_n hX 0 dX0_setTo_28 rfl rfl ?_
    refine g_getK hX (k := 1) (d := 2) (fc0 _) ff0 rfl (by decide) rfl rfl in_X0 (by decide) q199 dX0_setTo_29 ?_
    refine g_iload_n hX 2 dX0_setTo_32 rfl rfl ?_
    have hg2 := hf.1
    replace hf := hf.2
    refine g_aaldK hX (fc2 _) ff2 rfl hg2 dX0_setTo_33 ?_
    refine g_iload_n hX 3 dX0_setTo_34 rfl rfl ?_
    refine g_putIN hX (k := 0) (fc18 (vp_lt hg2)) ff18 rfl rfl in_X1 tyX1_ok nmX1 (by decide) q150 rfl rfl rfl rfl dX0_setTo_35 ?_
    replace hf := hf _ rfl
    refine g_goto hX 77 dX0_setTo_38 (by decide) ?_
    exact g_vret hX ⟨rfl, hf⟩ dX0_setTo_77
  replace hf := hf.2
  by_cases z1 : x1 = (1 : Int32)
  · replace hf := hf.1 z1
    refine g_tableIn hX 41 dX0_setTo_1 (by rw [z1]; decide) (by rw [z1]; decide) (by rw [z1] <;> rfl) (by decide) ?_
    refine g_aload_n hX 0 dX0_setTo_41 rfl rfl ?_
    refine g_getK hX (k := 1) (d := 2) (fc0 _) ff0 rfl (by decide) rfl rfl in_X0 (by decide) q199 dX0_setTo_42 ?_
    refine g_iload_n hX 2 dX0_setTo_45 rfl rfl ?_
    have hg4 := hf.1
    replace hf := hf.2
    refine g_aaldK hX (fc2 _) ff2 rfl hg4 dX0_setTo_46 ?_
    refine g_iload_n hX 3 dX0_setTo_47 rfl rfl ?_
    refine g_putIN hX (k := 1) (fc18 (vp_lt hg4)) ff18 rfl rfl in_X1 tyX1_ok nmX1 (by decide) q151 rfl rfl rfl rfl dX0_setTo_48 ?_
    replace hf := hf _ rfl
    refine g_goto hX 77 dX0_setTo_51 (by decide) ?_
    exact g_vret hX ⟨rfl, hf⟩ dX0_setTo_77
  replace hf := hf.2
  by_cases z2 : x1 = (2 : Int32)
  · replace hf := hf.1 z2
    refine g_tableIn hX 54 dX0_setTo_1 (by rw [z2]; decide) (by rw [z2]; decide) (by rw [z2] <;> rfl) (by decide) ?_
    refine g_aload_n hX 0 dX0_setTo_54 rfl rfl ?_
    refine g_getK hX (k := 2) (d := 3) (fc0 _) ff0 rfl (by decide) rfl rfl in_X0 (by decide) q200 dX0_setTo_55 ?_
    refine g_iload_n hX 2 dX0_setTo_58 rfl rfl ?_
    have hg6 := hf.1
    replace hf := hf.2
    refine g_aaldK hX (fc3 _) ff3 rfl hg6 dX0_setTo_59 ?_
    refine g_iload_n hX 3 dX0_setTo_60 rfl rfl ?_
    refine g_putIN hX (k := 0) (fc19 (vp_lt hg6)) ff19 rfl rfl in_X2 tyX2_ok nmX2 (by decide) q165 rfl rfl rfl rfl dX0_setTo_61 ?_
    replace hf := hf _ rfl
    refine g_goto hX 77 dX0_setTo_64 (by decide) ?_
    exact g_vret hX ⟨rfl, hf⟩ dX0_setTo_77
  replace hf := hf.2
  replace hf := hf z0 z1 z2
  refine g_tableOut hX 67 dX0_setTo_1 (tb_out (fun v h1 h2 => ?_)) (by decide) ?_
  · have h3 : v = 0 ∨ v = 1 ∨ v = 2 := by omega
    rcases h3 with rfl | rfl | rfl
    · exact z0
    · exact z1
    · exact z2
  refine g_aload_n hX 0 dX0_setTo_67 rfl rfl ?_
  refine g_getK hX (k := 2) (d := 3) (fc0 _) ff0 rfl (by decide) rfl rfl in_X0 (by decide) q200 dX0_setTo_68 ?_
  refine g_iload_n hX 2 dX0_setTo_71 rfl rfl ?_
  have hg8 := hf.1
  replace hf := hf.2
  refine g_aaldK hX (fc3 _) ff3 rfl hg8 dX0_setTo_72 ?_
  refine g_iload_n hX 3 dX0_setTo_73 rfl rfl ?_
  refine g_putIN hX (k := 1) (fc19 (vp_lt hg8)) ff19 rfl rfl in_X2 tyX2_ok nmX2 (by decide) q167 rfl rfl rfl rfl dX0_setTo_74 ?_
  replace hf := hf _ rfl
  exact g_vret hX ⟨rfl, hf⟩ dX0_setTo_77

def w_C_undo (χ : St) (Q : Int32 → St → Prop) : Prop := ((¬ (gI χ 105 0 0) = 0 → (∀ χ1 : St, χ1 = (sI χ 105 0 0 ((gI χ 105 0 0) - (1 : Int32))) → (∀ χ2 : St, χ2 = (sI χ1 106 0 0 ((gI χ1 106 0 0) + (1 : Int32))) → (vp_in (gI χ2 105 0 0) 40) ∧ ((∃ z4, (gR χ2 4 0 (gI χ2 105 0 0).toNatClampNeg) = some z4 ∧ ((vp_in (gI χ2 105 0 0) 40) ∧ ((∃ z6, (gR χ2 4 0 (gI χ2 105 0 0).toNatClampNeg) = some z6 ∧ ((vp_in (gI χ2 105 0 0) 40) ∧ ((∃ z8, (gR χ2 4 0 (gI χ2 105 0 0).toNatClampNeg) = some z8 ∧ ((w_C_setTo (gI χ2 2200 z4 0) (gI χ2 2201 z6 0) (gI χ2 2202 z8 0) χ2 (fun χ9 => (Q (gI χ9 105 0 0) χ9))))))))))))))) ∧ ((gI χ 105 0 0) = 0 → (Q (-5 : Int32) χ)))
set_option maxHeartbeats 4000000 in
theorem mt_C_undo (l : Launch) (Γ : Gh) (ad : Nat → Nat → Nat) (χ : St) (Q : Int32 → St → Prop) : Mt l yX0_undo (ws_ yX0_undo cX0_undo 1 (some .int)) (rmO (1) (23) χ) (Pm Γ ad χ [.ref (ad 0 0)] (w_C_undo χ Q)) (Qm Γ true ad χ (pI Q)) (frB Γ) := by
  refine Mt.start (by decide) RX0 rfl (Nat.le_of_ble_eq_true rfl) ?_
  intro X hX hG _ _ hna _ hf
  unfold w_C_undo at hf
  refine g_aload_n hX 0 dX0_undo_0 rfl rfl ?_
  refine g_getI hX (k := 5) (fc0 _) ff0 rfl rfl in_X0 (by decide) q203 dX0_undo_1 ?_
  refine g_if_ne hX 10 dX0_undo_4 (by decide) (fun z => ?_) (fun z => ?_)
  · replace hf := hf.1 z
    refine g_aload_n hX 0 dX0_undo_10 rfl rfl ?_
    refine g_dup hX dX0_undo_11 rfl ?_
    refine g_getI hX (k := 5) (fc0 _) ff0 rfl rfl in_X0 (by decide) q203 dX0_undo_12 ?_
    refine g_iconst hX (v := (1 : Int32)) dX0_undo_15 rfl ?_
    refine g_isub hX dX0_undo_16 ?_
    refine g_putI hX (k := 5) (fc0 _) ff0 rfl rfl in_X0 tyX0_ok nmX0 (by decide) q203 rfl rfl rfl rfl dX0_undo_17 ?_
    replace hf := hf _ rfl
    refine g_aload_n hX 0 dX0_undo_20 rfl rfl ?_
    refine g_dup hX dX0_undo_21 rfl ?_
    refine g_getI hX (k := 6) (fc0 _) ff0 rfl rfl in_X0 (by decide) q204 dX0_undo_22 ?_
    refine g_iconst hX (v := (1 : Int32)) dX0_undo_25 rfl ?_
    refine g_iadd hX dX0_undo_26 ?_
    refine g_putI hX (k := 6) (fc0 _) ff0 rfl rfl in_X0 tyX0_ok nmX0 (by decide) q204 rfl rfl rfl rfl dX0_undo_27 ?_
    replace hf := hf _ rfl
    refine g_aload_n hX 0 dX0_undo_30 rfl rfl ?_
    refine g_aload_n hX 0 dX0_undo_31 rfl rfl ?_
    refine g_getK hX (k := 4) (d := 4) (fc0 _) ff0 rfl (by decide) rfl rfl in_X0 (by decide) q202 dX0_undo_32 ?_
    refine g_aload_n hX 0 dX0_undo_35 rfl rfl ?_
    refine g_getI hX (k := 5) (fc0 _) ff0 rfl rfl in_X0 (by decide) q203 dX0_undo_36 ?_
    have hg3 := hf.1
    replace hf := hf.2
    obtain ⟨z4, hz4, hf⟩ := hf
    refine g_aaldE hX (fc4 _) ff4 rfl rfl hg3 dX0_undo_39 hz4 (fun hvz4 => ?_)
    refine g_getIN hX (k := 0) hvz4 ff21 rfl rfl in_X6 (by decide) q498 dX0_undo_40 ?_
    refine g_aload_n hX 0 dX0_undo_43 rfl rfl ?_
    refine g_getK hX (k := 4) (d := 4) (fc0 _) ff0 rfl (by decide) rfl rfl in_X0 (by decide) q202 dX0_undo_44 ?_
    refine g_aload_n hX 0 dX0_undo_47 rfl rfl ?_
    refine g_getI hX (k := 5) (fc0 _) ff0 rfl rfl in_X0 (by decide) q203 dX0_undo_48 ?_
    have hg5 := hf.1
    replace hf := hf.2
    obtain ⟨z6, hz6, hf⟩ := hf
    refine g_aaldE hX (fc4 _) ff4 rfl rfl hg5 dX0_undo_51 hz6 (fun hvz6 => ?_)
    refine g_getIN hX (k := 1) hvz6 ff21 rfl rfl in_X6 (by decide) q500 dX0_undo_52 ?_
    refine g_aload_n hX 0 dX0_undo_55 rfl rfl ?_
    refine g_getK hX (k := 4) (d := 4) (fc0 _) ff0 rfl (by decide) rfl rfl in_X0 (by decide) q202 dX0_undo_56 ?_
    refine g_aload_n hX 0 dX0_undo_59 rfl rfl ?_
    refine g_getI hX (k := 5) (fc0 _) ff0 rfl rfl in_X0 (by decide) q203 dX0_undo_60 ?_
    have hg7 := hf.1
    replace hf := hf.2
    obtain ⟨z8, hz8, hf⟩ := hf
    refine g_aaldE hX (fc4 _) ff4 rfl rfl hg7 dX0_undo_63 hz8 (fun hvz8 => ?_)
    refine g_getIN hX (k := 2) hvz8 ff21 rfl rfl in_X6 (by decide) q502 dX0_undo_64 ?_
    refine g_callVv hX (n := 3) (mt_C_setTo X.l X.Γ _ _ _ _ _ _) hf q476 q478 qs5 q85 q479 ⟨rfl, hy_C_setTo⟩ (by decide) (fc0 _) ff0 rfl rfl rfl (Nat.le_of_ble_eq_true rfl) dX0_undo_67 (fun χ9 hf hc9 => ?_)
    refine g_aload_n hX 0 dX0_undo_70 rfl rfl ?_
    refine g_getI hX (k := 5) (fc0 _) ff0 rfl rfl in_X0 (by decide) q203 dX0_undo_71 ?_
    exact g_iret hX ⟨_, rfl, hf⟩ dX0_undo_74
  · replace hf := hf.2 z
    refine g_bipush hX (v := (-5 : Int32)) dX0_undo_7 rfl ?_
    exact g_iret hX ⟨_, rfl, hf⟩ dX0_undo_9

def w_C_redo (χ : St) (Q : Int32 → St → Prop) : Prop := ((¬ (gI χ 106 0 0) = 0 → (vp_in (gI χ 105 0 0) 40) ∧ ((∃ z2, (gR χ 4 0 (gI χ 105 0 0).toNatClampNeg) = some z2 ∧ ((vp_in (gI χ 105 0 0) 40) ∧ ((∃ z4, (gR χ 4 0 (gI χ 105 0 0).toNatClampNeg) = some z4 ∧ ((vp_in (gI χ 105 0 0) 40) ∧ ((∃ z6, (gR χ 4 0 (gI χ 105 0 0).toNatClampNeg) = some z6 ∧ ((w_C_setTo (gI χ 2200 z2 0) (gI χ 2201 z4 0) (gI χ 2203 z6 0) χ (fun χ7 => (∀ χ8 : St, χ8 = (sI χ7 105 0 0 ((gI χ7 105 0 0) + (1 : Int32))) → (∀ χ9 : St, χ9 = (sI χ8 106 0 0 ((gI χ8 106 0 0) - (1 : Int32))) → (Q (gI χ9 106 0 0) χ9))))))))))))))) ∧ ((gI χ 106 0 0) = 0 → (Q (-5 : Int32) χ)))
set_option maxHeartbeats 4000000 in
theorem mt_C_redo (l : Launch) (Γ : Gh) (ad : Nat → Nat → Nat) (χ : St) (Q : Int32 → St → Prop) : Mt l yX0_redo (ws_ yX0_redo cX0_redo 1 (some .int)) (rmO (1) (23) χ) (Pm Γ ad χ [.ref (ad 0 0)] (w_C_redo χ Q)) (Qm Γ true ad χ (pI Q)) (frB Γ) := by
  refine Mt.start (by decide) RX0 rfl (Nat.le_of_ble_eq_true rfl) ?_
  intro X hX hG _ _ hna _ hf
  unfold w_C_redo at hf
  refine g_aload_n hX 0 dX0_redo_0 rfl rfl ?_
  refine g_getI hX (k := 6) (fc0 _) ff0 rfl rfl in_X0 (by decide) q204 dX0_redo_1 ?_
  refine g_if_ne hX 10 dX0_redo_4 (by decide) (fun z => ?_) (fun z => ?_)
  · replace hf := hf.1 z
    refine g_aload_n hX 0 dX0_redo_10 rfl rfl ?_
    refine g_aload_n hX 0 dX0_redo_11 rfl rfl ?_
    refine g_getK hX (k := 4) (d := 4) (fc0 _) ff0 rfl (by decide) rfl rfl in_X0 (by decide) q202 dX0_redo_12 ?_
    refine g_aload_n hX 0 dX0_redo_15 rfl rfl ?_
    refine g_getI hX (k := 5) (fc0 _) ff0 rfl rfl in_X0 (by decide) q203 dX0_redo_16 ?_
    have hg1 := hf.1
    replace hf := hf.2
    obtain ⟨z2, hz2, hf⟩ := hf
    refine g_aaldE hX (fc4 _) ff4 rfl rfl hg1 dX0_redo_19 hz2 (fun hvz2 => ?_)
    refine g_getIN hX (k := 0) hvz2 ff21 rfl rfl in_X6 (by decide) q498 dX0_redo_20 ?_
    refine g_aload_n hX 0 dX0_redo_23 rfl rfl ?_
    refine g_getK hX (k := 4) (d := 4) (fc0 _) ff0 rfl (by decide) rfl rfl in_X0 (by decide) q202 dX0_redo_24 ?_
    refine g_aload_n hX 0 dX0_redo_27 rfl rfl ?_
    refine g_getI hX (k := 5) (fc0 _) ff0 rfl rfl in_X0 (by decide) q203 dX0_redo_28 ?_
    have hg3 := hf.1
    replace hf := hf.2
    obtain ⟨z4, hz4, hf⟩ := hf
    refine g_aaldE hX (fc4 _) ff4 rfl rfl hg3 dX0_redo_31 hz4 (fun hvz4 => ?_)
    refine g_getIN hX (k := 1) hvz4 ff21 rfl rfl in_X6 (by decide) q500 dX0_redo_32 ?_
    refine g_aload_n hX 0 dX0_redo_35 rfl rfl ?_
    refine g_getK hX (k := 4) (d := 4) (fc0 _) ff0 rfl (by decide) rfl rfl in_X0 (by decide) q202 dX0_redo_36 ?_
    refine g_aload_n hX 0 dX0_redo_39 rfl rfl ?_
    refine g_getI hX (k := 5) (fc0 _) ff0 rfl rfl in_X0 (by decide) q203 dX0_redo_40 ?_
    have hg5 := hf.1
    replace hf := hf.2
    obtain ⟨z6, hz6, hf⟩ := hf
    refine g_aaldE hX (fc4 _) ff4 rfl rfl hg5 dX0_redo_43 hz6 (fun hvz6 => ?_)
    refine g_getIN hX (k := 3) hvz6 ff21 rfl rfl in_X6 (by decide) q504 dX0_redo_44 ?_
    refine g_callVv hX (n := 3) (mt_C_setTo X.l X.Γ _ _ _ _ _ _) hf q476 q478 qs5 q85 q479 ⟨rfl, hy_C_setTo⟩ (by decide) (fc0 _) ff0 rfl rfl rfl (Nat.le_of_ble_eq_true rfl) dX0_redo_47 (fun χ7 hf hc7 => ?_)
    refine g_aload_n hX 0 dX0_redo_50 rfl rfl ?_
    refine g_dup hX dX0_redo_51 rfl ?_
    refine g_getI hX (k := 5) (fc0 _) ff0 rfl rfl in_X0 (by decide) q203 dX0_redo_52 ?_
    refine g_iconst hX (v := (1 : Int32)) dX0_redo_55 rfl ?_
    refine g_iadd hX dX0_redo_56 ?_
    refine g_putI hX (k := 5) (fc0 _) ff0 rfl rfl in_X0 tyX0_ok nmX0 (by decide) q203 rfl rfl rfl rfl dX0_redo_57 ?_
    replace hf := hf _ rfl
    refine g_aload_n hX 0 dX0_redo_60 rfl rfl ?_
    refine g_dup hX dX0_redo_61 rfl ?_
    refine g_getI hX (k := 6) (fc0 _) ff0 rfl rfl in_X0 (by decide) q204 dX0_redo_62 ?_
    refine g_iconst hX (v := (1 : Int32)) dX0_redo_65 rfl ?_
    refine g_isub hX dX0_redo_66 ?_
    refine g_putI hX (k := 6) (fc0 _) ff0 rfl rfl in_X0 tyX0_ok nmX0 (by decide) q204 rfl rfl rfl rfl dX0_redo_67 ?_
    replace hf := hf _ rfl
    refine g_aload_n hX 0 dX0_redo_70 rfl rfl ?_
    refine g_getI hX (k := 6) (fc0 _) ff0 rfl rfl in_X0 (by decide) q204 dX0_redo_71 ?_
    exact g_iret hX ⟨_, rfl, hf⟩ dX0_redo_74
  · replace hf := hf.2 z
    refine g_bipush hX (v := (-5 : Int32)) dX0_redo_7 rfl ?_
    exact g_iret hX ⟨_, rfl, hf⟩ dX0_redo_9

def w_X6_init (x0 : Nat) (x1 : Int32) (x2 : Int32) (x3 : Int32) (x4 : Int32) (χ : St) (Q : St → Prop) : Prop := (∀ χ1 : St, χ1 = (sI χ 2200 x0 0 x1) → (∀ χ2 : St, χ2 = (sI χ1 2201 x0 0 x2) → (∀ χ3 : St, χ3 = (sI χ2 2202 x0 0 x3) → (∀ χ4 : St, χ4 = (sI χ3 2203 x0 0 x4) → (Q χ4)))))
set_option maxHeartbeats 4000000 in
theorem mt_X6_init (l : Launch) (Γ : Gh) (ad : Nat → Nat → Nat) (x0 : Nat) (x1 : Int32) (x2 : Int32) (x3 : Int32) (x4 : Int32) (χ : St) (Q : St → Prop) : Mt l yX6_init (ws_ yX6_init cX6_init 5 (none)) (rmO (1) (20) χ) (Pm Γ ad χ [.ref (ad 21 x0), .int x1, .int x2, .int x3, .int x4] (x0 < cn χ 21 ∧ w_X6_init x0 x1 x2 x3 x4 χ Q)) (Qm Γ true ad χ (pV Q)) (frB Γ) := by
  refine Mt.start (by decide) RX6 rfl (Nat.le_of_ble_eq_true rfl) ?_
  intro X hX hG _ _ hna _ ⟨hv0, hf⟩
  unfold w_X6_init at hf
  refine g_aload_n hX 0 dX6_init_0 rfl rfl ?_
  refine g_objInit hX q496 q138 q139 ⟨by decide, by decide⟩ (Nat.le_of_ble_eq_true rfl) dX6_init_1 ?_
  refine g_aload_n hX 0 dX6_init_4 rfl rfl ?_
  refine g_iload_n hX 1 dX6_init_5 rfl rfl ?_
  refine g_putIF hX rfl (k := 0) hv0 ff21 rfl rfl in_X6 tyX6_ok nmX6 (by decide) q497 rfl rfl rfl rfl rfl dX6_init_6 ?_
  replace hf := hf _ rfl
  refine g_aload_n hX 0 dX6_init_9 rfl rfl ?_
  refine g_iload_n hX 2 dX6_init_10 rfl rfl ?_
  refine g_putIF hX rfl (k := 1) hv0 ff21 rfl rfl in_X6 tyX6_ok nmX6 (by decide) q499 rfl rfl rfl rfl rfl dX6_init_11 ?_
  replace hf := hf _ rfl
  refine g_aload_n hX 0 dX6_init_14 rfl rfl ?_
  refine g_iload_n hX 3 dX6_init_15 rfl rfl ?_
  refine g_putIF hX rfl (k := 2) hv0 ff21 rfl rfl in_X6 tyX6_ok nmX6 (by decide) q501 rfl rfl rfl rfl rfl dX6_init_16 ?_
  replace hf := hf _ rfl
  refine g_aload_n hX 0 dX6_init_19 rfl rfl ?_
  refine g_iload hX 4 dX6_init_20 rfl ?_
  refine g_putIF hX rfl (k := 3) hv0 ff21 rfl rfl in_X6 tyX6_ok nmX6 (by decide) q503 rfl rfl rfl rfl rfl dX6_init_22 ?_
  replace hf := hf _ rfl
  exact g_vret hX ⟨rfl, hf⟩ dX6_init_25

def w_C_become_64 (Q : Int32 → St → Prop) (x1 : Int32) (x2 : Int32) (x3 : Int32) (x4 : Int32) (χ : St) : Prop := (uC χ + 1 ≤ 603072) ∧ (uS χ + 4 ≤ 7262314) ∧ ((∀ χ2 : St, χ2 = (alo χ 21 0 4) → (w_X6_init (nO χ 21) x1 x2 x3 x4 χ2 (fun χ3 => (vp_in (gI χ 105 0 0) 40) ∧ ((∀ χ4 : St, χ4 = (sR χ3 4 0 (gI χ 105 0 0).toNatClampNeg (some (nO χ 21))) → (∀ χ5 : St, χ5 = (sI χ4 105 0 0 ((gI χ4 105 0 0) + (1 : Int32))) → (w_C_setTo x1 x2 x4 χ5 (fun χ6 => (Q x3 χ6))))))))))
def w_C_become_25 (Q : Int32 → St → Prop) : Nat → Int32 → Int32 → Int32 → Int32 → Int32 → St → Prop
  | 0 => fun _ _ _ _ _ _ => False
  | n + 1 => fun x1 x2 x3 x4 x5 χ => (((40 : Int32) ≤ x5 → (∀ χ7 : St, χ7 = (sI χ 105 0 0 ((gI χ 105 0 0) - (1 : Int32))) → (w_C_become_64 Q x1 x2 x3 x4 χ7))) ∧ (¬ (40 : Int32) ≤ x5 → (vp_in x5 40) ∧ ((∃ z9, (gR χ 4 0 x5.toNatClampNeg) = some z9 ∧ ((vp_in (x5 - (1 : Int32)) 40) ∧ ((∀ χ10 : St, χ10 = (sR χ 4 0 (x5 - (1 : Int32)).toNatClampNeg (some z9)) → (w_C_become_25 Q n x1 x2 x3 x4 (x5 + (1 : Int32)) χ10))))))))
def w_C_become (x1 : Int32) (x2 : Int32) (x3 : Int32) (x4 : Int32) (χ : St) (Q : Int32 → St → Prop) : Prop := ((¬ x3 = x4 → (∀ χ1 : St, χ1 = (sI χ 106 0 0 (0 : Int32)) → ((¬ (gI χ1 105 0 0) = (40 : Int32) → (w_C_become_64 Q x1 x2 x3 x4 χ1)) ∧ ((gI χ1 105 0 0) = (40 : Int32) → (∃ k25, w_C_become_25 Q k25 x1 x2 x3 x4 (1 : Int32) χ1))))) ∧ (x3 = x4 → (Q x3 χ)))
set_option maxHeartbeats 4000000 in
theorem mt_C_become (l : Launch) (Γ : Gh) (ad : Nat → Nat → Nat) (x1 : Int32) (x2 : Int32) (x3 : Int32) (x4 : Int32) (χ : St) (Q : Int32 → St → Prop) : Mt l yX0_become (ws_ yX0_become cX0_become 6 (some .int)) (rmO (2) (44) χ) (Pm Γ ad χ [.ref (ad 0 0), .int x1, .int x2, .int x3, .int x4] (w_C_become x1 x2 x3 x4 χ Q)) (Qm Γ false ad χ (pI Q)) (frB Γ) := by
  refine Mt.start (by decide) RX0 rfl (Nat.le_of_ble_eq_true rfl) ?_
  intro X hX hG _ _ hna _ hf
  have B64 : ∀ (ad : Nat → Nat → Nat) (x1 : Int32) (x2 : Int32) (x3 : Int32) (x4 : Int32) (χ : St), w_C_become_64 Q x1 x2 x3 x4 χ → G X ad χ 64 [(0, .ref (ad 0 0)), (1, .int x1), (2, .int x2), (3, .int x3), (4, .int x4)] [] := by
    intro ad x1 x2 x3 x4 χ hf
    unfold w_C_become_64 at hf
    refine g_aload_n hX 0 dX0_become_64 rfl rfl ?_
    refine g_getK hX (k := 4) (d := 4) (fc0 _) ff0 rfl (by decide) rfl rfl in_X0 (by decide) q202 dX0_become_65 ?_
    refine g_aload_n hX 0 dX0_become_68 rfl rfl ?_
    refine g_getI hX (k := 5) (fc0 _) ff0 rfl rfl in_X0 (by decide) q203 dX0_become_69 ?_
    refine g_new hX hna (c := 21) (t := 0) tyX6 rfl rfl (by decide) rfl in_X6 tyX6_ok df_X6 q176 q492 q99 hf.1 hf.2.1 dX0_become_72 (fun ad2 hE2 => ?_)
    replace hf := hf.2.2 _ rfl
    rw [← hE2.1 0 0 (fc0 _)]
    rw [← hE2.1 4 0 (fc4 _)]
    refine g_dup hX dX0_become_75 rfl ?_
    refine g_iload_n hX 1 dX0_become_76 rfl rfl ?_
    refine g_iload_n hX 2 dX0_become_77 rfl rfl ?_
    refine g_iload_n hX 3 dX0_become_78 rfl rfl ?_
    refine g_iload hX 4 dX0_become_79 rfl ?_
    refine g_callIv hX (n := 4) (mt_X6_init X.l X.Γ _ _ _ _ _ _ _ _) ⟨(new_lt rfl), hf⟩ rfl q493 q494 q99 q495 hy_X6_init (by decide) rfl rfl (Nat.le_of_ble_eq_true rfl) dX0_become_81 (fun χ3 hf hc3 => ?_)
    refine g_aast hX (fc4 _) ff4 rfl rfl hf.1 (Nat.lt_of_lt_of_le (new_lt rfl) (hc3 21)) ff21 rfl (AsOk.self hX rfl) dX0_become_84 ?_
    replace hf := hf.2
    replace hf := hf _ rfl
    refine g_aload_n hX 0 dX0_become_85 rfl rfl ?_
    refine g_dup hX dX0_become_86 rfl ?_
    refine g_getI hX (k := 5) (fc0 _) ff0 rfl rfl in_X0 (by decide) q203 dX0_become_87 ?_
    refine g_iconst hX (v := (1 : Int32)) dX0_become_90 rfl ?_
    refine g_iadd hX dX0_become_91 ?_
    refine g_putI hX (k := 5) (fc0 _) ff0 rfl rfl in_X0 tyX0_ok nmX0 (by decide) q203 rfl rfl rfl rfl dX0_become_92 ?_
    replace hf := hf _ rfl
    refine g_aload_n hX 0 dX0_become_95 rfl rfl ?_
    refine g_iload_n hX 1 dX0_become_96 rfl rfl ?_
    refine g_iload_n hX 2 dX0_become_97 rfl rfl ?_
    refine g_iload hX 4 dX0_become_98 rfl ?_
    refine g_callVv hX (n := 3) (mt_C_setTo X.l X.Γ _ _ _ _ _ _) hf q476 q478 qs5 q85 q479 ⟨rfl, hy_C_setTo⟩ (by decide) (fc0 _) ff0 rfl rfl rfl (Nat.le_of_ble_eq_true rfl) dX0_become_100 (fun χ6 hf hc6 => ?_)
    refine g_iload_n hX 3 dX0_become_103 rfl rfl ?_
    exact g_iret hX ⟨_, rfl, hf⟩ dX0_become_104
  have B25 : ∀ (n : Nat) (ad : Nat → Nat → Nat) (x1 : Int32) (x2 : Int32) (x3 : Int32) (x4 : Int32) (x5 : Int32) (χ : St), w_C_become_25 Q n x1 x2 x3 x4 x5 χ → G X ad χ 25 [(0, .ref (ad 0 0)), (1, .int x1), (2, .int x2), (3, .int x3), (4, .int x4), (5, .int x5)] [] := by
    intro n
    induction n with
    | zero => intro ad x1 x2 x3 x4 x5 χ hf; exact hf.elim
    | succ n hK25 =>
      intro ad x1 x2 x3 x4 x5 χ hf
      unfold w_C_become_25 at hf
      refine g_iload hX 5 dX0_become_25 rfl ?_
      refine g_bipush hX (v := (40 : Int32)) dX0_become_27 rfl ?_
      refine g_icmp_ge hX 54 dX0_become_29 (by decide) (fun z => ?_) (fun z => ?_)
      · replace hf := hf.1 z
        refine g_aload_n hX 0 dX0_become_54 rfl rfl ?_
        refine g_dup hX dX0_become_55 rfl ?_
        refine g_getI hX (k := 5) (fc0 _) ff0 rfl rfl in_X0 (by decide) q203 dX0_become_56 ?_
        refine g_iconst hX (v := (1 : Int32)) dX0_become_59 rfl ?_
        refine g_isub hX dX0_become_60 ?_
        refine g_putI hX (k := 5) (fc0 _) ff0 rfl rfl in_X0 tyX0_ok nmX0 (by decide) q203 rfl rfl rfl rfl dX0_become_61 ?_
        replace hf := hf _ rfl
        refine g_sub [0, 1, 2, 3, 4] rfl ?_
        exact B64 _ _ _ _ _ _ hf
      · replace hf := hf.2 z
        refine g_aload_n hX 0 dX0_become_32 rfl rfl ?_
        refine g_getK hX (k := 4) (d := 4) (fc0 _) ff0 rfl (by decide) rfl rfl in_X0 (by decide) q202 dX0_become_33 ?_
        refine g_iload hX 5 dX0_become_36 rfl ?_
        refine g_iconst hX (v := (1 : Int32)) dX0_become_38 rfl ?_
        refine g_isub hX dX0_become_39 ?_
        refine g_aload_n hX 0 dX0_become_40 rfl rfl ?_
        refine g_getK hX (k := 4) (d := 4) (fc0 _) ff0 rfl (by decide) rfl rfl in_X0 (by decide) q202 dX0_become_41 ?_
        refine g_iload hX 5 dX0_become_44 rfl ?_
        have hg8 := hf.1
        replace hf := hf.2
        obtain ⟨z9, hz9, hf⟩ := hf
        refine g_aaldE hX (fc4 _) ff4 rfl rfl hg8 dX0_become_46 hz9 (fun hvz9 => ?_)
        refine g_aast hX (fc4 _) ff4 rfl rfl hf.1 hvz9 ff21 rfl (AsOk.self hX rfl) dX0_become_47 ?_
        replace hf := hf.2
        replace hf := hf _ rfl
        refine g_iinc hX (v := _) 5 dX0_become_48 rfl rfl (by decide) rfl ?_
        refine g_goto hX 25 dX0_become_51 (by decide) ?_
        refine g_sub [1, 2, 3, 4, 5, 0] rfl ?_
        exact hK25 _ _ _ _ _ _ _ hf
  unfold w_C_become at hf
  refine g_iload_n hX 3 dX0_become_0 rfl rfl ?_
  refine g_iload hX 4 dX0_become_1 rfl ?_
  refine g_icmp_ne hX 8 dX0_become_3 (by decide) (fun z => ?_) (fun z => ?_)
  · replace hf := hf.1 z
    refine g_aload_n hX 0 dX0_become_8 rfl rfl ?_
    refine g_iconst hX (v := (0 : Int32)) dX0_become_9 rfl ?_
    refine g_putI hX (k := 6) (fc0 _) ff0 rfl rfl in_X0 tyX0_ok nmX0 (by decide) q204 rfl rfl rfl rfl dX0_become_10 ?_
    replace hf := hf _ rfl
    refine g_aload_n hX 0 dX0_become_13 rfl rfl ?_
    refine g_getI hX (k := 5) (fc0 _) ff0 rfl rfl in_X0 (by decide) q203 dX0_become_14 ?_
    refine g_bipush hX (v := (40 : Int32)) dX0_become_17 rfl ?_
    refine g_icmp_ne hX 64 dX0_become_19 (by decide) (fun z => ?_) (fun z => ?_)
    · replace hf := hf.1 z
      exact B64 _ _ _ _ _ _ hf
    · replace hf := hf.2 z
      refine g_iconst hX (v := (1 : Int32)) dX0_become_22 rfl ?_
      refine g_istore hX dX0_become_23 (by decide) rfl ?_
      obtain ⟨n0, hf⟩ := hf
      refine g_sub [1, 2, 3, 4, 5, 0] rfl ?_
      exact B25 n0 _ _ _ _ _ _ _ hf
  · replace hf := hf.2 z
    refine g_iload_n hX 3 dX0_become_6 rfl rfl ?_
    exact g_iret hX ⟨_, rfl, hf⟩ dX0_become_7

def w_C_mend (x1 : Int32) (x2 : Int32) (x3 : Int32) (χ : St) (Q : Int32 → St → Prop) : Prop := (∀ v1 : Int32, v1 = x2 → ((v1 = (0 : Int32) → (w_C_isKind x1 χ (fun r2 χ3 => ((r2 = 0 → (Q (-1 : Int32) χ3)) ∧ (¬ r2 = 0 → (w_C_in x3 (0 : Int32) (9 : Int32) χ3 (fun r4 χ5 => ((r4 = 0 → (Q (-1 : Int32) χ5)) ∧ (¬ r4 = 0 → (vp_in x1 6) ∧ ((w_C_become (0 : Int32) x1 (gI χ5 1900 x1.toNatClampNeg 0) x3 χ5 (fun r7 χ8 => (Q r7 χ8))))))))))))) ∧ (v1 = (1 : Int32) → (w_C_isKind x1 χ (fun r9 χ10 => ((r9 = 0 → (Q (-1 : Int32) χ10)) ∧ (¬ r9 = 0 → (w_C_in x3 (0 : Int32) (99 : Int32) χ10 (fun r11 χ12 => ((r11 = 0 → (Q (-1 : Int32) χ12)) ∧ (¬ r11 = 0 → (vp_in x1 6) ∧ ((w_C_become (1 : Int32) x1 (gI χ12 1901 x1.toNatClampNeg 0) x3 χ12 (fun r14 χ15 => (Q r14 χ15))))))))))))) ∧ (v1 = (2 : Int32) → (w_C_isMark x1 χ (fun r16 χ17 => ((r16 = 0 → (Q (-1 : Int32) χ17)) ∧ (¬ r16 = 0 → (w_C_in x3 (1 : Int32) (9 : Int32) χ17 (fun r18 χ19 => ((r18 = 0 → (Q (-1 : Int32) χ19)) ∧ (¬ r18 = 0 → (vp_in x1 6) ∧ ((w_C_become (2 : Int32) x1 (gI χ19 2000 x1.toNatClampNeg 0) x3 χ19 (fun r21 χ22 => (Q r21 χ22))))))))))))) ∧ (v1 = (3 : Int32) → (w_C_isMark x1 χ (fun r23 χ24 => ((r23 = 0 → (Q (-1 : Int32) χ24)) ∧ (¬ r23 = 0 → (w_C_in x3 (0 : Int32) (99 : Int32) χ24 (fun r25 χ26 => ((r25 = 0 → (Q (-1 : Int32) χ26)) ∧ (¬ r25 = 0 → (vp_in x1 6) ∧ ((w_C_become (3 : Int32) x1 (gI χ26 2001 x1.toNatClampNeg 0) x3 χ26 (fun r28 χ29 => (Q r28 χ29))))))))))))) ∧ (¬ v1 = (0 : Int32) → ¬ v1 = (1 : Int32) → ¬ v1 = (2 : Int32) → ¬ v1 = (3 : Int32) → (Q (-1 : Int32) χ))))
set_option maxHeartbeats 4000000 in
theorem mt_C_mend (l : Launch) (Γ : Gh) (ad : Nat → Nat → Nat) (x1 : Int32) (x2 : Int32) (x3 : Int32) (χ : St) (Q : Int32 → St → Prop) : Mt l yX0_mend (ws_ yX0_mend cX0_mend 4 (some .int)) (rmO (3) (69) χ) (Pm Γ ad χ [.ref (ad 0 0), .int x1, .int x2, .int x3] (w_C_mend x1 x2 x3 χ Q)) (Qm Γ false ad χ (pI Q)) (frB Γ) := by
  refine Mt.start (by decide) RX0 rfl (Nat.le_of_ble_eq_true rfl) ?_
  intro X hX hG _ _ hna _ hf
  unfold w_C_mend at hf
  refine g_iload_n hX 2 dX0_mend_0 rfl rfl ?_
  replace hf := hf _ rfl
  by_cases z0 : x2 = (0 : Int32)
  · replace hf := hf.1 z0
    refine g_tableIn hX 32 dX0_mend_1 (by rw [z0]; decide) (by rw [z0]; decide) (by rw [z0] <;> rfl) (by decide) ?_
    refine g_iload_n hX 1 dX0_mend_32 rfl rfl ?_
    refine g_callSi hX (n := 1) (mt_C_isKind X.l X.Γ _ _ _ _) hf q469 q470 q85 q471 hy_C_isKind (by decide) rfl rfl (Nat.le_of_ble_eq_true rfl) dX0_mend_33 (fun r2 χ3 hf hc3 => ?_)
    refine g_if_eq hX 68 dX0_mend_36 (by decide) (fun z => ?_) (fun z => ?_)
    · replace hf := hf.1 z
      refine g_iconst hX (v := (-1 : Int32)) dX0_mend_68 rfl ?_
      exact g_iret hX ⟨_, rfl, hf⟩ dX0_mend_69
    · replace hf := hf.2 z
      refine g_iload_n hX 3 dX0_mend_39 rfl rfl ?_
      refine g_iconst hX (v := (0 : Int32)) dX0_mend_40 rfl ?_
      refine g_bipush hX (v := (9 : Int32)) dX0_mend_41 rfl ?_
      refine g_callSi hX (n := 3) (mt_C_in X.l X.Γ _ _ _ _ _ _) hf q281 q282 q85 q283 hy_C_in (by decide) rfl rfl (Nat.le_of_ble_eq_true rfl) dX0_mend_43 (fun r4 χ5 hf hc5 => ?_)
      refine g_if_eq hX 68 dX0_mend_46 (by decide) (fun z => ?_) (fun z => ?_)
      · replace hf := hf.1 z
        refine g_iconst hX (v := (-1 : Int32)) dX0_mend_68 rfl ?_
        exact g_iret hX ⟨_, rfl, hf⟩ dX0_mend_69
      · replace hf := hf.2 z
        refine g_aload_n hX 0 dX0_mend_49 rfl rfl ?_
        refine g_iconst hX (v := (0 : Int32)) dX0_mend_50 rfl ?_
        refine g_iload_n hX 1 dX0_mend_51 rfl rfl ?_
        refine g_aload_n hX 0 dX0_mend_52 rfl rfl ?_
        refine g_getK hX (k := 1) (d := 2) (fc0 _) ff0 rfl (by decide) rfl rfl in_X0 (by decide) q199 dX0_mend_53 ?_
        refine g_iload_n hX 1 dX0_mend_56 rfl rfl ?_
        have hg6 := hf.1
        replace hf := hf.2
        refine g_aaldK hX (fc2 _) ff2 rfl hg6 dX0_mend_57 ?_
        refine g_getIN hX (k := 0) (fc18 (vp_lt hg6)) ff18 rfl rfl in_X1 (by decide) q150 dX0_mend_58 ?_
        refine g_iload_n hX 3 dX0_mend_61 rfl rfl ?_
        refine g_callVAi hX hna (n := 4) (mt_C_become X.l X.Γ _ _ _ _ _ _ _) hf q488 q490 qs6 q85 q491 ⟨rfl, hy_C_become⟩ (by decide) (fc0 _) ff0 rfl rfl rfl (Nat.le_of_ble_eq_true rfl) dX0_mend_62 (fun r7 ad8 χ8 hf hc8 => ?_)
        rw [← hc8.1 0 0 (fc0 _)]
        refine g_goto hX 69 dX0_mend_65 (by decide) ?_
        exact g_iret hX ⟨_, rfl, hf⟩ dX0_mend_69
  replace hf := hf.2
  by_cases z1 : x2 = (1 : Int32)
  · replace hf := hf.1 z1
    refine g_tableIn hX 70 dX0_mend_1 (by rw [z1]; decide) (by rw [z1]; decide) (by rw [z1] <;> rfl) (by decide) ?_
    refine g_iload_n hX 1 dX0_mend_70 rfl rfl ?_
    refine g_callSi hX (n := 1) (mt_C_isKind X.l X.Γ _ _ _ _) hf q469 q470 q85 q471 hy_C_isKind (by decide) rfl rfl (Nat.le_of_ble_eq_true rfl) dX0_mend_71 (fun r9 χ10 hf hc10 => ?_)
    refine g_if_eq hX 106 dX0_mend_74 (by decide) (fun z => ?_) (fun z => ?_)
    · replace hf := hf.1 z
      refine g_iconst hX (v := (-1 : Int32)) dX0_mend_106 rfl ?_
      exact g_iret hX ⟨_, rfl, hf⟩ dX0_mend_107
    · replace hf := hf.2 z
      refine g_iload_n hX 3 dX0_mend_77 rfl rfl ?_
      refine g_iconst hX (v := (0 : Int32)) dX0_mend_78 rfl ?_
      refine g_bipush hX (v := (99 : Int32)) dX0_mend_79 rfl ?_
      refine g_callSi hX (n := 3) (mt_C_in X.l X.Γ _ _ _ _ _ _) hf q281 q282 q85 q283 hy_C_in (by decide) rfl rfl (Nat.le_of_ble_eq_true rfl) dX0_mend_81 (fun r11 χ12 hf hc12 => ?_)
      refine g_if_eq hX 106 dX0_mend_84 (by decide) (fun z => ?_) (fun z => ?_)
      · replace hf := hf.1 z
        refine g_iconst hX (v := (-1 : Int32)) dX0_mend_106 rfl ?_
        exact g_iret hX ⟨_, rfl, hf⟩ dX0_mend_107
      · replace hf := hf.2 z
        refine g_aload_n hX 0 dX0_mend_87 rfl rfl ?_
        refine g_iconst hX (v := (1 : Int32)) dX0_mend_88 rfl ?_
        refine g_iload_n hX 1 dX0_mend_89 rfl rfl ?_
        refine g_aload_n hX 0 dX0_mend_90 rfl rfl ?_
        refine g_getK hX (k := 1) (d := 2) (fc0 _) ff0 rfl (by decide) rfl rfl in_X0 (by decide) q199 dX0_mend_91 ?_
        refine g_iload_n hX 1 dX0_mend_94 rfl rfl ?_
        have hg13 := hf.1
        replace hf := hf.2
        refine g_aaldK hX (fc2 _) ff2 rfl hg13 dX0_mend_95 ?_
        refine g_getIN hX (k := 1) (fc18 (vp_lt hg13)) ff18 rfl rfl in_X1 (by decide) q151 dX0_mend_96 ?_
        refine g_iload_n hX 3 dX0_mend_99 rfl rfl ?_
        refine g_callVAi hX hna (n := 4) (mt_C_become X.l X.Γ _ _ _ _ _ _ _) hf q488 q490 qs6 q85 q491 ⟨rfl, hy_C_become⟩ (by decide) (fc0 _) ff0 rfl rfl rfl (Nat.le_of_ble_eq_true rfl) dX0_mend_100 (fun r14 ad15 χ15 hf hc15 => ?_)
        rw [← hc15.1 0 0 (fc0 _)]
        refine g_goto hX 107 dX0_mend_103 (by decide) ?_
        exact g_iret hX ⟨_, rfl, hf⟩ dX0_mend_107
  replace hf := hf.2
  by_cases z2 : x2 = (2 : Int32)
  · replace hf := hf.1 z2
    refine g_tableIn hX 108 dX0_mend_1 (by rw [z2]; decide) (by rw [z2]; decide) (by rw [z2] <;> rfl) (by decide) ?_
    refine g_iload_n hX 1 dX0_mend_108 rfl rfl ?_
    refine g_callSi hX (n := 1) (mt_C_isMark X.l X.Γ _ _ _ _) hf q462 q463 q85 q464 hy_C_isMark (by decide) rfl rfl (Nat.le_of_ble_eq_true rfl) dX0_mend_109 (fun r16 χ17 hf hc17 => ?_)
    refine g_if_eq hX 144 dX0_mend_112 (by decide) (fun z => ?_) (fun z => ?_)
    · replace hf := hf.1 z
      refine g_iconst hX (v := (-1 : Int32)) dX0_mend_144 rfl ?_
      exact g_iret hX ⟨_, rfl, hf⟩ dX0_mend_145
    · replace hf := hf.2 z
      refine g_iload_n hX 3 dX0_mend_115 rfl rfl ?_
      refine g_iconst hX (v := (1 : Int32)) dX0_mend_116 rfl ?_
      refine g_bipush hX (v := (9 : Int32)) dX0_mend_117 rfl ?_
      refine g_callSi hX (n := 3) (mt_C_in X.l X.Γ _ _ _ _ _ _) hf q281 q282 q85 q283 hy_C_in (by decide) rfl rfl (Nat.le_of_ble_eq_true rfl) dX0_mend_119 (fun r18 χ19 hf hc19 => ?_)
      refine g_if_eq hX 144 dX0_mend_122 (by decide) (fun z => ?_) (fun z => ?_)
      · replace hf := hf.1 z
        refine g_iconst hX (v := (-1 : Int32)) dX0_mend_144 rfl ?_
        exact g_iret hX ⟨_, rfl, hf⟩ dX0_mend_145
      · replace hf := hf.2 z
        refine g_aload_n hX 0 dX0_mend_125 rfl rfl ?_
        refine g_iconst hX (v := (2 : Int32)) dX0_mend_126 rfl ?_
        refine g_iload_n hX 1 dX0_mend_127 rfl rfl ?_
        refine g_aload_n hX 0 dX0_mend_128 rfl rfl ?_
        refine g_getK hX (k := 2) (d := 3) (fc0 _) ff0 rfl (by decide) rfl rfl in_X0 (by decide) q200 dX0_mend_129 ?_
        refine g_iload_n hX 1 dX0_mend_132 rfl rfl ?_
        have hg20 := hf.1
        replace hf := hf.2
        refine g_aaldK hX (fc3 _) ff3 rfl hg20 dX0_mend_133 ?_
        refine g_getIN hX (k := 0) (fc19 (vp_lt hg20)) ff19 rfl rfl in_X2 (by decide) q165 dX0_mend_134 ?_
        refine g_iload_n hX 3 dX0_mend_137 rfl rfl ?_
        refine g_callVAi hX hna (n := 4) (mt_C_become X.l X.Γ _ _ _ _ _ _ _) hf q488 q490 qs6 q85 q491 ⟨rfl, hy_C_become⟩ (by decide) (fc0 _) ff0 rfl rfl rfl (Nat.le_of_ble_eq_true rfl) dX0_mend_138 (fun r21 ad22 χ22 hf hc22 => ?_)
        rw [← hc22.1 0 0 (fc0 _)]
        refine g_goto hX 145 dX0_mend_141 (by decide) ?_
        exact g_iret hX ⟨_, rfl, hf⟩ dX0_mend_145
  replace hf := hf.2
  by_cases z3 : x2 = (3 : Int32)
  · replace hf := hf.1 z3
    refine g_tableIn hX 146 dX0_mend_1 (by rw [z3]; decide) (by rw [z3]; decide) (by rw [z3] <;> rfl) (by decide) ?_
    refine g_iload_n hX 1 dX0_mend_146 rfl rfl ?_
    refine g_callSi hX (n := 1) (mt_C_isMark X.l X.Γ _ _ _ _) hf q462 q463 q85 q464 hy_C_isMark (by decide) rfl rfl (Nat.le_of_ble_eq_true rfl) dX0_mend_147 (fun r23 χ24 hf hc24 => ?_)
    refine g_if_eq hX 182 dX0_mend_150 (by decide) (fun z => ?_) (fun z => ?_)
    · replace hf := hf.1 z
      refine g_iconst hX (v := (-1 : Int32)) dX0_mend_182 rfl ?_
      exact g_iret hX ⟨_, rfl, hf⟩ dX0_mend_183
    · replace hf := hf.2 z
      refine g_iload_n hX 3 dX0_mend_153 rfl rfl ?_
      refine g_iconst hX (v := (0 : Int32)) dX0_mend_154 rfl ?_
      refine g_bipush hX (v := (99 : Int32)) dX0_mend_155 rfl ?_
      refine g_callSi hX (n := 3) (mt_C_in X.l X.Γ _ _ _ _ _ _) hf q281 q282 q85 q283 hy_C_in (by decide) rfl rfl (Nat.le_of_ble_eq_true rfl) dX0_mend_157 (fun r25 χ26 hf hc26 => ?_)
      refine g_if_eq hX 182 dX0_mend_160 (by decide) (fun z => ?_) (fun z => ?_)
      · replace hf := hf.1 z
        refine g_iconst hX (v := (-1 : Int32)) dX0_mend_182 rfl ?_
        exact g_iret hX ⟨_, rfl, hf⟩ dX0_mend_183
      · replace hf := hf.2 z
        refine g_aload_n hX 0 dX0_mend_163 rfl rfl ?_
        refine g_iconst hX (v := (3 : Int32)) dX0_mend_164 rfl ?_
        refine g_iload_n hX 1 dX0_mend_165 rfl rfl ?_
        refine g_aload_n hX 0 dX0_mend_166 rfl rfl ?_
        refine g_getK hX (k := 2) (d := 3) (fc0 _) ff0 rfl (by decide) rfl rfl in_X0 (by decide) q200 dX0_mend_167 ?_
        refine g_iload_n hX 1 dX0_mend_170 rfl rfl ?_
        have hg27 := hf.1
        replace hf := hf.2
        refine g_aaldK hX (fc3 _) ff3 rfl hg27 dX0_mend_171 ?_
        refine g_getIN hX (k := 1) (fc19 (vp_lt hg27)) ff19 rfl rfl in_X2 (by decide) q167 dX0_mend_172 ?_
        refine g_iload_n hX 3 dX0_mend_175 rfl rfl ?_
        refine g_callVAi hX hna (n := 4) (mt_C_become X.l X.Γ _ _ _ _ _ _ _) hf q488 q490 qs6 q85 q491 ⟨rfl, hy_C_become⟩ (by decide) (fc0 _) ff0 rfl rfl rfl (Nat.le_of_ble_eq_true rfl) dX0_mend_176 (fun r28 ad29 χ29 hf hc29 => ?_)
        rw [← hc29.1 0 0 (fc0 _)]
        refine g_goto hX 183 dX0_mend_179 (by decide) ?_
        exact g_iret hX ⟨_, rfl, hf⟩ dX0_mend_183
  replace hf := hf.2
  replace hf := hf z0 z1 z2 z3
  refine g_tableOut hX 184 dX0_mend_1 (tb_out (fun v h1 h2 => ?_)) (by decide) ?_
  · have h3 : v = 0 ∨ v = 1 ∨ v = 2 ∨ v = 3 := by omega
    rcases h3 with rfl | rfl | rfl | rfl
    · exact z0
    · exact z1
    · exact z2
    · exact z3
  refine g_iconst hX (v := (-1 : Int32)) dX0_mend_184 rfl ?_
  exact g_iret hX ⟨_, rfl, hf⟩ dX0_mend_185

def w_C_feed (x1 : Int32) (χ : St) (Q : Int32 → St → Prop) : Prop := (w_C_in x1 (0 : Int32) (255 : Int32) χ (fun r1 χ2 => ((¬ r1 = 0 → ((¬ (gI χ2 108 0 0) = (120 : Int32) → (vp_in (gI χ2 108 0 0) 120) ∧ ((∀ χ3 : St, χ3 = (sI χ2 5 0 (gI χ2 108 0 0).toNatClampNeg (vp_nar .byte x1.toInt8.toInt32)) → (∀ χ4 : St, χ4 = (sI χ3 108 0 0 ((gI χ3 108 0 0) + (1 : Int32))) → (Q (gI χ4 108 0 0) χ4))))) ∧ ((gI χ2 108 0 0) = (120 : Int32) → (Q (-3 : Int32) χ2)))) ∧ (r1 = 0 → (Q (-1 : Int32) χ2)))))
set_option maxHeartbeats 4000000 in
theorem mt_C_feed (l : Launch) (Γ : Gh) (ad : Nat → Nat → Nat) (x1 : Int32) (χ : St) (Q : Int32 → St → Prop) : Mt l yX0_feed (ws_ yX0_feed cX0_feed 2 (some .int)) (rmO (1) (22) χ) (Pm Γ ad χ [.ref (ad 0 0), .int x1] (w_C_feed x1 χ Q)) (Qm Γ true ad χ (pI Q)) (frB Γ) := by
  refine Mt.start (by decide) RX0 rfl (Nat.le_of_ble_eq_true rfl) ?_
  intro X hX hG _ _ hna _ hf
  unfold w_C_feed at hf
  refine g_iload_n hX 1 dX0_feed_0 rfl rfl ?_
  refine g_iconst hX (v := (0 : Int32)) dX0_feed_1 rfl ?_
  refine g_sipush hX (v := (255 : Int32)) dX0_feed_2 rfl ?_
  refine g_callSi hX (n := 3) (mt_C_in X.l X.Γ _ _ _ _ _ _) hf q281 q282 q85 q283 hy_C_in (by decide) rfl rfl (Nat.le_of_ble_eq_true rfl) dX0_feed_5 (fun r1 χ2 hf hc2 => ?_)
  refine g_if_ne hX 13 dX0_feed_8 (by decide) (fun z => ?_) (fun z => ?_)
  · replace hf := hf.1 z
    refine g_aload_n hX 0 dX0_feed_13 rfl rfl ?_
    refine g_getI hX (k := 8) (fc0 _) ff0 rfl rfl in_X0 (by decide) q208 dX0_feed_14 ?_
    refine g_bipush hX (v := (120 : Int32)) dX0_feed_17 rfl ?_
    refine g_icmp_ne hX 25 dX0_feed_19 (by decide) (fun z => ?_) (fun z => ?_)
    · replace hf := hf.1 z
      refine g_aload_n hX 0 dX0_feed_25 rfl rfl ?_
      refine g_getK hX (k := 7) (d := 5) (fc0 _) ff0 rfl (by decide) rfl rfl in_X0 (by decide) q205 dX0_feed_26 ?_
      refine g_aload_n hX 0 dX0_feed_29 rfl rfl ?_
      refine g_getI hX (k := 8) (fc0 _) ff0 rfl rfl in_X0 (by decide) q208 dX0_feed_30 ?_
      refine g_iload_n hX 1 dX0_feed_33 rfl rfl ?_
      refine g_i2b hX dX0_feed_34 ?_
      refine g_bast hX (fc5 _) ff5 rfl hf.1 dX0_feed_35 ?_
      replace hf := hf.2
      replace hf := hf _ rfl
      refine g_aload_n hX 0 dX0_feed_36 rfl rfl ?_
      refine g_dup hX dX0_feed_37 rfl ?_
      refine g_getI hX (k := 8) (fc0 _) ff0 rfl rfl in_X0 (by decide) q208 dX0_feed_38 ?_
      refine g_iconst hX (v := (1 : Int32)) dX0_feed_41 rfl ?_
      refine g_iadd hX dX0_feed_42 ?_
      refine g_putI hX (k := 8) (fc0 _) ff0 rfl rfl in_X0 tyX0_ok nmX0 (by decide) q208 rfl rfl rfl rfl dX0_feed_43 ?_
      replace hf := hf _ rfl
      refine g_aload_n hX 0 dX0_feed_46 rfl rfl ?_
      refine g_getI hX (k := 8) (fc0 _) ff0 rfl rfl in_X0 (by decide) q208 dX0_feed_47 ?_
      exact g_iret hX ⟨_, rfl, hf⟩ dX0_feed_50
    · replace hf := hf.2 z
      refine g_bipush hX (v := (-3 : Int32)) dX0_feed_22 rfl ?_
      exact g_iret hX ⟨_, rfl, hf⟩ dX0_feed_24
  · replace hf := hf.2 z
    refine g_iconst hX (v := (-1 : Int32)) dX0_feed_11 rfl ?_
    exact g_iret hX ⟨_, rfl, hf⟩ dX0_feed_12

def w_X8_init (x0 : Nat) (χ : St) (Q : St → Prop) : Prop := (Q χ)
set_option maxHeartbeats 4000000 in
theorem mt_X8_init (l : Launch) (Γ : Gh) (ad : Nat → Nat → Nat) (x0 : Nat) (χ : St) (Q : St → Prop) : Mt l yX8_init (ws_ yX8_init cX8_init 1 (none)) (rmO (1) (20) χ) (Pm Γ ad χ [.ref (ad 24 x0)] (x0 < cn χ 24 ∧ w_X8_init x0 χ Q)) (Qm Γ true ad χ (pV Q)) (frB Γ) := by
  refine Mt.start (by decide) RX8 rfl (Nat.le_of_ble_eq_true rfl) ?_
  intro X hX hG _ _ hna _ ⟨hv0, hf⟩
  unfold w_X8_init at hf
  refine g_aload_n hX 0 dX8_init_0 rfl rfl ?_
  refine g_objInit hX q555 q138 q139 ⟨by decide, by decide⟩ (Nat.le_of_ble_eq_true rfl) dX8_init_1 ?_
  exact g_vret hX ⟨rfl, hf⟩ dX8_init_4

def w_X9_init (x0 : Nat) (χ : St) (Q : St → Prop) : Prop := (Q χ)
set_option maxHeartbeats 4000000 in
theorem mt_X9_init (l : Launch) (Γ : Gh) (ad : Nat → Nat → Nat) (x0 : Nat) (χ : St) (Q : St → Prop) : Mt l yX9_init (ws_ yX9_init cX9_init 1 (none)) (rmO (1) (20) χ) (Pm Γ ad χ [.ref (ad 30 x0)] (x0 < cn χ 30 ∧ w_X9_init x0 χ Q)) (Qm Γ true ad χ (pV Q)) (frB Γ) := by
  refine Mt.start (by decide) RX9 rfl (Nat.le_of_ble_eq_true rfl) ?_
  intro X hX hG _ _ hna _ ⟨hv0, hf⟩
  unfold w_X9_init at hf
  refine g_aload_n hX 0 dX9_init_0 rfl rfl ?_
  refine g_objInit hX q696 q138 q139 ⟨by decide, by decide⟩ (Nat.le_of_ble_eq_true rfl) dX9_init_1 ?_
  exact g_vret hX ⟨rfl, hf⟩ dX9_init_4

def w_X14_init (x0 : Nat) (x1 : Int32) (x2 : Option Nat) (x3 : Option Nat) (χ : St) (Q : St → Prop) : Prop := (w_X9_init x0 χ (fun χ1 => (tg χ1 30 x0 = 4) ∧ ((∀ χ3 : St, χ3 = (sI χ1 3106 x0 0 x1) → (tg χ3 30 x0 = 4) ∧ ((∀ χ5 : St, χ5 = (sR χ3 3103 x0 0 x2) → (tg χ5 30 x0 = 4) ∧ ((∀ χ7 : St, χ7 = (sR χ5 3104 x0 0 x3) → (Q χ7)))))))))
set_option maxHeartbeats 4000000 in
theorem mt_X14_init (l : Launch) (Γ : Gh) (ad : Nat → Nat → Nat) (x0 : Nat) (x1 : Int32) (x2 : Option Nat) (x3 : Option Nat) (χ : St) (Q : St → Prop) : Mt l yX14_init (ws_ yX14_init cX14_init 4 (none)) (rmO (2) (40) χ) (Pm Γ ad χ [.ref (ad 30 x0), .int x1, va_rf (x2.map (ad 30)), va_rf (x3.map (ad 30))] (x0 < cn χ 30 ∧ (∀ x, x2 = some x → x < cn χ 30) ∧ (∀ x, x3 = some x → x < cn χ 30) ∧ w_X14_init x0 x1 x2 x3 χ Q)) (Qm Γ true ad χ (pV Q)) (frB Γ) := by
  refine Mt.start (by decide) RX14 rfl (by cases x2 <;> cases x3 <;> exact Nat.le_of_ble_eq_true rfl) ?_
  intro X hX hG _ _ hna _ ⟨hv0, hv2, hv3, hf⟩
  rw [show lv_args 0 [.ref (ad 30 x0), .int x1, va_rf (x2.map (ad 30)), va_rf (x3.map (ad 30))] = [(0, .ref (ad 30 x0)), (1, .int x1), (2, va_rf (x2.map (ad 30))), (3, va_rf (x3.map (ad 30)))] from by cases x2 <;> cases x3 <;> rfl]
  unfold w_X14_init at hf
  refine g_aload_n hX 0 dX14_init_0 rfl rfl ?_
  refine g_callINv hX (n := 0) (mt_X9_init X.l X.Γ _ _ _ _) ⟨hv0, hf⟩ rfl q750 q694 q107 q695 hy_X9_init (by decide) rfl rfl (Nat.le_of_ble_eq_true rfl) dX14_init_1 (fun χ1 hf hc1 => ?_)
  refine g_aload_n hX 0 dX14_init_4 rfl rfl ?_
  refine g_iload_n hX 1 dX14_init_5 rfl rfl ?_
  have hg2 := hf.1
  replace hf := hf.2
  refine g_putIF hX rfl (k := 0) (Nat.lt_of_lt_of_le hv0 (hc1 30)) (ff30_4 hg2) rfl rfl in_X14 tyX14_ok nmX14 (by decide) q751 rfl rfl rfl rfl rfl dX14_init_6 ?_
  replace hf := hf _ rfl
  refine g_aload_n hX 0 dX14_init_9 rfl rfl ?_
  refine g_aload_nO hX 2 dX14_init_10 rfl rfl ?_
  have hg4 := hf.1
  replace hf := hf.2
  refine g_putRF hX rfl (v := _) (k := 1) (Nat.lt_of_lt_of_le hv0 (hc1 30)) (ff30_4 hg4) rfl rfl in_X14 tyX14_ok nmX14 (by decide) (by decide) (by decide) rfl rfl q752 rfl rfl rfl nar_rf fits_rf (fun x e => Nat.lt_of_lt_of_le (hv2 x e) (hc1 30)) dX14_init_11 ?_
  replace hf := hf _ rfl
  refine g_aload_n hX 0 dX14_init_14 rfl rfl ?_
  refine g_aload_nO hX 3 dX14_init_15 rfl rfl ?_
  have hg6 := hf.1
  replace hf := hf.2
  refine g_putRF hX rfl (v := _) (k := 2) (Nat.lt_of_lt_of_le hv0 (hc1 30)) (ff30_4 hg6) rfl rfl in_X14 tyX14_ok nmX14 (by decide) (by decide) (by decide) rfl rfl q753 rfl rfl rfl nar_rf fits_rf (fun x e => Nat.lt_of_lt_of_le (hv3 x e) (hc1 30)) dX14_init_16 ?_
  replace hf := hf _ rfl
  exact g_vret hX ⟨rfl, hf⟩ dX14_init_19

def w_X10_init (x0 : Nat) (x1 : Int32) (χ : St) (Q : St → Prop) : Prop := (w_X9_init x0 χ (fun χ1 => (tg χ1 30 x0 = 1) ∧ ((∀ χ3 : St, χ3 = (sI χ1 3105 x0 0 x1) → (Q χ3)))))
set_option maxHeartbeats 4000000 in
theorem mt_X10_init (l : Launch) (Γ : Gh) (ad : Nat → Nat → Nat) (x0 : Nat) (x1 : Int32) (χ : St) (Q : St → Prop) : Mt l yX10_init (ws_ yX10_init cX10_init 2 (none)) (rmO (2) (40) χ) (Pm Γ ad χ [.ref (ad 30 x0), .int x1] (x0 < cn χ 30 ∧ w_X10_init x0 x1 χ Q)) (Qm Γ true ad χ (pV Q)) (frB Γ) := by
  refine Mt.start (by decide) RX10 rfl (Nat.le_of_ble_eq_true rfl) ?_
  intro X hX hG _ _ hna _ ⟨hv0, hf⟩
  unfold w_X10_init at hf
  refine g_aload_n hX 0 dX10_init_0 rfl rfl ?_
  refine g_callINv hX (n := 0) (mt_X9_init X.l X.Γ _ _ _ _) ⟨hv0, hf⟩ rfl q693 q694 q107 q695 hy_X9_init (by decide) rfl rfl (Nat.le_of_ble_eq_true rfl) dX10_init_1 (fun χ1 hf hc1 => ?_)
  refine g_aload_n hX 0 dX10_init_4 rfl rfl ?_
  refine g_iload_n hX 1 dX10_init_5 rfl rfl ?_
  have hg2 := hf.1
  replace hf := hf.2
  refine g_putIF hX rfl (k := 0) (Nat.lt_of_lt_of_le hv0 (hc1 30)) (ff30_1 hg2) rfl rfl in_X10 tyX10_ok nmX10 (by decide) q697 rfl rfl rfl rfl rfl dX10_init_6 ?_
  replace hf := hf _ rfl
  exact g_vret hX ⟨rfl, hf⟩ dX10_init_9

def w_X11_init (x0 : Nat) (x1 : Option Nat) (χ : St) (Q : St → Prop) : Prop := (w_X9_init x0 χ (fun χ1 => (tg χ1 30 x0 = 3) ∧ ((∀ χ3 : St, χ3 = (sR χ1 3102 x0 0 x1) → (Q χ3)))))
set_option maxHeartbeats 4000000 in
theorem mt_X11_init (l : Launch) (Γ : Gh) (ad : Nat → Nat → Nat) (x0 : Nat) (x1 : Option Nat) (χ : St) (Q : St → Prop) : Mt l yX11_init (ws_ yX11_init cX11_init 2 (none)) (rmO (2) (40) χ) (Pm Γ ad χ [.ref (ad 30 x0), va_rf (x1.map (ad 30))] (x0 < cn χ 30 ∧ (∀ x, x1 = some x → x < cn χ 30) ∧ w_X11_init x0 x1 χ Q)) (Qm Γ true ad χ (pV Q)) (frB Γ) := by
  refine Mt.start (by decide) RX11 rfl (by cases x1 <;> exact Nat.le_of_ble_eq_true rfl) ?_
  intro X hX hG _ _ hna _ ⟨hv0, hv1, hf⟩
  rw [show lv_args 0 [.ref (ad 30 x0), va_rf (x1.map (ad 30))] = [(0, .ref (ad 30 x0)), (1, va_rf (x1.map (ad 30)))] from by cases x1 <;> rfl]
  unfold w_X11_init at hf
  refine g_aload_n hX 0 dX11_init_0 rfl rfl ?_
  refine g_callINv hX (n := 0) (mt_X9_init X.l X.Γ _ _ _ _) ⟨hv0, hf⟩ rfl q714 q694 q107 q695 hy_X9_init (by decide) rfl rfl (Nat.le_of_ble_eq_true rfl) dX11_init_1 (fun χ1 hf hc1 => ?_)
  refine g_aload_n hX 0 dX11_init_4 rfl rfl ?_
  refine g_aload_nO hX 1 dX11_init_5 rfl rfl ?_
  have hg2 := hf.1
  replace hf := hf.2
  refine g_putRF hX rfl (v := _) (k := 0) (Nat.lt_of_lt_of_le hv0 (hc1 30)) (ff30_3 hg2) rfl rfl in_X11 tyX11_ok nmX11 (by decide) (by decide) (by decide) rfl rfl q715 rfl rfl rfl nar_rf fits_rf (fun x e => Nat.lt_of_lt_of_le (hv1 x e) (hc1 30)) dX11_init_6 ?_
  replace hf := hf _ rfl
  exact g_vret hX ⟨rfl, hf⟩ dX11_init_9

def w_X12_init (x0 : Nat) (x1 : Option Nat) (χ : St) (Q : St → Prop) : Prop := (w_X9_init x0 χ (fun χ1 => (tg χ1 30 x0 = 2) ∧ ((∀ χ3 : St, χ3 = (sR χ1 3101 x0 0 x1) → (Q χ3)))))
set_option maxHeartbeats 4000000 in
theorem mt_X12_init (l : Launch) (Γ : Gh) (ad : Nat → Nat → Nat) (x0 : Nat) (x1 : Option Nat) (χ : St) (Q : St → Prop) : Mt l yX12_init (ws_ yX12_init cX12_init 2 (none)) (rmO (2) (40) χ) (Pm Γ ad χ [.ref (ad 30 x0), va_rf (x1.map (ad 30))] (x0 < cn χ 30 ∧ (∀ x, x1 = some x → x < cn χ 30) ∧ w_X12_init x0 x1 χ Q)) (Qm Γ true ad χ (pV Q)) (frB Γ) := by
  refine Mt.start (by decide) RX12 rfl (by cases x1 <;> exact Nat.le_of_ble_eq_true rfl) ?_
  intro X hX hG _ _ hna _ ⟨hv0, hv1, hf⟩
  rw [show lv_args 0 [.ref (ad 30 x0), va_rf (x1.map (ad 30))] = [(0, .ref (ad 30 x0)), (1, va_rf (x1.map (ad 30)))] from by cases x1 <;> rfl]
  unfold w_X12_init at hf
  refine g_aload_n hX 0 dX12_init_0 rfl rfl ?_
  refine g_callINv hX (n := 0) (mt_X9_init X.l X.Γ _ _ _ _) ⟨hv0, hf⟩ rfl q724 q694 q107 q695 hy_X9_init (by decide) rfl rfl (Nat.le_of_ble_eq_true rfl) dX12_init_1 (fun χ1 hf hc1 => ?_)
  refine g_aload_n hX 0 dX12_init_4 rfl rfl ?_
  refine g_aload_nO hX 1 dX12_init_5 rfl rfl ?_
  have hg2 := hf.1
  replace hf := hf.2
  refine g_putRF hX rfl (v := _) (k := 0) (Nat.lt_of_lt_of_le hv0 (hc1 30)) (ff30_2 hg2) rfl rfl in_X12 tyX12_ok nmX12 (by decide) (by decide) (by decide) rfl rfl q725 rfl rfl rfl nar_rf fits_rf (fun x e => Nat.lt_of_lt_of_le (hv1 x e) (hc1 30)) dX12_init_6 ?_
  replace hf := hf _ rfl
  exact g_vret hX ⟨rfl, hf⟩ dX12_init_9

def w_X13_init (x0 : Nat) (x1 : Int32) (χ : St) (Q : St → Prop) : Prop := (w_X9_init x0 χ (fun χ1 => (tg χ1 30 x0 = 0) ∧ ((∀ χ3 : St, χ3 = (sI χ1 3100 x0 0 x1) → (Q χ3)))))
set_option maxHeartbeats 4000000 in
theorem mt_X13_init (l : Launch) (Γ : Gh) (ad : Nat → Nat → Nat) (x0 : Nat) (x1 : Int32) (χ : St) (Q : St → Prop) : Mt l yX13_init (ws_ yX13_init cX13_init 2 (none)) (rmO (2) (40) χ) (Pm Γ ad χ [.ref (ad 30 x0), .int x1] (x0 < cn χ 30 ∧ w_X13_init x0 x1 χ Q)) (Qm Γ true ad χ (pV Q)) (frB Γ) := by
  refine Mt.start (by decide) RX13 rfl (Nat.le_of_ble_eq_true rfl) ?_
  intro X hX hG _ _ hna _ ⟨hv0, hf⟩
  unfold w_X13_init at hf
  refine g_aload_n hX 0 dX13_init_0 rfl rfl ?_
  refine g_callINv hX (n := 0) (mt_X9_init X.l X.Γ _ _ _ _) ⟨hv0, hf⟩ rfl q735 q694 q107 q695 hy_X9_init (by decide) rfl rfl (Nat.le_of_ble_eq_true rfl) dX13_init_1 (fun χ1 hf hc1 => ?_)
  refine g_aload_n hX 0 dX13_init_4 rfl rfl ?_
  refine g_iload_n hX 1 dX13_init_5 rfl rfl ?_
  have hg2 := hf.1
  replace hf := hf.2
  refine g_putIF hX rfl (k := 0) (Nat.lt_of_lt_of_le hv0 (hc1 30)) (ff30_0 hg2) rfl rfl in_X13 tyX13_ok nmX13 (by decide) q736 rfl rfl rfl rfl rfl dX13_init_6 ?_
  replace hf := hf _ rfl
  exact g_vret hX ⟨rfl, hf⟩ dX13_init_9

def w_C_isTime (x0 : Int32) (χ : St) (Q : Int32 → St → Prop) : Prop := (w_C_in x0 (0 : Int32) (29 : Int32) χ (fun r1 χ2 => (narrow .boolean (.int r1) = .int r1) ∧ ((Q r1 χ2))))
set_option maxHeartbeats 4000000 in
theorem mt_C_isTime (l : Launch) (Γ : Gh) (ad : Nat → Nat → Nat) (x0 : Int32) (χ : St) (Q : Int32 → St → Prop) : Mt l yX0_isTime (ws_ yX0_isTime cX0_isTime 1 (some .boolean)) (rmO (1) (22) χ) (Pm Γ ad χ [.int x0] (w_C_isTime x0 χ Q)) (Qm Γ true ad χ (pI Q)) (frB Γ) := by
  refine Mt.start (by decide) RX0 rfl (Nat.le_of_ble_eq_true rfl) ?_
  intro X hX hG _ _ hna _ hf
  unfold w_C_isTime at hf
  refine g_iload_n hX 0 dX0_isTime_0 rfl rfl ?_
  refine g_iconst hX (v := (0 : Int32)) dX0_isTime_1 rfl ?_
  refine g_bipush hX (v := (29 : Int32)) dX0_isTime_2 rfl ?_
  refine g_callSi hX (n := 3) (mt_C_in X.l X.Γ _ _ _ _ _ _) hf q281 q282 q85 q283 hy_C_in (by decide) rfl rfl (Nat.le_of_ble_eq_true rfl) dX0_isTime_4 (fun r1 χ2 hf hc2 => ?_)
  exact g_zret hX hf.1 ⟨_, rfl, hf.2⟩ dX0_isTime_7

def w_X3_clear_2 (Q : St → Prop) : Nat → Int32 → St → Prop
  | 0 => fun _ _ => False
  | n + 1 => fun x1 χ => (((nI 128) ≤ x1 → (Q χ)) ∧ (¬ (nI 128) ≤ x1 → (vp_in x1 128) ∧ ((∀ χ1 : St, χ1 = (sI χ 7 0 x1.toNatClampNeg (0 : Int32)) → (w_X3_clear_2 Q n (x1 + (1 : Int32)) χ1)))))
def w_X3_clear (χ : St) (Q : St → Prop) : Prop := (∃ k2, w_X3_clear_2 Q k2 (0 : Int32) χ)
set_option maxHeartbeats 4000000 in
theorem mt_X3_clear (l : Launch) (Γ : Gh) (ad : Nat → Nat → Nat) (χ : St) (Q : St → Prop) : Mt l yX3_clear (ws_ yX3_clear cX3_clear 2 (none)) (rmO (0) (0) χ) (Pm Γ ad χ [.ref (ad 6 0)] (w_X3_clear χ Q)) (Qm Γ true ad χ (pV Q)) (frB Γ) := by
  refine Mt.start (by decide) RX3 rfl (Nat.le_of_ble_eq_true rfl) ?_
  intro X hX hG _ _ hna _ hf
  have B2 : ∀ (n : Nat) (ad : Nat → Nat → Nat) (x1 : Int32) (χ : St), w_X3_clear_2 Q n x1 χ → G X ad χ 2 [(0, .ref (ad 6 0)), (1, .int x1)] [] := by
    intro n
    induction n with
    | zero => intro ad x1 χ hf; exact hf.elim
    | succ n hK2 =>
      intro ad x1 χ hf
      unfold w_X3_clear_2 at hf
      refine g_iload_n hX 1 dX3_clear_2 rfl rfl ?_
      refine g_aload_n hX 0 dX3_clear_3 rfl rfl ?_
      refine g_getK hX (k := 0) (d := 7) (fc6 _) ff6 rfl (by decide) rfl rfl in_X3 (by decide) q184 dX3_clear_4 ?_
      refine g_alen hX (fc7 _) ff7 rfl dX3_clear_7 ?_
      refine g_icmp_ge hX 24 dX3_clear_8 (by decide) (fun z => ?_) (fun z => ?_)
      · replace hf := hf.1 z
        exact g_vret hX ⟨rfl, hf⟩ dX3_clear_24
      · replace hf := hf.2 z
        refine g_aload_n hX 0 dX3_clear_11 rfl rfl ?_
        refine g_getK hX (k := 0) (d := 7) (fc6 _) ff6 rfl (by decide) rfl rfl in_X3 (by decide) q184 dX3_clear_12 ?_
        refine g_iload_n hX 1 dX3_clear_15 rfl rfl ?_
        refine g_iconst hX (v := (0 : Int32)) dX3_clear_16 rfl ?_
        refine g_iast hX (fc7 _) ff7 rfl hf.1 dX3_clear_17 ?_
        replace hf := hf.2
        replace hf := hf _ rfl
        refine g_iinc hX (v := _) 1 dX3_clear_18 rfl rfl (by decide) rfl ?_
        refine g_goto hX 2 dX3_clear_21 (by decide) ?_
        refine g_sub [1, 0] rfl ?_
        exact hK2 _ _ _ hf
  unfold w_X3_clear at hf
  refine g_iconst hX (v := (0 : Int32)) dX3_clear_0 rfl ?_
  refine g_istore_n hX dX3_clear_1 rfl (by decide) rfl ?_
  obtain ⟨n0, hf⟩ := hf
  refine g_sub [1, 0] rfl ?_
  exact B2 n0 _ _ _ hf

def w_C_gives_24 (Q : Int32 → St → Prop) (x2 : Nat) (χ : St) : Prop := (∃ z3, (gR χ 2501 x2 0) = some z3 ∧ ((w_value 130 z3 χ (fun r4 χ5 => (Q r4 χ5)))))
def w_C_gives_2 (Q : Int32 → St → Prop) : Nat → Option Nat → St → Prop
  | 0 => fun _ _ => False
  | n + 1 => fun x2 χ => ((x2 = none → (Q (0 : Int32) χ)) ∧ (∀ z1, x2 = some z1 → (((gR χ 2500 z1 0) = none → (w_C_gives_24 Q z1 χ)) ∧ (∀ z2, (gR χ 2500 z1 0) = some z2 → (∃ z6, (gR χ 2500 z1 0) = some z6 ∧ ((w_value 130 z6 χ (fun r7 χ8 => ((r7 = 0 → (w_C_gives_2 Q n (gR χ8 2502 z1 0) χ8)) ∧ (¬ r7 = 0 → (w_C_gives_24 Q z1 χ8)))))))))))
def w_C_gives (x0 : Nat) (χ : St) (Q : Int32 → St → Prop) : Prop := (∃ k2, w_C_gives_2 Q k2 (some x0) χ)
set_option maxHeartbeats 4000000 in
theorem mt_C_gives (l : Launch) (Γ : Gh) (ad : Nat → Nat → Nat) (x0 : Nat) (χ : St) (Q : Int32 → St → Prop) : Mt l yX0_gives (ws_ yX0_gives cX0_gives 3 (some .int)) (rmO (261) (5224) χ) (Pm Γ ad χ [.ref (ad 24 x0), .ref (ad 6 0)] (x0 < cn χ 24 ∧ w_C_gives x0 χ Q)) (Qm Γ true ad χ (pI Q)) (frB Γ) := by
  refine Mt.start (by decide) RX0 rfl (Nat.le_of_ble_eq_true rfl) ?_
  intro X hX hG _ _ hna _ ⟨hv0, hf⟩
  have B24 : ∀ (ad : Nat → Nat → Nat) (x2 : Nat) (χ : St), x2 < cn χ 24 → w_C_gives_24 Q x2 χ → G X ad χ 24 [(1, .ref (ad 6 0)), (2, .ref (ad 24 x2))] [] := by
    intro ad x2 χ hv_x2 hf
    unfold w_C_gives_24 at hf
    refine g_aload_n hX 1 dX0_gives_24 rfl rfl ?_
    obtain ⟨z3, hz3, hf⟩ := hf
    refine g_getEN hX (k := 1) hv_x2 ff24 rfl (by decide) (by decide) rfl rfl rfl in_X8 (by decide) q559 dX0_gives_25 hz3 (fun hvz3 => ?_)
    refine g_aload_n hX 0 dX0_gives_28 rfl rfl ?_
    refine g_callNode hX (mtN_value 130) hf q781 (by decide) hvz3 (Nat.le_of_ble_eq_true rfl) dX0_gives_29 (fun r4 χ5 hf hc5 => ?_)
    exact g_iret hX ⟨_, rfl, hf⟩ dX0_gives_32
  have B2 : ∀ (n : Nat) (ad : Nat → Nat → Nat) (x2 : Option Nat) (χ : St), (∀ x, x2 = some x → x < cn χ 24) → w_C_gives_2 Q n x2 χ → G X ad χ 2 [(1, .ref (ad 6 0)), (2, va_rf (x2.map (ad 24)))] [] := by
    intro n
    induction n with
    | zero => intro ad x2 χ hv_x2 hf; exact hf.elim
    | succ n hK2 =>
      intro ad x2 χ hv_x2 hf
      unfold w_C_gives_2 at hf
      refine g_aload_nO hX 1 dX0_gives_2 rfl rfl ?_
      cases x2 with
      | none =>
        replace hf := hf.1 rfl
        refine g_ifnullN hX 41 dX0_gives_3 (by decide) ?_
        refine g_iconst hX (v := (0 : Int32)) dX0_gives_41 rfl ?_
        exact g_iret hX ⟨_, rfl, hf⟩ dX0_gives_42
      | some z1 =>
        replace hf := hf.2 _ rfl
        refine g_ifnull hX dX0_gives_3 ?_
        refine g_aload_n hX 1 dX0_gives_6 rfl rfl ?_
        refine g_getSN hX (k := 0) (hv_x2 _ rfl) ff24 rfl (by decide) (by decide) rfl rfl rfl in_X8 (by decide) q557 dX0_gives_7 (fun z => ?_) (fun z2 hz2 hvz2 => ?_)
        · replace hf := hf.1 z
          refine g_ifnullN hX 24 dX0_gives_10 (by decide) ?_
          exact B24 _ _ _ ((hv_x2 _ rfl)) hf
        · replace hf := hf.2 _ hz2
          refine g_ifnull hX dX0_gives_10 ?_
          refine g_aload_n hX 1 dX0_gives_13 rfl rfl ?_
          obtain ⟨z6, hz6, hf⟩ := hf
          refine g_getEN hX (k := 0) (hv_x2 _ rfl) ff24 rfl (by decide) (by decide) rfl rfl rfl in_X8 (by decide) q557 dX0_gives_14 hz6 (fun hvz6 => ?_)
          refine g_aload_n hX 0 dX0_gives_17 rfl rfl ?_
          refine g_callNode hX (mtN_value 130) hf q781 (by decide) hvz6 (Nat.le_of_ble_eq_true rfl) dX0_gives_18 (fun r7 χ8 hf hc8 => ?_)
          refine g_if_eq hX 33 dX0_gives_21 (by decide) (fun z => ?_) (fun z => ?_)
          · replace hf := hf.1 z
            refine g_aload_n hX 1 dX0_gives_33 rfl rfl ?_
            refine g_getON hX (k := 2) (Nat.lt_of_lt_of_le (hv_x2 _ rfl) (hc8 24)) ff24 rfl (by decide) (by decide) rfl rfl rfl in_X8 (by decide) q561 dX0_gives_34 (fun hvz9 => ?_)
            refine g_astore_nO hX dX0_gives_37 rfl (by decide) rfl ?_
            refine g_goto hX 2 dX0_gives_38 (by decide) ?_
            refine g_sub [1, 0] rfl ?_
            exact hK2 _ _ _ (hvz9) hf
          · replace hf := hf.2 z
            exact B24 _ _ _ ((Nat.lt_of_lt_of_le (hv_x2 _ rfl) (hc8 24))) hf
  unfold w_C_gives at hf
  refine g_aload_n hX 0 dX0_gives_0 rfl rfl ?_
  refine g_astore_n hX dX0_gives_1 rfl (by decide) rfl ?_
  obtain ⟨n0, hf⟩ := hf
  refine g_sub [2, 0] rfl ?_
  exact B2 n0 _ _ _ ((fun x e => by cases e; exact hv0)) hf

def w_C_numberOf (x1 : Nat) (x2 : Int32) (x3 : Int32) (x4 : Int32) (χ : St) (Q : Int32 → St → Prop) : Prop := (vp_in x2 6) ∧ ((((gR χ 2002 x2.toNatClampNeg 0) = none → (Q (50 : Int32) χ)) ∧ (∀ z2, (gR χ 2002 x2.toNatClampNeg 0) = some z2 → (w_X3_clear χ (fun χ3 => (vp_in (121 : Int32) 128) ∧ ((∀ χ4 : St, χ4 = (sI χ3 7 0 (121 : Int32).toNatClampNeg x4) → (vp_in (107 : Int32) 128) ∧ ((∀ χ5 : St, χ5 = (sI χ4 7 0 (107 : Int32).toNatClampNeg x3) → (vp_in (119 : Int32) 128) ∧ ((∀ χ6 : St, χ6 = (sI χ5 7 0 (119 : Int32).toNatClampNeg (gI χ5 2100 x1 0)) → (vp_in (112 : Int32) 128) ∧ ((∀ χ7 : St, χ7 = (sI χ6 7 0 (112 : Int32).toNatClampNeg (gI χ6 2101 x1 0)) → (vp_in x2 6) ∧ ((∃ z9, (gR χ7 2002 x2.toNatClampNeg 0) = some z9 ∧ ((w_C_gives z9 χ7 (fun r10 χ11 => (Q (if (0 : Int32) < (if r10 < (100 : Int32) then r10 else (100 : Int32)) then (if r10 < (100 : Int32) then r10 else (100 : Int32)) else (0 : Int32)) χ11)))))))))))))))))))
set_option maxHeartbeats 4000000 in
theorem mt_C_numberOf (l : Launch) (Γ : Gh) (ad : Nat → Nat → Nat) (x1 : Nat) (x2 : Int32) (x3 : Int32) (x4 : Int32) (χ : St) (Q : Int32 → St → Prop) : Mt l yX0_numberOf (ws_ yX0_numberOf cX0_numberOf 5 (some .int)) (rmO (262) (5246) χ) (Pm Γ ad χ [.ref (ad 0 0), .ref (ad 20 x1), .int x2, .int x3, .int x4] (x1 < cn χ 20 ∧ w_C_numberOf x1 x2 x3 x4 χ Q)) (Qm Γ true ad χ (pI Q)) (frB Γ) := by
  refine Mt.start (by decide) RX0 rfl (Nat.le_of_ble_eq_true rfl) ?_
  intro X hX hG _ _ hna _ ⟨hv1, hf⟩
  unfold w_C_numberOf at hf
  refine g_aload_n hX 0 dX0_numberOf_0 rfl rfl ?_
  refine g_getK hX (k := 2) (d := 3) (fc0 _) ff0 rfl (by decide) rfl rfl in_X0 (by decide) q200 dX0_numberOf_1 ?_
  refine g_iload_n hX 2 dX0_numberOf_4 rfl rfl ?_
  have hg1 := hf.1
  replace hf := hf.2
  refine g_aaldK hX (fc3 _) ff3 rfl hg1 dX0_numberOf_5 ?_
  refine g_getSN hX (k := 2) (fc19 (vp_lt hg1)) ff19 rfl (by decide) (by decide) rfl rfl rfl in_X2 (by decide) q168 dX0_numberOf_6 (fun z => ?_) (fun z2 hz2 hvz2 => ?_)
  · replace hf := hf.1 z
    refine g_ifnonnullN hX dX0_numberOf_9 ?_
    refine g_bipush hX (v := (50 : Int32)) dX0_numberOf_12 rfl ?_
    exact g_iret hX ⟨_, rfl, hf⟩ dX0_numberOf_14
  · replace hf := hf.2 _ hz2
    refine g_ifnonnull hX 15 dX0_numberOf_9 (by decide) ?_
    refine g_aload_n hX 0 dX0_numberOf_15 rfl rfl ?_
    refine g_getK hX (k := 9) (d := 6) (fc0 _) ff0 rfl (by decide) rfl rfl in_X0 (by decide) q209 dX0_numberOf_16 ?_
    refine g_callVv hX (n := 0) (mt_X3_clear X.l X.Γ _ _ _) hf q774 q775 q776 q88 q777 ⟨rfl, hy_X3_clear⟩ (by decide) (fc6 _) ff6 rfl rfl rfl (Nat.le_of_ble_eq_true rfl) dX0_numberOf_19 (fun χ3 hf hc3 => ?_)
    refine g_aload_n hX 0 dX0_numberOf_22 rfl rfl ?_
    refine g_getK hX (k := 9) (d := 6) (fc0 _) ff0 rfl (by decide) rfl rfl in_X0 (by decide) q209 dX0_numberOf_23 ?_
    refine g_getKN hX (k := 0) (d := 7) (fc6 _) ff6 rfl (by decide) rfl rfl in_X3 (by decide) q186 dX0_numberOf_26 ?_
    refine g_bipush hX (v := (121 : Int32)) dX0_numberOf_29 rfl ?_
    refine g_iload hX 4 dX0_numberOf_31 rfl ?_
    refine g_iast hX (fc7 _) ff7 rfl hf.1 dX0_numberOf_33 ?_
    replace hf := hf.2
    replace hf := hf _ rfl
    refine g_aload_n hX 0 dX0_numberOf_34 rfl rfl ?_
    refine g_getK hX (k := 9) (d := 6) (fc0 _) ff0 rfl (by decide) rfl rfl in_X0 (by decide) q209 dX0_numberOf_35 ?_
    refine g_getKN hX (k := 0) (d := 7) (fc6 _) ff6 rfl (by decide) rfl rfl in_X3 (by decide) q186 dX0_numberOf_38 ?_
    refine g_bipush hX (v := (107 : Int32)) dX0_numberOf_41 rfl ?_
    refine g_iload_n hX 3 dX0_numberOf_43 rfl rfl ?_
    refine g_iast hX (fc7 _) ff7 rfl hf.1 dX0_numberOf_44 ?_
    replace hf := hf.2
    replace hf := hf _ rfl
    refine g_aload_n hX 0 dX0_numberOf_45 rfl rfl ?_
    refine g_getK hX (k := 9) (d := 6) (fc0 _) ff0 rfl (by decide) rfl rfl in_X0 (by decide) q209 dX0_numberOf_46 ?_
    refine g_getKN hX (k := 0) (d := 7) (fc6 _) ff6 rfl (by decide) rfl rfl in_X3 (by decide) q186 dX0_numberOf_49 ?_
    refine g_bipush hX (v := (119 : Int32)) dX0_numberOf_52 rfl ?_
    refine g_aload_n hX 1 dX0_numberOf_54 rfl rfl ?_
    refine g_getIN hX (k := 0) (Nat.lt_of_lt_of_le hv1 (hc3 20)) ff20 rfl rfl in_X5 (by decide) q294 dX0_numberOf_55 ?_
    refine g_iast hX (fc7 _) ff7 rfl hf.1 dX0_numberOf_58 ?_
    replace hf := hf.2
    replace hf := hf _ rfl
    refine g_aload_n hX 0 dX0_numberOf_59 rfl rfl ?_
    refine g_getK hX (k := 9) (d := 6) (fc0 _) ff0 rfl (by decide) rfl rfl in_X0 (by decide) q209 dX0_numberOf_60 ?_
    refine g_getKN hX (k := 0) (d := 7) (fc6 _) ff6 rfl (by decide) rfl rfl in_X3 (by decide) q186 dX0_numberOf_63 ?_
    refine g_bipush hX (v := (112 : Int32)) dX0_numberOf_66 rfl ?_
    refine g_aload_n hX 1 dX0_numberOf_68 rfl rfl ?_
    refine g_getIN hX (k := 1) (Nat.lt_of_lt_of_le hv1 (hc3 20)) ff20 rfl rfl in_X5 (by decide) q296 dX0_numberOf_69 ?_
    refine g_iast hX (fc7 _) ff7 rfl hf.1 dX0_numberOf_72 ?_
    replace hf := hf.2
    replace hf := hf _ rfl
    refine g_iconst hX (v := (0 : Int32)) dX0_numberOf_73 rfl ?_
    refine g_bipush hX (v := (100 : Int32)) dX0_numberOf_74 rfl ?_
    refine g_aload_n hX 0 dX0_numberOf_76 rfl rfl ?_
    refine g_getK hX (k := 2) (d := 3) (fc0 _) ff0 rfl (by decide) rfl rfl in_X0 (by decide) q200 dX0_numberOf_77 ?_
    refine g_iload_n hX 2 dX0_numberOf_80 rfl rfl ?_
    have hg8 := hf.1
    replace hf := hf.2
    refine g_aaldK hX (fc3 _) ff3 rfl hg8 dX0_numberOf_81 ?_
    obtain ⟨z9, hz9, hf⟩ := hf
    refine g_getEN hX (k := 2) (fc19 (vp_lt hg8)) ff19 rfl (by decide) (by decide) rfl rfl rfl in_X2 (by decide) q168 dX0_numberOf_82 hz9 (fun hvz9 => ?_)
    refine g_aload_n hX 0 dX0_numberOf_85 rfl rfl ?_
    refine g_getK hX (k := 9) (d := 6) (fc0 _) ff0 rfl (by decide) rfl rfl in_X0 (by decide) q209 dX0_numberOf_86 ?_
    refine g_callSi hX (n := 2) (mt_C_gives X.l X.Γ _ _ _ _) ⟨hvz9, hf⟩ q778 q779 q85 q780 hy_C_gives (by decide) rfl rfl (Nat.le_of_ble_eq_true rfl) dX0_numberOf_89 (fun r10 χ11 hf hc11 => ?_)
    refine g_mmin hX q805 q634 q103 q635 ⟨by decide, by decide⟩ (Nat.le_of_ble_eq_true rfl) dX0_numberOf_92 ?_
    refine g_mmax hX q806 q631 q103 q632 ⟨by decide, by decide⟩ (Nat.le_of_ble_eq_true rfl) dX0_numberOf_95 ?_
    exact g_iret hX ⟨_, rfl, hf⟩ dX0_numberOf_98

def w_C_number (x1 : Int32) (x2 : Int32) (χ : St) (Q : Int32 → St → Prop) : Prop := (w_C_isFound x1 χ (fun r1 χ2 => ((r1 = 0 → (Q (-1 : Int32) χ2)) ∧ (¬ r1 = 0 → ((x2 < 0 → (Q (-1 : Int32) χ2)) ∧ (¬ x2 < 0 → (w_C_isKind (x2 / (100 : Int32)) χ2 (fun r3 χ4 => ((r3 = 0 → (Q (-1 : Int32) χ4)) ∧ (¬ r3 = 0 → (w_C_isTime (x2 - x2 / (100 : Int32) * (100 : Int32)) χ4 (fun r5 χ6 => ((r5 = 0 → (Q (-1 : Int32) χ6)) ∧ (¬ r5 = 0 → (vp_in (x1 / (10 : Int32)) 8) ∧ ((∃ z8, (gR χ6 1 0 (x1 / (10 : Int32)).toNatClampNeg) = some z8 ∧ ((w_C_numberOf z8 (x1 - x1 / (10 : Int32) * (10 : Int32)) (x2 / (100 : Int32)) (x2 - x2 / (100 : Int32) * (100 : Int32)) χ6 (fun r9 χ10 => (Q r9 χ10))))))))))))))))))))
set_option maxHeartbeats 4000000 in
theorem mt_C_number (l : Launch) (Γ : Gh) (ad : Nat → Nat → Nat) (x1 : Int32) (x2 : Int32) (χ : St) (Q : Int32 → St → Prop) : Mt l yX0_number (ws_ yX0_number cX0_number 3 (some .int)) (rmO (263) (5270) χ) (Pm Γ ad χ [.ref (ad 0 0), .int x1, .int x2] (w_C_number x1 x2 χ Q)) (Qm Γ true ad χ (pI Q)) (frB Γ) := by
  refine Mt.start (by decide) RX0 rfl (Nat.le_of_ble_eq_true rfl) ?_
  intro X hX hG _ _ hna _ hf
  unfold w_C_number at hf
  refine g_aload_n hX 0 dX0_number_0 rfl rfl ?_
  refine g_iload_n hX 1 dX0_number_1 rfl rfl ?_
  refine g_callVi hX (n := 1) (mt_C_isFound X.l X.Γ _ _ _ _) hf q454 q456 qs3 q85 q457 ⟨rfl, hy_C_isFound⟩ (by decide) (fc0 _) ff0 rfl rfl rfl (Nat.le_of_ble_eq_true rfl) dX0_number_2 (fun r1 χ2 hf hc2 => ?_)
  refine g_if_eq hX 60 dX0_number_5 (by decide) (fun z => ?_) (fun z => ?_)
  · replace hf := hf.1 z
    refine g_iconst hX (v := (-1 : Int32)) dX0_number_60 rfl ?_
    exact g_iret hX ⟨_, rfl, hf⟩ dX0_number_61
  · replace hf := hf.2 z
    refine g_iload_n hX 2 dX0_number_8 rfl rfl ?_
    refine g_if_lt hX 60 dX0_number_9 (by decide) (fun z => ?_) (fun z => ?_)
    · replace hf := hf.1 z
      refine g_iconst hX (v := (-1 : Int32)) dX0_number_60 rfl ?_
      exact g_iret hX ⟨_, rfl, hf⟩ dX0_number_61
    · replace hf := hf.2 z
      refine g_iload_n hX 2 dX0_number_12 rfl rfl ?_
      refine g_bipush hX (v := (100 : Int32)) dX0_number_13 rfl ?_
      refine g_idiv hX dX0_number_15 (by decide) ?_
      refine g_callSi hX (n := 1) (mt_C_isKind X.l X.Γ _ _ _ _) hf q469 q470 q85 q471 hy_C_isKind (by decide) rfl rfl (Nat.le_of_ble_eq_true rfl) dX0_number_16 (fun r3 χ4 hf hc4 => ?_)
      refine g_if_eq hX 60 dX0_number_19 (by decide) (fun z => ?_) (fun z => ?_)
      · replace hf := hf.1 z
        refine g_iconst hX (v := (-1 : Int32)) dX0_number_60 rfl ?_
        exact g_iret hX ⟨_, rfl, hf⟩ dX0_number_61
      · replace hf := hf.2 z
        refine g_iload_n hX 2 dX0_number_22 rfl rfl ?_
        refine g_bipush hX (v := (100 : Int32)) dX0_number_23 rfl ?_
        refine g_irem hX dX0_number_25 (by decide) ?_
        refine g_callSi hX (n := 1) (mt_C_isTime X.l X.Γ _ _ _ _) hf q767 q768 q85 q769 hy_C_isTime (by decide) rfl rfl (Nat.le_of_ble_eq_true rfl) dX0_number_26 (fun r5 χ6 hf hc6 => ?_)
        refine g_if_eq hX 60 dX0_number_29 (by decide) (fun z => ?_) (fun z => ?_)
        · replace hf := hf.1 z
          refine g_iconst hX (v := (-1 : Int32)) dX0_number_60 rfl ?_
          exact g_iret hX ⟨_, rfl, hf⟩ dX0_number_61
        · replace hf := hf.2 z
          refine g_aload_n hX 0 dX0_number_32 rfl rfl ?_
          refine g_aload_n hX 0 dX0_number_33 rfl rfl ?_
          refine g_getK hX (k := 0) (d := 1) (fc0 _) ff0 rfl (by decide) rfl rfl in_X0 (by decide) q198 dX0_number_34 ?_
          refine g_iload_n hX 1 dX0_number_37 rfl rfl ?_
          refine g_bipush hX (v := (10 : Int32)) dX0_number_38 rfl ?_
          refine g_idiv hX dX0_number_40 (by decide) ?_
          have hg7 := hf.1
          replace hf := hf.2
          obtain ⟨z8, hz8, hf⟩ := hf
          refine g_aaldE hX (fc1 _) ff1 rfl rfl hg7 dX0_number_41 hz8 (fun hvz8 => ?_)
          refine g_iload_n hX 1 dX0_number_42 rfl rfl ?_
          refine g_bipush hX (v := (10 : Int32)) dX0_number_43 rfl ?_
          refine g_irem hX dX0_number_45 (by decide) ?_
          refine g_iload_n hX 2 dX0_number_46 rfl rfl ?_
          refine g_bipush hX (v := (100 : Int32)) dX0_number_47 rfl ?_
          refine g_idiv hX dX0_number_49 (by decide) ?_
          refine g_iload_n hX 2 dX0_number_50 rfl rfl ?_
          refine g_bipush hX (v := (100 : Int32)) dX0_number_51 rfl ?_
          refine g_irem hX dX0_number_53 (by decide) ?_
          refine g_callVi hX (n := 4) (mt_C_numberOf X.l X.Γ _ _ _ _ _ _ _) ⟨hvz8, hf⟩ q770 q772 qs19 q85 q773 ⟨rfl, hy_C_numberOf⟩ (by decide) (fc0 _) ff0 rfl rfl rfl (Nat.le_of_ble_eq_true rfl) dX0_number_54 (fun r9 χ10 hf hc10 => ?_)
          refine g_goto hX 61 dX0_number_57 (by decide) ?_
          exact g_iret hX ⟨_, rfl, hf⟩ dX0_number_61

def w_C_isPartKind (x1 : Int32) (χ : St) (Q : Int32 → St → Prop) : Prop := ((x1 < 0 → (Q (0 : Int32) χ)) ∧ (¬ x1 < 0 → (w_C_isPart (x1 / (10 : Int32)) χ (fun r1 χ2 => ((r1 = 0 → (Q (0 : Int32) χ2)) ∧ (¬ r1 = 0 → (w_C_isKind (x1 - x1 / (10 : Int32) * (10 : Int32)) χ2 (fun r3 χ4 => ((r3 = 0 → (Q (0 : Int32) χ4)) ∧ (¬ r3 = 0 → (Q (1 : Int32) χ4)))))))))))
set_option maxHeartbeats 4000000 in
theorem mt_C_isPartKind (l : Launch) (Γ : Gh) (ad : Nat → Nat → Nat) (x1 : Int32) (χ : St) (Q : Int32 → St → Prop) : Mt l yX0_isPartKind (ws_ yX0_isPartKind cX0_isPartKind 2 (some .boolean)) (rmO (2) (43) χ) (Pm Γ ad χ [.ref (ad 0 0), .int x1] (w_C_isPartKind x1 χ Q)) (Qm Γ true ad χ (pI Q)) (frB Γ) := by
  refine Mt.start (by decide) RX0 rfl (Nat.le_of_ble_eq_true rfl) ?_
  intro X hX hG _ _ hna _ hf
  unfold w_C_isPartKind at hf
  refine g_iload_n hX 1 dX0_isPartKind_0 rfl rfl ?_
  refine g_if_lt hX 29 dX0_isPartKind_1 (by decide) (fun z => ?_) (fun z => ?_)
  · replace hf := hf.1 z
    refine g_iconst hX (v := (0 : Int32)) dX0_isPartKind_29 rfl ?_
    exact g_zret hX rfl ⟨_, rfl, hf⟩ dX0_isPartKind_30
  · replace hf := hf.2 z
    refine g_aload_n hX 0 dX0_isPartKind_4 rfl rfl ?_
    refine g_iload_n hX 1 dX0_isPartKind_5 rfl rfl ?_
    refine g_bipush hX (v := (10 : Int32)) dX0_isPartKind_6 rfl ?_
    refine g_idiv hX dX0_isPartKind_8 (by decide) ?_
    refine g_callVi hX (n := 1) (mt_C_isPart X.l X.Γ _ _ _ _) hf q458 q460 qs4 q85 q461 ⟨rfl, hy_C_isPart⟩ (by decide) (fc0 _) ff0 rfl rfl rfl (Nat.le_of_ble_eq_true rfl) dX0_isPartKind_9 (fun r1 χ2 hf hc2 => ?_)
    refine g_if_eq hX 29 dX0_isPartKind_12 (by decide) (fun z => ?_) (fun z => ?_)
    · replace hf := hf.1 z
      refine g_iconst hX (v := (0 : Int32)) dX0_isPartKind_29 rfl ?_
      exact g_zret hX rfl ⟨_, rfl, hf⟩ dX0_isPartKind_30
    · replace hf := hf.2 z
      refine g_iload_n hX 1 dX0_isPartKind_15 rfl rfl ?_
      refine g_bipush hX (v := (10 : Int32)) dX0_isPartKind_16 rfl ?_
      refine g_irem hX dX0_isPartKind_18 (by decide) ?_
      refine g_callSi hX (n := 1) (mt_C_isKind X.l X.Γ _ _ _ _) hf q469 q470 q85 q471 hy_C_isKind (by decide) rfl rfl (Nat.le_of_ble_eq_true rfl) dX0_isPartKind_19 (fun r3 χ4 hf hc4 => ?_)
      refine g_if_eq hX 29 dX0_isPartKind_22 (by decide) (fun z => ?_) (fun z => ?_)
      · replace hf := hf.1 z
        refine g_iconst hX (v := (0 : Int32)) dX0_isPartKind_29 rfl ?_
        exact g_zret hX rfl ⟨_, rfl, hf⟩ dX0_isPartKind_30
      · replace hf := hf.2 z
        refine g_iconst hX (v := (1 : Int32)) dX0_isPartKind_25 rfl ?_
        refine g_goto hX 30 dX0_isPartKind_26 (by decide) ?_
        exact g_zret hX rfl ⟨_, rfl, hf⟩ dX0_isPartKind_30

def w_C_findNumbers_19 (Q : St → Prop) (K2 : Nat → Int32 → St → Prop) (K10 : Nat → Int32 → Int32 → St → Prop) : Nat → Nat → Int32 → Int32 → Int32 → St → Prop
  | 0 => fun _ _ _ _ _ => False
  | n + 1 => fun x1 x2 x3 x4 χ => (((30 : Int32) ≤ x4 → (K10 x1 x2 (x3 + (1 : Int32)) χ)) ∧ (¬ (30 : Int32) ≤ x4 → (w_C_numberOf x1 x2 x3 x4 χ (fun r1 χ2 => (vp_in ((((180 : Int32) * x2) + ((30 : Int32) * x3)) + x4) 1080) ∧ ((∀ χ3 : St, χ3 = (sI χ2 8 0 ((((180 : Int32) * x2) + ((30 : Int32) * x3)) + x4).toNatClampNeg r1) → (w_C_findNumbers_19 Q K2 K10 n x1 x2 x3 (x4 + (1 : Int32)) χ3)))))))
def w_C_findNumbers_10 (Q : St → Prop) (K2 : Nat → Int32 → St → Prop) : Nat → Nat → Int32 → Int32 → St → Prop
  | 0 => fun _ _ _ _ => False
  | n + 1 => fun x1 x2 x3 χ => (((6 : Int32) ≤ x3 → (K2 x1 (x2 + (1 : Int32)) χ)) ∧ (¬ (6 : Int32) ≤ x3 → (∃ k19, w_C_findNumbers_19 Q K2 (w_C_findNumbers_10 Q K2 n) k19 x1 x2 x3 (0 : Int32) χ)))
def w_C_findNumbers_2 (Q : St → Prop) : Nat → Nat → Int32 → St → Prop
  | 0 => fun _ _ _ => False
  | n + 1 => fun x1 x2 χ => (((6 : Int32) ≤ x2 → (Q χ)) ∧ (¬ (6 : Int32) ≤ x2 → (∃ k10, w_C_findNumbers_10 Q (w_C_findNumbers_2 Q n) k10 x1 x2 (0 : Int32) χ)))
def w_C_findNumbers (x1 : Nat) (χ : St) (Q : St → Prop) : Prop := (∃ k2, w_C_findNumbers_2 Q k2 x1 (0 : Int32) χ)
set_option maxHeartbeats 4000000 in
theorem mt_C_findNumbers (l : Launch) (Γ : Gh) (ad : Nat → Nat → Nat) (x1 : Nat) (χ : St) (Q : St → Prop) : Mt l yX0_findNumbers (ws_ yX0_findNumbers cX0_findNumbers 5 (none)) (rmO (263) (5270) χ) (Pm Γ ad χ [.ref (ad 0 0), .ref (ad 20 x1)] (x1 < cn χ 20 ∧ w_C_findNumbers x1 χ Q)) (Qm Γ true ad χ (pV Q)) (frB Γ) := by
  refine Mt.start (by decide) RX0 rfl (Nat.le_of_ble_eq_true rfl) ?_
  intro X hX hG _ _ hna _ ⟨hv1, hf⟩
  have B19 : ∀ (K2 : Nat → Int32 → St → Prop) (hK2 : ∀ (ad : Nat → Nat → Nat) (x1 : Nat) (x2 : Int32) (χ : St), x1 < cn χ 20 → K2 x1 x2 χ → G X ad χ 2 [(0, .ref (ad 0 0)), (1, .ref (ad 20 x1)), (2, .int x2)] []) (K10 : Nat → Int32 → Int32 → St → Prop) (hK10 : ∀ (ad : Nat → Nat → Nat) (x1 : Nat) (x2 : Int32) (x3 : Int32) (χ : St), x1 < cn χ 20 → K10 x1 x2 x3 χ → G X ad χ 10 [(0, .ref (ad 0 0)), (1, .ref (ad 20 x1)), (2, .int x2), (3, .int x3)] []) (n : Nat) (ad : Nat → Nat → Nat) (x1 : Nat) (x2 : Int32) (x3 : Int32) (x4 : Int32) (χ : St), x1 < cn χ 20 → w_C_findNumbers_19 Q K2 K10 n x1 x2 x3 x4 χ → G X ad χ 19 [(0, .ref (ad 0 0)), (1, .ref (ad 20 x1)), (2, .int x2), (3, .int x3), (4, .int x4)] [] := by
    intro K2 hK2 K10 hK10 n
    induction n with
    | zero => intro ad x1 x2 x3 x4 χ hv_x1 hf; exact hf.elim
    | succ n hK19 =>
      intro ad x1 x2 x3 x4 χ hv_x1 hf
      unfold w_C_findNumbers_19 at hf
      refine g_iload hX 4 dX0_findNumbers_19 rfl ?_
      refine g_bipush hX (v := (30 : Int32)) dX0_findNumbers_21 rfl ?_
      refine g_icmp_ge hX 59 dX0_findNumbers_23 (by decide) (fun z => ?_) (fun z => ?_)
      · replace hf := hf.1 z
        refine g_iinc hX (v := _) 3 dX0_findNumbers_59 rfl rfl (by decide) rfl ?_
        refine g_goto hX 10 dX0_findNumbers_62 (by decide) ?_
        refine g_sub [1, 2, 3, 0] rfl ?_
        exact hK10 _ _ _ _ _ (hv_x1) hf
      · replace hf := hf.2 z
        refine g_aload_n hX 0 dX0_findNumbers_26 rfl rfl ?_
        refine g_getK hX (k := 10) (d := 8) (fc0 _) ff0 rfl (by decide) rfl rfl in_X0 (by decide) q210 dX0_findNumbers_27 ?_
        refine g_sipush hX (v := (180 : Int32)) dX0_findNumbers_30 rfl ?_
        refine g_iload_n hX 2 dX0_findNumbers_33 rfl rfl ?_
        refine g_imul hX dX0_findNumbers_34 ?_
        refine g_bipush hX (v := (30 : Int32)) dX0_findNumbers_35 rfl ?_
        refine g_iload_n hX 3 dX0_findNumbers_37 rfl rfl ?_
        refine g_imul hX dX0_findNumbers_38 ?_
        refine g_iadd hX dX0_findNumbers_39 ?_
        refine g_iload hX 4 dX0_findNumbers_40 rfl ?_
        refine g_iadd hX dX0_findNumbers_42 ?_
        refine g_aload_n hX 0 dX0_findNumbers_43 rfl rfl ?_
        refine g_aload_n hX 1 dX0_findNumbers_44 rfl rfl ?_
        refine g_iload_n hX 2 dX0_findNumbers_45 rfl rfl ?_
        refine g_iload_n hX 3 dX0_findNumbers_46 rfl rfl ?_
        refine g_iload hX 4 dX0_findNumbers_47 rfl ?_
        refine g_callVi hX (n := 4) (mt_C_numberOf X.l X.Γ _ _ _ _ _ _ _) ⟨hv_x1, hf⟩ q770 q772 qs19 q85 q773 ⟨rfl, hy_C_numberOf⟩ (by decide) (fc0 _) ff0 rfl rfl rfl (Nat.le_of_ble_eq_true rfl) dX0_findNumbers_49 (fun r1 χ2 hf hc2 => ?_)
        refine g_iast hX (fc8 _) ff8 rfl hf.1 dX0_findNumbers_52 ?_
        replace hf := hf.2
        replace hf := hf _ rfl
        refine g_iinc hX (v := _) 4 dX0_findNumbers_53 rfl rfl (by decide) rfl ?_
        refine g_goto hX 19 dX0_findNumbers_56 (by decide) ?_
        refine g_sub [1, 2, 3, 4, 0] rfl ?_
        exact hK19 _ _ _ _ _ _ ((Nat.lt_of_lt_of_le hv_x1 (hc2 20))) hf
  have B10 : ∀ (K2 : Nat → Int32 → St → Prop) (hK2 : ∀ (ad : Nat → Nat → Nat) (x1 : Nat) (x2 : Int32) (χ : St), x1 < cn χ 20 → K2 x1 x2 χ → G X ad χ 2 [(0, .ref (ad 0 0)), (1, .ref (ad 20 x1)), (2, .int x2)] []) (n : Nat) (ad : Nat → Nat → Nat) (x1 : Nat) (x2 : Int32) (x3 : Int32) (χ : St), x1 < cn χ 20 → w_C_findNumbers_10 Q K2 n x1 x2 x3 χ → G X ad χ 10 [(0, .ref (ad 0 0)), (1, .ref (ad 20 x1)), (2, .int x2), (3, .int x3)] [] := by
    intro K2 hK2 n
    induction n with
    | zero => intro ad x1 x2 x3 χ hv_x1 hf; exact hf.elim
    | succ n hK10 =>
      intro ad x1 x2 x3 χ hv_x1 hf
      unfold w_C_findNumbers_10 at hf
      refine g_iload_n hX 3 dX0_findNumbers_10 rfl rfl ?_
      refine g_bipush hX (v := (6 : Int32)) dX0_findNumbers_11 rfl ?_
      refine g_icmp_ge hX 65 dX0_findNumbers_13 (by decide) (fun z => ?_) (fun z => ?_)
      · replace hf := hf.1 z
        refine g_iinc hX (v := _) 2 dX0_findNumbers_65 rfl rfl (by decide) rfl ?_
        refine g_goto hX 2 dX0_findNumbers_68 (by decide) ?_
        refine g_sub [1, 2, 0] rfl ?_
        exact hK2 _ _ _ _ (hv_x1) hf
      · replace hf := hf.2 z
        refine g_iconst hX (v := (0 : Int32)) dX0_findNumbers_16 rfl ?_
        refine g_istore hX dX0_findNumbers_17 (by decide) rfl ?_
        obtain ⟨n0, hf⟩ := hf
        refine g_sub [1, 2, 3, 4, 0] rfl ?_
        exact B19 K2 hK2 (w_C_findNumbers_10 Q K2 n) hK10 n0 _ _ _ _ _ _ (hv_x1) hf
  have B2 : ∀ (n : Nat) (ad : Nat → Nat → Nat) (x1 : Nat) (x2 : Int32) (χ : St), x1 < cn χ 20 → w_C_findNumbers_2 Q n x1 x2 χ → G X ad χ 2 [(0, .ref (ad 0 0)), (1, .ref (ad 20 x1)), (2, .int x2)] [] := by
    intro n
    induction n with
    | zero => intro ad x1 x2 χ hv_x1 hf; exact hf.elim
    | succ n hK2 =>
      intro ad x1 x2 χ hv_x1 hf
      unfold w_C_findNumbers_2 at hf
      refine g_iload_n hX 2 dX0_findNumbers_2 rfl rfl ?_
      refine g_bipush hX (v := (6 : Int32)) dX0_findNumbers_3 rfl ?_
      refine g_icmp_ge hX 71 dX0_findNumbers_5 (by decide) (fun z => ?_) (fun z => ?_)
      · replace hf := hf.1 z
        exact g_vret hX ⟨rfl, hf⟩ dX0_findNumbers_71
      · replace hf := hf.2 z
        refine g_iconst hX (v := (0 : Int32)) dX0_findNumbers_8 rfl ?_
        refine g_istore_n hX dX0_findNumbers_9 rfl (by decide) rfl ?_
        obtain ⟨n0, hf⟩ := hf
        refine g_sub [1, 2, 3, 0] rfl ?_
        exact B10 (w_C_findNumbers_2 Q n) hK2 n0 _ _ _ _ _ (hv_x1) hf
  unfold w_C_findNumbers at hf
  refine g_iconst hX (v := (0 : Int32)) dX0_findNumbers_0 rfl ?_
  refine g_istore_n hX dX0_findNumbers_1 rfl (by decide) rfl ?_
  obtain ⟨n0, hf⟩ := hf
  refine g_sub [1, 2, 0] rfl ?_
  exact B2 n0 _ _ _ _ (hv1) hf

def w_C_numberAt (x1 : Int32) (x2 : Int32) (χ : St) (Q : Int32 → St → Prop) : Prop := (vp_in (((180 : Int32) * x1) + x2) 1080) ∧ ((Q (gI χ 8 0 (((180 : Int32) * x1) + x2).toNatClampNeg) χ))
set_option maxHeartbeats 4000000 in
theorem mt_C_numberAt (l : Launch) (Γ : Gh) (ad : Nat → Nat → Nat) (x1 : Int32) (x2 : Int32) (χ : St) (Q : Int32 → St → Prop) : Mt l yX0_numberAt (ws_ yX0_numberAt cX0_numberAt 3 (some .int)) (rmO (0) (0) χ) (Pm Γ ad χ [.ref (ad 0 0), .int x1, .int x2] (w_C_numberAt x1 x2 χ Q)) (Qm Γ true ad χ (pI Q)) (frB Γ) := by
  refine Mt.start (by decide) RX0 rfl (Nat.le_of_ble_eq_true rfl) ?_
  intro X hX hG _ _ hna _ hf
  unfold w_C_numberAt at hf
  refine g_aload_n hX 0 dX0_numberAt_0 rfl rfl ?_
  refine g_getK hX (k := 10) (d := 8) (fc0 _) ff0 rfl (by decide) rfl rfl in_X0 (by decide) q210 dX0_numberAt_1 ?_
  refine g_sipush hX (v := (180 : Int32)) dX0_numberAt_4 rfl ?_
  refine g_iload_n hX 1 dX0_numberAt_7 rfl rfl ?_
  refine g_imul hX dX0_numberAt_8 ?_
  refine g_iload_n hX 2 dX0_numberAt_9 rfl rfl ?_
  refine g_iadd hX dX0_numberAt_10 ?_
  refine g_iald hX (fc8 _) ff8 rfl hf.1 dX0_numberAt_11 ?_
  replace hf := hf.2
  exact g_iret hX ⟨_, rfl, hf⟩ dX0_numberAt_12

def w_C_weigh_105 (Q : St → Prop) (K7 : Int32 → St → Prop) (K22 : Int32 → Int32 → St → Prop) (K50 : Int32 → Int32 → Int32 → Int64 → Int32 → St → Prop) (x1 : Int32) (x2 : Int32) (x3 : Int32) (x4 : Int64) (x6 : Int32) (χ : St) : Prop := (K50 x1 x2 x3 x4 (x6 + (1 : Int32)) χ)
def w_C_weigh_102 (Q : St → Prop) (K7 : Int32 → St → Prop) (K22 : Int32 → Int32 → St → Prop) (K50 : Int32 → Int32 → Int32 → Int64 → Int32 → St → Prop) (x1 : Int32) (x2 : Int32) (x3 : Int32) (x6 : Int32) (z0 : Int64) (z1 : Int64) (χ : St) : Prop := (w_C_weigh_105 Q K7 K22 K50 x1 x2 x3 (z1 * z0) x6 χ)
def w_C_weigh_50 (Q : St → Prop) (K7 : Int32 → St → Prop) (K22 : Int32 → Int32 → St → Prop) : Nat → Int32 → Int32 → Int32 → Int64 → Int32 → St → Prop
  | 0 => fun _ _ _ _ _ _ => False
  | n + 1 => fun x1 x2 x3 x4 x6 χ => (((6 : Int32) ≤ x6 → (vp_in x3 180) ∧ ((∀ χ7 : St, χ7 = (sL χ 9 0 x3.toNatClampNeg x4) → (vp_in x1 6) ∧ ((vp_in x1 6) ∧ ((∀ χ8 : St, χ8 = (sL χ7 10 0 x1.toNatClampNeg ((gL χ7 10 0 x1.toNatClampNeg) + x4)) → (K22 x1 (x2 + (1 : Int32)) χ8))))))) ∧ (¬ (6 : Int32) ≤ x6 → (vp_in x6 6) ∧ ((((gI χ 11 0 x6.toNatClampNeg) = 0 → (w_C_weigh_105 Q K7 K22 (w_C_weigh_50 Q K7 K22 n) x1 x2 x3 x4 x6 χ)) ∧ (¬ (gI χ 11 0 x6.toNatClampNeg) = 0 → (vp_in x6 6) ∧ (((¬ (gI χ 11 0 x6.toNatClampNeg) = (1 : Int32) → (w_C_numberAt x6 x3 χ (fun r9 χ10 => (w_C_weigh_102 Q K7 K22 (w_C_weigh_50 Q K7 K22 n) x1 x2 x3 x6 ((100 : Int32) - r9).toInt64 x4 χ10)))) ∧ ((gI χ 11 0 x6.toNatClampNeg) = (1 : Int32) → (w_C_numberAt x6 x3 χ (fun r11 χ12 => (w_C_weigh_102 Q K7 K22 (w_C_weigh_50 Q K7 K22 n) x1 x2 x3 x6 r11.toInt64 x4 χ12)))))))))))
def w_C_weigh_22 (Q : St → Prop) (K7 : Int32 → St → Prop) : Nat → Int32 → Int32 → St → Prop
  | 0 => fun _ _ _ => False
  | n + 1 => fun x1 x2 χ => (((30 : Int32) ≤ x2 → (vp_in x1 6) ∧ ((∀ χ3 : St, χ3 = (sL χ 114 0 0 ((gL χ 114 0 0) + (gL χ 10 0 x1.toNatClampNeg))) → (K7 (x1 + (1 : Int32)) χ3)))) ∧ (¬ (30 : Int32) ≤ x2 → (∀ v4 : Int32, v4 = (((30 : Int32) * x1) + x2) → (vp_in x1 6) ∧ ((∀ v6 : Int64, v6 = (gI χ 1900 x1.toNatClampNeg 0).toInt64 → (∃ k50, w_C_weigh_50 Q K7 (w_C_weigh_22 Q K7 n) k50 x1 x2 v4 v6 (0 : Int32) χ))))))
def w_C_weigh_7 (Q : St → Prop) : Nat → Int32 → St → Prop
  | 0 => fun _ _ => False
  | n + 1 => fun x1 χ => (((6 : Int32) ≤ x1 → (Q χ)) ∧ (¬ (6 : Int32) ≤ x1 → (vp_in x1 6) ∧ ((∀ χ2 : St, χ2 = (sL χ 10 0 x1.toNatClampNeg (0 : Int64)) → (∃ k22, w_C_weigh_22 Q (w_C_weigh_7 Q n) k22 x1 (0 : Int32) χ2)))))
def w_C_weigh (χ : St) (Q : St → Prop) : Prop := (∀ χ1 : St, χ1 = (sL χ 114 0 0 (0 : Int64)) → (∃ k7, w_C_weigh_7 Q k7 (0 : Int32) χ1))
set_option maxHeartbeats 4000000 in
theorem mt_C_weigh (l : Launch) (Γ : Gh) (ad : Nat → Nat → Nat) (χ : St) (Q : St → Prop) : Mt l yX0_weigh (ws_ yX0_weigh cX0_weigh 7 (none)) (rmO (1) (22) χ) (Pm Γ ad χ [.ref (ad 0 0)] (w_C_weigh χ Q)) (Qm Γ true ad χ (pV Q)) (frB Γ) := by
  refine Mt.start (by decide) RX0 rfl (Nat.le_of_ble_eq_true rfl) ?_
  intro X hX hG _ _ hna _ hf
  have B105 : ∀ (K7 : Int32 → St → Prop) (hK7 : ∀ (ad : Nat → Nat → Nat) (x1 : Int32) (χ : St), K7 x1 χ → G X ad χ 7 [(0, .ref (ad 0 0)), (1, .int x1)] []) (K22 : Int32 → Int32 → St → Prop) (hK22 : ∀ (ad : Nat → Nat → Nat) (x1 : Int32) (x2 : Int32) (χ : St), K22 x1 x2 χ → G X ad χ 22 [(0, .ref (ad 0 0)), (1, .int x1), (2, .int x2)] []) (K50 : Int32 → Int32 → Int32 → Int64 → Int32 → St → Prop) (hK50 : ∀ (ad : Nat → Nat → Nat) (x1 : Int32) (x2 : Int32) (x3 : Int32) (x4 : Int64) (x6 : Int32) (χ : St), K50 x1 x2 x3 x4 x6 χ → G X ad χ 50 [(0, .ref (ad 0 0)), (1, .int x1), (2, .int x2), (3, .int x3), (4, .long x4), (6, .int x6)] []) (ad : Nat → Nat → Nat) (x1 : Int32) (x2 : Int32) (x3 : Int32) (x4 : Int64) (x6 : Int32) (χ : St), w_C_weigh_105 Q K7 K22 K50 x1 x2 x3 x4 x6 χ → G X ad χ 105 [(0, .ref (ad 0 0)), (1, .int x1), (2, .int x2), (3, .int x3), (4, .long x4), (6, .int x6)] [] := by
    intro K7 hK7 K22 hK22 K50 hK50 ad x1 x2 x3 x4 x6 χ hf
    unfold w_C_weigh_105 at hf
    refine g_iinc hX (v := _) 5 dX0_weigh_105 rfl rfl (by decide) rfl ?_
    refine g_goto hX 50 dX0_weigh_108 (by decide) ?_
    refine g_sub [1, 2, 3, 4, 5, 0] rfl ?_
    exact hK50 _ _ _ _ _ _ _ hf
  have B102 : ∀ (K7 : Int32 → St → Prop) (hK7 : ∀ (ad : Nat → Nat → Nat) (x1 : Int32) (χ : St), K7 x1 χ → G X ad χ 7 [(0, .ref (ad 0 0)), (1, .int x1)] []) (K22 : Int32 → Int32 → St → Prop) (hK22 : ∀ (ad : Nat → Nat → Nat) (x1 : Int32) (x2 : Int32) (χ : St), K22 x1 x2 χ → G X ad χ 22 [(0, .ref (ad 0 0)), (1, .int x1), (2, .int x2)] []) (K50 : Int32 → Int32 → Int32 → Int64 → Int32 → St → Prop) (hK50 : ∀ (ad : Nat → Nat → Nat) (x1 : Int32) (x2 : Int32) (x3 : Int32) (x4 : Int64) (x6 : Int32) (χ : St), K50 x1 x2 x3 x4 x6 χ → G X ad χ 50 [(0, .ref (ad 0 0)), (1, .int x1), (2, .int x2), (3, .int x3), (4, .long x4), (6, .int x6)] []) (ad : Nat → Nat → Nat) (x1 : Int32) (x2 : Int32) (x3 : Int32) (x6 : Int32) (z0 : Int64) (z1 : Int64) (χ : St), w_C_weigh_102 Q K7 K22 K50 x1 x2 x3 x6 z0 z1 χ → G X ad χ 102 [(0, .ref (ad 0 0)), (1, .int x1), (2, .int x2), (3, .int x3), (6, .int x6)] [.long z0, .long z1] := by
    intro K7 hK7 K22 hK22 K50 hK50 ad x1 x2 x3 x6 z0 z1 χ hf
    unfold w_C_weigh_102 at hf
    refine g_lmul hX dX0_weigh_102 ?_
    refine g_lstore hX dX0_weigh_103 (by decide) rfl ?_
    refine g_sub [1, 2, 3, 4, 0, 5] rfl ?_
    exact B105 K7 hK7 K22 hK22 K50 hK50 _ _ _ _ _ _ _ hf
  have B50 : ∀ (K7 : Int32 → St → Prop) (hK7 : ∀ (ad : Nat → Nat → Nat) (x1 : Int32) (χ : St), K7 x1 χ → G X ad χ 7 [(0, .ref (ad 0 0)), (1, .int x1)] []) (K22 : Int32 → Int32 → St → Prop) (hK22 : ∀ (ad : Nat → Nat → Nat) (x1 : Int32) (x2 : Int32) (χ : St), K22 x1 x2 χ → G X ad χ 22 [(0, .ref (ad 0 0)), (1, .int x1), (2, .int x2)] []) (n : Nat) (ad : Nat → Nat → Nat) (x1 : Int32) (x2 : Int32) (x3 : Int32) (x4 : Int64) (x6 : Int32) (χ : St), w_C_weigh_50 Q K7 K22 n x1 x2 x3 x4 x6 χ → G X ad χ 50 [(0, .ref (ad 0 0)), (1, .int x1), (2, .int x2), (3, .int x3), (4, .long x4), (6, .int x6)] [] := by
    intro K7 hK7 K22 hK22 n
    induction n with
    | zero => intro ad x1 x2 x3 x4 x6 χ hf; exact hf.elim
    | succ n hK50 =>
      intro ad x1 x2 x3 x4 x6 χ hf
      unfold w_C_weigh_50 at hf
      refine g_iload hX 5 dX0_weigh_50 rfl ?_
      refine g_bipush hX (v := (6 : Int32)) dX0_weigh_52 rfl ?_
      refine g_icmp_ge hX 111 dX0_weigh_54 (by decide) (fun z => ?_) (fun z => ?_)
      · replace hf := hf.1 z
        refine g_aload_n hX 0 dX0_weigh_111 rfl rfl ?_
        refine g_getK hX (k := 11) (d := 9) (fc0 _) ff0 rfl (by decide) rfl rfl in_X0 (by decide) q211 dX0_weigh_112 ?_
        refine g_iload_n hX 3 dX0_weigh_115 rfl rfl ?_
        refine g_lload hX 4 dX0_weigh_116 rfl ?_
        refine g_last hX (fc9 _) ff9 rfl hf.1 dX0_weigh_118 ?_
        replace hf := hf.2
        replace hf := hf _ rfl
        refine g_aload_n hX 0 dX0_weigh_119 rfl rfl ?_
        refine g_getK hX (k := 12) (d := 10) (fc0 _) ff0 rfl (by decide) rfl rfl in_X0 (by decide) q212 dX0_weigh_120 ?_
        refine g_iload_n hX 1 dX0_weigh_123 rfl rfl ?_
        refine g_dup2 hX dX0_weigh_124 rfl rfl ?_
        refine g_lald hX (fc10 _) ff10 rfl hf.1 dX0_weigh_125 ?_
        replace hf := hf.2
        refine g_lload hX 4 dX0_weigh_126 rfl ?_
        refine g_ladd hX dX0_weigh_128 ?_
        refine g_last hX (fc10 _) ff10 rfl hf.1 dX0_weigh_129 ?_
        replace hf := hf.2
        replace hf := hf _ rfl
        refine g_iinc hX (v := _) 2 dX0_weigh_130 rfl rfl (by decide) rfl ?_
        refine g_goto hX 22 dX0_weigh_133 (by decide) ?_
        refine g_sub [1, 2, 0] rfl ?_
        exact hK22 _ _ _ _ hf
      · replace hf := hf.2 z
        refine g_aload_n hX 0 dX0_weigh_57 rfl rfl ?_
        refine g_getK hX (k := 13) (d := 11) (fc0 _) ff0 rfl (by decide) rfl rfl in_X0 (by decide) q213 dX0_weigh_58 ?_
        refine g_iload hX 5 dX0_weigh_61 rfl ?_
        refine g_bald hX (fc11 _) ff11 rfl hf.1 dX0_weigh_63 ?_
        replace hf := hf.2
        refine g_if_eq hX 105 dX0_weigh_64 (by decide) (fun z => ?_) (fun z => ?_)
        · replace hf := hf.1 z
          exact B105 K7 hK7 K22 hK22 (w_C_weigh_50 Q K7 K22 n) hK50 _ _ _ _ _ _ _ hf
        · replace hf := hf.2 z
          refine g_lload hX 4 dX0_weigh_67 rfl ?_
          refine g_aload_n hX 0 dX0_weigh_69 rfl rfl ?_
          refine g_getK hX (k := 13) (d := 11) (fc0 _) ff0 rfl (by decide) rfl rfl in_X0 (by decide) q213 dX0_weigh_70 ?_
          refine g_iload hX 5 dX0_weigh_73 rfl ?_
          refine g_bald hX (fc11 _) ff11 rfl hf.1 dX0_weigh_75 ?_
          replace hf := hf.2
          refine g_iconst hX (v := (1 : Int32)) dX0_weigh_76 rfl ?_
          refine g_icmp_ne hX 91 dX0_weigh_77 (by decide) (fun z => ?_) (fun z => ?_)
          · replace hf := hf.1 z
            refine g_bipush hX (v := (100 : Int32)) dX0_weigh_91 rfl ?_
            refine g_aload_n hX 0 dX0_weigh_93 rfl rfl ?_
            refine g_iload hX 5 dX0_weigh_94 rfl ?_
            refine g_iload_n hX 3 dX0_weigh_96 rfl rfl ?_
            refine g_callVi hX (n := 2) (mt_C_numberAt X.l X.Γ _ _ _ _ _) hf q828 q830 qs24 q85 q831 ⟨rfl, hy_C_numberAt⟩ (by decide) (fc0 _) ff0 rfl rfl rfl (Nat.le_of_ble_eq_true rfl) dX0_weigh_97 (fun r9 χ10 hf hc10 => ?_)
            refine g_isub hX dX0_weigh_100 ?_
            refine g_i2l hX dX0_weigh_101 ?_
            refine g_sub [0, 1, 2, 3, 5] rfl ?_
            exact B102 K7 hK7 K22 hK22 (w_C_weigh_50 Q K7 K22 n) hK50 _ _ _ _ _ _ _ _ hf
          · replace hf := hf.2 z
            refine g_aload_n hX 0 dX0_weigh_80 rfl rfl ?_
            refine g_iload hX 5 dX0_weigh_81 rfl ?_
            refine g_iload_n hX 3 dX0_weigh_83 rfl rfl ?_
            refine g_callVi hX (n := 2) (mt_C_numberAt X.l X.Γ _ _ _ _ _) hf q828 q830 qs24 q85 q831 ⟨rfl, hy_C_numberAt⟩ (by decide) (fc0 _) ff0 rfl rfl rfl (Nat.le_of_ble_eq_true rfl) dX0_weigh_84 (fun r11 χ12 hf hc12 => ?_)
            refine g_i2l hX dX0_weigh_87 ?_
            refine g_goto hX 102 dX0_weigh_88 (by decide) ?_
            refine g_sub [0, 1, 2, 3, 5] rfl ?_
            exact B102 K7 hK7 K22 hK22 (w_C_weigh_50 Q K7 K22 n) hK50 _ _ _ _ _ _ _ _ hf
  have B22 : ∀ (K7 : Int32 → St → Prop) (hK7 : ∀ (ad : Nat → Nat → Nat) (x1 : Int32) (χ : St), K7 x1 χ → G X ad χ 7 [(0, .ref (ad 0 0)), (1, .int x1)] []) (n : Nat) (ad : Nat → Nat → Nat) (x1 : Int32) (x2 : Int32) (χ : St), w_C_weigh_22 Q K7 n x1 x2 χ → G X ad χ 22 [(0, .ref (ad 0 0)), (1, .int x1), (2, .int x2)] [] := by
    intro K7 hK7 n
    induction n with
    | zero => intro ad x1 x2 χ hf; exact hf.elim
    | succ n hK22 =>
      intro ad x1 x2 χ hf
      unfold w_C_weigh_22 at hf
      refine g_iload_n hX 2 dX0_weigh_22 rfl rfl ?_
      refine g_bipush hX (v := (30 : Int32)) dX0_weigh_23 rfl ?_
      refine g_icmp_ge hX 136 dX0_weigh_25 (by decide) (fun z => ?_) (fun z => ?_)
      · replace hf := hf.1 z
        refine g_aload_n hX 0 dX0_weigh_136 rfl rfl ?_
        refine g_dup hX dX0_weigh_137 rfl ?_
        refine g_getL hX (k := 14) (fc0 _) ff0 rfl rfl in_X0 (by decide) q214 dX0_weigh_138 ?_
        refine g_aload_n hX 0 dX0_weigh_141 rfl rfl ?_
        refine g_getK hX (k := 12) (d := 10) (fc0 _) ff0 rfl (by decide) rfl rfl in_X0 (by decide) q212 dX0_weigh_142 ?_
        refine g_iload_n hX 1 dX0_weigh_145 rfl rfl ?_
        refine g_lald hX (fc10 _) ff10 rfl hf.1 dX0_weigh_146 ?_
        replace hf := hf.2
        refine g_ladd hX dX0_weigh_147 ?_
        refine g_putL hX (k := 14) (fc0 _) ff0 rfl rfl in_X0 tyX0_ok nmX0 (by decide) q214 rfl rfl rfl rfl dX0_weigh_148 ?_
        replace hf := hf _ rfl
        refine g_iinc hX (v := _) 1 dX0_weigh_151 rfl rfl (by decide) rfl ?_
        refine g_goto hX 7 dX0_weigh_154 (by decide) ?_
        refine g_sub [1, 0] rfl ?_
        exact hK7 _ _ _ hf
      · replace hf := hf.2 z
        refine g_bipush hX (v := (30 : Int32)) dX0_weigh_28 rfl ?_
        refine g_iload_n hX 1 dX0_weigh_30 rfl rfl ?_
        refine g_imul hX dX0_weigh_31 ?_
        refine g_iload_n hX 2 dX0_weigh_32 rfl rfl ?_
        refine g_iadd hX dX0_weigh_33 ?_
        replace hf := hf _ rfl
        refine g_istore_n hX dX0_weigh_34 rfl (by decide) rfl ?_
        refine g_aload_n hX 1 dX0_weigh_35 rfl rfl ?_
        refine g_getK hX (k := 1) (d := 2) (fc0 _) ff0 rfl (by decide) rfl rfl in_X0 (by decide) q199 dX0_weigh_36 ?_
        refine g_iload_n hX 2 dX0_weigh_39 rfl rfl ?_
        have hg5 := hf.1
        replace hf := hf.2
        refine g_aaldK hX (fc2 _) ff2 rfl hg5 dX0_weigh_40 ?_
        refine g_getIN hX (k := 0) (fc18 (vp_lt hg5)) ff18 rfl rfl in_X1 (by decide) q150 dX0_weigh_41 ?_
        refine g_i2l hX dX0_weigh_44 ?_
        replace hf := hf _ rfl
        refine g_lstore hX dX0_weigh_45 (by decide) rfl ?_
        refine g_iconst hX (v := (0 : Int32)) dX0_weigh_47 rfl ?_
        refine g_istore hX dX0_weigh_48 (by decide) rfl ?_
        obtain ⟨n0, hf⟩ := hf
        refine g_sub [3, 4, 5, 2, 1, 0] rfl ?_
        exact B50 K7 hK7 (w_C_weigh_22 Q K7 n) hK22 n0 _ _ _ _ _ _ _ hf
  have B7 : ∀ (n : Nat) (ad : Nat → Nat → Nat) (x1 : Int32) (χ : St), w_C_weigh_7 Q n x1 χ → G X ad χ 7 [(0, .ref (ad 0 0)), (1, .int x1)] [] := by
    intro n
    induction n with
    | zero => intro ad x1 χ hf; exact hf.elim
    | succ n hK7 =>
      intro ad x1 χ hf
      unfold w_C_weigh_7 at hf
      refine g_iload_n hX 1 dX0_weigh_7 rfl rfl ?_
      refine g_bipush hX (v := (6 : Int32)) dX0_weigh_8 rfl ?_
      refine g_icmp_ge hX 157 dX0_weigh_10 (by decide) (fun z => ?_) (fun z => ?_)
      · replace hf := hf.1 z
        exact g_vret hX ⟨rfl, hf⟩ dX0_weigh_157
      · replace hf := hf.2 z
        refine g_aload_n hX 0 dX0_weigh_13 rfl rfl ?_
        refine g_getK hX (k := 12) (d := 10) (fc0 _) ff0 rfl (by decide) rfl rfl in_X0 (by decide) q212 dX0_weigh_14 ?_
        refine g_iload_n hX 1 dX0_weigh_17 rfl rfl ?_
        refine g_lconst hX (v := (0 : Int64)) dX0_weigh_18 rfl ?_
        refine g_last hX (fc10 _) ff10 rfl hf.1 dX0_weigh_19 ?_
        replace hf := hf.2
        replace hf := hf _ rfl
        refine g_iconst hX (v := (0 : Int32)) dX0_weigh_20 rfl ?_
        refine g_istore_n hX dX0_weigh_21 rfl (by decide) rfl ?_
        obtain ⟨n0, hf⟩ := hf
        refine g_sub [1, 2, 0] rfl ?_
        exact B22 (w_C_weigh_7 Q n) hK7 n0 _ _ _ _ hf
  unfold w_C_weigh at hf
  refine g_aload_n hX 0 dX0_weigh_0 rfl rfl ?_
  refine g_lconst hX (v := (0 : Int64)) dX0_weigh_1 rfl ?_
  refine g_putL hX (k := 14) (fc0 _) ff0 rfl rfl in_X0 tyX0_ok nmX0 (by decide) q214 rfl rfl rfl rfl dX0_weigh_2 ?_
  replace hf := hf _ rfl
  refine g_iconst hX (v := (0 : Int32)) dX0_weigh_5 rfl ?_
  refine g_istore_n hX dX0_weigh_6 rfl (by decide) rfl ?_
  obtain ⟨n0, hf⟩ := hf
  refine g_sub [1, 0] rfl ?_
  exact B7 n0 _ _ _ hf

def w_C_findWeights_12 (Q : St → Prop) : Nat → Int32 → Int32 → St → Prop
  | 0 => fun _ _ _ => False
  | n + 1 => fun x1 x2 χ => (((6 : Int32) ≤ x2 → (w_C_weigh χ (fun χ4 => (Q χ4)))) ∧ (¬ (6 : Int32) ≤ x2 → (vp_in x1 8) ∧ ((∃ z6, (gR χ 1 0 x1.toNatClampNeg) = some z6 ∧ ((∃ z7, (gR χ 2102 z6 0) = some z7 ∧ ((vp_in x2 (tg χ 25 z7)) ∧ ((vp_in x2 6) ∧ ((∀ χ8 : St, χ8 = (sI χ 11 0 x2.toNatClampNeg (vp_nar .byte (gI χ 25 z7 x2.toNatClampNeg))) → (w_C_findWeights_12 Q n x1 (x2 + (1 : Int32)) χ8)))))))))))
def w_C_findWeights (x1 : Int32) (χ : St) (Q : St → Prop) : Prop := (vp_in x1 8) ∧ ((∃ z2, (gR χ 1 0 x1.toNatClampNeg) = some z2 ∧ ((w_C_findNumbers z2 χ (fun χ3 => (∃ k12, w_C_findWeights_12 Q k12 x1 (0 : Int32) χ3))))))
set_option maxHeartbeats 4000000 in
theorem mt_C_findWeights (l : Launch) (Γ : Gh) (ad : Nat → Nat → Nat) (x1 : Int32) (χ : St) (Q : St → Prop) : Mt l yX0_findWeights (ws_ yX0_findWeights cX0_findWeights 3 (none)) (rmO (264) (5294) χ) (Pm Γ ad χ [.ref (ad 0 0), .int x1] (w_C_findWeights x1 χ Q)) (Qm Γ true ad χ (pV Q)) (frB Γ) := by
  refine Mt.start (by decide) RX0 rfl (Nat.le_of_ble_eq_true rfl) ?_
  intro X hX hG _ _ hna _ hf
  have B12 : ∀ (n : Nat) (ad : Nat → Nat → Nat) (x1 : Int32) (x2 : Int32) (χ : St), w_C_findWeights_12 Q n x1 x2 χ → G X ad χ 12 [(0, .ref (ad 0 0)), (1, .int x1), (2, .int x2)] [] := by
    intro n
    induction n with
    | zero => intro ad x1 x2 χ hf; exact hf.elim
    | succ n hK12 =>
      intro ad x1 x2 χ hf
      unfold w_C_findWeights_12 at hf
      refine g_iload_n hX 2 dX0_findWeights_12 rfl rfl ?_
      refine g_bipush hX (v := (6 : Int32)) dX0_findWeights_13 rfl ?_
      refine g_icmp_ge hX 41 dX0_findWeights_15 (by decide) (fun z => ?_) (fun z => ?_)
      · replace hf := hf.1 z
        refine g_aload_n hX 0 dX0_findWeights_41 rfl rfl ?_
        refine g_callVv hX (n := 0) (mt_C_weigh X.l X.Γ _ _ _) hf q824 q826 qs23 q85 q827 ⟨rfl, hy_C_weigh⟩ (by decide) (fc0 _) ff0 rfl rfl rfl (Nat.le_of_ble_eq_true rfl) dX0_findWeights_42 (fun χ4 hf hc4 => ?_)
        exact g_vret hX ⟨rfl, hf⟩ dX0_findWeights_45
      · replace hf := hf.2 z
        refine g_aload_n hX 0 dX0_findWeights_18 rfl rfl ?_
        refine g_getK hX (k := 13) (d := 11) (fc0 _) ff0 rfl (by decide) rfl rfl in_X0 (by decide) q213 dX0_findWeights_19 ?_
        refine g_iload_n hX 2 dX0_findWeights_22 rfl rfl ?_
        refine g_aload_n hX 0 dX0_findWeights_23 rfl rfl ?_
        refine g_getK hX (k := 0) (d := 1) (fc0 _) ff0 rfl (by decide) rfl rfl in_X0 (by decide) q198 dX0_findWeights_24 ?_
        refine g_iload_n hX 1 dX0_findWeights_27 rfl rfl ?_
        have hg5 := hf.1
        replace hf := hf.2
        obtain ⟨z6, hz6, hf⟩ := hf
        refine g_aaldE hX (fc1 _) ff1 rfl rfl hg5 dX0_findWeights_28 hz6 (fun hvz6 => ?_)
        obtain ⟨z7, hz7, hf⟩ := hf
        refine g_getEN hX (k := 2) hvz6 ff20 rfl (by decide) (by decide) rfl rfl rfl in_X5 (by decide) q298 dX0_findWeights_29 hz7 (fun hvz7 => ?_)
        refine g_iload_n hX 2 dX0_findWeights_32 rfl rfl ?_
        refine g_bald hX hvz7 ff25 rfl hf.1 dX0_findWeights_33 ?_
        replace hf := hf.2
        refine g_bast hX (fc11 _) ff11 rfl hf.1 dX0_findWeights_34 ?_
        replace hf := hf.2
        replace hf := hf _ rfl
        refine g_iinc hX (v := _) 2 dX0_findWeights_35 rfl rfl (by decide) rfl ?_
        refine g_goto hX 12 dX0_findWeights_38 (by decide) ?_
        refine g_sub [1, 2, 0] rfl ?_
        exact hK12 _ _ _ _ hf
  unfold w_C_findWeights at hf
  refine g_aload_n hX 0 dX0_findWeights_0 rfl rfl ?_
  refine g_aload_n hX 0 dX0_findWeights_1 rfl rfl ?_
  refine g_getK hX (k := 0) (d := 1) (fc0 _) ff0 rfl (by decide) rfl rfl in_X0 (by decide) q198 dX0_findWeights_2 ?_
  refine g_iload_n hX 1 dX0_findWeights_5 rfl rfl ?_
  have hg1 := hf.1
  replace hf := hf.2
  obtain ⟨z2, hz2, hf⟩ := hf
  refine g_aaldE hX (fc1 _) ff1 rfl rfl hg1 dX0_findWeights_6 hz2 (fun hvz2 => ?_)
  refine g_callVv hX (n := 1) (mt_C_findNumbers X.l X.Γ _ _ _ _) ⟨hvz2, hf⟩ q820 q822 qs22 q85 q823 ⟨rfl, hy_C_findNumbers⟩ (by decide) (fc0 _) ff0 rfl rfl rfl (Nat.le_of_ble_eq_true rfl) dX0_findWeights_7 (fun χ3 hf hc3 => ?_)
  refine g_iconst hX (v := (0 : Int32)) dX0_findWeights_10 rfl ?_
  refine g_istore_n hX dX0_findWeights_11 rfl (by decide) rfl ?_
  obtain ⟨n0, hf⟩ := hf
  refine g_sub [1, 2, 0] rfl ?_
  exact B12 n0 _ _ _ _ hf

def w_C_common_6 (Q : Int64 → St → Prop) : Nat → Int64 → Int64 → St → Prop
  | 0 => fun _ _ _ => False
  | n + 1 => fun x4 x6 χ => (((lg_cmp x6 (0 : Int64)) = 0 → (Q x4 χ)) ∧ (¬ (lg_cmp x6 (0 : Int64)) = 0 → (¬ x6 = 0) ∧ ((w_C_common_6 Q n x6 (x4 - x4 / x6 * x6) χ))))
def w_C_common (x0 : Int64) (x2 : Int64) (χ : St) (Q : Int64 → St → Prop) : Prop := (∃ k6, w_C_common_6 Q k6 x0 x2 χ)
set_option maxHeartbeats 4000000 in
theorem mt_C_common (l : Launch) (Γ : Gh) (ad : Nat → Nat → Nat) (x0 : Int64) (x2 : Int64) (χ : St) (Q : Int64 → St → Prop) : Mt l yX0_common (ws_ yX0_common cX0_common 10 (some .long)) (rmO (0) (0) χ) (Pm Γ ad χ [.long x0, .long x2] (w_C_common x0 x2 χ Q)) (Qm Γ true ad χ (pL Q)) (frB Γ) := by
  refine Mt.start (by decide) RX0 rfl (Nat.le_of_ble_eq_true rfl) ?_
  intro X hX hG _ _ hna _ hf
  have B6 : ∀ (n : Nat) (ad : Nat → Nat → Nat) (x4 : Int64) (x6 : Int64) (χ : St), w_C_common_6 Q n x4 x6 χ → G X ad χ 6 [(4, .long x4), (6, .long x6)] [] := by
    intro n
    induction n with
    | zero => intro ad x4 x6 χ hf; exact hf.elim
    | succ n hK6 =>
      intro ad x4 x6 χ hf
      unfold w_C_common_6 at hf
      refine g_lload hX 1 dX0_common_6 rfl ?_
      refine g_lconst hX (v := (0 : Int64)) dX0_common_8 rfl ?_
      refine g_lcmp hX dX0_common_9 ?_
      refine g_if_eq hX 31 dX0_common_10 (by decide) (fun z => ?_) (fun z => ?_)
      · replace hf := hf.1 z
        refine g_lload hX 0 dX0_common_31 rfl ?_
        exact g_lret hX ⟨_, rfl, hf⟩ dX0_common_33
      · replace hf := hf.2 z
        refine g_lload hX 0 dX0_common_13 rfl ?_
        refine g_lload hX 1 dX0_common_15 rfl ?_
        refine g_lrem hX dX0_common_17 hf.1 ?_
        replace hf := hf.2
        refine g_lstore hX dX0_common_18 (by decide) rfl ?_
        refine g_lload hX 2 dX0_common_20 rfl ?_
        refine g_lstore hX dX0_common_22 (by decide) rfl ?_
        refine g_lload hX 1 dX0_common_24 rfl ?_
        refine g_lstore hX dX0_common_26 (by decide) rfl ?_
        refine g_goto hX 6 dX0_common_28 (by decide) ?_
        refine g_sub [1, 0] rfl ?_
        exact hK6 _ _ _ _ hf
  unfold w_C_common at hf
  refine g_lload_n hX 0 dX0_common_0 rfl rfl ?_
  refine g_lstore hX dX0_common_1 (by decide) rfl ?_
  refine g_lload_n hX 2 dX0_common_3 rfl rfl ?_
  refine g_lstore hX dX0_common_4 (by decide) rfl ?_
  obtain ⟨n0, hf⟩ := hf
  refine g_sub [1, 0] rfl ?_
  exact B6 n0 _ _ _ _ hf

def w_C_likely (x1 : Int32) (x2 : Int32) (χ : St) (Q : Int64 → St → Prop) : Prop := (w_C_isPartKind x1 χ (fun r1 χ2 => ((r1 = 0 → (Q (-9223372036854775808 : Int64) χ2)) ∧ (¬ r1 = 0 → (w_C_in x2 (0 : Int32) (1 : Int32) χ2 (fun r3 χ4 => ((¬ r3 = 0 → (w_C_findWeights (x1 / (10 : Int32)) χ4 (fun χ5 => ((¬ (lg_cmp (gL χ5 114 0 0) (0 : Int64)) = 0 → (vp_in (x1 - x1 / (10 : Int32) * (10 : Int32)) 6) ∧ ((w_C_common (gL χ5 10 0 (x1 - x1 / (10 : Int32) * (10 : Int32)).toNatClampNeg) (gL χ5 114 0 0) χ5 (fun r6 χ7 => ((¬ x2 = 0 → (¬ r6 = 0) ∧ ((Q ((gL χ7 114 0 0) / r6) χ7))) ∧ (x2 = 0 → (vp_in (x1 - x1 / (10 : Int32) * (10 : Int32)) 6) ∧ ((¬ r6 = 0) ∧ ((Q ((gL χ7 10 0 (x1 - x1 / (10 : Int32) * (10 : Int32)).toNatClampNeg) / r6) χ7))))))))) ∧ ((lg_cmp (gL χ5 114 0 0) (0 : Int64)) = 0 → (Q x2.toInt64 χ5)))))) ∧ (r3 = 0 → (Q (-9223372036854775808 : Int64) χ4)))))))))
set_option maxHeartbeats 4000000 in
theorem mt_C_likely (l : Launch) (Γ : Gh) (ad : Nat → Nat → Nat) (x1 : Int32) (x2 : Int32) (χ : St) (Q : Int64 → St → Prop) : Mt l yX0_likely (ws_ yX0_likely cX0_likely 5 (some .long)) (rmO (265) (5316) χ) (Pm Γ ad χ [.ref (ad 0 0), .int x1, .int x2] (w_C_likely x1 x2 χ Q)) (Qm Γ true ad χ (pL Q)) (frB Γ) := by
  refine Mt.start (by decide) RX0 rfl (Nat.le_of_ble_eq_true rfl) ?_
  intro X hX hG _ _ hna _ hf
  unfold w_C_likely at hf
  refine g_aload_n hX 0 dX0_likely_0 rfl rfl ?_
  refine g_iload_n hX 1 dX0_likely_1 rfl rfl ?_
  refine g_callVi hX (n := 1) (mt_C_isPartKind X.l X.Γ _ _ _ _) hf q811 q813 qs20 q85 q814 ⟨rfl, hy_C_isPartKind⟩ (by decide) (fc0 _) ff0 rfl rfl rfl (Nat.le_of_ble_eq_true rfl) dX0_likely_2 (fun r1 χ2 hf hc2 => ?_)
  refine g_if_eq hX 17 dX0_likely_5 (by decide) (fun z => ?_) (fun z => ?_)
  · replace hf := hf.1 z
    refine g_ldc2 hX q815 dX0_likely_17 ?_
    exact g_lret hX ⟨_, rfl, hf⟩ dX0_likely_20
  · replace hf := hf.2 z
    refine g_iload_n hX 2 dX0_likely_8 rfl rfl ?_
    refine g_iconst hX (v := (0 : Int32)) dX0_likely_9 rfl ?_
    refine g_iconst hX (v := (1 : Int32)) dX0_likely_10 rfl ?_
    refine g_callSi hX (n := 3) (mt_C_in X.l X.Γ _ _ _ _ _ _) hf q281 q282 q85 q283 hy_C_in (by decide) rfl rfl (Nat.le_of_ble_eq_true rfl) dX0_likely_11 (fun r3 χ4 hf hc4 => ?_)
    refine g_if_ne hX 21 dX0_likely_14 (by decide) (fun z => ?_) (fun z => ?_)
    · replace hf := hf.1 z
      refine g_aload_n hX 0 dX0_likely_21 rfl rfl ?_
      refine g_iload_n hX 1 dX0_likely_22 rfl rfl ?_
      refine g_bipush hX (v := (10 : Int32)) dX0_likely_23 rfl ?_
      refine g_idiv hX dX0_likely_25 (by decide) ?_
      refine g_callVv hX (n := 1) (mt_C_findWeights X.l X.Γ _ _ _ _) hf q816 q818 qs21 q85 q819 ⟨rfl, hy_C_findWeights⟩ (by decide) (fc0 _) ff0 rfl rfl rfl (Nat.le_of_ble_eq_true rfl) dX0_likely_26 (fun χ5 hf hc5 => ?_)
      refine g_aload_n hX 0 dX0_likely_29 rfl rfl ?_
      refine g_getL hX (k := 14) (fc0 _) ff0 rfl rfl in_X0 (by decide) q214 dX0_likely_30 ?_
      refine g_lconst hX (v := (0 : Int64)) dX0_likely_33 rfl ?_
      refine g_lcmp hX dX0_likely_34 ?_
      refine g_if_ne hX 41 dX0_likely_35 (by decide) (fun z => ?_) (fun z => ?_)
      · replace hf := hf.1 z
        refine g_aload_n hX 0 dX0_likely_41 rfl rfl ?_
        refine g_getK hX (k := 12) (d := 10) (fc0 _) ff0 rfl (by decide) rfl rfl in_X0 (by decide) q212 dX0_likely_42 ?_
        refine g_iload_n hX 1 dX0_likely_45 rfl rfl ?_
        refine g_bipush hX (v := (10 : Int32)) dX0_likely_46 rfl ?_
        refine g_irem hX dX0_likely_48 (by decide) ?_
        refine g_lald hX (fc10 _) ff10 rfl hf.1 dX0_likely_49 ?_
        replace hf := hf.2
        refine g_aload_n hX 0 dX0_likely_50 rfl rfl ?_
        refine g_getL hX (k := 14) (fc0 _) ff0 rfl rfl in_X0 (by decide) q214 dX0_likely_51 ?_
        refine g_callSl hX (n := 2) (mt_C_common X.l X.Γ _ _ _ _ _) hf q832 q833 q85 q834 hy_C_common (by decide) rfl rfl (Nat.le_of_ble_eq_true rfl) dX0_likely_54 (fun r6 χ7 hf hc7 => ?_)
        refine g_lstore_n hX dX0_likely_57 rfl (by decide) rfl ?_
        refine g_iload_n hX 3 dX0_likely_58 rfl rfl ?_
        refine g_if_ne hX 76 dX0_likely_59 (by decide) (fun z => ?_) (fun z => ?_)
        · replace hf := hf.1 z
          refine g_aload_n hX 1 dX0_likely_76 rfl rfl ?_
          refine g_getL hX (k := 14) (fc0 _) ff0 rfl rfl in_X0 (by decide) q214 dX0_likely_77 ?_
          refine g_lload_n hX 0 dX0_likely_80 rfl rfl ?_
          refine g_ldiv hX dX0_likely_81 hf.1 ?_
          replace hf := hf.2
          exact g_lret hX ⟨_, rfl, hf⟩ dX0_likely_82
        · replace hf := hf.2 z
          refine g_aload_n hX 1 dX0_likely_62 rfl rfl ?_
          refine g_getK hX (k := 12) (d := 10) (fc0 _) ff0 rfl (by decide) rfl rfl in_X0 (by decide) q212 dX0_likely_63 ?_
          refine g_iload_n hX 2 dX0_likely_66 rfl rfl ?_
          refine g_bipush hX (v := (10 : Int32)) dX0_likely_67 rfl ?_
          refine g_irem hX dX0_likely_69 (by decide) ?_
          refine g_lald hX (fc10 _) ff10 rfl hf.1 dX0_likely_70 ?_
          replace hf := hf.2
          refine g_lload_n hX 0 dX0_likely_71 rfl rfl ?_
          refine g_ldiv hX dX0_likely_72 hf.1 ?_
          replace hf := hf.2
          refine g_goto hX 82 dX0_likely_73 (by decide) ?_
          exact g_lret hX ⟨_, rfl, hf⟩ dX0_likely_82
      · replace hf := hf.2 z
        refine g_iload_n hX 2 dX0_likely_38 rfl rfl ?_
        refine g_i2l hX dX0_likely_39 ?_
        exact g_lret hX ⟨_, rfl, hf⟩ dX0_likely_40
    · replace hf := hf.2 z
      refine g_ldc2 hX q815 dX0_likely_17 ?_
      exact g_lret hX ⟨_, rfl, hf⟩ dX0_likely_20

def w_C_percentOf (x1 : Int32) (χ : St) (Q : Int32 → St → Prop) : Prop := ((¬ (lg_cmp (gL χ 114 0 0) (0 : Int64)) = 0 → (vp_in x1 6) ∧ ((¬ (gL χ 114 0 0) = 0) ∧ ((Q (((100 : Int64) * (gL χ 10 0 x1.toNatClampNeg)) / (gL χ 114 0 0)).toInt32 χ)))) ∧ ((lg_cmp (gL χ 114 0 0) (0 : Int64)) = 0 → (Q (0 : Int32) χ)))
set_option maxHeartbeats 4000000 in
theorem mt_C_percentOf (l : Launch) (Γ : Gh) (ad : Nat → Nat → Nat) (x1 : Int32) (χ : St) (Q : Int32 → St → Prop) : Mt l yX0_percentOf (ws_ yX0_percentOf cX0_percentOf 2 (some .int)) (rmO (0) (0) χ) (Pm Γ ad χ [.ref (ad 0 0), .int x1] (w_C_percentOf x1 χ Q)) (Qm Γ true ad χ (pI Q)) (frB Γ) := by
  refine Mt.start (by decide) RX0 rfl (Nat.le_of_ble_eq_true rfl) ?_
  intro X hX hG _ _ hna _ hf
  unfold w_C_percentOf at hf
  refine g_aload_n hX 0 dX0_percentOf_0 rfl rfl ?_
  refine g_getL hX (k := 14) (fc0 _) ff0 rfl rfl in_X0 (by decide) q214 dX0_percentOf_1 ?_
  refine g_lconst hX (v := (0 : Int64)) dX0_percentOf_4 rfl ?_
  refine g_lcmp hX dX0_percentOf_5 ?_
  refine g_if_ne hX 13 dX0_percentOf_6 (by decide) (fun z => ?_) (fun z => ?_)
  · replace hf := hf.1 z
    refine g_ldc2 hX q843 dX0_percentOf_13 ?_
    refine g_aload_n hX 0 dX0_percentOf_16 rfl rfl ?_
    refine g_getK hX (k := 12) (d := 10) (fc0 _) ff0 rfl (by decide) rfl rfl in_X0 (by decide) q212 dX0_percentOf_17 ?_
    refine g_iload_n hX 1 dX0_percentOf_20 rfl rfl ?_
    refine g_lald hX (fc10 _) ff10 rfl hf.1 dX0_percentOf_21 ?_
    replace hf := hf.2
    refine g_lmul hX dX0_percentOf_22 ?_
    refine g_aload_n hX 0 dX0_percentOf_23 rfl rfl ?_
    refine g_getL hX (k := 14) (fc0 _) ff0 rfl rfl in_X0 (by decide) q214 dX0_percentOf_24 ?_
    refine g_ldiv hX dX0_percentOf_27 hf.1 ?_
    replace hf := hf.2
    refine g_l2i hX dX0_percentOf_28 ?_
    exact g_iret hX ⟨_, rfl, hf⟩ dX0_percentOf_29
  · replace hf := hf.2 z
    refine g_iconst hX (v := (0 : Int32)) dX0_percentOf_9 rfl ?_
    refine g_goto hX 29 dX0_percentOf_10 (by decide) ?_
    exact g_iret hX ⟨_, rfl, hf⟩ dX0_percentOf_29

def w_C_percent (x1 : Int32) (χ : St) (Q : Int32 → St → Prop) : Prop := (w_C_isPartKind x1 χ (fun r1 χ2 => ((¬ r1 = 0 → (w_C_findWeights (x1 / (10 : Int32)) χ2 (fun χ3 => (w_C_percentOf (x1 - x1 / (10 : Int32) * (10 : Int32)) χ3 (fun r4 χ5 => (Q r4 χ5)))))) ∧ (r1 = 0 → (Q (-1 : Int32) χ2)))))
set_option maxHeartbeats 4000000 in
theorem mt_C_percent (l : Launch) (Γ : Gh) (ad : Nat → Nat → Nat) (x1 : Int32) (χ : St) (Q : Int32 → St → Prop) : Mt l yX0_percent (ws_ yX0_percent cX0_percent 2 (some .int)) (rmO (265) (5316) χ) (Pm Γ ad χ [.ref (ad 0 0), .int x1] (w_C_percent x1 χ Q)) (Qm Γ true ad χ (pI Q)) (frB Γ) := by
  refine Mt.start (by decide) RX0 rfl (Nat.le_of_ble_eq_true rfl) ?_
  intro X hX hG _ _ hna _ hf
  unfold w_C_percent at hf
  refine g_aload_n hX 0 dX0_percent_0 rfl rfl ?_
  refine g_iload_n hX 1 dX0_percent_1 rfl rfl ?_
  refine g_callVi hX (n := 1) (mt_C_isPartKind X.l X.Γ _ _ _ _) hf q811 q813 qs20 q85 q814 ⟨rfl, hy_C_isPartKind⟩ (by decide) (fc0 _) ff0 rfl rfl rfl (Nat.le_of_ble_eq_true rfl) dX0_percent_2 (fun r1 χ2 hf hc2 => ?_)
  refine g_if_ne hX 10 dX0_percent_5 (by decide) (fun z => ?_) (fun z => ?_)
  · replace hf := hf.1 z
    refine g_aload_n hX 0 dX0_percent_10 rfl rfl ?_
    refine g_iload_n hX 1 dX0_percent_11 rfl rfl ?_
    refine g_bipush hX (v := (10 : Int32)) dX0_percent_12 rfl ?_
    refine g_idiv hX dX0_percent_14 (by decide) ?_
    refine g_callVv hX (n := 1) (mt_C_findWeights X.l X.Γ _ _ _ _) hf q816 q818 qs21 q85 q819 ⟨rfl, hy_C_findWeights⟩ (by decide) (fc0 _) ff0 rfl rfl rfl (Nat.le_of_ble_eq_true rfl) dX0_percent_15 (fun χ3 hf hc3 => ?_)
    refine g_aload_n hX 0 dX0_percent_18 rfl rfl ?_
    refine g_iload_n hX 1 dX0_percent_19 rfl rfl ?_
    refine g_bipush hX (v := (10 : Int32)) dX0_percent_20 rfl ?_
    refine g_irem hX dX0_percent_22 (by decide) ?_
    refine g_callVi hX (n := 1) (mt_C_percentOf X.l X.Γ _ _ _ _) hf q839 q841 qs25 q85 q842 ⟨rfl, hy_C_percentOf⟩ (by decide) (fc0 _) ff0 rfl rfl rfl (Nat.le_of_ble_eq_true rfl) dX0_percent_23 (fun r4 χ5 hf hc5 => ?_)
    exact g_iret hX ⟨_, rfl, hf⟩ dX0_percent_26
  · replace hf := hf.2 z
    refine g_iconst hX (v := (-1 : Int32)) dX0_percent_8 rfl ?_
    exact g_iret hX ⟨_, rfl, hf⟩ dX0_percent_9

def w_C_best_28 (Q : Int32 → St → Prop) (K4 : Int32 → Int32 → St → Prop) (x1 : Int32) (x2 : Int32) (χ : St) : Prop := (K4 x1 (x2 + (1 : Int32)) χ)
def w_C_best_4 (Q : Int32 → St → Prop) : Nat → Int32 → Int32 → St → Prop
  | 0 => fun _ _ _ => False
  | n + 1 => fun x1 x2 χ => (((6 : Int32) ≤ x2 → ((¬ (lg_cmp (gL χ 114 0 0) (0 : Int64)) = 0 → (Q x1 χ)) ∧ ((lg_cmp (gL χ 114 0 0) (0 : Int64)) = 0 → (Q (-2 : Int32) χ)))) ∧ (¬ (6 : Int32) ≤ x2 → (vp_in x2 6) ∧ ((vp_in x1 6) ∧ ((((lg_cmp (gL χ 10 0 x2.toNatClampNeg) (gL χ 10 0 x1.toNatClampNeg)) ≤ 0 → (w_C_best_28 Q (w_C_best_4 Q n) x1 x2 χ)) ∧ (¬ (lg_cmp (gL χ 10 0 x2.toNatClampNeg) (gL χ 10 0 x1.toNatClampNeg)) ≤ 0 → (w_C_best_28 Q (w_C_best_4 Q n) x2 x2 χ)))))))
def w_C_best (χ : St) (Q : Int32 → St → Prop) : Prop := (∃ k4, w_C_best_4 Q k4 (0 : Int32) (1 : Int32) χ)
set_option maxHeartbeats 4000000 in
theorem mt_C_best (l : Launch) (Γ : Gh) (ad : Nat → Nat → Nat) (χ : St) (Q : Int32 → St → Prop) : Mt l yX0_best (ws_ yX0_best cX0_best 3 (some .int)) (rmO (0) (0) χ) (Pm Γ ad χ [.ref (ad 0 0)] (w_C_best χ Q)) (Qm Γ true ad χ (pI Q)) (frB Γ) := by
  refine Mt.start (by decide) RX0 rfl (Nat.le_of_ble_eq_true rfl) ?_
  intro X hX hG _ _ hna _ hf
  have B28 : ∀ (K4 : Int32 → Int32 → St → Prop) (hK4 : ∀ (ad : Nat → Nat → Nat) (x1 : Int32) (x2 : Int32) (χ : St), K4 x1 x2 χ → G X ad χ 4 [(0, .ref (ad 0 0)), (1, .int x1), (2, .int x2)] []) (ad : Nat → Nat → Nat) (x1 : Int32) (x2 : Int32) (χ : St), w_C_best_28 Q K4 x1 x2 χ → G X ad χ 28 [(0, .ref (ad 0 0)), (1, .int x1), (2, .int x2)] [] := by
    intro K4 hK4 ad x1 x2 χ hf
    unfold w_C_best_28 at hf
    refine g_iinc hX (v := _) 2 dX0_best_28 rfl rfl (by decide) rfl ?_
    refine g_goto hX 4 dX0_best_31 (by decide) ?_
    refine g_sub [1, 2, 0] rfl ?_
    exact hK4 _ _ _ _ hf
  have B4 : ∀ (n : Nat) (ad : Nat → Nat → Nat) (x1 : Int32) (x2 : Int32) (χ : St), w_C_best_4 Q n x1 x2 χ → G X ad χ 4 [(0, .ref (ad 0 0)), (1, .int x1), (2, .int x2)] [] := by
    intro n
    induction n with
    | zero => intro ad x1 x2 χ hf; exact hf.elim
    | succ n hK4 =>
      intro ad x1 x2 χ hf
      unfold w_C_best_4 at hf
      refine g_iload_n hX 2 dX0_best_4 rfl rfl ?_
      refine g_bipush hX (v := (6 : Int32)) dX0_best_5 rfl ?_
      refine g_icmp_ge hX 34 dX0_best_7 (by decide) (fun z => ?_) (fun z => ?_)
      · replace hf := hf.1 z
        refine g_aload_n hX 0 dX0_best_34 rfl rfl ?_
        refine g_getL hX (k := 14) (fc0 _) ff0 rfl rfl in_X0 (by decide) q214 dX0_best_35 ?_
        refine g_lconst hX (v := (0 : Int64)) dX0_best_38 rfl ?_
        refine g_lcmp hX dX0_best_39 ?_
        refine g_if_ne hX 48 dX0_best_40 (by decide) (fun z => ?_) (fun z => ?_)
        · replace hf := hf.1 z
          refine g_iload_n hX 1 dX0_best_48 rfl rfl ?_
          exact g_iret hX ⟨_, rfl, hf⟩ dX0_best_49
        · replace hf := hf.2 z
          refine g_bipush hX (v := (-2 : Int32)) dX0_best_43 rfl ?_
          refine g_goto hX 49 dX0_best_45 (by decide) ?_
          exact g_iret hX ⟨_, rfl, hf⟩ dX0_best_49
      · replace hf := hf.2 z
        refine g_aload_n hX 0 dX0_best_10 rfl rfl ?_
        refine g_getK hX (k := 12) (d := 10) (fc0 _) ff0 rfl (by decide) rfl rfl in_X0 (by decide) q212 dX0_best_11 ?_
        refine g_iload_n hX 2 dX0_best_14 rfl rfl ?_
        refine g_lald hX (fc10 _) ff10 rfl hf.1 dX0_best_15 ?_
        replace hf := hf.2
        refine g_aload_n hX 0 dX0_best_16 rfl rfl ?_
        refine g_getK hX (k := 12) (d := 10) (fc0 _) ff0 rfl (by decide) rfl rfl in_X0 (by decide) q212 dX0_best_17 ?_
        refine g_iload_n hX 1 dX0_best_20 rfl rfl ?_
        refine g_lald hX (fc10 _) ff10 rfl hf.1 dX0_best_21 ?_
        replace hf := hf.2
        refine g_lcmp hX dX0_best_22 ?_
        refine g_if_le hX 28 dX0_best_23 (by decide) (fun z => ?_) (fun z => ?_)
        · replace hf := hf.1 z
          exact B28 (w_C_best_4 Q n) hK4 _ _ _ _ hf
        · replace hf := hf.2 z
          refine g_iload_n hX 2 dX0_best_26 rfl rfl ?_
          refine g_istore_n hX dX0_best_27 rfl (by decide) rfl ?_
          refine g_sub [1, 0, 2] rfl ?_
          exact B28 (w_C_best_4 Q n) hK4 _ _ _ _ hf
  unfold w_C_best at hf
  refine g_iconst hX (v := (0 : Int32)) dX0_best_0 rfl ?_
  refine g_istore_n hX dX0_best_1 rfl (by decide) rfl ?_
  refine g_iconst hX (v := (1 : Int32)) dX0_best_2 rfl ?_
  refine g_istore_n hX dX0_best_3 rfl (by decide) rfl ?_
  obtain ⟨n0, hf⟩ := hf
  refine g_sub [2, 1, 0] rfl ?_
  exact B4 n0 _ _ _ _ hf

def w_C_likeliest (x1 : Int32) (χ : St) (Q : Int32 → St → Prop) : Prop := (w_C_isPart x1 χ (fun r1 χ2 => ((¬ r1 = 0 → (w_C_findWeights x1 χ2 (fun χ3 => (w_C_best χ3 (fun r4 χ5 => (Q r4 χ5)))))) ∧ (r1 = 0 → (Q (-1 : Int32) χ2)))))
set_option maxHeartbeats 4000000 in
theorem mt_C_likeliest (l : Launch) (Γ : Gh) (ad : Nat → Nat → Nat) (x1 : Int32) (χ : St) (Q : Int32 → St → Prop) : Mt l yX0_likeliest (ws_ yX0_likeliest cX0_likeliest 2 (some .int)) (rmO (265) (5316) χ) (Pm Γ ad χ [.ref (ad 0 0), .int x1] (w_C_likeliest x1 χ Q)) (Qm Γ true ad χ (pI Q)) (frB Γ) := by
  refine Mt.start (by decide) RX0 rfl (Nat.le_of_ble_eq_true rfl) ?_
  intro X hX hG _ _ hna _ hf
  unfold w_C_likeliest at hf
  refine g_aload_n hX 0 dX0_likeliest_0 rfl rfl ?_
  refine g_iload_n hX 1 dX0_likeliest_1 rfl rfl ?_
  refine g_callVi hX (n := 1) (mt_C_isPart X.l X.Γ _ _ _ _) hf q458 q460 qs4 q85 q461 ⟨rfl, hy_C_isPart⟩ (by decide) (fc0 _) ff0 rfl rfl rfl (Nat.le_of_ble_eq_true rfl) dX0_likeliest_2 (fun r1 χ2 hf hc2 => ?_)
  refine g_if_ne hX 10 dX0_likeliest_5 (by decide) (fun z => ?_) (fun z => ?_)
  · replace hf := hf.1 z
    refine g_aload_n hX 0 dX0_likeliest_10 rfl rfl ?_
    refine g_iload_n hX 1 dX0_likeliest_11 rfl rfl ?_
    refine g_callVv hX (n := 1) (mt_C_findWeights X.l X.Γ _ _ _ _) hf q816 q818 qs21 q85 q819 ⟨rfl, hy_C_findWeights⟩ (by decide) (fc0 _) ff0 rfl rfl rfl (Nat.le_of_ble_eq_true rfl) dX0_likeliest_12 (fun χ3 hf hc3 => ?_)
    refine g_aload_n hX 0 dX0_likeliest_15 rfl rfl ?_
    refine g_callVi hX (n := 0) (mt_C_best X.l X.Γ _ _ _) hf q848 q850 qs26 q85 q851 ⟨rfl, hy_C_best⟩ (by decide) (fc0 _) ff0 rfl rfl rfl (Nat.le_of_ble_eq_true rfl) dX0_likeliest_16 (fun r4 χ5 hf hc5 => ?_)
    exact g_iret hX ⟨_, rfl, hf⟩ dX0_likeliest_19
  · replace hf := hf.2 z
    refine g_iconst hX (v := (-1 : Int32)) dX0_likeliest_8 rfl ?_
    exact g_iret hX ⟨_, rfl, hf⟩ dX0_likeliest_9

def w_C_whenOf_38 (Q : Int32 → St → Prop) (K4 : Int32 → Int32 → Int32 → St → Prop) (x1 : Int32) (x2 : Int32) (x3 : Int32) (χ : St) : Prop := (K4 x1 x2 (x3 + (1 : Int32)) χ)
def w_C_whenOf_4 (Q : Int32 → St → Prop) : Nat → Int32 → Int32 → Int32 → St → Prop
  | 0 => fun _ _ _ _ => False
  | n + 1 => fun x1 x2 x3 χ => (((30 : Int32) ≤ x3 → (Q x2 χ)) ∧ (¬ (30 : Int32) ≤ x3 → (vp_in (((30 : Int32) * x1) + x3) 180) ∧ ((vp_in (((30 : Int32) * x1) + x2) 180) ∧ ((((lg_cmp (gL χ 9 0 (((30 : Int32) * x1) + x3).toNatClampNeg) (gL χ 9 0 (((30 : Int32) * x1) + x2).toNatClampNeg)) ≤ 0 → (w_C_whenOf_38 Q (w_C_whenOf_4 Q n) x1 x2 x3 χ)) ∧ (¬ (lg_cmp (gL χ 9 0 (((30 : Int32) * x1) + x3).toNatClampNeg) (gL χ 9 0 (((30 : Int32) * x1) + x2).toNatClampNeg)) ≤ 0 → (w_C_whenOf_38 Q (w_C_whenOf_4 Q n) x1 x3 x3 χ)))))))
def w_C_whenOf (x1 : Int32) (χ : St) (Q : Int32 → St → Prop) : Prop := (∃ k4, w_C_whenOf_4 Q k4 x1 (0 : Int32) (1 : Int32) χ)
set_option maxHeartbeats 4000000 in
theorem mt_C_whenOf (l : Launch) (Γ : Gh) (ad : Nat → Nat → Nat) (x1 : Int32) (χ : St) (Q : Int32 → St → Prop) : Mt l yX0_whenOf (ws_ yX0_whenOf cX0_whenOf 4 (some .int)) (rmO (0) (0) χ) (Pm Γ ad χ [.ref (ad 0 0), .int x1] (w_C_whenOf x1 χ Q)) (Qm Γ true ad χ (pI Q)) (frB Γ) := by
  refine Mt.start (by decide) RX0 rfl (Nat.le_of_ble_eq_true rfl) ?_
  intro X hX hG _ _ hna _ hf
  have B38 : ∀ (K4 : Int32 → Int32 → Int32 → St → Prop) (hK4 : ∀ (ad : Nat → Nat → Nat) (x1 : Int32) (x2 : Int32) (x3 : Int32) (χ : St), K4 x1 x2 x3 χ → G X ad χ 4 [(0, .ref (ad 0 0)), (1, .int x1), (2, .int x2), (3, .int x3)] []) (ad : Nat → Nat → Nat) (x1 : Int32) (x2 : Int32) (x3 : Int32) (χ : St), w_C_whenOf_38 Q K4 x1 x2 x3 χ → G X ad χ 38 [(0, .ref (ad 0 0)), (1, .int x1), (2, .int x2), (3, .int x3)] [] := by
    intro K4 hK4 ad x1 x2 x3 χ hf
    unfold w_C_whenOf_38 at hf
    refine g_iinc hX (v := _) 3 dX0_whenOf_38 rfl rfl (by decide) rfl ?_
    refine g_goto hX 4 dX0_whenOf_41 (by decide) ?_
    refine g_sub [1, 2, 3, 0] rfl ?_
    exact hK4 _ _ _ _ _ hf
  have B4 : ∀ (n : Nat) (ad : Nat → Nat → Nat) (x1 : Int32) (x2 : Int32) (x3 : Int32) (χ : St), w_C_whenOf_4 Q n x1 x2 x3 χ → G X ad χ 4 [(0, .ref (ad 0 0)), (1, .int x1), (2, .int x2), (3, .int x3)] [] := by
    intro n
    induction n with
    | zero => intro ad x1 x2 x3 χ hf; exact hf.elim
    | succ n hK4 =>
      intro ad x1 x2 x3 χ hf
      unfold w_C_whenOf_4 at hf
      refine g_iload_n hX 3 dX0_whenOf_4 rfl rfl ?_
      refine g_bipush hX (v := (30 : Int32)) dX0_whenOf_5 rfl ?_
      refine g_icmp_ge hX 44 dX0_whenOf_7 (by decide) (fun z => ?_) (fun z => ?_)
      · replace hf := hf.1 z
        refine g_iload_n hX 2 dX0_whenOf_44 rfl rfl ?_
        exact g_iret hX ⟨_, rfl, hf⟩ dX0_whenOf_45
      · replace hf := hf.2 z
        refine g_aload_n hX 0 dX0_whenOf_10 rfl rfl ?_
        refine g_getK hX (k := 11) (d := 9) (fc0 _) ff0 rfl (by decide) rfl rfl in_X0 (by decide) q211 dX0_whenOf_11 ?_
        refine g_bipush hX (v := (30 : Int32)) dX0_whenOf_14 rfl ?_
        refine g_iload_n hX 1 dX0_whenOf_16 rfl rfl ?_
        refine g_imul hX dX0_whenOf_17 ?_
        refine g_iload_n hX 3 dX0_whenOf_18 rfl rfl ?_
        refine g_iadd hX dX0_whenOf_19 ?_
        refine g_lald hX (fc9 _) ff9 rfl hf.1 dX0_whenOf_20 ?_
        replace hf := hf.2
        refine g_aload_n hX 0 dX0_whenOf_21 rfl rfl ?_
        refine g_getK hX (k := 11) (d := 9) (fc0 _) ff0 rfl (by decide) rfl rfl in_X0 (by decide) q211 dX0_whenOf_22 ?_
        refine g_bipush hX (v := (30 : Int32)) dX0_whenOf_25 rfl ?_
        refine g_iload_n hX 1 dX0_whenOf_27 rfl rfl ?_
        refine g_imul hX dX0_whenOf_28 ?_
        refine g_iload_n hX 2 dX0_whenOf_29 rfl rfl ?_
        refine g_iadd hX dX0_whenOf_30 ?_
        refine g_lald hX (fc9 _) ff9 rfl hf.1 dX0_whenOf_31 ?_
        replace hf := hf.2
        refine g_lcmp hX dX0_whenOf_32 ?_
        refine g_if_le hX 38 dX0_whenOf_33 (by decide) (fun z => ?_) (fun z => ?_)
        · replace hf := hf.1 z
          exact B38 (w_C_whenOf_4 Q n) hK4 _ _ _ _ _ hf
        · replace hf := hf.2 z
          refine g_iload_n hX 3 dX0_whenOf_36 rfl rfl ?_
          refine g_istore_n hX dX0_whenOf_37 rfl (by decide) rfl ?_
          refine g_sub [1, 2, 0, 3] rfl ?_
          exact B38 (w_C_whenOf_4 Q n) hK4 _ _ _ _ _ hf
  unfold w_C_whenOf at hf
  refine g_iconst hX (v := (0 : Int32)) dX0_whenOf_0 rfl ?_
  refine g_istore_n hX dX0_whenOf_1 rfl (by decide) rfl ?_
  refine g_iconst hX (v := (1 : Int32)) dX0_whenOf_2 rfl ?_
  refine g_istore_n hX dX0_whenOf_3 rfl (by decide) rfl ?_
  obtain ⟨n0, hf⟩ := hf
  refine g_sub [2, 3, 1, 0] rfl ?_
  exact B4 n0 _ _ _ _ _ hf

def w_C_when_98 (Q : Int32 → St → Prop) (K69 : Int32 → Int32 → Int32 → St → Prop) (x2 : Int32) (x3 : Int32) (z0 : Int32) (z1 : Int32) (χ : St) : Prop := (K69 x2 x3 (z1 + z0) χ)
def w_C_when_69 (Q : Int32 → St → Prop) : Nat → Int32 → Int32 → Int32 → St → Prop
  | 0 => fun _ _ _ _ => False
  | n + 1 => fun x2 x3 x4 χ => (vp_in (((30 : Int32) * x3) + x4) 180) ∧ (((¬ (lg_cmp (gL χ 9 0 (((30 : Int32) * x3) + x4).toNatClampNeg) (0 : Int64)) = 0 → (Q x4 χ)) ∧ ((lg_cmp (gL χ 9 0 (((30 : Int32) * x3) + x4).toNatClampNeg) (0 : Int64)) = 0 → ((¬ x2 = (1 : Int32) → (w_C_when_98 Q (w_C_when_69 Q n) x2 x3 (-1 : Int32) x4 χ)) ∧ (x2 = (1 : Int32) → (w_C_when_98 Q (w_C_when_69 Q n) x2 x3 (1 : Int32) x4 χ))))))
def w_C_when_67 (Q : Int32 → St → Prop) (x2 : Int32) (x3 : Int32) (z0 : Int32) (χ : St) : Prop := (∃ k69, w_C_when_69 Q k69 x2 x3 z0 χ)
def w_C_when (x1 : Int32) (x2 : Int32) (χ : St) (Q : Int32 → St → Prop) : Prop := (w_C_isPartKind x1 χ (fun r1 χ2 => ((r1 = 0 → (Q (-1 : Int32) χ2)) ∧ (¬ r1 = 0 → (w_C_in x2 (0 : Int32) (2 : Int32) χ2 (fun r3 χ4 => ((¬ r3 = 0 → (w_C_findWeights (x1 / (10 : Int32)) χ4 (fun χ5 => (∀ v6 : Int32, v6 = (x1 - x1 / (10 : Int32) * (10 : Int32)) → (vp_in v6 6) ∧ (((¬ (lg_cmp (gL χ5 10 0 v6.toNatClampNeg) (0 : Int64)) = 0 → ((¬ x2 = 0 → ((¬ x2 = (1 : Int32) → (w_C_when_67 Q x2 v6 (29 : Int32) χ5)) ∧ (x2 = (1 : Int32) → (w_C_when_67 Q x2 v6 (0 : Int32) χ5)))) ∧ (x2 = 0 → (w_C_whenOf v6 χ5 (fun r7 χ8 => (Q r7 χ8)))))) ∧ ((lg_cmp (gL χ5 10 0 v6.toNatClampNeg) (0 : Int64)) = 0 → (Q (-2 : Int32) χ5)))))))) ∧ (r3 = 0 → (Q (-1 : Int32) χ4)))))))))
set_option maxHeartbeats 4000000 in
theorem mt_C_when (l : Launch) (Γ : Gh) (ad : Nat → Nat → Nat) (x1 : Int32) (x2 : Int32) (χ : St) (Q : Int32 → St → Prop) : Mt l yX0_when (ws_ yX0_when cX0_when 5 (some .int)) (rmO (265) (5316) χ) (Pm Γ ad χ [.ref (ad 0 0), .int x1, .int x2] (w_C_when x1 x2 χ Q)) (Qm Γ true ad χ (pI Q)) (frB Γ) := by
  refine Mt.start (by decide) RX0 rfl (Nat.le_of_ble_eq_true rfl) ?_
  intro X hX hG _ _ hna _ hf
  have B98 : ∀ (K69 : Int32 → Int32 → Int32 → St → Prop) (hK69 : ∀ (ad : Nat → Nat → Nat) (x2 : Int32) (x3 : Int32) (x4 : Int32) (χ : St), K69 x2 x3 x4 χ → G X ad χ 69 [(0, .ref (ad 0 0)), (2, .int x2), (3, .int x3), (4, .int x4)] []) (ad : Nat → Nat → Nat) (x2 : Int32) (x3 : Int32) (z0 : Int32) (z1 : Int32) (χ : St), w_C_when_98 Q K69 x2 x3 z0 z1 χ → G X ad χ 98 [(0, .ref (ad 0 0)), (2, .int x2), (3, .int x3)] [.int z0, .int z1] := by
    intro K69 hK69 ad x2 x3 z0 z1 χ hf
    unfold w_C_when_98 at hf
    refine g_iadd hX dX0_when_98 ?_
    refine g_istore hX dX0_when_99 (by decide) rfl ?_
    refine g_goto hX 69 dX0_when_101 (by decide) ?_
    refine g_sub [1, 2, 3, 0] rfl ?_
    exact hK69 _ _ _ _ _ hf
  have B69 : ∀ (n : Nat) (ad : Nat → Nat → Nat) (x2 : Int32) (x3 : Int32) (x4 : Int32) (χ : St), w_C_when_69 Q n x2 x3 x4 χ → G X ad χ 69 [(0, .ref (ad 0 0)), (2, .int x2), (3, .int x3), (4, .int x4)] [] := by
    intro n
    induction n with
    | zero => intro ad x2 x3 x4 χ hf; exact hf.elim
    | succ n hK69 =>
      intro ad x2 x3 x4 χ hf
      unfold w_C_when_69 at hf
      refine g_aload_n hX 0 dX0_when_69 rfl rfl ?_
      refine g_getK hX (k := 11) (d := 9) (fc0 _) ff0 rfl (by decide) rfl rfl in_X0 (by decide) q211 dX0_when_70 ?_
      refine g_bipush hX (v := (30 : Int32)) dX0_when_73 rfl ?_
      refine g_iload_n hX 2 dX0_when_75 rfl rfl ?_
      refine g_imul hX dX0_when_76 ?_
      refine g_iload hX 3 dX0_when_77 rfl ?_
      refine g_iadd hX dX0_when_79 ?_
      refine g_lald hX (fc9 _) ff9 rfl hf.1 dX0_when_80 ?_
      replace hf := hf.2
      refine g_lconst hX (v := (0 : Int64)) dX0_when_81 rfl ?_
      refine g_lcmp hX dX0_when_82 ?_
      refine g_if_ne hX 104 dX0_when_83 (by decide) (fun z => ?_) (fun z => ?_)
      · replace hf := hf.1 z
        refine g_iload hX 3 dX0_when_104 rfl ?_
        exact g_iret hX ⟨_, rfl, hf⟩ dX0_when_106
      · replace hf := hf.2 z
        refine g_iload hX 3 dX0_when_86 rfl ?_
        refine g_iload_n hX 1 dX0_when_88 rfl rfl ?_
        refine g_iconst hX (v := (1 : Int32)) dX0_when_89 rfl ?_
        refine g_icmp_ne hX 97 dX0_when_90 (by decide) (fun z => ?_) (fun z => ?_)
        · replace hf := hf.1 z
          refine g_iconst hX (v := (-1 : Int32)) dX0_when_97 rfl ?_
          refine g_sub [0, 1, 2] rfl ?_
          exact B98 (w_C_when_69 Q n) hK69 _ _ _ _ _ _ hf
        · replace hf := hf.2 z
          refine g_iconst hX (v := (1 : Int32)) dX0_when_93 rfl ?_
          refine g_goto hX 98 dX0_when_94 (by decide) ?_
          refine g_sub [0, 1, 2] rfl ?_
          exact B98 (w_C_when_69 Q n) hK69 _ _ _ _ _ _ hf
  have B67 : ∀ (ad : Nat → Nat → Nat) (x2 : Int32) (x3 : Int32) (z0 : Int32) (χ : St), w_C_when_67 Q x2 x3 z0 χ → G X ad χ 67 [(0, .ref (ad 0 0)), (2, .int x2), (3, .int x3)] [.int z0] := by
    intro ad x2 x3 z0 χ hf
    unfold w_C_when_67 at hf
    refine g_istore hX dX0_when_67 (by decide) rfl ?_
    obtain ⟨n0, hf⟩ := hf
    refine g_sub [1, 2, 3, 0] rfl ?_
    exact B69 n0 _ _ _ _ _ hf
  unfold w_C_when at hf
  refine g_aload_n hX 0 dX0_when_0 rfl rfl ?_
  refine g_iload_n hX 1 dX0_when_1 rfl rfl ?_
  refine g_callVi hX (n := 1) (mt_C_isPartKind X.l X.Γ _ _ _ _) hf q811 q813 qs20 q85 q814 ⟨rfl, hy_C_isPartKind⟩ (by decide) (fc0 _) ff0 rfl rfl rfl (Nat.le_of_ble_eq_true rfl) dX0_when_2 (fun r1 χ2 hf hc2 => ?_)
  refine g_if_eq hX 17 dX0_when_5 (by decide) (fun z => ?_) (fun z => ?_)
  · replace hf := hf.1 z
    refine g_iconst hX (v := (-1 : Int32)) dX0_when_17 rfl ?_
    exact g_iret hX ⟨_, rfl, hf⟩ dX0_when_18
  · replace hf := hf.2 z
    refine g_iload_n hX 2 dX0_when_8 rfl rfl ?_
    refine g_iconst hX (v := (0 : Int32)) dX0_when_9 rfl ?_
    refine g_iconst hX (v := (2 : Int32)) dX0_when_10 rfl ?_
    refine g_callSi hX (n := 3) (mt_C_in X.l X.Γ _ _ _ _ _ _) hf q281 q282 q85 q283 hy_C_in (by decide) rfl rfl (Nat.le_of_ble_eq_true rfl) dX0_when_11 (fun r3 χ4 hf hc4 => ?_)
    refine g_if_ne hX 19 dX0_when_14 (by decide) (fun z => ?_) (fun z => ?_)
    · replace hf := hf.1 z
      refine g_aload_n hX 0 dX0_when_19 rfl rfl ?_
      refine g_iload_n hX 1 dX0_when_20 rfl rfl ?_
      refine g_bipush hX (v := (10 : Int32)) dX0_when_21 rfl ?_
      refine g_idiv hX dX0_when_23 (by decide) ?_
      refine g_callVv hX (n := 1) (mt_C_findWeights X.l X.Γ _ _ _ _) hf q816 q818 qs21 q85 q819 ⟨rfl, hy_C_findWeights⟩ (by decide) (fc0 _) ff0 rfl rfl rfl (Nat.le_of_ble_eq_true rfl) dX0_when_24 (fun χ5 hf hc5 => ?_)
      refine g_iload_n hX 1 dX0_when_27 rfl rfl ?_
      refine g_bipush hX (v := (10 : Int32)) dX0_when_28 rfl ?_
      refine g_irem hX dX0_when_30 (by decide) ?_
      replace hf := hf _ rfl
      refine g_istore_n hX dX0_when_31 rfl (by decide) rfl ?_
      refine g_aload_n hX 1 dX0_when_32 rfl rfl ?_
      refine g_getK hX (k := 12) (d := 10) (fc0 _) ff0 rfl (by decide) rfl rfl in_X0 (by decide) q212 dX0_when_33 ?_
      refine g_iload_n hX 0 dX0_when_36 rfl rfl ?_
      refine g_lald hX (fc10 _) ff10 rfl hf.1 dX0_when_37 ?_
      replace hf := hf.2
      refine g_lconst hX (v := (0 : Int64)) dX0_when_38 rfl ?_
      refine g_lcmp hX dX0_when_39 ?_
      refine g_if_ne hX 46 dX0_when_40 (by decide) (fun z => ?_) (fun z => ?_)
      · replace hf := hf.1 z
        refine g_iload_n hX 3 dX0_when_46 rfl rfl ?_
        refine g_if_ne hX 56 dX0_when_47 (by decide) (fun z => ?_) (fun z => ?_)
        · replace hf := hf.1 z
          refine g_iload_n hX 3 dX0_when_56 rfl rfl ?_
          refine g_iconst hX (v := (1 : Int32)) dX0_when_57 rfl ?_
          refine g_icmp_ne hX 65 dX0_when_58 (by decide) (fun z => ?_) (fun z => ?_)
          · replace hf := hf.1 z
            refine g_bipush hX (v := (29 : Int32)) dX0_when_65 rfl ?_
            refine g_sub [1, 3, 0] rfl ?_
            exact B67 _ _ _ _ _ hf
          · replace hf := hf.2 z
            refine g_iconst hX (v := (0 : Int32)) dX0_when_61 rfl ?_
            refine g_goto hX 67 dX0_when_62 (by decide) ?_
            refine g_sub [1, 3, 0] rfl ?_
            exact B67 _ _ _ _ _ hf
        · replace hf := hf.2 z
          refine g_aload_n hX 1 dX0_when_50 rfl rfl ?_
          refine g_iload_n hX 0 dX0_when_51 rfl rfl ?_
          refine g_callVi hX (n := 1) (mt_C_whenOf X.l X.Γ _ _ _ _) hf q856 q858 qs27 q85 q859 ⟨rfl, hy_C_whenOf⟩ (by decide) (fc0 _) ff0 rfl rfl rfl (Nat.le_of_ble_eq_true rfl) dX0_when_52 (fun r7 χ8 hf hc8 => ?_)
          exact g_iret hX ⟨_, rfl, hf⟩ dX0_when_55
      · replace hf := hf.2 z
        refine g_bipush hX (v := (-2 : Int32)) dX0_when_43 rfl ?_
        exact g_iret hX ⟨_, rfl, hf⟩ dX0_when_45
    · replace hf := hf.2 z
      refine g_iconst hX (v := (-1 : Int32)) dX0_when_17 rfl ?_
      exact g_iret hX ⟨_, rfl, hf⟩ dX0_when_18

def w_C_two_10 (Q : Int32 → St → Prop) : Nat → Int64 → Int64 → Int64 → Int32 → St → Prop
  | 0 => fun _ _ _ _ _ => False
  | n + 1 => fun x1 x3 x5 x7 χ => (((gI χ 103 0 0) ≤ x7 → (((2 : Int32) ≤ (gI χ 103 0 0) → (¬ (x1 / (10000 : Int64)) = 0) ∧ ((Q (((x1 - x3) - x5) / (x1 / (10000 : Int64))).toInt32 χ))) ∧ (¬ (2 : Int32) ≤ (gI χ 103 0 0) → (Q (0 : Int32) χ)))) ∧ (¬ (gI χ 103 0 0) ≤ x7 → (w_C_findWeights x7 χ (fun χ1 => (w_C_percentOf (0 : Int32) χ1 (fun r2 χ3 => (∀ v4 : Int64, v4 = ((x5 * r2.toInt64) + (x3 * ((100 : Int32) - r2).toInt64)) → (w_C_two_10 Q n (x1 * (100 : Int64)) (x3 * r2.toInt64) v4 (x7 + (1 : Int32)) χ3))))))))
def w_C_two (χ : St) (Q : Int32 → St → Prop) : Prop := (∃ k10, w_C_two_10 Q k10 (1 : Int64) (1 : Int64) (0 : Int64) (0 : Int32) χ)
set_option maxHeartbeats 4000000 in
theorem mt_C_two (l : Launch) (Γ : Gh) (ad : Nat → Nat → Nat) (χ : St) (Q : Int32 → St → Prop) : Mt l yX0_two (ws_ yX0_two cX0_two 9 (some .int)) (rmO (265) (5316) χ) (Pm Γ ad χ [.ref (ad 0 0)] (w_C_two χ Q)) (Qm Γ true ad χ (pI Q)) (frB Γ) := by
  refine Mt.start (by decide) RX0 rfl (Nat.le_of_ble_eq_true rfl) ?_
  intro X hX hG _ _ hna _ hf
  have B10 : ∀ (n : Nat) (ad : Nat → Nat → Nat) (x1 : Int64) (x3 : Int64) (x5 : Int64) (x7 : Int32) (χ : St), w_C_two_10 Q n x1 x3 x5 x7 χ → G X ad χ 10 [(0, .ref (ad 0 0)), (1, .long x1), (3, .long x3), (5, .long x5), (7, .int x7)] [] := by
    intro n
    induction n with
    | zero => intro ad x1 x3 x5 x7 χ hf; exact hf.elim
    | succ n hK10 =>
      intro ad x1 x3 x5 x7 χ hf
      unfold w_C_two_10 at hf
      refine g_iload hX 4 dX0_two_10 rfl ?_
      refine g_aload_n hX 0 dX0_two_12 rfl rfl ?_
      refine g_getI hX (k := 3) (fc0 _) ff0 rfl rfl in_X0 (by decide) q201 dX0_two_13 ?_
      refine g_icmp_ge hX 67 dX0_two_16 (by decide) (fun z => ?_) (fun z => ?_)
      · replace hf := hf.1 z
        refine g_aload_n hX 0 dX0_two_67 rfl rfl ?_
        refine g_getI hX (k := 3) (fc0 _) ff0 rfl rfl in_X0 (by decide) q201 dX0_two_68 ?_
        refine g_iconst hX (v := (2 : Int32)) dX0_two_71 rfl ?_
        refine g_icmp_ge hX 79 dX0_two_72 (by decide) (fun z => ?_) (fun z => ?_)
        · replace hf := hf.1 z
          refine g_lload_n hX 1 dX0_two_79 rfl rfl ?_
          refine g_lload_n hX 2 dX0_two_80 rfl rfl ?_
          refine g_lsub hX dX0_two_81 ?_
          refine g_lload hX 3 dX0_two_82 rfl ?_
          refine g_lsub hX dX0_two_84 ?_
          refine g_lload_n hX 1 dX0_two_85 rfl rfl ?_
          refine g_ldc2 hX q868 dX0_two_86 ?_
          refine g_ldiv hX dX0_two_89 (by decide) ?_
          refine g_ldiv hX dX0_two_90 hf.1 ?_
          replace hf := hf.2
          refine g_l2i hX dX0_two_91 ?_
          exact g_iret hX ⟨_, rfl, hf⟩ dX0_two_92
        · replace hf := hf.2 z
          refine g_iconst hX (v := (0 : Int32)) dX0_two_75 rfl ?_
          refine g_goto hX 92 dX0_two_76 (by decide) ?_
          exact g_iret hX ⟨_, rfl, hf⟩ dX0_two_92
      · replace hf := hf.2 z
        refine g_aload_n hX 0 dX0_two_19 rfl rfl ?_
        refine g_iload hX 4 dX0_two_20 rfl ?_
        refine g_callVv hX (n := 1) (mt_C_findWeights X.l X.Γ _ _ _ _) hf q816 q818 qs21 q85 q819 ⟨rfl, hy_C_findWeights⟩ (by decide) (fc0 _) ff0 rfl rfl rfl (Nat.le_of_ble_eq_true rfl) dX0_two_22 (fun χ1 hf hc1 => ?_)
        refine g_aload_n hX 0 dX0_two_25 rfl rfl ?_
        refine g_iconst hX (v := (0 : Int32)) dX0_two_26 rfl ?_
        refine g_callVi hX (n := 1) (mt_C_percentOf X.l X.Γ _ _ _ _) hf q839 q841 qs25 q85 q842 ⟨rfl, hy_C_percentOf⟩ (by decide) (fc0 _) ff0 rfl rfl rfl (Nat.le_of_ble_eq_true rfl) dX0_two_27 (fun r2 χ3 hf hc3 => ?_)
        refine g_istore hX dX0_two_30 (by decide) rfl ?_
        refine g_lload hX 4 dX0_two_32 rfl ?_
        refine g_iload hX 0 dX0_two_34 rfl ?_
        refine g_i2l hX dX0_two_36 ?_
        refine g_lmul hX dX0_two_37 ?_
        refine g_lload_n hX 3 dX0_two_38 rfl rfl ?_
        refine g_bipush hX (v := (100 : Int32)) dX0_two_39 rfl ?_
        refine g_iload hX 0 dX0_two_41 rfl ?_
        refine g_isub hX dX0_two_43 ?_
        refine g_i2l hX dX0_two_44 ?_
        refine g_lmul hX dX0_two_45 ?_
        refine g_ladd hX dX0_two_46 ?_
        replace hf := hf _ rfl
        refine g_lstore hX dX0_two_47 (by decide) rfl ?_
        refine g_lload_n hX 4 dX0_two_49 rfl rfl ?_
        refine g_iload hX 1 dX0_two_50 rfl ?_
        refine g_i2l hX dX0_two_52 ?_
        refine g_lmul hX dX0_two_53 ?_
        refine g_lstore_n hX dX0_two_54 rfl (by decide) rfl ?_
        refine g_lload_n hX 4 dX0_two_55 rfl rfl ?_
        refine g_ldc2 hX q843 dX0_two_56 ?_
        refine g_lmul hX dX0_two_59 ?_
        refine g_lstore_n hX dX0_two_60 rfl (by decide) rfl ?_
        refine g_iinc hX (v := _) 5 dX0_two_61 rfl rfl (by decide) rfl ?_
        refine g_goto hX 10 dX0_two_64 (by decide) ?_
        refine g_sub [5, 1, 2, 3, 0] rfl ?_
        exact hK10 _ _ _ _ _ _ hf
  unfold w_C_two at hf
  refine g_lconst hX (v := (1 : Int64)) dX0_two_0 rfl ?_
  refine g_lstore_n hX dX0_two_1 rfl (by decide) rfl ?_
  refine g_lconst hX (v := (1 : Int64)) dX0_two_2 rfl ?_
  refine g_lstore_n hX dX0_two_3 rfl (by decide) rfl ?_
  refine g_lconst hX (v := (0 : Int64)) dX0_two_4 rfl ?_
  refine g_lstore hX dX0_two_5 (by decide) rfl ?_
  refine g_iconst hX (v := (0 : Int32)) dX0_two_7 rfl ?_
  refine g_istore hX dX0_two_8 (by decide) rfl ?_
  obtain ⟨n0, hf⟩ := hf
  refine g_sub [4, 3, 2, 1, 0] rfl ?_
  exact B10 n0 _ _ _ _ _ _ hf

def w_C_whole_26 (Q : Int32 → St → Prop) : Nat → Int32 → Int32 → St → Prop
  | 0 => fun _ _ _ => False
  | n + 1 => fun x2 x3 χ => (((gI χ 103 0 0) ≤ x3 → (Q x2 χ)) ∧ (¬ (gI χ 103 0 0) ≤ x3 → (w_C_findWeights x3 χ (fun χ3 => (w_C_percentOf (0 : Int32) χ3 (fun r4 χ5 => (∀ v6 : Int32, v6 = ((x2 * r4) / (100 : Int32)) → (w_C_whole_26 Q n v6 (x3 + (1 : Int32)) χ5))))))))
def w_C_whole (x1 : Int32) (χ : St) (Q : Int32 → St → Prop) : Prop := (w_C_in x1 (0 : Int32) (1 : Int32) χ (fun r1 χ2 => ((¬ r1 = 0 → ((¬ x1 = (1 : Int32) → (∃ k26, w_C_whole_26 Q k26 (100 : Int32) (0 : Int32) χ2)) ∧ (x1 = (1 : Int32) → (w_C_two χ2 (fun r7 χ8 => (Q r7 χ8)))))) ∧ (r1 = 0 → (Q (-1 : Int32) χ2)))))
set_option maxHeartbeats 4000000 in
theorem mt_C_whole (l : Launch) (Γ : Gh) (ad : Nat → Nat → Nat) (x1 : Int32) (χ : St) (Q : Int32 → St → Prop) : Mt l yX0_whole (ws_ yX0_whole cX0_whole 4 (some .int)) (rmO (266) (5344) χ) (Pm Γ ad χ [.ref (ad 0 0), .int x1] (w_C_whole x1 χ Q)) (Qm Γ true ad χ (pI Q)) (frB Γ) := by
  refine Mt.start (by decide) RX0 rfl (Nat.le_of_ble_eq_true rfl) ?_
  intro X hX hG _ _ hna _ hf
  have B26 : ∀ (n : Nat) (ad : Nat → Nat → Nat) (x2 : Int32) (x3 : Int32) (χ : St), w_C_whole_26 Q n x2 x3 χ → G X ad χ 26 [(0, .ref (ad 0 0)), (2, .int x2), (3, .int x3)] [] := by
    intro n
    induction n with
    | zero => intro ad x2 x3 χ hf; exact hf.elim
    | succ n hK26 =>
      intro ad x2 x3 χ hf
      unfold w_C_whole_26 at hf
      refine g_iload_n hX 2 dX0_whole_26 rfl rfl ?_
      refine g_aload_n hX 0 dX0_whole_27 rfl rfl ?_
      refine g_getI hX (k := 3) (fc0 _) ff0 rfl rfl in_X0 (by decide) q201 dX0_whole_28 ?_
      refine g_icmp_ge hX 56 dX0_whole_31 (by decide) (fun z => ?_) (fun z => ?_)
      · replace hf := hf.1 z
        refine g_iload_n hX 1 dX0_whole_56 rfl rfl ?_
        exact g_iret hX ⟨_, rfl, hf⟩ dX0_whole_57
      · replace hf := hf.2 z
        refine g_aload_n hX 0 dX0_whole_34 rfl rfl ?_
        refine g_iload_n hX 2 dX0_whole_35 rfl rfl ?_
        refine g_callVv hX (n := 1) (mt_C_findWeights X.l X.Γ _ _ _ _) hf q816 q818 qs21 q85 q819 ⟨rfl, hy_C_findWeights⟩ (by decide) (fc0 _) ff0 rfl rfl rfl (Nat.le_of_ble_eq_true rfl) dX0_whole_36 (fun χ3 hf hc3 => ?_)
        refine g_iload_n hX 1 dX0_whole_39 rfl rfl ?_
        refine g_aload_n hX 0 dX0_whole_40 rfl rfl ?_
        refine g_iconst hX (v := (0 : Int32)) dX0_whole_41 rfl ?_
        refine g_callVi hX (n := 1) (mt_C_percentOf X.l X.Γ _ _ _ _) hf q839 q841 qs25 q85 q842 ⟨rfl, hy_C_percentOf⟩ (by decide) (fc0 _) ff0 rfl rfl rfl (Nat.le_of_ble_eq_true rfl) dX0_whole_42 (fun r4 χ5 hf hc5 => ?_)
        refine g_imul hX dX0_whole_45 ?_
        refine g_bipush hX (v := (100 : Int32)) dX0_whole_46 rfl ?_
        refine g_idiv hX dX0_whole_48 (by decide) ?_
        replace hf := hf _ rfl
        refine g_istore_n hX dX0_whole_49 rfl (by decide) rfl ?_
        refine g_iinc hX (v := _) 2 dX0_whole_50 rfl rfl (by decide) rfl ?_
        refine g_goto hX 26 dX0_whole_53 (by decide) ?_
        refine g_sub [2, 1, 0] rfl ?_
        exact hK26 _ _ _ _ hf
  unfold w_C_whole at hf
  refine g_iload_n hX 1 dX0_whole_0 rfl rfl ?_
  refine g_iconst hX (v := (0 : Int32)) dX0_whole_1 rfl ?_
  refine g_iconst hX (v := (1 : Int32)) dX0_whole_2 rfl ?_
  refine g_callSi hX (n := 3) (mt_C_in X.l X.Γ _ _ _ _ _ _) hf q281 q282 q85 q283 hy_C_in (by decide) rfl rfl (Nat.le_of_ble_eq_true rfl) dX0_whole_3 (fun r1 χ2 hf hc2 => ?_)
  refine g_if_ne hX 11 dX0_whole_6 (by decide) (fun z => ?_) (fun z => ?_)
  · replace hf := hf.1 z
    refine g_iload_n hX 1 dX0_whole_11 rfl rfl ?_
    refine g_iconst hX (v := (1 : Int32)) dX0_whole_12 rfl ?_
    refine g_icmp_ne hX 21 dX0_whole_13 (by decide) (fun z => ?_) (fun z => ?_)
    · replace hf := hf.1 z
      refine g_bipush hX (v := (100 : Int32)) dX0_whole_21 rfl ?_
      refine g_istore_n hX dX0_whole_23 rfl (by decide) rfl ?_
      refine g_iconst hX (v := (0 : Int32)) dX0_whole_24 rfl ?_
      refine g_istore_n hX dX0_whole_25 rfl (by decide) rfl ?_
      obtain ⟨n0, hf⟩ := hf
      refine g_sub [2, 1, 0] rfl ?_
      exact B26 n0 _ _ _ _ hf
    · replace hf := hf.2 z
      refine g_aload_n hX 0 dX0_whole_16 rfl rfl ?_
      refine g_callVi hX (n := 0) (mt_C_two X.l X.Γ _ _ _) hf q864 q866 qs28 q85 q867 ⟨rfl, hy_C_two⟩ (by decide) (fc0 _) ff0 rfl rfl rfl (Nat.le_of_ble_eq_true rfl) dX0_whole_17 (fun r7 χ8 hf hc8 => ?_)
      exact g_iret hX ⟨_, rfl, hf⟩ dX0_whole_20
  · replace hf := hf.2 z
    refine g_iconst hX (v := (-1 : Int32)) dX0_whole_9 rfl ?_
    exact g_iret hX ⟨_, rfl, hf⟩ dX0_whole_10

def w_C_odd_166 (Q : Int32 → St → Prop) (K119 : Int32 → Int32 → Int32 → St → Prop) (x1 : Int32) (x2 : Int32) (x3 : Int32) (χ : St) : Prop := (K119 x1 x2 (x3 + (1 : Int32)) χ)
def w_C_odd_119 (Q : Int32 → St → Prop) : Nat → Int32 → Int32 → Int32 → St → Prop
  | 0 => fun _ _ _ _ => False
  | n + 1 => fun x1 x2 x3 χ => (((gI χ 103 0 0) ≤ x3 → (Q x2 χ)) ∧ (¬ (gI χ 103 0 0) ≤ x3 → (vp_in x3 8) ∧ ((((gI χ 12 0 x3.toNatClampNeg) < 0 → (w_C_odd_166 Q (w_C_odd_119 Q n) x1 x2 x3 χ)) ∧ (¬ (gI χ 12 0 x3.toNatClampNeg) < 0 → (vp_in x3 8) ∧ ((vp_in ((x1 - (1 : Int32)) / (2 : Int32)) 8) ∧ ((((if 0 ≤ ((gI χ 12 0 x3.toNatClampNeg) - (gI χ 13 0 ((x1 - (1 : Int32)) / (2 : Int32)).toNatClampNeg)) then ((gI χ 12 0 x3.toNatClampNeg) - (gI χ 13 0 ((x1 - (1 : Int32)) / (2 : Int32)).toNatClampNeg)) else 0 - ((gI χ 12 0 x3.toNatClampNeg) - (gI χ 13 0 ((x1 - (1 : Int32)) / (2 : Int32)).toNatClampNeg))) ≤ (2 : Int32) → (w_C_odd_166 Q (w_C_odd_119 Q n) x1 x2 x3 χ)) ∧ (¬ (if 0 ≤ ((gI χ 12 0 x3.toNatClampNeg) - (gI χ 13 0 ((x1 - (1 : Int32)) / (2 : Int32)).toNatClampNeg)) then ((gI χ 12 0 x3.toNatClampNeg) - (gI χ 13 0 ((x1 - (1 : Int32)) / (2 : Int32)).toNatClampNeg)) else 0 - ((gI χ 12 0 x3.toNatClampNeg) - (gI χ 13 0 ((x1 - (1 : Int32)) / (2 : Int32)).toNatClampNeg))) ≤ (2 : Int32) → (∀ v1 : Int32, v1 = (x2 ||| ((1 : Int32) <<< (x3 &&& 31))) → (w_C_odd_166 Q (w_C_odd_119 Q n) x1 v1 x3 χ)))))))))))
def w_C_odd_109 (Q : Int32 → St → Prop) (K4 : Int32 → Int32 → St → Prop) (x1 : Int32) (x2 : Int32) (χ : St) : Prop := (K4 x1 (x2 + (1 : Int32)) χ)
def w_C_odd_94 (Q : Int32 → St → Prop) (K4 : Int32 → Int32 → St → Prop) (x1 : Int32) (x2 : Int32) (x3 : Int32) (χ : St) : Prop := (vp_in x2 8) ∧ ((vp_in x3 8) ∧ ((∀ χ6 : St, χ6 = (sI χ 13 0 x3.toNatClampNeg (gI χ 12 0 x2.toNatClampNeg)) → (w_C_odd_109 Q K4 (x1 + (1 : Int32)) x2 χ6))))
def w_C_odd_53 (Q : Int32 → St → Prop) (K4 : Int32 → Int32 → St → Prop) : Nat → Int32 → Int32 → Int32 → St → Prop
  | 0 => fun _ _ _ _ => False
  | n + 1 => fun x1 x2 x3 χ => ((x3 ≤ 0 → (w_C_odd_94 Q K4 x1 x2 x3 χ)) ∧ (¬ x3 ≤ 0 → (vp_in (x3 - (1 : Int32)) 8) ∧ ((vp_in x2 8) ∧ ((((gI χ 13 0 (x3 - (1 : Int32)).toNatClampNeg) ≤ (gI χ 12 0 x2.toNatClampNeg) → (w_C_odd_94 Q K4 x1 x2 x3 χ)) ∧ (¬ (gI χ 13 0 (x3 - (1 : Int32)).toNatClampNeg) ≤ (gI χ 12 0 x2.toNatClampNeg) → (vp_in (x3 - (1 : Int32)) 8) ∧ ((vp_in x3 8) ∧ ((∀ χ7 : St, χ7 = (sI χ 13 0 x3.toNatClampNeg (gI χ 13 0 (x3 - (1 : Int32)).toNatClampNeg)) → (w_C_odd_53 Q K4 n x1 x2 (x3 + (-1 : Int32)) χ7))))))))))
def w_C_odd_38 (Q : Int32 → St → Prop) (K4 : Int32 → Int32 → St → Prop) (x1 : Int32) (x2 : Int32) (z0 : Int32) (z1 : Int32) (χ : St) : Prop := (vp_in z1 8) ∧ ((∀ χ5 : St, χ5 = (sI χ 12 0 z1.toNatClampNeg z0) → (vp_in x2 8) ∧ (((0 ≤ (gI χ5 12 0 x2.toNatClampNeg) → (∃ k53, w_C_odd_53 Q K4 k53 x1 x2 x1 χ5)) ∧ (¬ 0 ≤ (gI χ5 12 0 x2.toNatClampNeg) → (w_C_odd_109 Q K4 x1 x2 χ5))))))
def w_C_odd_4 (Q : Int32 → St → Prop) : Nat → Int32 → Int32 → St → Prop
  | 0 => fun _ _ _ => False
  | n + 1 => fun x1 x2 χ => (((gI χ 103 0 0) ≤ x2 → (∃ k119, w_C_odd_119 Q k119 x1 (0 : Int32) (0 : Int32) χ)) ∧ (¬ (gI χ 103 0 0) ≤ x2 → (w_C_findWeights x2 χ (fun χ2 => (w_C_best χ2 (fun r3 χ4 => ((¬ r3 = 0 → (w_C_odd_38 Q (w_C_odd_4 Q n) x1 x2 (-1 : Int32) x2 χ4)) ∧ (r3 = 0 → (w_C_whenOf (0 : Int32) χ4 (fun r8 χ9 => (w_C_odd_38 Q (w_C_odd_4 Q n) x1 x2 r8 x2 χ9)))))))))))
def w_C_odd (χ : St) (Q : Int32 → St → Prop) : Prop := (∃ k4, w_C_odd_4 Q k4 (0 : Int32) (0 : Int32) χ)
set_option maxHeartbeats 4000000 in
theorem mt_C_odd (l : Launch) (Γ : Gh) (ad : Nat → Nat → Nat) (χ : St) (Q : Int32 → St → Prop) : Mt l yX0_odd (ws_ yX0_odd cX0_odd 4 (some .int)) (rmO (265) (5316) χ) (Pm Γ ad χ [.ref (ad 0 0)] (w_C_odd χ Q)) (Qm Γ true ad χ (pI Q)) (frB Γ) := by
  refine Mt.start (by decide) RX0 rfl (Nat.le_of_ble_eq_true rfl) ?_
  intro X hX hG _ _ hna _ hf
  have B166 : ∀ (K119 : Int32 → Int32 → Int32 → St → Prop) (hK119 : ∀ (ad : Nat → Nat → Nat) (x1 : Int32) (x2 : Int32) (x3 : Int32) (χ : St), K119 x1 x2 x3 χ → G X ad χ 119 [(0, .ref (ad 0 0)), (1, .int x1), (2, .int x2), (3, .int x3)] []) (ad : Nat → Nat → Nat) (x1 : Int32) (x2 : Int32) (x3 : Int32) (χ : St), w_C_odd_166 Q K119 x1 x2 x3 χ → G X ad χ 166 [(0, .ref (ad 0 0)), (1, .int x1), (2, .int x2), (3, .int x3)] [] := by
    intro K119 hK119 ad x1 x2 x3 χ hf
    unfold w_C_odd_166 at hf
    refine g_iinc hX (v := _) 3 dX0_odd_166 rfl rfl (by decide) rfl ?_
    refine g_goto hX 119 dX0_odd_169 (by decide) ?_
    refine g_sub [1, 2, 3, 0] rfl ?_
    exact hK119 _ _ _ _ _ hf
  have B119 : ∀ (n : Nat) (ad : Nat → Nat → Nat) (x1 : Int32) (x2 : Int32) (x3 : Int32) (χ : St), w_C_odd_119 Q n x1 x2 x3 χ → G X ad χ 119 [(0, .ref (ad 0 0)), (1, .int x1), (2, .int x2), (3, .int x3)] [] := by
    intro n
    induction n with
    | zero => intro ad x1 x2 x3 χ hf; exact hf.elim
    | succ n hK119 =>
      intro ad x1 x2 x3 χ hf
      unfold w_C_odd_119 at hf
      refine g_iload_n hX 3 dX0_odd_119 rfl rfl ?_
      refine g_aload_n hX 0 dX0_odd_120 rfl rfl ?_
      refine g_getI hX (k := 3) (fc0 _) ff0 rfl rfl in_X0 (by decide) q201 dX0_odd_121 ?_
      refine g_icmp_ge hX 172 dX0_odd_124 (by decide) (fun z => ?_) (fun z => ?_)
      · replace hf := hf.1 z
        refine g_iload_n hX 2 dX0_odd_172 rfl rfl ?_
        exact g_iret hX ⟨_, rfl, hf⟩ dX0_odd_173
      · replace hf := hf.2 z
        refine g_aload_n hX 0 dX0_odd_127 rfl rfl ?_
        refine g_getK hX (k := 15) (d := 12) (fc0 _) ff0 rfl (by decide) rfl rfl in_X0 (by decide) q215 dX0_odd_128 ?_
        refine g_iload_n hX 3 dX0_odd_131 rfl rfl ?_
        refine g_iald hX (fc12 _) ff12 rfl hf.1 dX0_odd_132 ?_
        replace hf := hf.2
        refine g_if_lt hX 166 dX0_odd_133 (by decide) (fun z => ?_) (fun z => ?_)
        · replace hf := hf.1 z
          exact B166 (w_C_odd_119 Q n) hK119 _ _ _ _ _ hf
        · replace hf := hf.2 z
          refine g_aload_n hX 0 dX0_odd_136 rfl rfl ?_
          refine g_getK hX (k := 15) (d := 12) (fc0 _) ff0 rfl (by decide) rfl rfl in_X0 (by decide) q215 dX0_odd_137 ?_
          refine g_iload_n hX 3 dX0_odd_140 rfl rfl ?_
          refine g_iald hX (fc12 _) ff12 rfl hf.1 dX0_odd_141 ?_
          replace hf := hf.2
          refine g_aload_n hX 0 dX0_odd_142 rfl rfl ?_
          refine g_getK hX (k := 16) (d := 13) (fc0 _) ff0 rfl (by decide) rfl rfl in_X0 (by decide) q216 dX0_odd_143 ?_
          refine g_iload_n hX 1 dX0_odd_146 rfl rfl ?_
          refine g_iconst hX (v := (1 : Int32)) dX0_odd_147 rfl ?_
          refine g_isub hX dX0_odd_148 ?_
          refine g_iconst hX (v := (2 : Int32)) dX0_odd_149 rfl ?_
          refine g_idiv hX dX0_odd_150 (by decide) ?_
          refine g_iald hX (fc13 _) ff13 rfl hf.1 dX0_odd_151 ?_
          replace hf := hf.2
          refine g_isub hX dX0_odd_152 ?_
          refine g_mabs hX q873 q874 q103 q875 ⟨by decide, by decide⟩ (Nat.le_of_ble_eq_true rfl) dX0_odd_153 ?_
          refine g_iconst hX (v := (2 : Int32)) dX0_odd_156 rfl ?_
          refine g_icmp_le hX 166 dX0_odd_157 (by decide) (fun z => ?_) (fun z => ?_)
          · replace hf := hf.1 z
            exact B166 (w_C_odd_119 Q n) hK119 _ _ _ _ _ hf
          · replace hf := hf.2 z
            refine g_iload_n hX 2 dX0_odd_160 rfl rfl ?_
            refine g_iconst hX (v := (1 : Int32)) dX0_odd_161 rfl ?_
            refine g_iload_n hX 3 dX0_odd_162 rfl rfl ?_
            refine g_ishl hX dX0_odd_163 ?_
            refine g_ior hX dX0_odd_164 ?_
            replace hf := hf _ rfl
            refine g_istore_n hX dX0_odd_165 rfl (by decide) rfl ?_
            refine g_sub [1, 2, 0, 3] rfl ?_
            exact B166 (w_C_odd_119 Q n) hK119 _ _ _ _ _ hf
  have B109 : ∀ (K4 : Int32 → Int32 → St → Prop) (hK4 : ∀ (ad : Nat → Nat → Nat) (x1 : Int32) (x2 : Int32) (χ : St), K4 x1 x2 χ → G X ad χ 4 [(0, .ref (ad 0 0)), (1, .int x1), (2, .int x2)] []) (ad : Nat → Nat → Nat) (x1 : Int32) (x2 : Int32) (χ : St), w_C_odd_109 Q K4 x1 x2 χ → G X ad χ 109 [(0, .ref (ad 0 0)), (1, .int x1), (2, .int x2)] [] := by
    intro K4 hK4 ad x1 x2 χ hf
    unfold w_C_odd_109 at hf
    refine g_iinc hX (v := _) 2 dX0_odd_109 rfl rfl (by decide) rfl ?_
    refine g_goto hX 4 dX0_odd_112 (by decide) ?_
    refine g_sub [1, 2, 0] rfl ?_
    exact hK4 _ _ _ _ hf
  have B94 : ∀ (K4 : Int32 → Int32 → St → Prop) (hK4 : ∀ (ad : Nat → Nat → Nat) (x1 : Int32) (x2 : Int32) (χ : St), K4 x1 x2 χ → G X ad χ 4 [(0, .ref (ad 0 0)), (1, .int x1), (2, .int x2)] []) (ad : Nat → Nat → Nat) (x1 : Int32) (x2 : Int32) (x3 : Int32) (χ : St), w_C_odd_94 Q K4 x1 x2 x3 χ → G X ad χ 94 [(0, .ref (ad 0 0)), (1, .int x1), (2, .int x2), (3, .int x3)] [] := by
    intro K4 hK4 ad x1 x2 x3 χ hf
    unfold w_C_odd_94 at hf
    refine g_aload_n hX 0 dX0_odd_94 rfl rfl ?_
    refine g_getK hX (k := 16) (d := 13) (fc0 _) ff0 rfl (by decide) rfl rfl in_X0 (by decide) q216 dX0_odd_95 ?_
    refine g_iload_n hX 3 dX0_odd_98 rfl rfl ?_
    refine g_aload_n hX 0 dX0_odd_99 rfl rfl ?_
    refine g_getK hX (k := 15) (d := 12) (fc0 _) ff0 rfl (by decide) rfl rfl in_X0 (by decide) q215 dX0_odd_100 ?_
    refine g_iload_n hX 2 dX0_odd_103 rfl rfl ?_
    refine g_iald hX (fc12 _) ff12 rfl hf.1 dX0_odd_104 ?_
    replace hf := hf.2
    refine g_iast hX (fc13 _) ff13 rfl hf.1 dX0_odd_105 ?_
    replace hf := hf.2
    replace hf := hf _ rfl
    refine g_iinc hX (v := _) 1 dX0_odd_106 rfl rfl (by decide) rfl ?_
    refine g_sub [1, 0, 2] rfl ?_
    exact B109 K4 hK4 _ _ _ _ hf
  have B53 : ∀ (K4 : Int32 → Int32 → St → Prop) (hK4 : ∀ (ad : Nat → Nat → Nat) (x1 : Int32) (x2 : Int32) (χ : St), K4 x1 x2 χ → G X ad χ 4 [(0, .ref (ad 0 0)), (1, .int x1), (2, .int x2)] []) (n : Nat) (ad : Nat → Nat → Nat) (x1 : Int32) (x2 : Int32) (x3 : Int32) (χ : St), w_C_odd_53 Q K4 n x1 x2 x3 χ → G X ad χ 53 [(0, .ref (ad 0 0)), (1, .int x1), (2, .int x2), (3, .int x3)] [] := by
    intro K4 hK4 n
    induction n with
    | zero => intro ad x1 x2 x3 χ hf; exact hf.elim
    | succ n hK53 =>
      intro ad x1 x2 x3 χ hf
      unfold w_C_odd_53 at hf
      refine g_iload_n hX 3 dX0_odd_53 rfl rfl ?_
      refine g_if_le hX 94 dX0_odd_54 (by decide) (fun z => ?_) (fun z => ?_)
      · replace hf := hf.1 z
        exact B94 K4 hK4 _ _ _ _ _ hf
      · replace hf := hf.2 z
        refine g_aload_n hX 0 dX0_odd_57 rfl rfl ?_
        refine g_getK hX (k := 16) (d := 13) (fc0 _) ff0 rfl (by decide) rfl rfl in_X0 (by decide) q216 dX0_odd_58 ?_
        refine g_iload_n hX 3 dX0_odd_61 rfl rfl ?_
        refine g_iconst hX (v := (1 : Int32)) dX0_odd_62 rfl ?_
        refine g_isub hX dX0_odd_63 ?_
        refine g_iald hX (fc13 _) ff13 rfl hf.1 dX0_odd_64 ?_
        replace hf := hf.2
        refine g_aload_n hX 0 dX0_odd_65 rfl rfl ?_
        refine g_getK hX (k := 15) (d := 12) (fc0 _) ff0 rfl (by decide) rfl rfl in_X0 (by decide) q215 dX0_odd_66 ?_
        refine g_iload_n hX 2 dX0_odd_69 rfl rfl ?_
        refine g_iald hX (fc12 _) ff12 rfl hf.1 dX0_odd_70 ?_
        replace hf := hf.2
        refine g_icmp_le hX 94 dX0_odd_71 (by decide) (fun z => ?_) (fun z => ?_)
        · replace hf := hf.1 z
          exact B94 K4 hK4 _ _ _ _ _ hf
        · replace hf := hf.2 z
          refine g_aload_n hX 0 dX0_odd_74 rfl rfl ?_
          refine g_getK hX (k := 16) (d := 13) (fc0 _) ff0 rfl (by decide) rfl rfl in_X0 (by decide) q216 dX0_odd_75 ?_
          refine g_iload_n hX 3 dX0_odd_78 rfl rfl ?_
          refine g_aload_n hX 0 dX0_odd_79 rfl rfl ?_
          refine g_getK hX (k := 16) (d := 13) (fc0 _) ff0 rfl (by decide) rfl rfl in_X0 (by decide) q216 dX0_odd_80 ?_
          refine g_iload_n hX 3 dX0_odd_83 rfl rfl ?_
          refine g_iconst hX (v := (1 : Int32)) dX0_odd_84 rfl ?_
          refine g_isub hX dX0_odd_85 ?_
          refine g_iald hX (fc13 _) ff13 rfl hf.1 dX0_odd_86 ?_
          replace hf := hf.2
          refine g_iast hX (fc13 _) ff13 rfl hf.1 dX0_odd_87 ?_
          replace hf := hf.2
          replace hf := hf _ rfl
          refine g_iinc hX (v := _) 3 dX0_odd_88 rfl rfl (by decide) rfl ?_
          refine g_goto hX 53 dX0_odd_91 (by decide) ?_
          refine g_sub [1, 2, 3, 0] rfl ?_
          exact hK53 _ _ _ _ _ hf
  have B38 : ∀ (K4 : Int32 → Int32 → St → Prop) (hK4 : ∀ (ad : Nat → Nat → Nat) (x1 : Int32) (x2 : Int32) (χ : St), K4 x1 x2 χ → G X ad χ 4 [(0, .ref (ad 0 0)), (1, .int x1), (2, .int x2)] []) (ad : Nat → Nat → Nat) (x1 : Int32) (x2 : Int32) (z0 : Int32) (z1 : Int32) (χ : St), w_C_odd_38 Q K4 x1 x2 z0 z1 χ → G X ad χ 38 [(0, .ref (ad 0 0)), (1, .int x1), (2, .int x2)] [.int z0, .int z1, .ref (ad 12 0)] := by
    intro K4 hK4 ad x1 x2 z0 z1 χ hf
    unfold w_C_odd_38 at hf
    refine g_iast hX (fc12 _) ff12 rfl hf.1 dX0_odd_38 ?_
    replace hf := hf.2
    replace hf := hf _ rfl
    refine g_aload_n hX 0 dX0_odd_39 rfl rfl ?_
    refine g_getK hX (k := 15) (d := 12) (fc0 _) ff0 rfl (by decide) rfl rfl in_X0 (by decide) q215 dX0_odd_40 ?_
    refine g_iload_n hX 2 dX0_odd_43 rfl rfl ?_
    refine g_iald hX (fc12 _) ff12 rfl hf.1 dX0_odd_44 ?_
    replace hf := hf.2
    refine g_if_ge hX 51 dX0_odd_45 (by decide) (fun z => ?_) (fun z => ?_)
    · replace hf := hf.1 z
      refine g_iload_n hX 1 dX0_odd_51 rfl rfl ?_
      refine g_istore_n hX dX0_odd_52 rfl (by decide) rfl ?_
      obtain ⟨n0, hf⟩ := hf
      refine g_sub [1, 2, 3, 0] rfl ?_
      exact B53 K4 hK4 n0 _ _ _ _ _ hf
    · replace hf := hf.2 z
      refine g_goto hX 109 dX0_odd_48 (by decide) ?_
      exact B109 K4 hK4 _ _ _ _ hf
  have B4 : ∀ (n : Nat) (ad : Nat → Nat → Nat) (x1 : Int32) (x2 : Int32) (χ : St), w_C_odd_4 Q n x1 x2 χ → G X ad χ 4 [(0, .ref (ad 0 0)), (1, .int x1), (2, .int x2)] [] := by
    intro n
    induction n with
    | zero => intro ad x1 x2 χ hf; exact hf.elim
    | succ n hK4 =>
      intro ad x1 x2 χ hf
      unfold w_C_odd_4 at hf
      refine g_iload_n hX 2 dX0_odd_4 rfl rfl ?_
      refine g_aload_n hX 0 dX0_odd_5 rfl rfl ?_
      refine g_getI hX (k := 3) (fc0 _) ff0 rfl rfl in_X0 (by decide) q201 dX0_odd_6 ?_
      refine g_icmp_ge hX 115 dX0_odd_9 (by decide) (fun z => ?_) (fun z => ?_)
      · replace hf := hf.1 z
        refine g_iconst hX (v := (0 : Int32)) dX0_odd_115 rfl ?_
        refine g_istore_n hX dX0_odd_116 rfl (by decide) rfl ?_
        refine g_iconst hX (v := (0 : Int32)) dX0_odd_117 rfl ?_
        refine g_istore_n hX dX0_odd_118 rfl (by decide) rfl ?_
        obtain ⟨n0, hf⟩ := hf
        refine g_sub [2, 3, 1, 0] rfl ?_
        exact B119 n0 _ _ _ _ _ hf
      · replace hf := hf.2 z
        refine g_aload_n hX 0 dX0_odd_12 rfl rfl ?_
        refine g_iload_n hX 2 dX0_odd_13 rfl rfl ?_
        refine g_callVv hX (n := 1) (mt_C_findWeights X.l X.Γ _ _ _ _) hf q816 q818 qs21 q85 q819 ⟨rfl, hy_C_findWeights⟩ (by decide) (fc0 _) ff0 rfl rfl rfl (Nat.le_of_ble_eq_true rfl) dX0_odd_14 (fun χ2 hf hc2 => ?_)
        refine g_aload_n hX 0 dX0_odd_17 rfl rfl ?_
        refine g_getK hX (k := 15) (d := 12) (fc0 _) ff0 rfl (by decide) rfl rfl in_X0 (by decide) q215 dX0_odd_18 ?_
        refine g_iload_n hX 2 dX0_odd_21 rfl rfl ?_
        refine g_aload_n hX 0 dX0_odd_22 rfl rfl ?_
        refine g_callVi hX (n := 0) (mt_C_best X.l X.Γ _ _ _) hf q848 q850 qs26 q85 q851 ⟨rfl, hy_C_best⟩ (by decide) (fc0 _) ff0 rfl rfl rfl (Nat.le_of_ble_eq_true rfl) dX0_odd_23 (fun r3 χ4 hf hc4 => ?_)
        refine g_if_ne hX 37 dX0_odd_26 (by decide) (fun z => ?_) (fun z => ?_)
        · replace hf := hf.1 z
          refine g_iconst hX (v := (-1 : Int32)) dX0_odd_37 rfl ?_
          exact B38 (w_C_odd_4 Q n) hK4 _ _ _ _ _ _ hf
        · replace hf := hf.2 z
          refine g_aload_n hX 0 dX0_odd_29 rfl rfl ?_
          refine g_iconst hX (v := (0 : Int32)) dX0_odd_30 rfl ?_
          refine g_callVi hX (n := 1) (mt_C_whenOf X.l X.Γ _ _ _ _) hf q856 q858 qs27 q85 q859 ⟨rfl, hy_C_whenOf⟩ (by decide) (fc0 _) ff0 rfl rfl rfl (Nat.le_of_ble_eq_true rfl) dX0_odd_31 (fun r8 χ9 hf hc9 => ?_)
          refine g_goto hX 38 dX0_odd_34 (by decide) ?_
          exact B38 (w_C_odd_4 Q n) hK4 _ _ _ _ _ _ hf
  unfold w_C_odd at hf
  refine g_iconst hX (v := (0 : Int32)) dX0_odd_0 rfl ?_
  refine g_istore_n hX dX0_odd_1 rfl (by decide) rfl ?_
  refine g_iconst hX (v := (0 : Int32)) dX0_odd_2 rfl ?_
  refine g_istore_n hX dX0_odd_3 rfl (by decide) rfl ?_
  obtain ⟨n0, hf⟩ := hf
  refine g_sub [2, 1, 0] rfl ?_
  exact B4 n0 _ _ _ _ hf

def w_C_next_154 (Q : Int32 → St → Prop) (K23 : Int32 → Int64 → Int32 → St → Prop) (x2 : Int32) (x3 : Int64) (x5 : Int32) (χ : St) : Prop := (K23 x2 x3 (x5 + (1 : Int32)) χ)
def w_C_next_148 (Q : Int32 → St → Prop) (K23 : Int32 → Int64 → Int32 → St → Prop) (x5 : Int32) (x10 : Int64) (χ : St) : Prop := (w_C_next_154 Q K23 x5 x10 x5 χ)
def w_C_next_52 (Q : Int32 → St → Prop) (K23 : Int32 → Int64 → Int32 → St → Prop) : Nat → Int32 → Int64 → Int32 → Int64 → Int64 → Int32 → St → Prop
  | 0 => fun _ _ _ _ _ _ _ => False
  | n + 1 => fun x2 x3 x5 x6 x8 x10 χ => (((180 : Int32) ≤ x10 → (vp_in x5 6) ∧ ((∀ v5 : Int64, v5 = ((if x8 < x6 then x6 else x8) * (gI χ 2000 x5.toNatClampNeg 0).toInt64) → ((x2 < 0 → (w_C_next_148 Q K23 x5 v5 χ)) ∧ (¬ x2 < 0 → (((lg_cmp v5 x3) < 0 → (w_C_next_148 Q K23 x5 v5 χ)) ∧ (¬ (lg_cmp v5 x3) < 0 → (w_C_next_154 Q K23 x2 x3 x5 χ)))))))) ∧ (¬ (180 : Int32) ≤ x10 → (vp_in x10 180) ∧ ((w_C_numberAt x5 x10 χ (fun r6 χ7 => (∀ v8 : Int64, v8 = (x6 + ((gL χ 9 0 x10.toNatClampNeg) * r6.toInt64)) → (vp_in x10 180) ∧ ((w_C_numberAt x5 x10 χ7 (fun r9 χ10 => (∀ v11 : Int64, v11 = (x8 + ((gL χ7 9 0 x10.toNatClampNeg) * ((100 : Int32) - r9).toInt64)) → (w_C_next_52 Q K23 n x2 x3 x5 v8 v11 (x10 + (1 : Int32)) χ10)))))))))))
def w_C_next_23 (Q : Int32 → St → Prop) : Nat → Int32 → Int64 → Int32 → St → Prop
  | 0 => fun _ _ _ _ => False
  | n + 1 => fun x2 x3 x5 χ => (((6 : Int32) ≤ x5 → (Q x2 χ)) ∧ (¬ (6 : Int32) ≤ x5 → (vp_in x5 6) ∧ ((((gI χ 11 0 x5.toNatClampNeg) = 0 → (∃ k52, w_C_next_52 Q (w_C_next_23 Q n) k52 x2 x3 x5 (0 : Int64) (0 : Int64) (0 : Int32) χ)) ∧ (¬ (gI χ 11 0 x5.toNatClampNeg) = 0 → (w_C_next_154 Q (w_C_next_23 Q n) x2 x3 x5 χ))))))
def w_C_next (x1 : Int32) (χ : St) (Q : Int32 → St → Prop) : Prop := (w_C_isPart x1 χ (fun r1 χ2 => ((¬ r1 = 0 → (w_C_findWeights x1 χ2 (fun χ3 => (∃ k23, w_C_next_23 Q k23 (-2 : Int32) (0 : Int64) (0 : Int32) χ3)))) ∧ (r1 = 0 → (Q (-1 : Int32) χ2)))))
set_option maxHeartbeats 4000000 in
theorem mt_C_next (l : Launch) (Γ : Gh) (ad : Nat → Nat → Nat) (x1 : Int32) (χ : St) (Q : Int32 → St → Prop) : Mt l yX0_next (ws_ yX0_next cX0_next 12 (some .int)) (rmO (265) (5316) χ) (Pm Γ ad χ [.ref (ad 0 0), .int x1] (w_C_next x1 χ Q)) (Qm Γ true ad χ (pI Q)) (frB Γ) := by
  refine Mt.start (by decide) RX0 rfl (Nat.le_of_ble_eq_true rfl) ?_
  intro X hX hG _ _ hna _ hf
  have B154 : ∀ (K23 : Int32 → Int64 → Int32 → St → Prop) (hK23 : ∀ (ad : Nat → Nat → Nat) (x2 : Int32) (x3 : Int64) (x5 : Int32) (χ : St), K23 x2 x3 x5 χ → G X ad χ 23 [(0, .ref (ad 0 0)), (2, .int x2), (3, .long x3), (5, .int x5)] []) (ad : Nat → Nat → Nat) (x2 : Int32) (x3 : Int64) (x5 : Int32) (χ : St), w_C_next_154 Q K23 x2 x3 x5 χ → G X ad χ 154 [(0, .ref (ad 0 0)), (2, .int x2), (3, .long x3), (5, .int x5)] [] := by
    intro K23 hK23 ad x2 x3 x5 χ hf
    unfold w_C_next_154 at hf
    refine g_iinc hX (v := _) 3 dX0_next_154 rfl rfl (by decide) rfl ?_
    refine g_goto hX 23 dX0_next_157 (by decide) ?_
    refine g_sub [1, 2, 3, 0] rfl ?_
    exact hK23 _ _ _ _ _ hf
  have B148 : ∀ (K23 : Int32 → Int64 → Int32 → St → Prop) (hK23 : ∀ (ad : Nat → Nat → Nat) (x2 : Int32) (x3 : Int64) (x5 : Int32) (χ : St), K23 x2 x3 x5 χ → G X ad χ 23 [(0, .ref (ad 0 0)), (2, .int x2), (3, .long x3), (5, .int x5)] []) (ad : Nat → Nat → Nat) (x5 : Int32) (x10 : Int64) (χ : St), w_C_next_148 Q K23 x5 x10 χ → G X ad χ 148 [(0, .ref (ad 0 0)), (5, .int x5), (10, .long x10)] [] := by
    intro K23 hK23 ad x5 x10 χ hf
    unfold w_C_next_148 at hf
    refine g_iload hX 1 dX0_next_148 rfl ?_
    refine g_istore_n hX dX0_next_150 rfl (by decide) rfl ?_
    refine g_lload hX 3 dX0_next_151 rfl ?_
    refine g_lstore_n hX dX0_next_153 rfl (by decide) rfl ?_
    refine g_sub [2, 1, 0, 3] rfl ?_
    exact B154 K23 hK23 _ _ _ _ _ hf
  have B52 : ∀ (K23 : Int32 → Int64 → Int32 → St → Prop) (hK23 : ∀ (ad : Nat → Nat → Nat) (x2 : Int32) (x3 : Int64) (x5 : Int32) (χ : St), K23 x2 x3 x5 χ → G X ad χ 23 [(0, .ref (ad 0 0)), (2, .int x2), (3, .long x3), (5, .int x5)] []) (n : Nat) (ad : Nat → Nat → Nat) (x2 : Int32) (x3 : Int64) (x5 : Int32) (x6 : Int64) (x8 : Int64) (x10 : Int32) (χ : St), w_C_next_52 Q K23 n x2 x3 x5 x6 x8 x10 χ → G X ad χ 52 [(0, .ref (ad 0 0)), (2, .int x2), (3, .long x3), (5, .int x5), (6, .long x6), (8, .long x8), (10, .int x10)] [] := by
    intro K23 hK23 n
    induction n with
    | zero => intro ad x2 x3 x5 x6 x8 x10 χ hf; exact hf.elim
    | succ n hK52 =>
      intro ad x2 x3 x5 x6 x8 x10 χ hf
      unfold w_C_next_52 at hf
      refine g_iload hX 6 dX0_next_52 rfl ?_
      refine g_sipush hX (v := (180 : Int32)) dX0_next_54 rfl ?_
      refine g_icmp_ge hX 113 dX0_next_57 (by decide) (fun z => ?_) (fun z => ?_)
      · replace hf := hf.1 z
        refine g_lload hX 4 dX0_next_113 rfl ?_
        refine g_lload hX 5 dX0_next_115 rfl ?_
        refine g_mmaxl hX q880 q881 q103 q882 ⟨by decide, by decide⟩ (Nat.le_of_ble_eq_true rfl) dX0_next_117 ?_
        refine g_aload_n hX 0 dX0_next_120 rfl rfl ?_
        refine g_getK hX (k := 2) (d := 3) (fc0 _) ff0 rfl (by decide) rfl rfl in_X0 (by decide) q200 dX0_next_121 ?_
        refine g_iload hX 3 dX0_next_124 rfl ?_
        have hg4 := hf.1
        replace hf := hf.2
        refine g_aaldK hX (fc3 _) ff3 rfl hg4 dX0_next_126 ?_
        refine g_getIN hX (k := 0) (fc19 (vp_lt hg4)) ff19 rfl rfl in_X2 (by decide) q165 dX0_next_127 ?_
        refine g_i2l hX dX0_next_130 ?_
        refine g_lmul hX dX0_next_131 ?_
        replace hf := hf _ rfl
        refine g_lstore hX dX0_next_132 (by decide) rfl ?_
        refine g_iload_n hX 2 dX0_next_134 rfl rfl ?_
        refine g_if_lt hX 148 dX0_next_135 (by decide) (fun z => ?_) (fun z => ?_)
        · replace hf := hf.1 z
          refine g_sub [1, 4, 0] rfl ?_
          exact B148 K23 hK23 _ _ _ _ hf
        · replace hf := hf.2 z
          refine g_lload hX 0 dX0_next_138 rfl ?_
          refine g_lload_n hX 3 dX0_next_140 rfl rfl ?_
          refine g_lcmp hX dX0_next_141 ?_
          refine g_if_lt hX 148 dX0_next_142 (by decide) (fun z => ?_) (fun z => ?_)
          · replace hf := hf.1 z
            refine g_sub [1, 4, 0] rfl ?_
            exact B148 K23 hK23 _ _ _ _ hf
          · replace hf := hf.2 z
            refine g_goto hX 154 dX0_next_145 (by decide) ?_
            refine g_sub [1, 2, 3, 4] rfl ?_
            exact B154 K23 hK23 _ _ _ _ _ hf
      · replace hf := hf.2 z
        refine g_lload hX 4 dX0_next_60 rfl ?_
        refine g_aload_n hX 0 dX0_next_62 rfl rfl ?_
        refine g_getK hX (k := 11) (d := 9) (fc0 _) ff0 rfl (by decide) rfl rfl in_X0 (by decide) q211 dX0_next_63 ?_
        refine g_iload hX 6 dX0_next_66 rfl ?_
        refine g_lald hX (fc9 _) ff9 rfl hf.1 dX0_next_68 ?_
        replace hf := hf.2
        refine g_aload_n hX 0 dX0_next_69 rfl rfl ?_
        refine g_iload hX 3 dX0_next_70 rfl ?_
        refine g_iload hX 6 dX0_next_72 rfl ?_
        refine g_callVi hX (n := 2) (mt_C_numberAt X.l X.Γ _ _ _ _ _) hf q828 q830 qs24 q85 q831 ⟨rfl, hy_C_numberAt⟩ (by decide) (fc0 _) ff0 rfl rfl rfl (Nat.le_of_ble_eq_true rfl) dX0_next_74 (fun r6 χ7 hf hc7 => ?_)
        refine g_i2l hX dX0_next_77 ?_
        refine g_lmul hX dX0_next_78 ?_
        refine g_ladd hX dX0_next_79 ?_
        replace hf := hf _ rfl
        refine g_lstore hX dX0_next_80 (by decide) rfl ?_
        refine g_lload hX 5 dX0_next_82 rfl ?_
        refine g_aload_n hX 1 dX0_next_84 rfl rfl ?_
        refine g_getK hX (k := 11) (d := 9) (fc0 _) ff0 rfl (by decide) rfl rfl in_X0 (by decide) q211 dX0_next_85 ?_
        refine g_iload hX 6 dX0_next_88 rfl ?_
        refine g_lald hX (fc9 _) ff9 rfl hf.1 dX0_next_90 ?_
        replace hf := hf.2
        refine g_bipush hX (v := (100 : Int32)) dX0_next_91 rfl ?_
        refine g_aload_n hX 1 dX0_next_93 rfl rfl ?_
        refine g_iload hX 4 dX0_next_94 rfl ?_
        refine g_iload hX 6 dX0_next_96 rfl ?_
        refine g_callVi hX (n := 2) (mt_C_numberAt X.l X.Γ _ _ _ _ _) hf q828 q830 qs24 q85 q831 ⟨rfl, hy_C_numberAt⟩ (by decide) (fc0 _) ff0 rfl rfl rfl (Nat.le_of_ble_eq_true rfl) dX0_next_98 (fun r9 χ10 hf hc10 => ?_)
        refine g_isub hX dX0_next_101 ?_
        refine g_i2l hX dX0_next_102 ?_
        refine g_lmul hX dX0_next_103 ?_
        refine g_ladd hX dX0_next_104 ?_
        replace hf := hf _ rfl
        refine g_lstore hX dX0_next_105 (by decide) rfl ?_
        refine g_iinc hX (v := _) 6 dX0_next_107 rfl rfl (by decide) rfl ?_
        refine g_goto hX 52 dX0_next_110 (by decide) ?_
        refine g_sub [3, 4, 5, 6, 2, 1, 0] rfl ?_
        exact hK52 _ _ _ _ _ _ _ _ hf
  have B23 : ∀ (n : Nat) (ad : Nat → Nat → Nat) (x2 : Int32) (x3 : Int64) (x5 : Int32) (χ : St), w_C_next_23 Q n x2 x3 x5 χ → G X ad χ 23 [(0, .ref (ad 0 0)), (2, .int x2), (3, .long x3), (5, .int x5)] [] := by
    intro n
    induction n with
    | zero => intro ad x2 x3 x5 χ hf; exact hf.elim
    | succ n hK23 =>
      intro ad x2 x3 x5 χ hf
      unfold w_C_next_23 at hf
      refine g_iload hX 3 dX0_next_23 rfl ?_
      refine g_bipush hX (v := (6 : Int32)) dX0_next_25 rfl ?_
      refine g_icmp_ge hX 160 dX0_next_27 (by decide) (fun z => ?_) (fun z => ?_)
      · replace hf := hf.1 z
        refine g_iload_n hX 1 dX0_next_160 rfl rfl ?_
        exact g_iret hX ⟨_, rfl, hf⟩ dX0_next_161
      · replace hf := hf.2 z
        refine g_aload_n hX 0 dX0_next_30 rfl rfl ?_
        refine g_getK hX (k := 13) (d := 11) (fc0 _) ff0 rfl (by decide) rfl rfl in_X0 (by decide) q213 dX0_next_31 ?_
        refine g_iload hX 3 dX0_next_34 rfl ?_
        refine g_bald hX (fc11 _) ff11 rfl hf.1 dX0_next_36 ?_
        replace hf := hf.2
        refine g_if_eq hX 43 dX0_next_37 (by decide) (fun z => ?_) (fun z => ?_)
        · replace hf := hf.1 z
          refine g_lconst hX (v := (0 : Int64)) dX0_next_43 rfl ?_
          refine g_lstore hX dX0_next_44 (by decide) rfl ?_
          refine g_lconst hX (v := (0 : Int64)) dX0_next_46 rfl ?_
          refine g_lstore hX dX0_next_47 (by decide) rfl ?_
          refine g_iconst hX (v := (0 : Int32)) dX0_next_49 rfl ?_
          refine g_istore hX dX0_next_50 (by decide) rfl ?_
          obtain ⟨n0, hf⟩ := hf
          refine g_sub [3, 4, 5, 6, 2, 1, 0] rfl ?_
          exact B52 (w_C_next_23 Q n) hK23 n0 _ _ _ _ _ _ _ _ hf
        · replace hf := hf.2 z
          refine g_goto hX 154 dX0_next_40 (by decide) ?_
          exact B154 (w_C_next_23 Q n) hK23 _ _ _ _ _ hf
  unfold w_C_next at hf
  refine g_aload_n hX 0 dX0_next_0 rfl rfl ?_
  refine g_iload_n hX 1 dX0_next_1 rfl rfl ?_
  refine g_callVi hX (n := 1) (mt_C_isPart X.l X.Γ _ _ _ _) hf q458 q460 qs4 q85 q461 ⟨rfl, hy_C_isPart⟩ (by decide) (fc0 _) ff0 rfl rfl rfl (Nat.le_of_ble_eq_true rfl) dX0_next_2 (fun r1 χ2 hf hc2 => ?_)
  refine g_if_ne hX 10 dX0_next_5 (by decide) (fun z => ?_) (fun z => ?_)
  · replace hf := hf.1 z
    refine g_aload_n hX 0 dX0_next_10 rfl rfl ?_
    refine g_iload_n hX 1 dX0_next_11 rfl rfl ?_
    refine g_callVv hX (n := 1) (mt_C_findWeights X.l X.Γ _ _ _ _) hf q816 q818 qs21 q85 q819 ⟨rfl, hy_C_findWeights⟩ (by decide) (fc0 _) ff0 rfl rfl rfl (Nat.le_of_ble_eq_true rfl) dX0_next_12 (fun χ3 hf hc3 => ?_)
    refine g_bipush hX (v := (-2 : Int32)) dX0_next_15 rfl ?_
    refine g_istore_n hX dX0_next_17 rfl (by decide) rfl ?_
    refine g_lconst hX (v := (0 : Int64)) dX0_next_18 rfl ?_
    refine g_lstore_n hX dX0_next_19 rfl (by decide) rfl ?_
    refine g_iconst hX (v := (0 : Int32)) dX0_next_20 rfl ?_
    refine g_istore hX dX0_next_21 (by decide) rfl ?_
    obtain ⟨n0, hf⟩ := hf
    refine g_sub [3, 2, 1, 0] rfl ?_
    exact B23 n0 _ _ _ _ _ hf
  · replace hf := hf.2 z
    refine g_iconst hX (v := (-1 : Int32)) dX0_next_8 rfl ?_
    exact g_iret hX ⟨_, rfl, hf⟩ dX0_next_9

def w_C_isSet (x0 : Int32) (χ : St) (Q : Int32 → St → Prop) : Prop := (w_C_in x0 (0 : Int32) (63 : Int32) χ (fun r1 χ2 => (narrow .boolean (.int r1) = .int r1) ∧ ((Q r1 χ2))))
set_option maxHeartbeats 4000000 in
theorem mt_C_isSet (l : Launch) (Γ : Gh) (ad : Nat → Nat → Nat) (x0 : Int32) (χ : St) (Q : Int32 → St → Prop) : Mt l yX0_isSet (ws_ yX0_isSet cX0_isSet 1 (some .boolean)) (rmO (1) (22) χ) (Pm Γ ad χ [.int x0] (w_C_isSet x0 χ Q)) (Qm Γ true ad χ (pI Q)) (frB Γ) := by
  refine Mt.start (by decide) RX0 rfl (Nat.le_of_ble_eq_true rfl) ?_
  intro X hX hG _ _ hna _ hf
  unfold w_C_isSet at hf
  refine g_iload_n hX 0 dX0_isSet_0 rfl rfl ?_
  refine g_iconst hX (v := (0 : Int32)) dX0_isSet_1 rfl ?_
  refine g_bipush hX (v := (63 : Int32)) dX0_isSet_2 rfl ?_
  refine g_callSi hX (n := 3) (mt_C_in X.l X.Γ _ _ _ _ _ _) hf q281 q282 q85 q283 hy_C_in (by decide) rfl rfl (Nat.le_of_ble_eq_true rfl) dX0_isSet_4 (fun r1 χ2 hf hc2 => ?_)
  exact g_zret hX hf.1 ⟨_, rfl, hf.2⟩ dX0_isSet_7

def w_C_unseen_30 (Q : Int32 → St → Prop) (K4 : Int32 → Int32 → Int32 → St → Prop) (x1 : Int32) (x2 : Int32) (x3 : Int32) (χ : St) : Prop := (K4 x1 x2 (x3 + (1 : Int32)) χ)
def w_C_unseen_4 (Q : Int32 → St → Prop) : Nat → Int32 → Int32 → Int32 → St → Prop
  | 0 => fun _ _ _ _ => False
  | n + 1 => fun x1 x2 x3 χ => (((6 : Int32) ≤ x3 → (Q x2 χ)) ∧ (¬ (6 : Int32) ≤ x3 → (vp_in x1 8) ∧ ((∃ z2, (gR χ 1 0 x1.toNatClampNeg) = some z2 ∧ ((∃ z3, (gR χ 2102 z2 0) = some z3 ∧ ((vp_in x3 (tg χ 25 z3)) ∧ (((¬ (gI χ 25 z3 x3.toNatClampNeg) = 0 → (w_C_unseen_30 Q (w_C_unseen_4 Q n) x1 x2 x3 χ)) ∧ ((gI χ 25 z3 x3.toNatClampNeg) = 0 → (∀ v4 : Int32, v4 = (x2 ||| ((1 : Int32) <<< (x3 &&& 31))) → (w_C_unseen_30 Q (w_C_unseen_4 Q n) x1 v4 x3 χ))))))))))))
def w_C_unseen (x1 : Int32) (χ : St) (Q : Int32 → St → Prop) : Prop := (∃ k4, w_C_unseen_4 Q k4 x1 (0 : Int32) (0 : Int32) χ)
set_option maxHeartbeats 4000000 in
theorem mt_C_unseen (l : Launch) (Γ : Gh) (ad : Nat → Nat → Nat) (x1 : Int32) (χ : St) (Q : Int32 → St → Prop) : Mt l yX0_unseen (ws_ yX0_unseen cX0_unseen 4 (some .int)) (rmO (0) (0) χ) (Pm Γ ad χ [.ref (ad 0 0), .int x1] (w_C_unseen x1 χ Q)) (Qm Γ true ad χ (pI Q)) (frB Γ) := by
  refine Mt.start (by decide) RX0 rfl (Nat.le_of_ble_eq_true rfl) ?_
  intro X hX hG _ _ hna _ hf
  have B30 : ∀ (K4 : Int32 → Int32 → Int32 → St → Prop) (hK4 : ∀ (ad : Nat → Nat → Nat) (x1 : Int32) (x2 : Int32) (x3 : Int32) (χ : St), K4 x1 x2 x3 χ → G X ad χ 4 [(0, .ref (ad 0 0)), (1, .int x1), (2, .int x2), (3, .int x3)] []) (ad : Nat → Nat → Nat) (x1 : Int32) (x2 : Int32) (x3 : Int32) (χ : St), w_C_unseen_30 Q K4 x1 x2 x3 χ → G X ad χ 30 [(0, .ref (ad 0 0)), (1, .int x1), (2, .int x2), (3, .int x3)] [] := by
    intro K4 hK4 ad x1 x2 x3 χ hf
    unfold w_C_unseen_30 at hf
    refine g_iinc hX (v := _) 3 dX0_unseen_30 rfl rfl (by decide) rfl ?_
    refine g_goto hX 4 dX0_unseen_33 (by decide) ?_
    refine g_sub [1, 2, 3, 0] rfl ?_
    exact hK4 _ _ _ _ _ hf
  have B4 : ∀ (n : Nat) (ad : Nat → Nat → Nat) (x1 : Int32) (x2 : Int32) (x3 : Int32) (χ : St), w_C_unseen_4 Q n x1 x2 x3 χ → G X ad χ 4 [(0, .ref (ad 0 0)), (1, .int x1), (2, .int x2), (3, .int x3)] [] := by
    intro n
    induction n with
    | zero => intro ad x1 x2 x3 χ hf; exact hf.elim
    | succ n hK4 =>
      intro ad x1 x2 x3 χ hf
      unfold w_C_unseen_4 at hf
      refine g_iload_n hX 3 dX0_unseen_4 rfl rfl ?_
      refine g_bipush hX (v := (6 : Int32)) dX0_unseen_5 rfl ?_
      refine g_icmp_ge hX 36 dX0_unseen_7 (by decide) (fun z => ?_) (fun z => ?_)
      · replace hf := hf.1 z
        refine g_iload_n hX 2 dX0_unseen_36 rfl rfl ?_
        exact g_iret hX ⟨_, rfl, hf⟩ dX0_unseen_37
      · replace hf := hf.2 z
        refine g_aload_n hX 0 dX0_unseen_10 rfl rfl ?_
        refine g_getK hX (k := 0) (d := 1) (fc0 _) ff0 rfl (by decide) rfl rfl in_X0 (by decide) q198 dX0_unseen_11 ?_
        refine g_iload_n hX 1 dX0_unseen_14 rfl rfl ?_
        have hg1 := hf.1
        replace hf := hf.2
        obtain ⟨z2, hz2, hf⟩ := hf
        refine g_aaldE hX (fc1 _) ff1 rfl rfl hg1 dX0_unseen_15 hz2 (fun hvz2 => ?_)
        obtain ⟨z3, hz3, hf⟩ := hf
        refine g_getEN hX (k := 2) hvz2 ff20 rfl (by decide) (by decide) rfl rfl rfl in_X5 (by decide) q298 dX0_unseen_16 hz3 (fun hvz3 => ?_)
        refine g_iload_n hX 3 dX0_unseen_19 rfl rfl ?_
        refine g_bald hX hvz3 ff25 rfl hf.1 dX0_unseen_20 ?_
        replace hf := hf.2
        refine g_if_ne hX 30 dX0_unseen_21 (by decide) (fun z => ?_) (fun z => ?_)
        · replace hf := hf.1 z
          exact B30 (w_C_unseen_4 Q n) hK4 _ _ _ _ _ hf
        · replace hf := hf.2 z
          refine g_iload_n hX 2 dX0_unseen_24 rfl rfl ?_
          refine g_iconst hX (v := (1 : Int32)) dX0_unseen_25 rfl ?_
          refine g_iload_n hX 3 dX0_unseen_26 rfl rfl ?_
          refine g_ishl hX dX0_unseen_27 ?_
          refine g_ior hX dX0_unseen_28 ?_
          replace hf := hf _ rfl
          refine g_istore_n hX dX0_unseen_29 rfl (by decide) rfl ?_
          refine g_sub [1, 2, 0, 3] rfl ?_
          exact B30 (w_C_unseen_4 Q n) hK4 _ _ _ _ _ hf
  unfold w_C_unseen at hf
  refine g_iconst hX (v := (0 : Int32)) dX0_unseen_0 rfl ?_
  refine g_istore_n hX dX0_unseen_1 rfl (by decide) rfl ?_
  refine g_iconst hX (v := (0 : Int32)) dX0_unseen_2 rfl ?_
  refine g_istore_n hX dX0_unseen_3 rfl (by decide) rfl ?_
  obtain ⟨n0, hf⟩ := hf
  refine g_sub [2, 3, 1, 0] rfl ?_
  exact B4 n0 _ _ _ _ _ hf

def w_C_namedBy_70 (W1 : Int32 → Int32 → Int32 → St → (Int64 → St → Prop) → Prop) (Q : Int64 → St → Prop) : Nat → Int32 → Int32 → Int32 → Int64 → Int32 → St → Prop
  | 0 => fun _ _ _ _ _ _ => False
  | n + 1 => fun x1 x2 x3 x4 x6 χ => (((2 : Int32) < x6 → (vp_in x3 6) ∧ ((∀ χ1 : St, χ1 = (sI χ 11 0 x3.toNatClampNeg (vp_nar .byte (0 : Int32))) → (Q x4 χ1)))) ∧ (¬ (2 : Int32) < x6 → (vp_in x3 6) ∧ ((∀ χ2 : St, χ2 = (sI χ 11 0 x3.toNatClampNeg (vp_nar .byte x6.toInt8.toInt32)) → (W1 x1 x2 (x3 + (1 : Int32)) χ2 (fun r3 χ4 => (w_C_namedBy_70 W1 Q n x1 x2 x3 (x4 + r3) (x6 + (1 : Int32)) χ4)))))))
def w_C_namedBy_16 (W1 : Int32 → Int32 → Int32 → St → (Int64 → St → Prop) → Prop) (Q : Int64 → St → Prop) : Nat → Int64 → Int32 → St → Prop
  | 0 => fun _ _ _ => False
  | n + 1 => fun x4 x6 χ => (((6 : Int32) ≤ x6 → (Q x4 χ)) ∧ (¬ (6 : Int32) ≤ x6 → (vp_in x6 6) ∧ ((∀ v8 : Int64, v8 = (if (gL χ 10 0 x6.toNatClampNeg) < x4 then x4 else (gL χ 10 0 x6.toNatClampNeg)) → (w_C_namedBy_16 W1 Q n v8 (x6 + (1 : Int32)) χ)))))
def w_C_namedBy_b (W1 : Int32 → Int32 → Int32 → St → (Int64 → St → Prop) → Prop) (x1 : Int32) (x2 : Int32) (x3 : Int32) (χ : St) (Q : Int64 → St → Prop) : Prop := ((¬ x3 = (6 : Int32) → ((¬ ((x2 >>> (x3 &&& 31)) &&& (1 : Int32)) = 0 → (∃ k70, w_C_namedBy_70 W1 Q k70 x1 x2 x3 (0 : Int64) (1 : Int32) χ)) ∧ (((x2 >>> (x3 &&& 31)) &&& (1 : Int32)) = 0 → (W1 x1 x2 (x3 + (1 : Int32)) χ (fun r5 χ6 => (Q r5 χ6)))))) ∧ (x3 = (6 : Int32) → (w_C_weigh χ (fun χ7 => (∃ k16, w_C_namedBy_16 W1 Q k16 (0 : Int64) (0 : Int32) χ7)))))
set_option maxHeartbeats 4000000 in
theorem mt_C_namedBy_b (l : Launch) (Γ : Gh) (W1 : Int32 → Int32 → Int32 → St → (Int64 → St → Prop) → Prop) (F1 L1 : Nat) (h1 : ∀ (l : Launch) (Γ : Gh) (ad : Nat → Nat → Nat) (x1 : Int32) (x2 : Int32) (x3 : Int32) (χ : St) (Q : Int64 → St → Prop), Mt l yX0_namedBy (ws_ yX0_namedBy cX0_namedBy 7 (some .long)) (rmO F1 L1 χ) (Pm Γ ad χ [.ref (ad 0 0), .int x1, .int x2, .int x3] (W1 x1 x2 x3 χ Q)) (Qm Γ true ad χ (pL Q)) (frB Γ)) (ad : Nat → Nat → Nat) (x1 : Int32) (x2 : Int32) (x3 : Int32) (χ : St) (Q : Int64 → St → Prop) : Mt l yX0_namedBy (ws_ yX0_namedBy cX0_namedBy 7 (some .long)) (rmO (F1 + 2) (L1 + 48) χ) (Pm Γ ad χ [.ref (ad 0 0), .int x1, .int x2, .int x3] (w_C_namedBy_b W1 x1 x2 x3 χ Q)) (Qm Γ true ad χ (pL Q)) (frB Γ) := by
  refine Mt.start (by decide) RX0 rfl (Nat.le_of_ble_eq_true rfl) ?_
  intro X hX hG _ _ hna _ hf
  have B70 : ∀ (n : Nat) (ad : Nat → Nat → Nat) (x1 : Int32) (x2 : Int32) (x3 : Int32) (x4 : Int64) (x6 : Int32) (χ : St), w_C_namedBy_70 W1 Q n x1 x2 x3 x4 x6 χ → G X ad χ 70 [(0, .ref (ad 0 0)), (1, .int x1), (2, .int x2), (3, .int x3), (4, .long x4), (6, .int x6)] [] := by
    intro n
    induction n with
    | zero => intro ad x1 x2 x3 x4 x6 χ hf; exact hf.elim
    | succ n hK70 =>
      intro ad x1 x2 x3 x4 x6 χ hf
      unfold w_C_namedBy_70 at hf
      refine g_iload hX 5 dX0_namedBy_70 rfl ?_
      refine g_iconst hX (v := (2 : Int32)) dX0_namedBy_72 rfl ?_
      refine g_icmp_gt hX 105 dX0_namedBy_73 (by decide) (fun z => ?_) (fun z => ?_)
      · replace hf := hf.1 z
        refine g_aload_n hX 0 dX0_namedBy_105 rfl rfl ?_
        refine g_getK hX (k := 13) (d := 11) (fc0 _) ff0 rfl (by decide) rfl rfl in_X0 (by decide) q213 dX0_namedBy_106 ?_
        refine g_iload_n hX 3 dX0_namedBy_109 rfl rfl ?_
        refine g_iconst hX (v := (0 : Int32)) dX0_namedBy_110 rfl ?_
        refine g_bast hX (fc11 _) ff11 rfl hf.1 dX0_namedBy_111 ?_
        replace hf := hf.2
        replace hf := hf _ rfl
        refine g_lload hX 4 dX0_namedBy_112 rfl ?_
        exact g_lret hX ⟨_, rfl, hf⟩ dX0_namedBy_114
      · replace hf := hf.2 z
        refine g_aload_n hX 0 dX0_namedBy_76 rfl rfl ?_
        refine g_getK hX (k := 13) (d := 11) (fc0 _) ff0 rfl (by decide) rfl rfl in_X0 (by decide) q213 dX0_namedBy_77 ?_
        refine g_iload_n hX 3 dX0_namedBy_80 rfl rfl ?_
        refine g_iload hX 5 dX0_namedBy_81 rfl ?_
        refine g_i2b hX dX0_namedBy_83 ?_
        refine g_bast hX (fc11 _) ff11 rfl hf.1 dX0_namedBy_84 ?_
        replace hf := hf.2
        replace hf := hf _ rfl
        refine g_lload hX 4 dX0_namedBy_85 rfl ?_
        refine g_aload_n hX 0 dX0_namedBy_87 rfl rfl ?_
        refine g_iload_n hX 1 dX0_namedBy_88 rfl rfl ?_
        refine g_iload_n hX 2 dX0_namedBy_89 rfl rfl ?_
        refine g_iload_n hX 3 dX0_namedBy_90 rfl rfl ?_
        refine g_iconst hX (v := (1 : Int32)) dX0_namedBy_91 rfl ?_
        refine g_iadd hX dX0_namedBy_92 ?_
        refine g_callVl hX (n := 3) (h1 X.l X.Γ _ _ _ _ _ _) hf q905 q907 qs31 q85 q908 ⟨rfl, hy_C_namedBy⟩ ⟨by omega, by omega⟩ (fc0 _) ff0 rfl rfl rfl (Nat.le_of_ble_eq_true rfl) dX0_namedBy_93 (fun r3 χ4 hf hc4 => ?_)
        refine g_ladd hX dX0_namedBy_96 ?_
        refine g_lstore hX dX0_namedBy_97 (by decide) rfl ?_
        refine g_iinc hX (v := _) 5 dX0_namedBy_99 rfl rfl (by decide) rfl ?_
        refine g_goto hX 70 dX0_namedBy_102 (by decide) ?_
        refine g_sub [2, 3, 4, 5, 1, 0] rfl ?_
        exact hK70 _ _ _ _ _ _ _ hf
  have B16 : ∀ (n : Nat) (ad : Nat → Nat → Nat) (x4 : Int64) (x6 : Int32) (χ : St), w_C_namedBy_16 W1 Q n x4 x6 χ → G X ad χ 16 [(0, .ref (ad 0 0)), (4, .long x4), (6, .int x6)] [] := by
    intro n
    induction n with
    | zero => intro ad x4 x6 χ hf; exact hf.elim
    | succ n hK16 =>
      intro ad x4 x6 χ hf
      unfold w_C_namedBy_16 at hf
      refine g_iload hX 2 dX0_namedBy_16 rfl ?_
      refine g_bipush hX (v := (6 : Int32)) dX0_namedBy_18 rfl ?_
      refine g_icmp_ge hX 43 dX0_namedBy_20 (by decide) (fun z => ?_) (fun z => ?_)
      · replace hf := hf.1 z
        refine g_lload hX 1 dX0_namedBy_43 rfl ?_
        exact g_lret hX ⟨_, rfl, hf⟩ dX0_namedBy_45
      · replace hf := hf.2 z
        refine g_lload hX 1 dX0_namedBy_23 rfl ?_
        refine g_aload_n hX 0 dX0_namedBy_25 rfl rfl ?_
        refine g_getK hX (k := 12) (d := 10) (fc0 _) ff0 rfl (by decide) rfl rfl in_X0 (by decide) q212 dX0_namedBy_26 ?_
        refine g_iload hX 2 dX0_namedBy_29 rfl ?_
        refine g_lald hX (fc10 _) ff10 rfl hf.1 dX0_namedBy_31 ?_
        replace hf := hf.2
        refine g_mmaxl hX q880 q881 q103 q882 ⟨by omega, by omega⟩ (Nat.le_of_ble_eq_true rfl) dX0_namedBy_32 ?_
        replace hf := hf _ rfl
        refine g_lstore hX dX0_namedBy_35 (by decide) rfl ?_
        refine g_iinc hX (v := _) 2 dX0_namedBy_37 rfl rfl (by decide) rfl ?_
        refine g_goto hX 16 dX0_namedBy_40 (by decide) ?_
        refine g_sub [2, 1, 0] rfl ?_
        exact hK16 _ _ _ _ hf
  unfold w_C_namedBy_b at hf
  refine g_iload_n hX 3 dX0_namedBy_0 rfl rfl ?_
  refine g_bipush hX (v := (6 : Int32)) dX0_namedBy_1 rfl ?_
  refine g_icmp_ne hX 46 dX0_namedBy_3 (by decide) (fun z => ?_) (fun z => ?_)
  · replace hf := hf.1 z
    refine g_iload_n hX 2 dX0_namedBy_46 rfl rfl ?_
    refine g_iload_n hX 3 dX0_namedBy_47 rfl rfl ?_
    refine g_ishr hX dX0_namedBy_48 ?_
    refine g_iconst hX (v := (1 : Int32)) dX0_namedBy_49 rfl ?_
    refine g_iand hX dX0_namedBy_50 ?_
    refine g_if_ne hX 64 dX0_namedBy_51 (by decide) (fun z => ?_) (fun z => ?_)
    · replace hf := hf.1 z
      refine g_lconst hX (v := (0 : Int64)) dX0_namedBy_64 rfl ?_
      refine g_lstore hX dX0_namedBy_65 (by decide) rfl ?_
      refine g_iconst hX (v := (1 : Int32)) dX0_namedBy_67 rfl ?_
      refine g_istore hX dX0_namedBy_68 (by decide) rfl ?_
      obtain ⟨n0, hf⟩ := hf
      refine g_sub [2, 3, 4, 5, 1, 0] rfl ?_
      exact B70 n0 _ _ _ _ _ _ _ hf
    · replace hf := hf.2 z
      refine g_aload_n hX 0 dX0_namedBy_54 rfl rfl ?_
      refine g_iload_n hX 1 dX0_namedBy_55 rfl rfl ?_
      refine g_iload_n hX 2 dX0_namedBy_56 rfl rfl ?_
      refine g_iload_n hX 3 dX0_namedBy_57 rfl rfl ?_
      refine g_iconst hX (v := (1 : Int32)) dX0_namedBy_58 rfl ?_
      refine g_iadd hX dX0_namedBy_59 ?_
      refine g_callVl hX (n := 3) (h1 X.l X.Γ _ _ _ _ _ _) hf q905 q907 qs31 q85 q908 ⟨rfl, hy_C_namedBy⟩ ⟨by omega, by omega⟩ (fc0 _) ff0 rfl rfl rfl (Nat.le_of_ble_eq_true rfl) dX0_namedBy_60 (fun r5 χ6 hf hc6 => ?_)
      exact g_lret hX ⟨_, rfl, hf⟩ dX0_namedBy_63
  · replace hf := hf.2 z
    refine g_aload_n hX 0 dX0_namedBy_6 rfl rfl ?_
    refine g_callVv hX (n := 0) (mt_C_weigh X.l X.Γ _ _ _) hf q824 q826 qs23 q85 q827 ⟨rfl, hy_C_weigh⟩ ⟨by omega, by omega⟩ (fc0 _) ff0 rfl rfl rfl (Nat.le_of_ble_eq_true rfl) dX0_namedBy_7 (fun χ7 hf hc7 => ?_)
    refine g_lconst hX (v := (0 : Int64)) dX0_namedBy_10 rfl ?_
    refine g_lstore hX dX0_namedBy_11 (by decide) rfl ?_
    refine g_iconst hX (v := (0 : Int32)) dX0_namedBy_13 rfl ?_
    refine g_istore hX dX0_namedBy_14 (by decide) rfl ?_
    obtain ⟨n0, hf⟩ := hf
    refine g_sub [2, 1, 0] rfl ?_
    exact B16 n0 _ _ _ _ hf
def w_C_namedBy : Nat → Int32 → Int32 → Int32 → St → (Int64 → St → Prop) → Prop
  | 0 => fun _ _ _ _ _ => False
  | d + 1 => fun x1 x2 x3 χ Q => w_C_namedBy_b (w_C_namedBy d) x1 x2 x3 χ Q
theorem mt_C_namedBy (l : Launch) (Γ : Gh) (d : Nat) : ∀ (ad : Nat → Nat → Nat) (x1 : Int32) (x2 : Int32) (x3 : Int32) (χ : St) (Q : Int64 → St → Prop), Mt l yX0_namedBy (ws_ yX0_namedBy cX0_namedBy 7 (some .long)) (rmO (2 * d) (48 * d) χ) (Pm Γ ad χ [.ref (ad 0 0), .int x1, .int x2, .int x3] (w_C_namedBy d x1 x2 x3 χ Q)) (Qm Γ true ad χ (pL Q)) (frB Γ) := by
  have key : ∀ (d : Nat) (l : Launch) (Γ : Gh) (ad : Nat → Nat → Nat) (x1 : Int32) (x2 : Int32) (x3 : Int32) (χ : St) (Q : Int64 → St → Prop), Mt l yX0_namedBy (ws_ yX0_namedBy cX0_namedBy 7 (some .long)) (rmO (2 * d) (48 * d) χ) (Pm Γ ad χ [.ref (ad 0 0), .int x1, .int x2, .int x3] (w_C_namedBy d x1 x2 x3 χ Q)) (Qm Γ true ad χ (pL Q)) (frB Γ) := by
    intro d
    induction d with
    | zero => intro l Γ ad x1 x2 x3 χ Q; exact Mt.no (fun h => h)
    | succ d ih => intro l Γ ad x1 x2 x3 χ Q; exact mt_C_namedBy_b l Γ (w_C_namedBy d) (2 * d) (48 * d) ih ad x1 x2 x3 χ Q
  exact key d l Γ

def w_C_namedOf_9 (Q : Int32 → St → Prop) : Nat → Int32 → Int32 → Int64 → Int32 → St → Prop
  | 0 => fun _ _ _ _ _ => False
  | n + 1 => fun x1 x2 x5 x7 χ => ((x7 ≤ 0 → (w_C_namedBy 8 x1 x2 (0 : Int32) χ (fun r3 χ4 => (¬ x5 = 0) ∧ ((Q (((1000 : Int64) * r3) / x5).toInt32 χ4))))) ∧ (¬ x7 ≤ 0 → (w_C_namedOf_9 Q n x1 x2 (x5 * (100 : Int64)) (x7 + (-1 : Int32)) χ)))
def w_C_namedOf (x1 : Int32) (x2 : Int32) (x3 : Int64) (χ : St) (Q : Int32 → St → Prop) : Prop := (w_J13_bitCount x2 χ (fun r1 χ2 => (∃ k9, w_C_namedOf_9 Q k9 x1 x2 x3 r1 χ2)))
set_option maxHeartbeats 4000000 in
theorem mt_C_namedOf (l : Launch) (Γ : Gh) (ad : Nat → Nat → Nat) (x1 : Int32) (x2 : Int32) (x3 : Int64) (χ : St) (Q : Int32 → St → Prop) : Mt l yX0_namedOf (ws_ yX0_namedOf cX0_namedOf 8 (some .int)) (rmO (17) (410) χ) (Pm Γ ad χ [.ref (ad 0 0), .int x1, .int x2, .long x3] (w_C_namedOf x1 x2 x3 χ Q)) (Qm Γ true ad χ (pI Q)) (frB Γ) := by
  refine Mt.start (by decide) RX0 rfl (Nat.le_of_ble_eq_true rfl) ?_
  intro X hX hG _ _ hna _ hf
  have B9 : ∀ (n : Nat) (ad : Nat → Nat → Nat) (x1 : Int32) (x2 : Int32) (x5 : Int64) (x7 : Int32) (χ : St), w_C_namedOf_9 Q n x1 x2 x5 x7 χ → G X ad χ 9 [(0, .ref (ad 0 0)), (1, .int x1), (2, .int x2), (5, .long x5), (7, .int x7)] [] := by
    intro n
    induction n with
    | zero => intro ad x1 x2 x5 x7 χ hf; exact hf.elim
    | succ n hK9 =>
      intro ad x1 x2 x5 x7 χ hf
      unfold w_C_namedOf_9 at hf
      refine g_iload hX 4 dX0_namedOf_9 rfl ?_
      refine g_if_le hX 28 dX0_namedOf_11 (by decide) (fun z => ?_) (fun z => ?_)
      · replace hf := hf.1 z
        refine g_ldc2 hX q904 dX0_namedOf_28 ?_
        refine g_aload_n hX 0 dX0_namedOf_31 rfl rfl ?_
        refine g_iload_n hX 1 dX0_namedOf_32 rfl rfl ?_
        refine g_iload_n hX 2 dX0_namedOf_33 rfl rfl ?_
        refine g_iconst hX (v := (0 : Int32)) dX0_namedOf_34 rfl ?_
        refine g_callVl hX (n := 3) (mt_C_namedBy X.l X.Γ 8 _ _ _ _ _ _) hf q905 q907 qs31 q85 q908 ⟨rfl, hy_C_namedBy⟩ (by decide) (fc0 _) ff0 rfl rfl rfl (Nat.le_of_ble_eq_true rfl) dX0_namedOf_35 (fun r3 χ4 hf hc4 => ?_)
        refine g_lmul hX dX0_namedOf_38 ?_
        refine g_lload hX 3 dX0_namedOf_39 rfl ?_
        refine g_ldiv hX dX0_namedOf_41 hf.1 ?_
        replace hf := hf.2
        refine g_l2i hX dX0_namedOf_42 ?_
        exact g_iret hX ⟨_, rfl, hf⟩ dX0_namedOf_43
      · replace hf := hf.2 z
        refine g_lload hX 3 dX0_namedOf_14 rfl ?_
        refine g_ldc2 hX q843 dX0_namedOf_16 ?_
        refine g_lmul hX dX0_namedOf_19 ?_
        refine g_lstore hX dX0_namedOf_20 (by decide) rfl ?_
        refine g_iinc hX (v := _) 4 dX0_namedOf_22 rfl rfl (by decide) rfl ?_
        refine g_goto hX 9 dX0_namedOf_25 (by decide) ?_
        refine g_sub [2, 3, 4, 1, 0] rfl ?_
        exact hK9 _ _ _ _ _ _ hf
  unfold w_C_namedOf at hf
  refine g_lload_n hX 3 dX0_namedOf_0 rfl rfl ?_
  refine g_lstore hX dX0_namedOf_1 (by decide) rfl ?_
  refine g_iload_n hX 3 dX0_namedOf_3 rfl rfl ?_
  refine g_callSi hX (n := 1) (mt_J13_bitCount X.l X.Γ _ _ _ _) hf q898 q899 q113 q900 hy_J13_bitCount (by decide) rfl rfl (Nat.le_of_ble_eq_true rfl) dX0_namedOf_4 (fun r1 χ2 hf hc2 => ?_)
  refine g_istore hX dX0_namedOf_7 (by decide) rfl ?_
  obtain ⟨n0, hf⟩ := hf
  refine g_sub [2, 3, 4, 1, 0] rfl ?_
  exact B9 n0 _ _ _ _ _ _ hf

def w_C_named (x1 : Int32) (x2 : Int32) (χ : St) (Q : Int32 → St → Prop) : Prop := (w_C_isPart x1 χ (fun r1 χ2 => ((r1 = 0 → (Q (-1 : Int32) χ2)) ∧ (¬ r1 = 0 → (w_C_isSet x2 χ2 (fun r3 χ4 => ((¬ r3 = 0 → (w_C_findWeights x1 χ4 (fun χ5 => ((¬ (lg_cmp (gL χ5 114 0 0) (0 : Int64)) = 0 → (w_C_unseen x1 χ5 (fun r6 χ7 => (w_C_namedOf x1 (x2 &&& r6) (gL χ7 114 0 0) χ7 (fun r8 χ9 => (Q r8 χ9)))))) ∧ ((lg_cmp (gL χ5 114 0 0) (0 : Int64)) = 0 → (Q (-2 : Int32) χ5)))))) ∧ (r3 = 0 → (Q (-1 : Int32) χ4)))))))))
set_option maxHeartbeats 4000000 in
theorem mt_C_named (l : Launch) (Γ : Gh) (ad : Nat → Nat → Nat) (x1 : Int32) (x2 : Int32) (χ : St) (Q : Int32 → St → Prop) : Mt l yX0_named (ws_ yX0_named cX0_named 3 (some .int)) (rmO (265) (5316) χ) (Pm Γ ad χ [.ref (ad 0 0), .int x1, .int x2] (w_C_named x1 x2 χ Q)) (Qm Γ true ad χ (pI Q)) (frB Γ) := by
  refine Mt.start (by decide) RX0 rfl (Nat.le_of_ble_eq_true rfl) ?_
  intro X hX hG _ _ hna _ hf
  unfold w_C_named at hf
  refine g_aload_n hX 0 dX0_named_0 rfl rfl ?_
  refine g_iload_n hX 1 dX0_named_1 rfl rfl ?_
  refine g_callVi hX (n := 1) (mt_C_isPart X.l X.Γ _ _ _ _) hf q458 q460 qs4 q85 q461 ⟨rfl, hy_C_isPart⟩ (by decide) (fc0 _) ff0 rfl rfl rfl (Nat.le_of_ble_eq_true rfl) dX0_named_2 (fun r1 χ2 hf hc2 => ?_)
  refine g_if_eq hX 15 dX0_named_5 (by decide) (fun z => ?_) (fun z => ?_)
  · replace hf := hf.1 z
    refine g_iconst hX (v := (-1 : Int32)) dX0_named_15 rfl ?_
    exact g_iret hX ⟨_, rfl, hf⟩ dX0_named_16
  · replace hf := hf.2 z
    refine g_iload_n hX 2 dX0_named_8 rfl rfl ?_
    refine g_callSi hX (n := 1) (mt_C_isSet X.l X.Γ _ _ _ _) hf q887 q888 q85 q889 hy_C_isSet (by decide) rfl rfl (Nat.le_of_ble_eq_true rfl) dX0_named_9 (fun r3 χ4 hf hc4 => ?_)
    refine g_if_ne hX 17 dX0_named_12 (by decide) (fun z => ?_) (fun z => ?_)
    · replace hf := hf.1 z
      refine g_aload_n hX 0 dX0_named_17 rfl rfl ?_
      refine g_iload_n hX 1 dX0_named_18 rfl rfl ?_
      refine g_callVv hX (n := 1) (mt_C_findWeights X.l X.Γ _ _ _ _) hf q816 q818 qs21 q85 q819 ⟨rfl, hy_C_findWeights⟩ (by decide) (fc0 _) ff0 rfl rfl rfl (Nat.le_of_ble_eq_true rfl) dX0_named_19 (fun χ5 hf hc5 => ?_)
      refine g_aload_n hX 0 dX0_named_22 rfl rfl ?_
      refine g_getL hX (k := 14) (fc0 _) ff0 rfl rfl in_X0 (by decide) q214 dX0_named_23 ?_
      refine g_lconst hX (v := (0 : Int64)) dX0_named_26 rfl ?_
      refine g_lcmp hX dX0_named_27 ?_
      refine g_if_ne hX 36 dX0_named_28 (by decide) (fun z => ?_) (fun z => ?_)
      · replace hf := hf.1 z
        refine g_aload_n hX 0 dX0_named_36 rfl rfl ?_
        refine g_iload_n hX 1 dX0_named_37 rfl rfl ?_
        refine g_iload_n hX 2 dX0_named_38 rfl rfl ?_
        refine g_aload_n hX 0 dX0_named_39 rfl rfl ?_
        refine g_iload_n hX 1 dX0_named_40 rfl rfl ?_
        refine g_callVi hX (n := 1) (mt_C_unseen X.l X.Γ _ _ _ _) hf q890 q892 qs29 q85 q893 ⟨rfl, hy_C_unseen⟩ (by decide) (fc0 _) ff0 rfl rfl rfl (Nat.le_of_ble_eq_true rfl) dX0_named_41 (fun r6 χ7 hf hc7 => ?_)
        refine g_iand hX dX0_named_44 ?_
        refine g_aload_n hX 0 dX0_named_45 rfl rfl ?_
        refine g_getL hX (k := 14) (fc0 _) ff0 rfl rfl in_X0 (by decide) q214 dX0_named_46 ?_
        refine g_callVi hX (n := 3) (mt_C_namedOf X.l X.Γ _ _ _ _ _ _) hf q894 q896 qs30 q85 q897 ⟨rfl, hy_C_namedOf⟩ (by decide) (fc0 _) ff0 rfl rfl rfl (Nat.le_of_ble_eq_true rfl) dX0_named_49 (fun r8 χ9 hf hc9 => ?_)
        exact g_iret hX ⟨_, rfl, hf⟩ dX0_named_52
      · replace hf := hf.2 z
        refine g_bipush hX (v := (-2 : Int32)) dX0_named_31 rfl ?_
        refine g_goto hX 52 dX0_named_33 (by decide) ?_
        exact g_iret hX ⟨_, rfl, hf⟩ dX0_named_52
    · replace hf := hf.2 z
      refine g_iconst hX (v := (-1 : Int32)) dX0_named_15 rfl ?_
      exact g_iret hX ⟨_, rfl, hf⟩ dX0_named_16

def w_C_minutesOf_33 (Q : Int32 → St → Prop) (K4 : Int32 → Int32 → Int32 → St → Prop) (x1 : Int32) (x3 : Int32) (z0 : Int32) (z1 : Int32) (χ : St) : Prop := (K4 x1 (z1 + z0) (x3 + (1 : Int32)) χ)
def w_C_minutesOf_4 (Q : Int32 → St → Prop) : Nat → Int32 → Int32 → Int32 → St → Prop
  | 0 => fun _ _ _ _ => False
  | n + 1 => fun x1 x2 x3 χ => (((6 : Int32) ≤ x3 → (Q x2 χ)) ∧ (¬ (6 : Int32) ≤ x3 → ((¬ ((x1 >>> (x3 &&& 31)) &&& (1 : Int32)) = (1 : Int32) → (w_C_minutesOf_33 Q (w_C_minutesOf_4 Q n) x1 x3 (0 : Int32) x2 χ)) ∧ (((x1 >>> (x3 &&& 31)) &&& (1 : Int32)) = (1 : Int32) → (vp_in x3 6) ∧ ((w_C_minutesOf_33 Q (w_C_minutesOf_4 Q n) x1 x3 (gI χ 2000 x3.toNatClampNeg 0) x2 χ))))))
def w_C_minutesOf (x1 : Int32) (χ : St) (Q : Int32 → St → Prop) : Prop := (∃ k4, w_C_minutesOf_4 Q k4 x1 (0 : Int32) (0 : Int32) χ)
set_option maxHeartbeats 4000000 in
theorem mt_C_minutesOf (l : Launch) (Γ : Gh) (ad : Nat → Nat → Nat) (x1 : Int32) (χ : St) (Q : Int32 → St → Prop) : Mt l yX0_minutesOf (ws_ yX0_minutesOf cX0_minutesOf 4 (some .int)) (rmO (0) (0) χ) (Pm Γ ad χ [.ref (ad 0 0), .int x1] (w_C_minutesOf x1 χ Q)) (Qm Γ true ad χ (pI Q)) (frB Γ) := by
  refine Mt.start (by decide) RX0 rfl (Nat.le_of_ble_eq_true rfl) ?_
  intro X hX hG _ _ hna _ hf
  have B33 : ∀ (K4 : Int32 → Int32 → Int32 → St → Prop) (hK4 : ∀ (ad : Nat → Nat → Nat) (x1 : Int32) (x2 : Int32) (x3 : Int32) (χ : St), K4 x1 x2 x3 χ → G X ad χ 4 [(0, .ref (ad 0 0)), (1, .int x1), (2, .int x2), (3, .int x3)] []) (ad : Nat → Nat → Nat) (x1 : Int32) (x3 : Int32) (z0 : Int32) (z1 : Int32) (χ : St), w_C_minutesOf_33 Q K4 x1 x3 z0 z1 χ → G X ad χ 33 [(0, .ref (ad 0 0)), (1, .int x1), (3, .int x3)] [.int z0, .int z1] := by
    intro K4 hK4 ad x1 x3 z0 z1 χ hf
    unfold w_C_minutesOf_33 at hf
    refine g_iadd hX dX0_minutesOf_33 ?_
    refine g_istore_n hX dX0_minutesOf_34 rfl (by decide) rfl ?_
    refine g_iinc hX (v := _) 3 dX0_minutesOf_35 rfl rfl (by decide) rfl ?_
    refine g_goto hX 4 dX0_minutesOf_38 (by decide) ?_
    refine g_sub [2, 3, 1, 0] rfl ?_
    exact hK4 _ _ _ _ _ hf
  have B4 : ∀ (n : Nat) (ad : Nat → Nat → Nat) (x1 : Int32) (x2 : Int32) (x3 : Int32) (χ : St), w_C_minutesOf_4 Q n x1 x2 x3 χ → G X ad χ 4 [(0, .ref (ad 0 0)), (1, .int x1), (2, .int x2), (3, .int x3)] [] := by
    intro n
    induction n with
    | zero => intro ad x1 x2 x3 χ hf; exact hf.elim
    | succ n hK4 =>
      intro ad x1 x2 x3 χ hf
      unfold w_C_minutesOf_4 at hf
      refine g_iload_n hX 3 dX0_minutesOf_4 rfl rfl ?_
      refine g_bipush hX (v := (6 : Int32)) dX0_minutesOf_5 rfl ?_
      refine g_icmp_ge hX 41 dX0_minutesOf_7 (by decide) (fun z => ?_) (fun z => ?_)
      · replace hf := hf.1 z
        refine g_iload_n hX 2 dX0_minutesOf_41 rfl rfl ?_
        exact g_iret hX ⟨_, rfl, hf⟩ dX0_minutesOf_42
      · replace hf := hf.2 z
        refine g_iload_n hX 2 dX0_minutesOf_10 rfl rfl ?_
        refine g_iload_n hX 1 dX0_minutesOf_11 rfl rfl ?_
        refine g_iload_n hX 3 dX0_minutesOf_12 rfl rfl ?_
        refine g_ishr hX dX0_minutesOf_13 ?_
        refine g_iconst hX (v := (1 : Int32)) dX0_minutesOf_14 rfl ?_
        refine g_iand hX dX0_minutesOf_15 ?_
        refine g_iconst hX (v := (1 : Int32)) dX0_minutesOf_16 rfl ?_
        refine g_icmp_ne hX 32 dX0_minutesOf_17 (by decide) (fun z => ?_) (fun z => ?_)
        · replace hf := hf.1 z
          refine g_iconst hX (v := (0 : Int32)) dX0_minutesOf_32 rfl ?_
          refine g_sub [0, 1, 3] rfl ?_
          exact B33 (w_C_minutesOf_4 Q n) hK4 _ _ _ _ _ _ hf
        · replace hf := hf.2 z
          refine g_aload_n hX 0 dX0_minutesOf_20 rfl rfl ?_
          refine g_getK hX (k := 2) (d := 3) (fc0 _) ff0 rfl (by decide) rfl rfl in_X0 (by decide) q200 dX0_minutesOf_21 ?_
          refine g_iload_n hX 3 dX0_minutesOf_24 rfl rfl ?_
          have hg1 := hf.1
          replace hf := hf.2
          refine g_aaldK hX (fc3 _) ff3 rfl hg1 dX0_minutesOf_25 ?_
          refine g_getIN hX (k := 0) (fc19 (vp_lt hg1)) ff19 rfl rfl in_X2 (by decide) q165 dX0_minutesOf_26 ?_
          refine g_goto hX 33 dX0_minutesOf_29 (by decide) ?_
          refine g_sub [0, 1, 3] rfl ?_
          exact B33 (w_C_minutesOf_4 Q n) hK4 _ _ _ _ _ _ hf
  unfold w_C_minutesOf at hf
  refine g_iconst hX (v := (0 : Int32)) dX0_minutesOf_0 rfl ?_
  refine g_istore_n hX dX0_minutesOf_1 rfl (by decide) rfl ?_
  refine g_iconst hX (v := (0 : Int32)) dX0_minutesOf_2 rfl ?_
  refine g_istore_n hX dX0_minutesOf_3 rfl (by decide) rfl ?_
  obtain ⟨n0, hf⟩ := hf
  refine g_sub [2, 3, 1, 0] rfl ?_
  exact B4 n0 _ _ _ _ _ hf

def w_C_plan_143 (Q : Int32 → St → Prop) (K58 : Int32 → Int32 → Int64 → Int32 → Int32 → Int32 → Int32 → St → Prop) (x1 : Int32) (x2 : Int32) (x3 : Int64) (x5 : Int32) (x6 : Int32) (x7 : Int32) (x8 : Int32) (χ : St) : Prop := (K58 x1 x2 x3 x5 x6 x7 (x8 + (1 : Int32)) χ)
def w_C_plan_135 (Q : Int32 → St → Prop) (K58 : Int32 → Int32 → Int64 → Int32 → Int32 → Int32 → Int32 → St → Prop) (x1 : Int32) (x2 : Int32) (x3 : Int64) (x5 : Int32) (x8 : Int32) (x9 : Int32) (χ : St) : Prop := (w_C_plan_143 Q K58 x1 x2 x3 x5 x8 x9 x8 χ)
def w_C_plan_58 (Q : Int32 → St → Prop) : Nat → Int32 → Int32 → Int64 → Int32 → Int32 → Int32 → Int32 → St → Prop
  | 0 => fun _ _ _ _ _ _ _ _ => False
  | n + 1 => fun x1 x2 x3 x5 x6 x7 x8 χ => (((64 : Int32) ≤ x8 → (Q x6 χ)) ∧ (¬ (64 : Int32) ≤ x8 → ((¬ (x8 &&& (x5 ^^^ (-1 : Int32))) = 0 → (w_C_plan_143 Q (w_C_plan_58 Q n) x1 x2 x3 x5 x6 x7 x8 χ)) ∧ ((x8 &&& (x5 ^^^ (-1 : Int32))) = 0 → (w_C_minutesOf x8 χ (fun r8 χ9 => ((r8 ≤ x2 → (w_C_namedOf x1 x8 x3 χ9 (fun r10 χ11 => ((x6 < 0 → (w_C_plan_135 Q (w_C_plan_58 Q n) x1 x2 x3 x5 x8 r10 χ11)) ∧ (¬ x6 < 0 → ((r10 < x7 → (w_C_plan_143 Q (w_C_plan_58 Q n) x1 x2 x3 x5 x6 x7 x8 χ11)) ∧ (¬ r10 < x7 → ((¬ r10 = x7 → (w_C_plan_135 Q (w_C_plan_58 Q n) x1 x2 x3 x5 x8 r10 χ11)) ∧ (r10 = x7 → (w_C_minutesOf x8 χ11 (fun r12 χ13 => (w_C_minutesOf x6 χ13 (fun r14 χ15 => ((r12 < r14 → (w_C_plan_135 Q (w_C_plan_58 Q n) x1 x2 x3 x5 x8 r10 χ15)) ∧ (¬ r12 < r14 → (w_C_plan_143 Q (w_C_plan_58 Q n) x1 x2 x3 x5 x6 x7 x8 χ15)))))))))))))))) ∧ (¬ r8 ≤ x2 → (w_C_plan_143 Q (w_C_plan_58 Q n) x1 x2 x3 x5 x6 x7 x8 χ9)))))))))
def w_C_plan (x1 : Int32) (x2 : Int32) (χ : St) (Q : Int32 → St → Prop) : Prop := (w_C_isPart x1 χ (fun r1 χ2 => ((r1 = 0 → (Q (-1 : Int32) χ2)) ∧ (¬ r1 = 0 → (w_C_in x2 (0 : Int32) (54 : Int32) χ2 (fun r3 χ4 => ((¬ r3 = 0 → (w_C_findWeights x1 χ4 (fun χ5 => ((¬ (lg_cmp (gL χ5 114 0 0) (0 : Int64)) = 0 → (w_C_unseen x1 χ5 (fun r6 χ7 => (∃ k58, w_C_plan_58 Q k58 x1 x2 (gL χ5 114 0 0) r6 (-1 : Int32) (0 : Int32) (0 : Int32) χ7)))) ∧ ((lg_cmp (gL χ5 114 0 0) (0 : Int64)) = 0 → (Q (-2 : Int32) χ5)))))) ∧ (r3 = 0 → (Q (-1 : Int32) χ4)))))))))
set_option maxHeartbeats 4000000 in
theorem mt_C_plan (l : Launch) (Γ : Gh) (ad : Nat → Nat → Nat) (x1 : Int32) (x2 : Int32) (χ : St) (Q : Int32 → St → Prop) : Mt l yX0_plan (ws_ yX0_plan cX0_plan 10 (some .int)) (rmO (265) (5316) χ) (Pm Γ ad χ [.ref (ad 0 0), .int x1, .int x2] (w_C_plan x1 x2 χ Q)) (Qm Γ true ad χ (pI Q)) (frB Γ) := by
  refine Mt.start (by decide) RX0 rfl (Nat.le_of_ble_eq_true rfl) ?_
  intro X hX hG _ _ hna _ hf
  have B143 : ∀ (K58 : Int32 → Int32 → Int64 → Int32 → Int32 → Int32 → Int32 → St → Prop) (hK58 : ∀ (ad : Nat → Nat → Nat) (x1 : Int32) (x2 : Int32) (x3 : Int64) (x5 : Int32) (x6 : Int32) (x7 : Int32) (x8 : Int32) (χ : St), K58 x1 x2 x3 x5 x6 x7 x8 χ → G X ad χ 58 [(0, .ref (ad 0 0)), (1, .int x1), (2, .int x2), (3, .long x3), (5, .int x5), (6, .int x6), (7, .int x7), (8, .int x8)] []) (ad : Nat → Nat → Nat) (x1 : Int32) (x2 : Int32) (x3 : Int64) (x5 : Int32) (x6 : Int32) (x7 : Int32) (x8 : Int32) (χ : St), w_C_plan_143 Q K58 x1 x2 x3 x5 x6 x7 x8 χ → G X ad χ 143 [(0, .ref (ad 0 0)), (1, .int x1), (2, .int x2), (3, .long x3), (5, .int x5), (6, .int x6), (7, .int x7), (8, .int x8)] [] := by
    intro K58 hK58 ad x1 x2 x3 x5 x6 x7 x8 χ hf
    unfold w_C_plan_143 at hf
    refine g_iinc hX (v := _) 7 dX0_plan_143 rfl rfl (by decide) rfl ?_
    refine g_goto hX 58 dX0_plan_146 (by decide) ?_
    refine g_sub [1, 2, 3, 4, 5, 6, 7, 0] rfl ?_
    exact hK58 _ _ _ _ _ _ _ _ _ hf
  have B135 : ∀ (K58 : Int32 → Int32 → Int64 → Int32 → Int32 → Int32 → Int32 → St → Prop) (hK58 : ∀ (ad : Nat → Nat → Nat) (x1 : Int32) (x2 : Int32) (x3 : Int64) (x5 : Int32) (x6 : Int32) (x7 : Int32) (x8 : Int32) (χ : St), K58 x1 x2 x3 x5 x6 x7 x8 χ → G X ad χ 58 [(0, .ref (ad 0 0)), (1, .int x1), (2, .int x2), (3, .long x3), (5, .int x5), (6, .int x6), (7, .int x7), (8, .int x8)] []) (ad : Nat → Nat → Nat) (x1 : Int32) (x2 : Int32) (x3 : Int64) (x5 : Int32) (x8 : Int32) (x9 : Int32) (χ : St), w_C_plan_135 Q K58 x1 x2 x3 x5 x8 x9 χ → G X ad χ 135 [(0, .ref (ad 0 0)), (1, .int x1), (2, .int x2), (3, .long x3), (5, .int x5), (8, .int x8), (9, .int x9)] [] := by
    intro K58 hK58 ad x1 x2 x3 x5 x8 x9 χ hf
    unfold w_C_plan_135 at hf
    refine g_iload hX 5 dX0_plan_135 rfl ?_
    refine g_istore hX dX0_plan_137 (by decide) rfl ?_
    refine g_iload hX 7 dX0_plan_139 rfl ?_
    refine g_istore hX dX0_plan_141 (by decide) rfl ?_
    refine g_sub [2, 3, 4, 5, 6, 1, 0, 7] rfl ?_
    exact B143 K58 hK58 _ _ _ _ _ _ _ _ _ hf
  have B58 : ∀ (n : Nat) (ad : Nat → Nat → Nat) (x1 : Int32) (x2 : Int32) (x3 : Int64) (x5 : Int32) (x6 : Int32) (x7 : Int32) (x8 : Int32) (χ : St), w_C_plan_58 Q n x1 x2 x3 x5 x6 x7 x8 χ → G X ad χ 58 [(0, .ref (ad 0 0)), (1, .int x1), (2, .int x2), (3, .long x3), (5, .int x5), (6, .int x6), (7, .int x7), (8, .int x8)] [] := by
    intro n
    induction n with
    | zero => intro ad x1 x2 x3 x5 x6 x7 x8 χ hf; exact hf.elim
    | succ n hK58 =>
      intro ad x1 x2 x3 x5 x6 x7 x8 χ hf
      unfold w_C_plan_58 at hf
      refine g_iload hX 7 dX0_plan_58 rfl ?_
      refine g_bipush hX (v := (64 : Int32)) dX0_plan_60 rfl ?_
      refine g_icmp_ge hX 149 dX0_plan_62 (by decide) (fun z => ?_) (fun z => ?_)
      · replace hf := hf.1 z
        refine g_iload hX 5 dX0_plan_149 rfl ?_
        exact g_iret hX ⟨_, rfl, hf⟩ dX0_plan_151
      · replace hf := hf.2 z
        refine g_iload hX 7 dX0_plan_65 rfl ?_
        refine g_iload hX 4 dX0_plan_67 rfl ?_
        refine g_iconst hX (v := (-1 : Int32)) dX0_plan_69 rfl ?_
        refine g_ixor hX dX0_plan_70 ?_
        refine g_iand hX dX0_plan_71 ?_
        refine g_if_ne hX 143 dX0_plan_72 (by decide) (fun z => ?_) (fun z => ?_)
        · replace hf := hf.1 z
          exact B143 (w_C_plan_58 Q n) hK58 _ _ _ _ _ _ _ _ _ hf
        · replace hf := hf.2 z
          refine g_aload_n hX 0 dX0_plan_75 rfl rfl ?_
          refine g_iload hX 7 dX0_plan_76 rfl ?_
          refine g_callVi hX (n := 1) (mt_C_minutesOf X.l X.Γ _ _ _ _) hf q913 q915 qs32 q85 q916 ⟨rfl, hy_C_minutesOf⟩ (by decide) (fc0 _) ff0 rfl rfl rfl (Nat.le_of_ble_eq_true rfl) dX0_plan_78 (fun r8 χ9 hf hc9 => ?_)
          refine g_iload_n hX 2 dX0_plan_81 rfl rfl ?_
          refine g_icmp_le hX 88 dX0_plan_82 (by decide) (fun z => ?_) (fun z => ?_)
          · replace hf := hf.1 z
            refine g_aload_n hX 0 dX0_plan_88 rfl rfl ?_
            refine g_iload_n hX 1 dX0_plan_89 rfl rfl ?_
            refine g_iload hX 7 dX0_plan_90 rfl ?_
            refine g_lload_n hX 3 dX0_plan_92 rfl rfl ?_
            refine g_callVi hX (n := 3) (mt_C_namedOf X.l X.Γ _ _ _ _ _ _) hf q894 q896 qs30 q85 q897 ⟨rfl, hy_C_namedOf⟩ (by decide) (fc0 _) ff0 rfl rfl rfl (Nat.le_of_ble_eq_true rfl) dX0_plan_93 (fun r10 χ11 hf hc11 => ?_)
            refine g_istore hX dX0_plan_96 (by decide) rfl ?_
            refine g_iload hX 6 dX0_plan_98 rfl ?_
            refine g_if_lt hX 135 dX0_plan_100 (by decide) (fun z => ?_) (fun z => ?_)
            · replace hf := hf.1 z
              refine g_sub [1, 2, 3, 4, 5, 8, 0] rfl ?_
              exact B135 (w_C_plan_58 Q n) hK58 _ _ _ _ _ _ _ _ hf
            · replace hf := hf.2 z
              refine g_iload hX 0 dX0_plan_103 rfl ?_
              refine g_iload hX 7 dX0_plan_105 rfl ?_
              refine g_icmp_lt hX 143 dX0_plan_107 (by decide) (fun z => ?_) (fun z => ?_)
              · replace hf := hf.1 z
                refine g_sub [1, 2, 3, 4, 5, 6, 7, 8] rfl ?_
                exact B143 (w_C_plan_58 Q n) hK58 _ _ _ _ _ _ _ _ _ hf
              · replace hf := hf.2 z
                refine g_iload hX 0 dX0_plan_110 rfl ?_
                refine g_iload hX 7 dX0_plan_112 rfl ?_
                refine g_icmp_ne hX 135 dX0_plan_114 (by decide) (fun z => ?_) (fun z => ?_)
                · replace hf := hf.1 z
                  refine g_sub [1, 2, 3, 4, 5, 8, 0] rfl ?_
                  exact B135 (w_C_plan_58 Q n) hK58 _ _ _ _ _ _ _ _ hf
                · replace hf := hf.2 z
                  refine g_aload_n hX 1 dX0_plan_117 rfl rfl ?_
                  refine g_iload hX 8 dX0_plan_118 rfl ?_
                  refine g_callVi hX (n := 1) (mt_C_minutesOf X.l X.Γ _ _ _ _) hf q913 q915 qs32 q85 q916 ⟨rfl, hy_C_minutesOf⟩ (by decide) (fc0 _) ff0 rfl rfl rfl (Nat.le_of_ble_eq_true rfl) dX0_plan_120 (fun r12 χ13 hf hc13 => ?_)
                  refine g_aload_n hX 1 dX0_plan_123 rfl rfl ?_
                  refine g_iload hX 6 dX0_plan_124 rfl ?_
                  refine g_callVi hX (n := 1) (mt_C_minutesOf X.l X.Γ _ _ _ _) hf q913 q915 qs32 q85 q916 ⟨rfl, hy_C_minutesOf⟩ (by decide) (fc0 _) ff0 rfl rfl rfl (Nat.le_of_ble_eq_true rfl) dX0_plan_126 (fun r14 χ15 hf hc15 => ?_)
                  refine g_icmp_lt hX 135 dX0_plan_129 (by decide) (fun z => ?_) (fun z => ?_)
                  · replace hf := hf.1 z
                    refine g_sub [1, 2, 3, 4, 5, 8, 0] rfl ?_
                    exact B135 (w_C_plan_58 Q n) hK58 _ _ _ _ _ _ _ _ hf
                  · replace hf := hf.2 z
                    refine g_goto hX 143 dX0_plan_132 (by decide) ?_
                    refine g_sub [1, 2, 3, 4, 5, 6, 7, 8] rfl ?_
                    exact B143 (w_C_plan_58 Q n) hK58 _ _ _ _ _ _ _ _ _ hf
          · replace hf := hf.2 z
            refine g_goto hX 143 dX0_plan_85 (by decide) ?_
            exact B143 (w_C_plan_58 Q n) hK58 _ _ _ _ _ _ _ _ _ hf
  unfold w_C_plan at hf
  refine g_aload_n hX 0 dX0_plan_0 rfl rfl ?_
  refine g_iload_n hX 1 dX0_plan_1 rfl rfl ?_
  refine g_callVi hX (n := 1) (mt_C_isPart X.l X.Γ _ _ _ _) hf q458 q460 qs4 q85 q461 ⟨rfl, hy_C_isPart⟩ (by decide) (fc0 _) ff0 rfl rfl rfl (Nat.le_of_ble_eq_true rfl) dX0_plan_2 (fun r1 χ2 hf hc2 => ?_)
  refine g_if_eq hX 18 dX0_plan_5 (by decide) (fun z => ?_) (fun z => ?_)
  · replace hf := hf.1 z
    refine g_iconst hX (v := (-1 : Int32)) dX0_plan_18 rfl ?_
    exact g_iret hX ⟨_, rfl, hf⟩ dX0_plan_19
  · replace hf := hf.2 z
    refine g_iload_n hX 2 dX0_plan_8 rfl rfl ?_
    refine g_iconst hX (v := (0 : Int32)) dX0_plan_9 rfl ?_
    refine g_bipush hX (v := (54 : Int32)) dX0_plan_10 rfl ?_
    refine g_callSi hX (n := 3) (mt_C_in X.l X.Γ _ _ _ _ _ _) hf q281 q282 q85 q283 hy_C_in (by decide) rfl rfl (Nat.le_of_ble_eq_true rfl) dX0_plan_12 (fun r3 χ4 hf hc4 => ?_)
    refine g_if_ne hX 20 dX0_plan_15 (by decide) (fun z => ?_) (fun z => ?_)
    · replace hf := hf.1 z
      refine g_aload_n hX 0 dX0_plan_20 rfl rfl ?_
      refine g_iload_n hX 1 dX0_plan_21 rfl rfl ?_
      refine g_callVv hX (n := 1) (mt_C_findWeights X.l X.Γ _ _ _ _) hf q816 q818 qs21 q85 q819 ⟨rfl, hy_C_findWeights⟩ (by decide) (fc0 _) ff0 rfl rfl rfl (Nat.le_of_ble_eq_true rfl) dX0_plan_22 (fun χ5 hf hc5 => ?_)
      refine g_aload_n hX 0 dX0_plan_25 rfl rfl ?_
      refine g_getL hX (k := 14) (fc0 _) ff0 rfl rfl in_X0 (by decide) q214 dX0_plan_26 ?_
      refine g_lconst hX (v := (0 : Int64)) dX0_plan_29 rfl ?_
      refine g_lcmp hX dX0_plan_30 ?_
      refine g_if_ne hX 37 dX0_plan_31 (by decide) (fun z => ?_) (fun z => ?_)
      · replace hf := hf.1 z
        refine g_aload_n hX 0 dX0_plan_37 rfl rfl ?_
        refine g_getL hX (k := 14) (fc0 _) ff0 rfl rfl in_X0 (by decide) q214 dX0_plan_38 ?_
        refine g_lstore_n hX dX0_plan_41 rfl (by decide) rfl ?_
        refine g_aload_n hX 1 dX0_plan_42 rfl rfl ?_
        refine g_iload_n hX 2 dX0_plan_43 rfl rfl ?_
        refine g_callVi hX (n := 1) (mt_C_unseen X.l X.Γ _ _ _ _) hf q890 q892 qs29 q85 q893 ⟨rfl, hy_C_unseen⟩ (by decide) (fc0 _) ff0 rfl rfl rfl (Nat.le_of_ble_eq_true rfl) dX0_plan_44 (fun r6 χ7 hf hc7 => ?_)
        refine g_istore hX dX0_plan_47 (by decide) rfl ?_
        refine g_iconst hX (v := (-1 : Int32)) dX0_plan_49 rfl ?_
        refine g_istore hX dX0_plan_50 (by decide) rfl ?_
        refine g_iconst hX (v := (0 : Int32)) dX0_plan_52 rfl ?_
        refine g_istore hX dX0_plan_53 (by decide) rfl ?_
        refine g_iconst hX (v := (0 : Int32)) dX0_plan_55 rfl ?_
        refine g_istore hX dX0_plan_56 (by decide) rfl ?_
        obtain ⟨n0, hf⟩ := hf
        refine g_sub [5, 6, 7, 4, 3, 2, 1, 0] rfl ?_
        exact B58 n0 _ _ _ _ _ _ _ _ _ hf
      · replace hf := hf.2 z
        refine g_bipush hX (v := (-2 : Int32)) dX0_plan_34 rfl ?_
        exact g_iret hX ⟨_, rfl, hf⟩ dX0_plan_36
    · replace hf := hf.2 z
      refine g_iconst hX (v := (-1 : Int32)) dX0_plan_18 rfl ?_
      exact g_iret hX ⟨_, rfl, hf⟩ dX0_plan_19

def w_C_weighMade_27 (Q : St → Prop) (K2 : Int32 → Int32 → St → Prop) (x1 : Int32) (x2 : Int32) (z0 : Int32) (z1 : Int32) (χ : St) : Prop := (vp_in z1 6) ∧ ((∀ χ2 : St, χ2 = (sI χ 11 0 z1.toNatClampNeg (vp_nar .byte z0.toInt8.toInt32)) → (K2 x1 (x2 + (1 : Int32)) χ2)))
def w_C_weighMade_2 (Q : St → Prop) : Nat → Int32 → Int32 → St → Prop
  | 0 => fun _ _ _ => False
  | n + 1 => fun x1 x2 χ => (((6 : Int32) ≤ x2 → (w_C_weigh χ (fun χ1 => (Q χ1)))) ∧ (¬ (6 : Int32) ≤ x2 → ((¬ ((x1 >>> (x2 &&& 31)) &&& (1 : Int32)) = (1 : Int32) → (w_C_weighMade_27 Q (w_C_weighMade_2 Q n) x1 x2 (2 : Int32) x2 χ)) ∧ (((x1 >>> (x2 &&& 31)) &&& (1 : Int32)) = (1 : Int32) → (w_C_weighMade_27 Q (w_C_weighMade_2 Q n) x1 x2 (1 : Int32) x2 χ)))))
def w_C_weighMade (x1 : Int32) (χ : St) (Q : St → Prop) : Prop := (∃ k2, w_C_weighMade_2 Q k2 x1 (0 : Int32) χ)
set_option maxHeartbeats 4000000 in
theorem mt_C_weighMade (l : Launch) (Γ : Gh) (ad : Nat → Nat → Nat) (x1 : Int32) (χ : St) (Q : St → Prop) : Mt l yX0_weighMade (ws_ yX0_weighMade cX0_weighMade 3 (none)) (rmO (2) (48) χ) (Pm Γ ad χ [.ref (ad 0 0), .int x1] (w_C_weighMade x1 χ Q)) (Qm Γ true ad χ (pV Q)) (frB Γ) := by
  refine Mt.start (by decide) RX0 rfl (Nat.le_of_ble_eq_true rfl) ?_
  intro X hX hG _ _ hna _ hf
  have B27 : ∀ (K2 : Int32 → Int32 → St → Prop) (hK2 : ∀ (ad : Nat → Nat → Nat) (x1 : Int32) (x2 : Int32) (χ : St), K2 x1 x2 χ → G X ad χ 2 [(0, .ref (ad 0 0)), (1, .int x1), (2, .int x2)] []) (ad : Nat → Nat → Nat) (x1 : Int32) (x2 : Int32) (z0 : Int32) (z1 : Int32) (χ : St), w_C_weighMade_27 Q K2 x1 x2 z0 z1 χ → G X ad χ 27 [(0, .ref (ad 0 0)), (1, .int x1), (2, .int x2)] [.int z0, .int z1, .ref (ad 11 0)] := by
    intro K2 hK2 ad x1 x2 z0 z1 χ hf
    unfold w_C_weighMade_27 at hf
    refine g_i2b hX dX0_weighMade_27 ?_
    refine g_bast hX (fc11 _) ff11 rfl hf.1 dX0_weighMade_28 ?_
    replace hf := hf.2
    replace hf := hf _ rfl
    refine g_iinc hX (v := _) 2 dX0_weighMade_29 rfl rfl (by decide) rfl ?_
    refine g_goto hX 2 dX0_weighMade_32 (by decide) ?_
    refine g_sub [1, 2, 0] rfl ?_
    exact hK2 _ _ _ _ hf
  have B2 : ∀ (n : Nat) (ad : Nat → Nat → Nat) (x1 : Int32) (x2 : Int32) (χ : St), w_C_weighMade_2 Q n x1 x2 χ → G X ad χ 2 [(0, .ref (ad 0 0)), (1, .int x1), (2, .int x2)] [] := by
    intro n
    induction n with
    | zero => intro ad x1 x2 χ hf; exact hf.elim
    | succ n hK2 =>
      intro ad x1 x2 χ hf
      unfold w_C_weighMade_2 at hf
      refine g_iload_n hX 2 dX0_weighMade_2 rfl rfl ?_
      refine g_bipush hX (v := (6 : Int32)) dX0_weighMade_3 rfl ?_
      refine g_icmp_ge hX 35 dX0_weighMade_5 (by decide) (fun z => ?_) (fun z => ?_)
      · replace hf := hf.1 z
        refine g_aload_n hX 0 dX0_weighMade_35 rfl rfl ?_
        refine g_callVv hX (n := 0) (mt_C_weigh X.l X.Γ _ _ _) hf q824 q826 qs23 q85 q827 ⟨rfl, hy_C_weigh⟩ (by decide) (fc0 _) ff0 rfl rfl rfl (Nat.le_of_ble_eq_true rfl) dX0_weighMade_36 (fun χ1 hf hc1 => ?_)
        exact g_vret hX ⟨rfl, hf⟩ dX0_weighMade_39
      · replace hf := hf.2 z
        refine g_aload_n hX 0 dX0_weighMade_8 rfl rfl ?_
        refine g_getK hX (k := 13) (d := 11) (fc0 _) ff0 rfl (by decide) rfl rfl in_X0 (by decide) q213 dX0_weighMade_9 ?_
        refine g_iload_n hX 2 dX0_weighMade_12 rfl rfl ?_
        refine g_iload_n hX 1 dX0_weighMade_13 rfl rfl ?_
        refine g_iload_n hX 2 dX0_weighMade_14 rfl rfl ?_
        refine g_ishr hX dX0_weighMade_15 ?_
        refine g_iconst hX (v := (1 : Int32)) dX0_weighMade_16 rfl ?_
        refine g_iand hX dX0_weighMade_17 ?_
        refine g_iconst hX (v := (1 : Int32)) dX0_weighMade_18 rfl ?_
        refine g_icmp_ne hX 26 dX0_weighMade_19 (by decide) (fun z => ?_) (fun z => ?_)
        · replace hf := hf.1 z
          refine g_iconst hX (v := (2 : Int32)) dX0_weighMade_26 rfl ?_
          exact B27 (w_C_weighMade_2 Q n) hK2 _ _ _ _ _ _ hf
        · replace hf := hf.2 z
          refine g_iconst hX (v := (1 : Int32)) dX0_weighMade_22 rfl ?_
          refine g_goto hX 27 dX0_weighMade_23 (by decide) ?_
          exact B27 (w_C_weighMade_2 Q n) hK2 _ _ _ _ _ _ hf
  unfold w_C_weighMade at hf
  refine g_iconst hX (v := (0 : Int32)) dX0_weighMade_0 rfl ?_
  refine g_istore_n hX dX0_weighMade_1 rfl (by decide) rfl ?_
  obtain ⟨n0, hf⟩ := hf
  refine g_sub [1, 2, 0] rfl ?_
  exact B2 n0 _ _ _ _ hf

def w_C_believedBy (x1 : Int32) (χ : St) (Q : Int32 → St → Prop) : Prop := (w_C_weighMade x1 χ (fun χ1 => (w_C_percentOf (0 : Int32) χ1 (fun r2 χ3 => (Q r2 χ3)))))
set_option maxHeartbeats 4000000 in
theorem mt_C_believedBy (l : Launch) (Γ : Gh) (ad : Nat → Nat → Nat) (x1 : Int32) (χ : St) (Q : Int32 → St → Prop) : Mt l yX0_believedBy (ws_ yX0_believedBy cX0_believedBy 2 (some .int)) (rmO (3) (70) χ) (Pm Γ ad χ [.ref (ad 0 0), .int x1] (w_C_believedBy x1 χ Q)) (Qm Γ true ad χ (pI Q)) (frB Γ) := by
  refine Mt.start (by decide) RX0 rfl (Nat.le_of_ble_eq_true rfl) ?_
  intro X hX hG _ _ hna _ hf
  unfold w_C_believedBy at hf
  refine g_aload_n hX 0 dX0_believedBy_0 rfl rfl ?_
  refine g_iload_n hX 1 dX0_believedBy_1 rfl rfl ?_
  refine g_callVv hX (n := 1) (mt_C_weighMade X.l X.Γ _ _ _ _) hf q925 q927 qs34 q85 q928 ⟨rfl, hy_C_weighMade⟩ (by decide) (fc0 _) ff0 rfl rfl rfl (Nat.le_of_ble_eq_true rfl) dX0_believedBy_2 (fun χ1 hf hc1 => ?_)
  refine g_aload_n hX 0 dX0_believedBy_5 rfl rfl ?_
  refine g_iconst hX (v := (0 : Int32)) dX0_believedBy_6 rfl ?_
  refine g_callVi hX (n := 1) (mt_C_percentOf X.l X.Γ _ _ _ _) hf q839 q841 qs25 q85 q842 ⟨rfl, hy_C_percentOf⟩ (by decide) (fc0 _) ff0 rfl rfl rfl (Nat.le_of_ble_eq_true rfl) dX0_believedBy_7 (fun r2 χ3 hf hc3 => ?_)
  exact g_iret hX ⟨_, rfl, hf⟩ dX0_believedBy_10

def w_C_believed (x1 : Int32) (x2 : Int32) (χ : St) (Q : Int32 → St → Prop) : Prop := (w_C_isPart x1 χ (fun r1 χ2 => ((r1 = 0 → (Q (-1 : Int32) χ2)) ∧ (¬ r1 = 0 → (w_C_isSet x2 χ2 (fun r3 χ4 => ((¬ r3 = 0 → (vp_in x1 8) ∧ ((∃ z6, (gR χ4 1 0 x1.toNatClampNeg) = some z6 ∧ ((w_C_findNumbers z6 χ4 (fun χ7 => (w_C_believedBy x2 χ7 (fun r8 χ9 => (Q r8 χ9))))))))) ∧ (r3 = 0 → (Q (-1 : Int32) χ4)))))))))
set_option maxHeartbeats 4000000 in
theorem mt_C_believed (l : Launch) (Γ : Gh) (ad : Nat → Nat → Nat) (x1 : Int32) (x2 : Int32) (χ : St) (Q : Int32 → St → Prop) : Mt l yX0_believed (ws_ yX0_believed cX0_believed 3 (some .int)) (rmO (264) (5294) χ) (Pm Γ ad χ [.ref (ad 0 0), .int x1, .int x2] (w_C_believed x1 x2 χ Q)) (Qm Γ true ad χ (pI Q)) (frB Γ) := by
  refine Mt.start (by decide) RX0 rfl (Nat.le_of_ble_eq_true rfl) ?_
  intro X hX hG _ _ hna _ hf
  unfold w_C_believed at hf
  refine g_aload_n hX 0 dX0_believed_0 rfl rfl ?_
  refine g_iload_n hX 1 dX0_believed_1 rfl rfl ?_
  refine g_callVi hX (n := 1) (mt_C_isPart X.l X.Γ _ _ _ _) hf q458 q460 qs4 q85 q461 ⟨rfl, hy_C_isPart⟩ (by decide) (fc0 _) ff0 rfl rfl rfl (Nat.le_of_ble_eq_true rfl) dX0_believed_2 (fun r1 χ2 hf hc2 => ?_)
  refine g_if_eq hX 15 dX0_believed_5 (by decide) (fun z => ?_) (fun z => ?_)
  · replace hf := hf.1 z
    refine g_iconst hX (v := (-1 : Int32)) dX0_believed_15 rfl ?_
    exact g_iret hX ⟨_, rfl, hf⟩ dX0_believed_16
  · replace hf := hf.2 z
    refine g_iload_n hX 2 dX0_believed_8 rfl rfl ?_
    refine g_callSi hX (n := 1) (mt_C_isSet X.l X.Γ _ _ _ _) hf q887 q888 q85 q889 hy_C_isSet (by decide) rfl rfl (Nat.le_of_ble_eq_true rfl) dX0_believed_9 (fun r3 χ4 hf hc4 => ?_)
    refine g_if_ne hX 17 dX0_believed_12 (by decide) (fun z => ?_) (fun z => ?_)
    · replace hf := hf.1 z
      refine g_aload_n hX 0 dX0_believed_17 rfl rfl ?_
      refine g_aload_n hX 0 dX0_believed_18 rfl rfl ?_
      refine g_getK hX (k := 0) (d := 1) (fc0 _) ff0 rfl (by decide) rfl rfl in_X0 (by decide) q198 dX0_believed_19 ?_
      refine g_iload_n hX 1 dX0_believed_22 rfl rfl ?_
      have hg5 := hf.1
      replace hf := hf.2
      obtain ⟨z6, hz6, hf⟩ := hf
      refine g_aaldE hX (fc1 _) ff1 rfl rfl hg5 dX0_believed_23 hz6 (fun hvz6 => ?_)
      refine g_callVv hX (n := 1) (mt_C_findNumbers X.l X.Γ _ _ _ _) ⟨hvz6, hf⟩ q820 q822 qs22 q85 q823 ⟨rfl, hy_C_findNumbers⟩ (by decide) (fc0 _) ff0 rfl rfl rfl (Nat.le_of_ble_eq_true rfl) dX0_believed_24 (fun χ7 hf hc7 => ?_)
      refine g_aload_n hX 0 dX0_believed_27 rfl rfl ?_
      refine g_iload_n hX 2 dX0_believed_28 rfl rfl ?_
      refine g_callVi hX (n := 1) (mt_C_believedBy X.l X.Γ _ _ _ _) hf q921 q923 qs33 q85 q924 ⟨rfl, hy_C_believedBy⟩ (by decide) (fc0 _) ff0 rfl rfl rfl (Nat.le_of_ble_eq_true rfl) dX0_believed_29 (fun r8 χ9 hf hc9 => ?_)
      exact g_iret hX ⟨_, rfl, hf⟩ dX0_believed_32
    · replace hf := hf.2 z
      refine g_iconst hX (v := (-1 : Int32)) dX0_believed_15 rfl ?_
      exact g_iret hX ⟨_, rfl, hf⟩ dX0_believed_16

def w_C_costOf_33 (Q : Int32 → St → Prop) (K4 : Int32 → Int32 → Int32 → St → Prop) (x1 : Int32) (x3 : Int32) (z0 : Int32) (z1 : Int32) (χ : St) : Prop := (K4 x1 (z1 + z0) (x3 + (1 : Int32)) χ)
def w_C_costOf_4 (Q : Int32 → St → Prop) : Nat → Int32 → Int32 → Int32 → St → Prop
  | 0 => fun _ _ _ _ => False
  | n + 1 => fun x1 x2 x3 χ => (((6 : Int32) ≤ x3 → (Q x2 χ)) ∧ (¬ (6 : Int32) ≤ x3 → ((¬ ((x1 >>> (x3 &&& 31)) &&& (1 : Int32)) = (1 : Int32) → (w_C_costOf_33 Q (w_C_costOf_4 Q n) x1 x3 (0 : Int32) x2 χ)) ∧ (((x1 >>> (x3 &&& 31)) &&& (1 : Int32)) = (1 : Int32) → (vp_in x3 6) ∧ ((w_C_costOf_33 Q (w_C_costOf_4 Q n) x1 x3 (gI χ 2001 x3.toNatClampNeg 0) x2 χ))))))
def w_C_costOf (x1 : Int32) (χ : St) (Q : Int32 → St → Prop) : Prop := (∃ k4, w_C_costOf_4 Q k4 x1 (0 : Int32) (0 : Int32) χ)
set_option maxHeartbeats 4000000 in
theorem mt_C_costOf (l : Launch) (Γ : Gh) (ad : Nat → Nat → Nat) (x1 : Int32) (χ : St) (Q : Int32 → St → Prop) : Mt l yX0_costOf (ws_ yX0_costOf cX0_costOf 4 (some .int)) (rmO (0) (0) χ) (Pm Γ ad χ [.ref (ad 0 0), .int x1] (w_C_costOf x1 χ Q)) (Qm Γ true ad χ (pI Q)) (frB Γ) := by
  refine Mt.start (by decide) RX0 rfl (Nat.le_of_ble_eq_true rfl) ?_
  intro X hX hG _ _ hna _ hf
  have B33 : ∀ (K4 : Int32 → Int32 → Int32 → St → Prop) (hK4 : ∀ (ad : Nat → Nat → Nat) (x1 : Int32) (x2 : Int32) (x3 : Int32) (χ : St), K4 x1 x2 x3 χ → G X ad χ 4 [(0, .ref (ad 0 0)), (1, .int x1), (2, .int x2), (3, .int x3)] []) (ad : Nat → Nat → Nat) (x1 : Int32) (x3 : Int32) (z0 : Int32) (z1 : Int32) (χ : St), w_C_costOf_33 Q K4 x1 x3 z0 z1 χ → G X ad χ 33 [(0, .ref (ad 0 0)), (1, .int x1), (3, .int x3)] [.int z0, .int z1] := by
    intro K4 hK4 ad x1 x3 z0 z1 χ hf
    unfold w_C_costOf_33 at hf
    refine g_iadd hX dX0_costOf_33 ?_
    refine g_istore_n hX dX0_costOf_34 rfl (by decide) rfl ?_
    refine g_iinc hX (v := _) 3 dX0_costOf_35 rfl rfl (by decide) rfl ?_
    refine g_goto hX 4 dX0_costOf_38 (by decide) ?_
    refine g_sub [2, 3, 1, 0] rfl ?_
    exact hK4 _ _ _ _ _ hf
  have B4 : ∀ (n : Nat) (ad : Nat → Nat → Nat) (x1 : Int32) (x2 : Int32) (x3 : Int32) (χ : St), w_C_costOf_4 Q n x1 x2 x3 χ → G X ad χ 4 [(0, .ref (ad 0 0)), (1, .int x1), (2, .int x2), (3, .int x3)] [] := by
    intro n
    induction n with
    | zero => intro ad x1 x2 x3 χ hf; exact hf.elim
    | succ n hK4 =>
      intro ad x1 x2 x3 χ hf
      unfold w_C_costOf_4 at hf
      refine g_iload_n hX 3 dX0_costOf_4 rfl rfl ?_
      refine g_bipush hX (v := (6 : Int32)) dX0_costOf_5 rfl ?_
      refine g_icmp_ge hX 41 dX0_costOf_7 (by decide) (fun z => ?_) (fun z => ?_)
      · replace hf := hf.1 z
        refine g_iload_n hX 2 dX0_costOf_41 rfl rfl ?_
        exact g_iret hX ⟨_, rfl, hf⟩ dX0_costOf_42
      · replace hf := hf.2 z
        refine g_iload_n hX 2 dX0_costOf_10 rfl rfl ?_
        refine g_iload_n hX 1 dX0_costOf_11 rfl rfl ?_
        refine g_iload_n hX 3 dX0_costOf_12 rfl rfl ?_
        refine g_ishr hX dX0_costOf_13 ?_
        refine g_iconst hX (v := (1 : Int32)) dX0_costOf_14 rfl ?_
        refine g_iand hX dX0_costOf_15 ?_
        refine g_iconst hX (v := (1 : Int32)) dX0_costOf_16 rfl ?_
        refine g_icmp_ne hX 32 dX0_costOf_17 (by decide) (fun z => ?_) (fun z => ?_)
        · replace hf := hf.1 z
          refine g_iconst hX (v := (0 : Int32)) dX0_costOf_32 rfl ?_
          refine g_sub [0, 1, 3] rfl ?_
          exact B33 (w_C_costOf_4 Q n) hK4 _ _ _ _ _ _ hf
        · replace hf := hf.2 z
          refine g_aload_n hX 0 dX0_costOf_20 rfl rfl ?_
          refine g_getK hX (k := 2) (d := 3) (fc0 _) ff0 rfl (by decide) rfl rfl in_X0 (by decide) q200 dX0_costOf_21 ?_
          refine g_iload_n hX 3 dX0_costOf_24 rfl rfl ?_
          have hg1 := hf.1
          replace hf := hf.2
          refine g_aaldK hX (fc3 _) ff3 rfl hg1 dX0_costOf_25 ?_
          refine g_getIN hX (k := 1) (fc19 (vp_lt hg1)) ff19 rfl rfl in_X2 (by decide) q167 dX0_costOf_26 ?_
          refine g_goto hX 33 dX0_costOf_29 (by decide) ?_
          refine g_sub [0, 1, 3] rfl ?_
          exact B33 (w_C_costOf_4 Q n) hK4 _ _ _ _ _ _ hf
  unfold w_C_costOf at hf
  refine g_iconst hX (v := (0 : Int32)) dX0_costOf_0 rfl ?_
  refine g_istore_n hX dX0_costOf_1 rfl (by decide) rfl ?_
  refine g_iconst hX (v := (0 : Int32)) dX0_costOf_2 rfl ?_
  refine g_istore_n hX dX0_costOf_3 rfl (by decide) rfl ?_
  obtain ⟨n0, hf⟩ := hf
  refine g_sub [2, 3, 1, 0] rfl ?_
  exact B4 n0 _ _ _ _ _ hf

def w_C_cheapest_87 (Q : Int32 → St → Prop) (K46 : Int32 → Int32 → Int32 → Int32 → St → Prop) (x2 : Int32) (x3 : Int32) (x4 : Int32) (x5 : Int32) (χ : St) : Prop := (K46 x2 x3 x4 (x5 + (1 : Int32)) χ)
def w_C_cheapest_73 (Q : Int32 → St → Prop) (K46 : Int32 → Int32 → Int32 → Int32 → St → Prop) (x2 : Int32) (x3 : Int32) (x4 : Int32) (x5 : Int32) (χ : St) : Prop := (w_C_believedBy x5 χ (fun r12 χ13 => ((r12 < x2 → (w_C_cheapest_87 Q K46 x2 x3 x4 x5 χ13)) ∧ (¬ r12 < x2 → (w_C_cheapest_87 Q K46 x2 x3 x5 x5 χ13)))))
def w_C_cheapest_46 (Q : Int32 → St → Prop) : Nat → Int32 → Int32 → Int32 → Int32 → St → Prop
  | 0 => fun _ _ _ _ _ => False
  | n + 1 => fun x2 x3 x4 x5 χ => (((64 : Int32) ≤ x5 → ((x4 < 0 → (Q x4 χ)) ∧ (¬ x4 < 0 → ((¬ x3 = 0 → (w_C_costOf x4 χ (fun r10 χ11 => (Q r10 χ11)))) ∧ (x3 = 0 → (Q x4 χ)))))) ∧ (¬ (64 : Int32) ≤ x5 → ((x4 < 0 → (w_C_cheapest_73 Q (w_C_cheapest_46 Q n) x2 x3 x4 x5 χ)) ∧ (¬ x4 < 0 → (w_C_costOf x5 χ (fun r14 χ15 => (w_C_costOf x4 χ15 (fun r16 χ17 => ((r16 ≤ r14 → (w_C_cheapest_87 Q (w_C_cheapest_46 Q n) x2 x3 x4 x5 χ17)) ∧ (¬ r16 ≤ r14 → (w_C_cheapest_73 Q (w_C_cheapest_46 Q n) x2 x3 x4 x5 χ17)))))))))))
def w_C_cheapest (x1 : Int32) (x2 : Int32) (x3 : Int32) (χ : St) (Q : Int32 → St → Prop) : Prop := (w_C_isPart x1 χ (fun r1 χ2 => ((r1 = 0 → (Q (-1 : Int32) χ2)) ∧ (¬ r1 = 0 → (w_C_in x2 (0 : Int32) (100 : Int32) χ2 (fun r3 χ4 => ((r3 = 0 → (Q (-1 : Int32) χ4)) ∧ (¬ r3 = 0 → (w_C_in x3 (0 : Int32) (1 : Int32) χ4 (fun r5 χ6 => ((¬ r5 = 0 → (vp_in x1 8) ∧ ((∃ z8, (gR χ6 1 0 x1.toNatClampNeg) = some z8 ∧ ((w_C_findNumbers z8 χ6 (fun χ9 => (∃ k46, w_C_cheapest_46 Q k46 x2 x3 (-2 : Int32) (0 : Int32) χ9))))))) ∧ (r5 = 0 → (Q (-1 : Int32) χ6)))))))))))))
set_option maxHeartbeats 4000000 in
theorem mt_C_cheapest (l : Launch) (Γ : Gh) (ad : Nat → Nat → Nat) (x1 : Int32) (x2 : Int32) (x3 : Int32) (χ : St) (Q : Int32 → St → Prop) : Mt l yX0_cheapest (ws_ yX0_cheapest cX0_cheapest 6 (some .int)) (rmO (264) (5294) χ) (Pm Γ ad χ [.ref (ad 0 0), .int x1, .int x2, .int x3] (w_C_cheapest x1 x2 x3 χ Q)) (Qm Γ true ad χ (pI Q)) (frB Γ) := by
  refine Mt.start (by decide) RX0 rfl (Nat.le_of_ble_eq_true rfl) ?_
  intro X hX hG _ _ hna _ hf
  have B87 : ∀ (K46 : Int32 → Int32 → Int32 → Int32 → St → Prop) (hK46 : ∀ (ad : Nat → Nat → Nat) (x2 : Int32) (x3 : Int32) (x4 : Int32) (x5 : Int32) (χ : St), K46 x2 x3 x4 x5 χ → G X ad χ 46 [(0, .ref (ad 0 0)), (2, .int x2), (3, .int x3), (4, .int x4), (5, .int x5)] []) (ad : Nat → Nat → Nat) (x2 : Int32) (x3 : Int32) (x4 : Int32) (x5 : Int32) (χ : St), w_C_cheapest_87 Q K46 x2 x3 x4 x5 χ → G X ad χ 87 [(0, .ref (ad 0 0)), (2, .int x2), (3, .int x3), (4, .int x4), (5, .int x5)] [] := by
    intro K46 hK46 ad x2 x3 x4 x5 χ hf
    unfold w_C_cheapest_87 at hf
    refine g_iinc hX (v := _) 4 dX0_cheapest_87 rfl rfl (by decide) rfl ?_
    refine g_goto hX 46 dX0_cheapest_90 (by decide) ?_
    refine g_sub [1, 2, 3, 4, 0] rfl ?_
    exact hK46 _ _ _ _ _ _ hf
  have B73 : ∀ (K46 : Int32 → Int32 → Int32 → Int32 → St → Prop) (hK46 : ∀ (ad : Nat → Nat → Nat) (x2 : Int32) (x3 : Int32) (x4 : Int32) (x5 : Int32) (χ : St), K46 x2 x3 x4 x5 χ → G X ad χ 46 [(0, .ref (ad 0 0)), (2, .int x2), (3, .int x3), (4, .int x4), (5, .int x5)] []) (ad : Nat → Nat → Nat) (x2 : Int32) (x3 : Int32) (x4 : Int32) (x5 : Int32) (χ : St), w_C_cheapest_73 Q K46 x2 x3 x4 x5 χ → G X ad χ 73 [(0, .ref (ad 0 0)), (2, .int x2), (3, .int x3), (4, .int x4), (5, .int x5)] [] := by
    intro K46 hK46 ad x2 x3 x4 x5 χ hf
    unfold w_C_cheapest_73 at hf
    refine g_aload_n hX 0 dX0_cheapest_73 rfl rfl ?_
    refine g_iload hX 4 dX0_cheapest_74 rfl ?_
    refine g_callVi hX (n := 1) (mt_C_believedBy X.l X.Γ _ _ _ _) hf q921 q923 qs33 q85 q924 ⟨rfl, hy_C_believedBy⟩ (by decide) (fc0 _) ff0 rfl rfl rfl (Nat.le_of_ble_eq_true rfl) dX0_cheapest_76 (fun r12 χ13 hf hc13 => ?_)
    refine g_iload_n hX 1 dX0_cheapest_79 rfl rfl ?_
    refine g_icmp_lt hX 87 dX0_cheapest_80 (by decide) (fun z => ?_) (fun z => ?_)
    · replace hf := hf.1 z
      exact B87 K46 hK46 _ _ _ _ _ _ hf
    · replace hf := hf.2 z
      refine g_iload hX 4 dX0_cheapest_83 rfl ?_
      refine g_istore hX dX0_cheapest_85 (by decide) rfl ?_
      refine g_sub [1, 2, 3, 0, 4] rfl ?_
      exact B87 K46 hK46 _ _ _ _ _ _ hf
  have B46 : ∀ (n : Nat) (ad : Nat → Nat → Nat) (x2 : Int32) (x3 : Int32) (x4 : Int32) (x5 : Int32) (χ : St), w_C_cheapest_46 Q n x2 x3 x4 x5 χ → G X ad χ 46 [(0, .ref (ad 0 0)), (2, .int x2), (3, .int x3), (4, .int x4), (5, .int x5)] [] := by
    intro n
    induction n with
    | zero => intro ad x2 x3 x4 x5 χ hf; exact hf.elim
    | succ n hK46 =>
      intro ad x2 x3 x4 x5 χ hf
      unfold w_C_cheapest_46 at hf
      refine g_iload hX 4 dX0_cheapest_46 rfl ?_
      refine g_bipush hX (v := (64 : Int32)) dX0_cheapest_48 rfl ?_
      refine g_icmp_ge hX 93 dX0_cheapest_50 (by decide) (fun z => ?_) (fun z => ?_)
      · replace hf := hf.1 z
        refine g_iload hX 3 dX0_cheapest_93 rfl ?_
        refine g_if_lt hX 102 dX0_cheapest_95 (by decide) (fun z => ?_) (fun z => ?_)
        · replace hf := hf.1 z
          refine g_iload hX 3 dX0_cheapest_102 rfl ?_
          refine g_goto hX 113 dX0_cheapest_104 (by decide) ?_
          exact g_iret hX ⟨_, rfl, hf⟩ dX0_cheapest_113
        · replace hf := hf.2 z
          refine g_iload_n hX 2 dX0_cheapest_98 rfl rfl ?_
          refine g_if_ne hX 107 dX0_cheapest_99 (by decide) (fun z => ?_) (fun z => ?_)
          · replace hf := hf.1 z
            refine g_aload_n hX 0 dX0_cheapest_107 rfl rfl ?_
            refine g_iload hX 3 dX0_cheapest_108 rfl ?_
            refine g_callVi hX (n := 1) (mt_C_costOf X.l X.Γ _ _ _ _) hf q933 q935 qs35 q85 q936 ⟨rfl, hy_C_costOf⟩ (by decide) (fc0 _) ff0 rfl rfl rfl (Nat.le_of_ble_eq_true rfl) dX0_cheapest_110 (fun r10 χ11 hf hc11 => ?_)
            exact g_iret hX ⟨_, rfl, hf⟩ dX0_cheapest_113
          · replace hf := hf.2 z
            refine g_iload hX 3 dX0_cheapest_102 rfl ?_
            refine g_goto hX 113 dX0_cheapest_104 (by decide) ?_
            exact g_iret hX ⟨_, rfl, hf⟩ dX0_cheapest_113
      · replace hf := hf.2 z
        refine g_iload hX 3 dX0_cheapest_53 rfl ?_
        refine g_if_lt hX 73 dX0_cheapest_55 (by decide) (fun z => ?_) (fun z => ?_)
        · replace hf := hf.1 z
          exact B73 (w_C_cheapest_46 Q n) hK46 _ _ _ _ _ _ hf
        · replace hf := hf.2 z
          refine g_aload_n hX 0 dX0_cheapest_58 rfl rfl ?_
          refine g_iload hX 4 dX0_cheapest_59 rfl ?_
          refine g_callVi hX (n := 1) (mt_C_costOf X.l X.Γ _ _ _ _) hf q933 q935 qs35 q85 q936 ⟨rfl, hy_C_costOf⟩ (by decide) (fc0 _) ff0 rfl rfl rfl (Nat.le_of_ble_eq_true rfl) dX0_cheapest_61 (fun r14 χ15 hf hc15 => ?_)
          refine g_aload_n hX 0 dX0_cheapest_64 rfl rfl ?_
          refine g_iload hX 3 dX0_cheapest_65 rfl ?_
          refine g_callVi hX (n := 1) (mt_C_costOf X.l X.Γ _ _ _ _) hf q933 q935 qs35 q85 q936 ⟨rfl, hy_C_costOf⟩ (by decide) (fc0 _) ff0 rfl rfl rfl (Nat.le_of_ble_eq_true rfl) dX0_cheapest_67 (fun r16 χ17 hf hc17 => ?_)
          refine g_icmp_ge hX 87 dX0_cheapest_70 (by decide) (fun z => ?_) (fun z => ?_)
          · replace hf := hf.1 z
            exact B87 (w_C_cheapest_46 Q n) hK46 _ _ _ _ _ _ hf
          · replace hf := hf.2 z
            exact B73 (w_C_cheapest_46 Q n) hK46 _ _ _ _ _ _ hf
  unfold w_C_cheapest at hf
  refine g_aload_n hX 0 dX0_cheapest_0 rfl rfl ?_
  refine g_iload_n hX 1 dX0_cheapest_1 rfl rfl ?_
  refine g_callVi hX (n := 1) (mt_C_isPart X.l X.Γ _ _ _ _) hf q458 q460 qs4 q85 q461 ⟨rfl, hy_C_isPart⟩ (by decide) (fc0 _) ff0 rfl rfl rfl (Nat.le_of_ble_eq_true rfl) dX0_cheapest_2 (fun r1 χ2 hf hc2 => ?_)
  refine g_if_eq hX 27 dX0_cheapest_5 (by decide) (fun z => ?_) (fun z => ?_)
  · replace hf := hf.1 z
    refine g_iconst hX (v := (-1 : Int32)) dX0_cheapest_27 rfl ?_
    exact g_iret hX ⟨_, rfl, hf⟩ dX0_cheapest_28
  · replace hf := hf.2 z
    refine g_iload_n hX 2 dX0_cheapest_8 rfl rfl ?_
    refine g_iconst hX (v := (0 : Int32)) dX0_cheapest_9 rfl ?_
    refine g_bipush hX (v := (100 : Int32)) dX0_cheapest_10 rfl ?_
    refine g_callSi hX (n := 3) (mt_C_in X.l X.Γ _ _ _ _ _ _) hf q281 q282 q85 q283 hy_C_in (by decide) rfl rfl (Nat.le_of_ble_eq_true rfl) dX0_cheapest_12 (fun r3 χ4 hf hc4 => ?_)
    refine g_if_eq hX 27 dX0_cheapest_15 (by decide) (fun z => ?_) (fun z => ?_)
    · replace hf := hf.1 z
      refine g_iconst hX (v := (-1 : Int32)) dX0_cheapest_27 rfl ?_
      exact g_iret hX ⟨_, rfl, hf⟩ dX0_cheapest_28
    · replace hf := hf.2 z
      refine g_iload_n hX 3 dX0_cheapest_18 rfl rfl ?_
      refine g_iconst hX (v := (0 : Int32)) dX0_cheapest_19 rfl ?_
      refine g_iconst hX (v := (1 : Int32)) dX0_cheapest_20 rfl ?_
      refine g_callSi hX (n := 3) (mt_C_in X.l X.Γ _ _ _ _ _ _) hf q281 q282 q85 q283 hy_C_in (by decide) rfl rfl (Nat.le_of_ble_eq_true rfl) dX0_cheapest_21 (fun r5 χ6 hf hc6 => ?_)
      refine g_if_ne hX 29 dX0_cheapest_24 (by decide) (fun z => ?_) (fun z => ?_)
      · replace hf := hf.1 z
        refine g_aload_n hX 0 dX0_cheapest_29 rfl rfl ?_
        refine g_aload_n hX 0 dX0_cheapest_30 rfl rfl ?_
        refine g_getK hX (k := 0) (d := 1) (fc0 _) ff0 rfl (by decide) rfl rfl in_X0 (by decide) q198 dX0_cheapest_31 ?_
        refine g_iload_n hX 1 dX0_cheapest_34 rfl rfl ?_
        have hg7 := hf.1
        replace hf := hf.2
        obtain ⟨z8, hz8, hf⟩ := hf
        refine g_aaldE hX (fc1 _) ff1 rfl rfl hg7 dX0_cheapest_35 hz8 (fun hvz8 => ?_)
        refine g_callVv hX (n := 1) (mt_C_findNumbers X.l X.Γ _ _ _ _) ⟨hvz8, hf⟩ q820 q822 qs22 q85 q823 ⟨rfl, hy_C_findNumbers⟩ (by decide) (fc0 _) ff0 rfl rfl rfl (Nat.le_of_ble_eq_true rfl) dX0_cheapest_36 (fun χ9 hf hc9 => ?_)
        refine g_bipush hX (v := (-2 : Int32)) dX0_cheapest_39 rfl ?_
        refine g_istore hX dX0_cheapest_41 (by decide) rfl ?_
        refine g_iconst hX (v := (0 : Int32)) dX0_cheapest_43 rfl ?_
        refine g_istore hX dX0_cheapest_44 (by decide) rfl ?_
        obtain ⟨n0, hf⟩ := hf
        refine g_sub [2, 4, 5, 1, 0] rfl ?_
        exact B46 n0 _ _ _ _ _ _ hf
      · replace hf := hf.2 z
        refine g_iconst hX (v := (-1 : Int32)) dX0_cheapest_27 rfl ?_
        exact g_iret hX ⟨_, rfl, hf⟩ dX0_cheapest_28

def w_C_spoils_90 (Q : Int32 → St → Prop) (K36 : Int32 → Int32 → Int32 → Int32 → St → Prop) (x2 : Int32) (x3 : Int32) (x4 : Int32) (x5 : Int32) (χ : St) : Prop := (K36 x2 x3 x4 (x5 + (1 : Int32)) χ)
def w_C_spoils_83 (Q : Int32 → St → Prop) (K36 : Int32 → Int32 → Int32 → Int32 → St → Prop) (x2 : Int32) (x5 : Int32) (x6 : Int32) (χ : St) : Prop := (w_C_spoils_90 Q K36 x2 x5 x6 x5 χ)
def w_C_spoils_36 (Q : Int32 → St → Prop) : Nat → Int32 → Int32 → Int32 → Int32 → St → Prop
  | 0 => fun _ _ _ _ _ => False
  | n + 1 => fun x2 x3 x4 x5 χ => (((6 : Int32) ≤ x5 → (Q x3 χ)) ∧ (¬ (6 : Int32) ≤ x5 → ((¬ ((x2 >>> (x5 &&& 31)) &&& (1 : Int32)) = 0 → (w_C_believedBy (x2 &&& (((1 : Int32) <<< (x5 &&& 31)) ^^^ (-1 : Int32))) χ (fun r8 χ9 => ((x3 < 0 → (w_C_spoils_83 Q (w_C_spoils_36 Q n) x2 x5 r8 χ9)) ∧ (¬ x3 < 0 → ((r8 < x4 → (w_C_spoils_83 Q (w_C_spoils_36 Q n) x2 x5 r8 χ9)) ∧ (¬ r8 < x4 → (w_C_spoils_90 Q (w_C_spoils_36 Q n) x2 x3 x4 x5 χ9)))))))) ∧ (((x2 >>> (x5 &&& 31)) &&& (1 : Int32)) = 0 → (w_C_spoils_90 Q (w_C_spoils_36 Q n) x2 x3 x4 x5 χ)))))
def w_C_spoils (x1 : Int32) (x2 : Int32) (χ : St) (Q : Int32 → St → Prop) : Prop := (w_C_isPart x1 χ (fun r1 χ2 => ((r1 = 0 → (Q (-1 : Int32) χ2)) ∧ (¬ r1 = 0 → (w_C_isSet x2 χ2 (fun r3 χ4 => ((¬ r3 = 0 → (vp_in x1 8) ∧ ((∃ z6, (gR χ4 1 0 x1.toNatClampNeg) = some z6 ∧ ((w_C_findNumbers z6 χ4 (fun χ7 => (∃ k36, w_C_spoils_36 Q k36 x2 (-2 : Int32) (0 : Int32) (0 : Int32) χ7))))))) ∧ (r3 = 0 → (Q (-1 : Int32) χ4)))))))))
set_option maxHeartbeats 4000000 in
theorem mt_C_spoils (l : Launch) (Γ : Gh) (ad : Nat → Nat → Nat) (x1 : Int32) (x2 : Int32) (χ : St) (Q : Int32 → St → Prop) : Mt l yX0_spoils (ws_ yX0_spoils cX0_spoils 7 (some .int)) (rmO (264) (5294) χ) (Pm Γ ad χ [.ref (ad 0 0), .int x1, .int x2] (w_C_spoils x1 x2 χ Q)) (Qm Γ true ad χ (pI Q)) (frB Γ) := by
  refine Mt.start (by decide) RX0 rfl (Nat.le_of_ble_eq_true rfl) ?_
  intro X hX hG _ _ hna _ hf
  have B90 : ∀ (K36 : Int32 → Int32 → Int32 → Int32 → St → Prop) (hK36 : ∀ (ad : Nat → Nat → Nat) (x2 : Int32) (x3 : Int32) (x4 : Int32) (x5 : Int32) (χ : St), K36 x2 x3 x4 x5 χ → G X ad χ 36 [(0, .ref (ad 0 0)), (2, .int x2), (3, .int x3), (4, .int x4), (5, .int x5)] []) (ad : Nat → Nat → Nat) (x2 : Int32) (x3 : Int32) (x4 : Int32) (x5 : Int32) (χ : St), w_C_spoils_90 Q K36 x2 x3 x4 x5 χ → G X ad χ 90 [(0, .ref (ad 0 0)), (2, .int x2), (3, .int x3), (4, .int x4), (5, .int x5)] [] := by
    intro K36 hK36 ad x2 x3 x4 x5 χ hf
    unfold w_C_spoils_90 at hf
    refine g_iinc hX (v := _) 4 dX0_spoils_90 rfl rfl (by decide) rfl ?_
    refine g_goto hX 36 dX0_spoils_93 (by decide) ?_
    refine g_sub [1, 2, 3, 4, 0] rfl ?_
    exact hK36 _ _ _ _ _ _ hf
  have B83 : ∀ (K36 : Int32 → Int32 → Int32 → Int32 → St → Prop) (hK36 : ∀ (ad : Nat → Nat → Nat) (x2 : Int32) (x3 : Int32) (x4 : Int32) (x5 : Int32) (χ : St), K36 x2 x3 x4 x5 χ → G X ad χ 36 [(0, .ref (ad 0 0)), (2, .int x2), (3, .int x3), (4, .int x4), (5, .int x5)] []) (ad : Nat → Nat → Nat) (x2 : Int32) (x5 : Int32) (x6 : Int32) (χ : St), w_C_spoils_83 Q K36 x2 x5 x6 χ → G X ad χ 83 [(0, .ref (ad 0 0)), (2, .int x2), (5, .int x5), (6, .int x6)] [] := by
    intro K36 hK36 ad x2 x5 x6 χ hf
    unfold w_C_spoils_83 at hf
    refine g_iload hX 2 dX0_spoils_83 rfl ?_
    refine g_istore_n hX dX0_spoils_85 rfl (by decide) rfl ?_
    refine g_iload hX 4 dX0_spoils_86 rfl ?_
    refine g_istore hX dX0_spoils_88 (by decide) rfl ?_
    refine g_sub [2, 3, 1, 0, 4] rfl ?_
    exact B90 K36 hK36 _ _ _ _ _ _ hf
  have B36 : ∀ (n : Nat) (ad : Nat → Nat → Nat) (x2 : Int32) (x3 : Int32) (x4 : Int32) (x5 : Int32) (χ : St), w_C_spoils_36 Q n x2 x3 x4 x5 χ → G X ad χ 36 [(0, .ref (ad 0 0)), (2, .int x2), (3, .int x3), (4, .int x4), (5, .int x5)] [] := by
    intro n
    induction n with
    | zero => intro ad x2 x3 x4 x5 χ hf; exact hf.elim
    | succ n hK36 =>
      intro ad x2 x3 x4 x5 χ hf
      unfold w_C_spoils_36 at hf
      refine g_iload hX 4 dX0_spoils_36 rfl ?_
      refine g_bipush hX (v := (6 : Int32)) dX0_spoils_38 rfl ?_
      refine g_icmp_ge hX 96 dX0_spoils_40 (by decide) (fun z => ?_) (fun z => ?_)
      · replace hf := hf.1 z
        refine g_iload_n hX 2 dX0_spoils_96 rfl rfl ?_
        exact g_iret hX ⟨_, rfl, hf⟩ dX0_spoils_97
      · replace hf := hf.2 z
        refine g_iload_n hX 1 dX0_spoils_43 rfl rfl ?_
        refine g_iload hX 4 dX0_spoils_44 rfl ?_
        refine g_ishr hX dX0_spoils_46 ?_
        refine g_iconst hX (v := (1 : Int32)) dX0_spoils_47 rfl ?_
        refine g_iand hX dX0_spoils_48 ?_
        refine g_if_ne hX 55 dX0_spoils_49 (by decide) (fun z => ?_) (fun z => ?_)
        · replace hf := hf.1 z
          refine g_aload_n hX 0 dX0_spoils_55 rfl rfl ?_
          refine g_iload_n hX 1 dX0_spoils_56 rfl rfl ?_
          refine g_iconst hX (v := (1 : Int32)) dX0_spoils_57 rfl ?_
          refine g_iload hX 4 dX0_spoils_58 rfl ?_
          refine g_ishl hX dX0_spoils_60 ?_
          refine g_iconst hX (v := (-1 : Int32)) dX0_spoils_61 rfl ?_
          refine g_ixor hX dX0_spoils_62 ?_
          refine g_iand hX dX0_spoils_63 ?_
          refine g_callVi hX (n := 1) (mt_C_believedBy X.l X.Γ _ _ _ _) hf q921 q923 qs33 q85 q924 ⟨rfl, hy_C_believedBy⟩ (by decide) (fc0 _) ff0 rfl rfl rfl (Nat.le_of_ble_eq_true rfl) dX0_spoils_64 (fun r8 χ9 hf hc9 => ?_)
          refine g_istore hX dX0_spoils_67 (by decide) rfl ?_
          refine g_iload_n hX 3 dX0_spoils_69 rfl rfl ?_
          refine g_if_lt hX 83 dX0_spoils_70 (by decide) (fun z => ?_) (fun z => ?_)
          · replace hf := hf.1 z
            refine g_sub [1, 2, 5, 0] rfl ?_
            exact B83 (w_C_spoils_36 Q n) hK36 _ _ _ _ _ hf
          · replace hf := hf.2 z
            refine g_iload hX 0 dX0_spoils_73 rfl ?_
            refine g_iload hX 4 dX0_spoils_75 rfl ?_
            refine g_icmp_lt hX 83 dX0_spoils_77 (by decide) (fun z => ?_) (fun z => ?_)
            · replace hf := hf.1 z
              refine g_sub [1, 2, 5, 0] rfl ?_
              exact B83 (w_C_spoils_36 Q n) hK36 _ _ _ _ _ hf
            · replace hf := hf.2 z
              refine g_goto hX 90 dX0_spoils_80 (by decide) ?_
              refine g_sub [1, 2, 3, 4, 5] rfl ?_
              exact B90 (w_C_spoils_36 Q n) hK36 _ _ _ _ _ _ hf
        · replace hf := hf.2 z
          refine g_goto hX 90 dX0_spoils_52 (by decide) ?_
          exact B90 (w_C_spoils_36 Q n) hK36 _ _ _ _ _ _ hf
  unfold w_C_spoils at hf
  refine g_aload_n hX 0 dX0_spoils_0 rfl rfl ?_
  refine g_iload_n hX 1 dX0_spoils_1 rfl rfl ?_
  refine g_callVi hX (n := 1) (mt_C_isPart X.l X.Γ _ _ _ _) hf q458 q460 qs4 q85 q461 ⟨rfl, hy_C_isPart⟩ (by decide) (fc0 _) ff0 rfl rfl rfl (Nat.le_of_ble_eq_true rfl) dX0_spoils_2 (fun r1 χ2 hf hc2 => ?_)
  refine g_if_eq hX 15 dX0_spoils_5 (by decide) (fun z => ?_) (fun z => ?_)
  · replace hf := hf.1 z
    refine g_iconst hX (v := (-1 : Int32)) dX0_spoils_15 rfl ?_
    exact g_iret hX ⟨_, rfl, hf⟩ dX0_spoils_16
  · replace hf := hf.2 z
    refine g_iload_n hX 2 dX0_spoils_8 rfl rfl ?_
    refine g_callSi hX (n := 1) (mt_C_isSet X.l X.Γ _ _ _ _) hf q887 q888 q85 q889 hy_C_isSet (by decide) rfl rfl (Nat.le_of_ble_eq_true rfl) dX0_spoils_9 (fun r3 χ4 hf hc4 => ?_)
    refine g_if_ne hX 17 dX0_spoils_12 (by decide) (fun z => ?_) (fun z => ?_)
    · replace hf := hf.1 z
      refine g_aload_n hX 0 dX0_spoils_17 rfl rfl ?_
      refine g_aload_n hX 0 dX0_spoils_18 rfl rfl ?_
      refine g_getK hX (k := 0) (d := 1) (fc0 _) ff0 rfl (by decide) rfl rfl in_X0 (by decide) q198 dX0_spoils_19 ?_
      refine g_iload_n hX 1 dX0_spoils_22 rfl rfl ?_
      have hg5 := hf.1
      replace hf := hf.2
      obtain ⟨z6, hz6, hf⟩ := hf
      refine g_aaldE hX (fc1 _) ff1 rfl rfl hg5 dX0_spoils_23 hz6 (fun hvz6 => ?_)
      refine g_callVv hX (n := 1) (mt_C_findNumbers X.l X.Γ _ _ _ _) ⟨hvz6, hf⟩ q820 q822 qs22 q85 q823 ⟨rfl, hy_C_findNumbers⟩ (by decide) (fc0 _) ff0 rfl rfl rfl (Nat.le_of_ble_eq_true rfl) dX0_spoils_24 (fun χ7 hf hc7 => ?_)
      refine g_bipush hX (v := (-2 : Int32)) dX0_spoils_27 rfl ?_
      refine g_istore_n hX dX0_spoils_29 rfl (by decide) rfl ?_
      refine g_iconst hX (v := (0 : Int32)) dX0_spoils_30 rfl ?_
      refine g_istore hX dX0_spoils_31 (by decide) rfl ?_
      refine g_iconst hX (v := (0 : Int32)) dX0_spoils_33 rfl ?_
      refine g_istore hX dX0_spoils_34 (by decide) rfl ?_
      obtain ⟨n0, hf⟩ := hf
      refine g_sub [3, 5, 2, 1, 0] rfl ?_
      exact B36 n0 _ _ _ _ _ _ hf
    · replace hf := hf.2 z
      refine g_iconst hX (v := (-1 : Int32)) dX0_spoils_15 rfl ?_
      exact g_iret hX ⟨_, rfl, hf⟩ dX0_spoils_16

def w_C_priceOf_9 (Q : Int32 → St → Prop) : Nat → Int32 → Int32 → St → Prop
  | 0 => fun _ _ _ => False
  | n + 1 => fun x2 x3 χ => (((6 : Int32) ≤ x3 → (Q (x2 / (100 : Int32)) χ)) ∧ (¬ (6 : Int32) ≤ x3 → (vp_in x3 6) ∧ ((w_C_percentOf x3 χ (fun r3 χ4 => (∀ v5 : Int32, v5 = (x2 + ((gI χ 1901 x3.toNatClampNeg 0) * r3)) → (w_C_priceOf_9 Q n v5 (x3 + (1 : Int32)) χ4)))))))
def w_C_priceOf (x1 : Int32) (χ : St) (Q : Int32 → St → Prop) : Prop := (w_C_findWeights x1 χ (fun χ1 => (∃ k9, w_C_priceOf_9 Q k9 (0 : Int32) (0 : Int32) χ1)))
set_option maxHeartbeats 4000000 in
theorem mt_C_priceOf (l : Launch) (Γ : Gh) (ad : Nat → Nat → Nat) (x1 : Int32) (χ : St) (Q : Int32 → St → Prop) : Mt l yX0_priceOf (ws_ yX0_priceOf cX0_priceOf 4 (some .int)) (rmO (265) (5316) χ) (Pm Γ ad χ [.ref (ad 0 0), .int x1] (w_C_priceOf x1 χ Q)) (Qm Γ true ad χ (pI Q)) (frB Γ) := by
  refine Mt.start (by decide) RX0 rfl (Nat.le_of_ble_eq_true rfl) ?_
  intro X hX hG _ _ hna _ hf
  have B9 : ∀ (n : Nat) (ad : Nat → Nat → Nat) (x2 : Int32) (x3 : Int32) (χ : St), w_C_priceOf_9 Q n x2 x3 χ → G X ad χ 9 [(0, .ref (ad 0 0)), (2, .int x2), (3, .int x3)] [] := by
    intro n
    induction n with
    | zero => intro ad x2 x3 χ hf; exact hf.elim
    | succ n hK9 =>
      intro ad x2 x3 χ hf
      unfold w_C_priceOf_9 at hf
      refine g_iload_n hX 2 dX0_priceOf_9 rfl rfl ?_
      refine g_bipush hX (v := (6 : Int32)) dX0_priceOf_10 rfl ?_
      refine g_icmp_ge hX 39 dX0_priceOf_12 (by decide) (fun z => ?_) (fun z => ?_)
      · replace hf := hf.1 z
        refine g_iload_n hX 1 dX0_priceOf_39 rfl rfl ?_
        refine g_bipush hX (v := (100 : Int32)) dX0_priceOf_40 rfl ?_
        refine g_idiv hX dX0_priceOf_42 (by decide) ?_
        exact g_iret hX ⟨_, rfl, hf⟩ dX0_priceOf_43
      · replace hf := hf.2 z
        refine g_iload_n hX 1 dX0_priceOf_15 rfl rfl ?_
        refine g_aload_n hX 0 dX0_priceOf_16 rfl rfl ?_
        refine g_getK hX (k := 1) (d := 2) (fc0 _) ff0 rfl (by decide) rfl rfl in_X0 (by decide) q199 dX0_priceOf_17 ?_
        refine g_iload_n hX 2 dX0_priceOf_20 rfl rfl ?_
        have hg2 := hf.1
        replace hf := hf.2
        refine g_aaldK hX (fc2 _) ff2 rfl hg2 dX0_priceOf_21 ?_
        refine g_getIN hX (k := 1) (fc18 (vp_lt hg2)) ff18 rfl rfl in_X1 (by decide) q151 dX0_priceOf_22 ?_
        refine g_aload_n hX 0 dX0_priceOf_25 rfl rfl ?_
        refine g_iload_n hX 2 dX0_priceOf_26 rfl rfl ?_
        refine g_callVi hX (n := 1) (mt_C_percentOf X.l X.Γ _ _ _ _) hf q839 q841 qs25 q85 q842 ⟨rfl, hy_C_percentOf⟩ (by decide) (fc0 _) ff0 rfl rfl rfl (Nat.le_of_ble_eq_true rfl) dX0_priceOf_27 (fun r3 χ4 hf hc4 => ?_)
        refine g_imul hX dX0_priceOf_30 ?_
        refine g_iadd hX dX0_priceOf_31 ?_
        replace hf := hf _ rfl
        refine g_istore_n hX dX0_priceOf_32 rfl (by decide) rfl ?_
        refine g_iinc hX (v := _) 2 dX0_priceOf_33 rfl rfl (by decide) rfl ?_
        refine g_goto hX 9 dX0_priceOf_36 (by decide) ?_
        refine g_sub [2, 1, 0] rfl ?_
        exact hK9 _ _ _ _ hf
  unfold w_C_priceOf at hf
  refine g_aload_n hX 0 dX0_priceOf_0 rfl rfl ?_
  refine g_iload_n hX 1 dX0_priceOf_1 rfl rfl ?_
  refine g_callVv hX (n := 1) (mt_C_findWeights X.l X.Γ _ _ _ _) hf q816 q818 qs21 q85 q819 ⟨rfl, hy_C_findWeights⟩ (by decide) (fc0 _) ff0 rfl rfl rfl (Nat.le_of_ble_eq_true rfl) dX0_priceOf_2 (fun χ1 hf hc1 => ?_)
  refine g_iconst hX (v := (0 : Int32)) dX0_priceOf_5 rfl ?_
  refine g_istore_n hX dX0_priceOf_6 rfl (by decide) rfl ?_
  refine g_iconst hX (v := (0 : Int32)) dX0_priceOf_7 rfl ?_
  refine g_istore_n hX dX0_priceOf_8 rfl (by decide) rfl ?_
  obtain ⟨n0, hf⟩ := hf
  refine g_sub [2, 1, 0] rfl ?_
  exact B9 n0 _ _ _ _ hf

def w_C_price_29 (Q : Int32 → St → Prop) : Nat → Int32 → Int32 → St → Prop
  | 0 => fun _ _ _ => False
  | n + 1 => fun x2 x3 χ => (((gI χ 103 0 0) ≤ x3 → (Q x2 χ)) ∧ (¬ (gI χ 103 0 0) ≤ x3 → (w_C_priceOf x3 χ (fun r1 χ2 => (w_C_price_29 Q n (x2 + r1) (x3 + (1 : Int32)) χ2)))))
def w_C_price_15 (Q : Int32 → St → Prop) (x1 : Int32) (χ : St) : Prop := ((x1 < 0 → (∃ k29, w_C_price_29 Q k29 (0 : Int32) (0 : Int32) χ)) ∧ (¬ x1 < 0 → (w_C_priceOf x1 χ (fun r3 χ4 => (Q r3 χ4)))))
def w_C_price (x1 : Int32) (χ : St) (Q : Int32 → St → Prop) : Prop := ((x1 = (-1 : Int32) → (w_C_price_15 Q x1 χ)) ∧ (¬ x1 = (-1 : Int32) → (w_C_isPart x1 χ (fun r5 χ6 => ((¬ r5 = 0 → (w_C_price_15 Q x1 χ6)) ∧ (r5 = 0 → (Q (-1 : Int32) χ6)))))))
set_option maxHeartbeats 4000000 in
theorem mt_C_price (l : Launch) (Γ : Gh) (ad : Nat → Nat → Nat) (x1 : Int32) (χ : St) (Q : Int32 → St → Prop) : Mt l yX0_price (ws_ yX0_price cX0_price 4 (some .int)) (rmO (266) (5339) χ) (Pm Γ ad χ [.ref (ad 0 0), .int x1] (w_C_price x1 χ Q)) (Qm Γ true ad χ (pI Q)) (frB Γ) := by
  refine Mt.start (by decide) RX0 rfl (Nat.le_of_ble_eq_true rfl) ?_
  intro X hX hG _ _ hna _ hf
  have B29 : ∀ (n : Nat) (ad : Nat → Nat → Nat) (x2 : Int32) (x3 : Int32) (χ : St), w_C_price_29 Q n x2 x3 χ → G X ad χ 29 [(0, .ref (ad 0 0)), (2, .int x2), (3, .int x3)] [] := by
    intro n
    induction n with
    | zero => intro ad x2 x3 χ hf; exact hf.elim
    | succ n hK29 =>
      intro ad x2 x3 χ hf
      unfold w_C_price_29 at hf
      refine g_iload_n hX 2 dX0_price_29 rfl rfl ?_
      refine g_aload_n hX 0 dX0_price_30 rfl rfl ?_
      refine g_getI hX (k := 3) (fc0 _) ff0 rfl rfl in_X0 (by decide) q201 dX0_price_31 ?_
      refine g_icmp_ge hX 51 dX0_price_34 (by decide) (fun z => ?_) (fun z => ?_)
      · replace hf := hf.1 z
        refine g_iload_n hX 1 dX0_price_51 rfl rfl ?_
        exact g_iret hX ⟨_, rfl, hf⟩ dX0_price_52
      · replace hf := hf.2 z
        refine g_iload_n hX 1 dX0_price_37 rfl rfl ?_
        refine g_aload_n hX 0 dX0_price_38 rfl rfl ?_
        refine g_iload_n hX 2 dX0_price_39 rfl rfl ?_
        refine g_callVi hX (n := 1) (mt_C_priceOf X.l X.Γ _ _ _ _) hf q945 q947 qs36 q85 q948 ⟨rfl, hy_C_priceOf⟩ (by decide) (fc0 _) ff0 rfl rfl rfl (Nat.le_of_ble_eq_true rfl) dX0_price_40 (fun r1 χ2 hf hc2 => ?_)
        refine g_iadd hX dX0_price_43 ?_
        refine g_istore_n hX dX0_price_44 rfl (by decide) rfl ?_
        refine g_iinc hX (v := _) 2 dX0_price_45 rfl rfl (by decide) rfl ?_
        refine g_goto hX 29 dX0_price_48 (by decide) ?_
        refine g_sub [2, 1, 0] rfl ?_
        exact hK29 _ _ _ _ hf
  have B15 : ∀ (ad : Nat → Nat → Nat) (x1 : Int32) (χ : St), w_C_price_15 Q x1 χ → G X ad χ 15 [(0, .ref (ad 0 0)), (1, .int x1)] [] := by
    intro ad x1 χ hf
    unfold w_C_price_15 at hf
    refine g_iload_n hX 1 dX0_price_15 rfl rfl ?_
    refine g_if_lt hX 25 dX0_price_16 (by decide) (fun z => ?_) (fun z => ?_)
    · replace hf := hf.1 z
      refine g_iconst hX (v := (0 : Int32)) dX0_price_25 rfl ?_
      refine g_istore_n hX dX0_price_26 rfl (by decide) rfl ?_
      refine g_iconst hX (v := (0 : Int32)) dX0_price_27 rfl ?_
      refine g_istore_n hX dX0_price_28 rfl (by decide) rfl ?_
      obtain ⟨n0, hf⟩ := hf
      refine g_sub [2, 1, 0] rfl ?_
      exact B29 n0 _ _ _ _ hf
    · replace hf := hf.2 z
      refine g_aload_n hX 0 dX0_price_19 rfl rfl ?_
      refine g_iload_n hX 1 dX0_price_20 rfl rfl ?_
      refine g_callVi hX (n := 1) (mt_C_priceOf X.l X.Γ _ _ _ _) hf q945 q947 qs36 q85 q948 ⟨rfl, hy_C_priceOf⟩ (by decide) (fc0 _) ff0 rfl rfl rfl (Nat.le_of_ble_eq_true rfl) dX0_price_21 (fun r3 χ4 hf hc4 => ?_)
      exact g_iret hX ⟨_, rfl, hf⟩ dX0_price_24
  unfold w_C_price at hf
  refine g_iload_n hX 1 dX0_price_0 rfl rfl ?_
  refine g_iconst hX (v := (-1 : Int32)) dX0_price_1 rfl ?_
  refine g_icmp_eq hX 15 dX0_price_2 (by decide) (fun z => ?_) (fun z => ?_)
  · replace hf := hf.1 z
    exact B15 _ _ _ hf
  · replace hf := hf.2 z
    refine g_aload_n hX 0 dX0_price_5 rfl rfl ?_
    refine g_iload_n hX 1 dX0_price_6 rfl rfl ?_
    refine g_callVi hX (n := 1) (mt_C_isPart X.l X.Γ _ _ _ _) hf q458 q460 qs4 q85 q461 ⟨rfl, hy_C_isPart⟩ (by decide) (fc0 _) ff0 rfl rfl rfl (Nat.le_of_ble_eq_true rfl) dX0_price_7 (fun r5 χ6 hf hc6 => ?_)
    refine g_if_ne hX 15 dX0_price_10 (by decide) (fun z => ?_) (fun z => ?_)
    · replace hf := hf.1 z
      exact B15 _ _ _ hf
    · replace hf := hf.2 z
      refine g_iconst hX (v := (-1 : Int32)) dX0_price_13 rfl ?_
      exact g_iret hX ⟨_, rfl, hf⟩ dX0_price_14

def w_X15_init (x0 : Nat) (x1 : Int32) (x2 : Int32) (x3 : Int32) (χ : St) (Q : St → Prop) : Prop := (∀ χ1 : St, χ1 = (sI χ 2300 x0 0 x1) → (∀ χ2 : St, χ2 = (sI χ1 2301 x0 0 x2) → (∀ χ3 : St, χ3 = (sI χ2 2302 x0 0 x3) → (Q χ3))))
set_option maxHeartbeats 4000000 in
theorem mt_X15_init (l : Launch) (Γ : Gh) (ad : Nat → Nat → Nat) (x0 : Nat) (x1 : Int32) (x2 : Int32) (x3 : Int32) (χ : St) (Q : St → Prop) : Mt l yX15_init (ws_ yX15_init cX15_init 4 (none)) (rmO (1) (20) χ) (Pm Γ ad χ [.ref (ad 22 x0), .int x1, .int x2, .int x3] (x0 < cn χ 22 ∧ w_X15_init x0 x1 x2 x3 χ Q)) (Qm Γ true ad χ (pV Q)) (frB Γ) := by
  refine Mt.start (by decide) RX15 rfl (Nat.le_of_ble_eq_true rfl) ?_
  intro X hX hG _ _ hna _ ⟨hv0, hf⟩
  unfold w_X15_init at hf
  refine g_aload_n hX 0 dX15_init_0 rfl rfl ?_
  refine g_objInit hX q957 q138 q139 ⟨by decide, by decide⟩ (Nat.le_of_ble_eq_true rfl) dX15_init_1 ?_
  refine g_aload_n hX 0 dX15_init_4 rfl rfl ?_
  refine g_iload_n hX 1 dX15_init_5 rfl rfl ?_
  refine g_putIF hX rfl (k := 0) hv0 ff22 rfl rfl in_X15 tyX15_ok nmX15 (by decide) q958 rfl rfl rfl rfl rfl dX15_init_6 ?_
  replace hf := hf _ rfl
  refine g_aload_n hX 0 dX15_init_9 rfl rfl ?_
  refine g_iload_n hX 2 dX15_init_10 rfl rfl ?_
  refine g_putIF hX rfl (k := 1) hv0 ff22 rfl rfl in_X15 tyX15_ok nmX15 (by decide) q960 rfl rfl rfl rfl rfl dX15_init_11 ?_
  replace hf := hf _ rfl
  refine g_aload_n hX 0 dX15_init_14 rfl rfl ?_
  refine g_iload_n hX 3 dX15_init_15 rfl rfl ?_
  refine g_putIF hX rfl (k := 2) hv0 ff22 rfl rfl in_X15 tyX15_ok nmX15 (by decide) q962 rfl rfl rfl rfl rfl dX15_init_16 ?_
  replace hf := hf _ rfl
  exact g_vret hX ⟨rfl, hf⟩ dX15_init_19

def w_C_paper (x1 : Int32) (x2 : Int32) (χ : St) (Q : Int32 → St → Prop) : Prop := ((x1 < 0 → (Q (-1 : Int32) χ)) ∧ (¬ x1 < 0 → (w_C_isTime (x1 / (100 : Int32)) χ (fun r1 χ2 => ((r1 = 0 → (Q (-1 : Int32) χ2)) ∧ (¬ r1 = 0 → (w_C_isTime (x1 - x1 / (100 : Int32) * (100 : Int32)) χ2 (fun r3 χ4 => ((r3 = 0 → (Q (-1 : Int32) χ4)) ∧ (¬ r3 = 0 → (((x1 - x1 / (100 : Int32) * (100 : Int32)) < (x1 / (100 : Int32)) → (Q (-1 : Int32) χ4)) ∧ (¬ (x1 - x1 / (100 : Int32) * (100 : Int32)) < (x1 / (100 : Int32)) → (w_C_in x2 (0 : Int32) (9 : Int32) χ4 (fun r5 χ6 => ((¬ r5 = 0 → ((¬ (gI χ6 118 0 0) = (10 : Int32) → (uC χ6 + 1 ≤ 603072) ∧ (uS χ6 + 3 ≤ 7262314) ∧ ((∀ χ7 : St, χ7 = (alo χ6 22 0 3) → (w_X15_init (nO χ6 22) (x1 / (100 : Int32)) (x1 - x1 / (100 : Int32) * (100 : Int32)) x2 χ7 (fun χ8 => (vp_in (gI χ6 118 0 0) 10) ∧ ((∀ χ9 : St, χ9 = (sR χ8 14 0 (gI χ6 118 0 0).toNatClampNeg (some (nO χ6 22))) → (∀ χ10 : St, χ10 = (sI χ9 118 0 0 ((gI χ9 118 0 0) + (1 : Int32))) → (Q ((gI χ10 118 0 0) - (1 : Int32)) χ10))))))))) ∧ ((gI χ6 118 0 0) = (10 : Int32) → (Q (-3 : Int32) χ6)))) ∧ (r5 = 0 → (Q (-1 : Int32) χ6)))))))))))))))))
set_option maxHeartbeats 4000000 in
theorem mt_C_paper (l : Launch) (Γ : Gh) (ad : Nat → Nat → Nat) (x1 : Int32) (x2 : Int32) (χ : St) (Q : Int32 → St → Prop) : Mt l yX0_paper (ws_ yX0_paper cX0_paper 3 (some .int)) (rmO (2) (43) χ) (Pm Γ ad χ [.ref (ad 0 0), .int x1, .int x2] (w_C_paper x1 x2 χ Q)) (Qm Γ false ad χ (pI Q)) (frB Γ) := by
  refine Mt.start (by decide) RX0 rfl (Nat.le_of_ble_eq_true rfl) ?_
  intro X hX hG _ _ hna _ hf
  unfold w_C_paper at hf
  refine g_iload_n hX 1 dX0_paper_0 rfl rfl ?_
  refine g_if_lt hX 45 dX0_paper_1 (by decide) (fun z => ?_) (fun z => ?_)
  · replace hf := hf.1 z
    refine g_iconst hX (v := (-1 : Int32)) dX0_paper_45 rfl ?_
    exact g_iret hX ⟨_, rfl, hf⟩ dX0_paper_46
  · replace hf := hf.2 z
    refine g_iload_n hX 1 dX0_paper_4 rfl rfl ?_
    refine g_bipush hX (v := (100 : Int32)) dX0_paper_5 rfl ?_
    refine g_idiv hX dX0_paper_7 (by decide) ?_
    refine g_callSi hX (n := 1) (mt_C_isTime X.l X.Γ _ _ _ _) hf q767 q768 q85 q769 hy_C_isTime (by decide) rfl rfl (Nat.le_of_ble_eq_true rfl) dX0_paper_8 (fun r1 χ2 hf hc2 => ?_)
    refine g_if_eq hX 45 dX0_paper_11 (by decide) (fun z => ?_) (fun z => ?_)
    · replace hf := hf.1 z
      refine g_iconst hX (v := (-1 : Int32)) dX0_paper_45 rfl ?_
      exact g_iret hX ⟨_, rfl, hf⟩ dX0_paper_46
    · replace hf := hf.2 z
      refine g_iload_n hX 1 dX0_paper_14 rfl rfl ?_
      refine g_bipush hX (v := (100 : Int32)) dX0_paper_15 rfl ?_
      refine g_irem hX dX0_paper_17 (by decide) ?_
      refine g_callSi hX (n := 1) (mt_C_isTime X.l X.Γ _ _ _ _) hf q767 q768 q85 q769 hy_C_isTime (by decide) rfl rfl (Nat.le_of_ble_eq_true rfl) dX0_paper_18 (fun r3 χ4 hf hc4 => ?_)
      refine g_if_eq hX 45 dX0_paper_21 (by decide) (fun z => ?_) (fun z => ?_)
      · replace hf := hf.1 z
        refine g_iconst hX (v := (-1 : Int32)) dX0_paper_45 rfl ?_
        exact g_iret hX ⟨_, rfl, hf⟩ dX0_paper_46
      · replace hf := hf.2 z
        refine g_iload_n hX 1 dX0_paper_24 rfl rfl ?_
        refine g_bipush hX (v := (100 : Int32)) dX0_paper_25 rfl ?_
        refine g_idiv hX dX0_paper_27 (by decide) ?_
        refine g_iload_n hX 1 dX0_paper_28 rfl rfl ?_
        refine g_bipush hX (v := (100 : Int32)) dX0_paper_29 rfl ?_
        refine g_irem hX dX0_paper_31 (by decide) ?_
        refine g_icmp_gt hX 45 dX0_paper_32 (by decide) (fun z => ?_) (fun z => ?_)
        · replace hf := hf.1 z
          refine g_iconst hX (v := (-1 : Int32)) dX0_paper_45 rfl ?_
          exact g_iret hX ⟨_, rfl, hf⟩ dX0_paper_46
        · replace hf := hf.2 z
          refine g_iload_n hX 2 dX0_paper_35 rfl rfl ?_
          refine g_iconst hX (v := (0 : Int32)) dX0_paper_36 rfl ?_
          refine g_bipush hX (v := (9 : Int32)) dX0_paper_37 rfl ?_
          refine g_callSi hX (n := 3) (mt_C_in X.l X.Γ _ _ _ _ _ _) hf q281 q282 q85 q283 hy_C_in (by decide) rfl rfl (Nat.le_of_ble_eq_true rfl) dX0_paper_39 (fun r5 χ6 hf hc6 => ?_)
          refine g_if_ne hX 47 dX0_paper_42 (by decide) (fun z => ?_) (fun z => ?_)
          · replace hf := hf.1 z
            refine g_aload_n hX 0 dX0_paper_47 rfl rfl ?_
            refine g_getI hX (k := 18) (fc0 _) ff0 rfl rfl in_X0 (by decide) q218 dX0_paper_48 ?_
            refine g_bipush hX (v := (10 : Int32)) dX0_paper_51 rfl ?_
            refine g_icmp_ne hX 59 dX0_paper_53 (by decide) (fun z => ?_) (fun z => ?_)
            · replace hf := hf.1 z
              refine g_aload_n hX 0 dX0_paper_59 rfl rfl ?_
              refine g_getK hX (k := 17) (d := 14) (fc0 _) ff0 rfl (by decide) rfl rfl in_X0 (by decide) q217 dX0_paper_60 ?_
              refine g_aload_n hX 0 dX0_paper_63 rfl rfl ?_
              refine g_getI hX (k := 18) (fc0 _) ff0 rfl rfl in_X0 (by decide) q218 dX0_paper_64 ?_
              refine g_new hX hna (c := 22) (t := 0) tyX15 rfl rfl (by decide) rfl in_X15 tyX15_ok df_X15 q192 q953 q114 hf.1 hf.2.1 dX0_paper_67 (fun ad7 hE7 => ?_)
              replace hf := hf.2.2 _ rfl
              rw [← hE7.1 0 0 (fc0 _)]
              rw [← hE7.1 14 0 (fc14 _)]
              refine g_dup hX dX0_paper_70 rfl ?_
              refine g_iload_n hX 1 dX0_paper_71 rfl rfl ?_
              refine g_bipush hX (v := (100 : Int32)) dX0_paper_72 rfl ?_
              refine g_idiv hX dX0_paper_74 (by decide) ?_
              refine g_iload_n hX 1 dX0_paper_75 rfl rfl ?_
              refine g_bipush hX (v := (100 : Int32)) dX0_paper_76 rfl ?_
              refine g_irem hX dX0_paper_78 (by decide) ?_
              refine g_iload_n hX 2 dX0_paper_79 rfl rfl ?_
              refine g_callIv hX (n := 3) (mt_X15_init X.l X.Γ _ _ _ _ _ _ _) ⟨(new_lt rfl), hf⟩ rfl q954 q955 q114 q956 hy_X15_init (by decide) rfl rfl (Nat.le_of_ble_eq_true rfl) dX0_paper_80 (fun χ8 hf hc8 => ?_)
              refine g_aast hX (fc14 _) ff14 rfl rfl hf.1 (Nat.lt_of_lt_of_le (new_lt rfl) (hc8 22)) ff22 rfl (AsOk.self hX rfl) dX0_paper_83 ?_
              replace hf := hf.2
              replace hf := hf _ rfl
              refine g_aload_n hX 0 dX0_paper_84 rfl rfl ?_
              refine g_dup hX dX0_paper_85 rfl ?_
              refine g_getI hX (k := 18) (fc0 _) ff0 rfl rfl in_X0 (by decide) q218 dX0_paper_86 ?_
              refine g_iconst hX (v := (1 : Int32)) dX0_paper_89 rfl ?_
              refine g_iadd hX dX0_paper_90 ?_
              refine g_putI hX (k := 18) (fc0 _) ff0 rfl rfl in_X0 tyX0_ok nmX0 (by decide) q218 rfl rfl rfl rfl dX0_paper_91 ?_
              replace hf := hf _ rfl
              refine g_aload_n hX 0 dX0_paper_94 rfl rfl ?_
              refine g_getI hX (k := 18) (fc0 _) ff0 rfl rfl in_X0 (by decide) q218 dX0_paper_95 ?_
              refine g_iconst hX (v := (1 : Int32)) dX0_paper_98 rfl ?_
              refine g_isub hX dX0_paper_99 ?_
              exact g_iret hX ⟨_, rfl, hf⟩ dX0_paper_100
            · replace hf := hf.2 z
              refine g_bipush hX (v := (-3 : Int32)) dX0_paper_56 rfl ?_
              exact g_iret hX ⟨_, rfl, hf⟩ dX0_paper_58
          · replace hf := hf.2 z
            refine g_iconst hX (v := (-1 : Int32)) dX0_paper_45 rfl ?_
            exact g_iret hX ⟨_, rfl, hf⟩ dX0_paper_46

def w_X15_meets (x0 : Nat) (x1 : Nat) (χ : St) (Q : Int32 → St → Prop) : Prop := (((gI χ 2301 x1 0) < (gI χ 2300 x0 0) → (Q (0 : Int32) χ)) ∧ (¬ (gI χ 2301 x1 0) < (gI χ 2300 x0 0) → (((gI χ 2301 x0 0) < (gI χ 2300 x1 0) → (Q (0 : Int32) χ)) ∧ (¬ (gI χ 2301 x0 0) < (gI χ 2300 x1 0) → (Q (1 : Int32) χ)))))
set_option maxHeartbeats 4000000 in
theorem mt_X15_meets (l : Launch) (Γ : Gh) (ad : Nat → Nat → Nat) (x0 : Nat) (x1 : Nat) (χ : St) (Q : Int32 → St → Prop) : Mt l yX15_meets (ws_ yX15_meets cX15_meets 2 (some .boolean)) (rmO (0) (0) χ) (Pm Γ ad χ [.ref (ad 22 x0), .ref (ad 22 x1)] (x0 < cn χ 22 ∧ x1 < cn χ 22 ∧ w_X15_meets x0 x1 χ Q)) (Qm Γ true ad χ (pI Q)) (frB Γ) := by
  refine Mt.start (by decide) RX15 rfl (Nat.le_of_ble_eq_true rfl) ?_
  intro X hX hG _ _ hna _ ⟨hv0, hv1, hf⟩
  unfold w_X15_meets at hf
  refine g_aload_n hX 0 dX15_meets_0 rfl rfl ?_
  refine g_getI hX (k := 0) hv0 ff22 rfl rfl in_X15 (by decide) q958 dX15_meets_1 ?_
  refine g_aload_n hX 1 dX15_meets_4 rfl rfl ?_
  refine g_getI hX (k := 1) hv1 ff22 rfl rfl in_X15 (by decide) q960 dX15_meets_5 ?_
  refine g_icmp_gt hX 26 dX15_meets_8 (by decide) (fun z => ?_) (fun z => ?_)
  · replace hf := hf.1 z
    refine g_iconst hX (v := (0 : Int32)) dX15_meets_26 rfl ?_
    exact g_zret hX rfl ⟨_, rfl, hf⟩ dX15_meets_27
  · replace hf := hf.2 z
    refine g_aload_n hX 1 dX15_meets_11 rfl rfl ?_
    refine g_getI hX (k := 0) hv1 ff22 rfl rfl in_X15 (by decide) q958 dX15_meets_12 ?_
    refine g_aload_n hX 0 dX15_meets_15 rfl rfl ?_
    refine g_getI hX (k := 1) hv0 ff22 rfl rfl in_X15 (by decide) q960 dX15_meets_16 ?_
    refine g_icmp_gt hX 26 dX15_meets_19 (by decide) (fun z => ?_) (fun z => ?_)
    · replace hf := hf.1 z
      refine g_iconst hX (v := (0 : Int32)) dX15_meets_26 rfl ?_
      exact g_zret hX rfl ⟨_, rfl, hf⟩ dX15_meets_27
    · replace hf := hf.2 z
      refine g_iconst hX (v := (1 : Int32)) dX15_meets_22 rfl ?_
      refine g_goto hX 27 dX15_meets_23 (by decide) ?_
      exact g_zret hX rfl ⟨_, rfl, hf⟩ dX15_meets_27

def w_C_clash_58 (Q : Int32 → St → Prop) (K2 : Int32 → St → Prop) (K12 : Int32 → Int32 → St → Prop) (x1 : Int32) (x2 : Int32) (χ : St) : Prop := (K12 x1 (x2 + (1 : Int32)) χ)
def w_C_clash_12 (Q : Int32 → St → Prop) (K2 : Int32 → St → Prop) : Nat → Int32 → Int32 → St → Prop
  | 0 => fun _ _ _ => False
  | n + 1 => fun x1 x2 χ => ((x1 ≤ x2 → (K2 (x1 + (1 : Int32)) χ)) ∧ (¬ x1 ≤ x2 → (vp_in x1 10) ∧ ((∃ z2, (gR χ 14 0 x1.toNatClampNeg) = some z2 ∧ ((vp_in x2 10) ∧ ((∃ z4, (gR χ 14 0 x2.toNatClampNeg) = some z4 ∧ ((w_X15_meets z2 z4 χ (fun r5 χ6 => ((r5 = 0 → (w_C_clash_58 Q K2 (w_C_clash_12 Q K2 n) x1 x2 χ6)) ∧ (¬ r5 = 0 → (vp_in x1 10) ∧ ((∃ z8, (gR χ6 14 0 x1.toNatClampNeg) = some z8 ∧ ((vp_in x2 10) ∧ ((∃ z10, (gR χ6 14 0 x2.toNatClampNeg) = some z10 ∧ ((((gI χ6 2302 z8 0) = (gI χ6 2302 z10 0) → (w_C_clash_58 Q K2 (w_C_clash_12 Q K2 n) x1 x2 χ6)) ∧ (¬ (gI χ6 2302 z8 0) = (gI χ6 2302 z10 0) → (Q x1 χ6)))))))))))))))))))))
def w_C_clash_2 (Q : Int32 → St → Prop) : Nat → Int32 → St → Prop
  | 0 => fun _ _ => False
  | n + 1 => fun x1 χ => (((gI χ 118 0 0) ≤ x1 → (Q (-2 : Int32) χ)) ∧ (¬ (gI χ 118 0 0) ≤ x1 → (∃ k12, w_C_clash_12 Q (w_C_clash_2 Q n) k12 x1 (0 : Int32) χ)))
def w_C_clash (χ : St) (Q : Int32 → St → Prop) : Prop := (∃ k2, w_C_clash_2 Q k2 (0 : Int32) χ)
set_option maxHeartbeats 4000000 in
theorem mt_C_clash (l : Launch) (Γ : Gh) (ad : Nat → Nat → Nat) (χ : St) (Q : Int32 → St → Prop) : Mt l yX0_clash (ws_ yX0_clash cX0_clash 3 (some .int)) (rmO (1) (21) χ) (Pm Γ ad χ [.ref (ad 0 0)] (w_C_clash χ Q)) (Qm Γ true ad χ (pI Q)) (frB Γ) := by
  refine Mt.start (by decide) RX0 rfl (Nat.le_of_ble_eq_true rfl) ?_
  intro X hX hG _ _ hna _ hf
  have B58 : ∀ (K2 : Int32 → St → Prop) (hK2 : ∀ (ad : Nat → Nat → Nat) (x1 : Int32) (χ : St), K2 x1 χ → G X ad χ 2 [(0, .ref (ad 0 0)), (1, .int x1)] []) (K12 : Int32 → Int32 → St → Prop) (hK12 : ∀ (ad : Nat → Nat → Nat) (x1 : Int32) (x2 : Int32) (χ : St), K12 x1 x2 χ → G X ad χ 12 [(0, .ref (ad 0 0)), (1, .int x1), (2, .int x2)] []) (ad : Nat → Nat → Nat) (x1 : Int32) (x2 : Int32) (χ : St), w_C_clash_58 Q K2 K12 x1 x2 χ → G X ad χ 58 [(0, .ref (ad 0 0)), (1, .int x1), (2, .int x2)] [] := by
    intro K2 hK2 K12 hK12 ad x1 x2 χ hf
    unfold w_C_clash_58 at hf
    refine g_iinc hX (v := _) 2 dX0_clash_58 rfl rfl (by decide) rfl ?_
    refine g_goto hX 12 dX0_clash_61 (by decide) ?_
    refine g_sub [1, 2, 0] rfl ?_
    exact hK12 _ _ _ _ hf
  have B12 : ∀ (K2 : Int32 → St → Prop) (hK2 : ∀ (ad : Nat → Nat → Nat) (x1 : Int32) (χ : St), K2 x1 χ → G X ad χ 2 [(0, .ref (ad 0 0)), (1, .int x1)] []) (n : Nat) (ad : Nat → Nat → Nat) (x1 : Int32) (x2 : Int32) (χ : St), w_C_clash_12 Q K2 n x1 x2 χ → G X ad χ 12 [(0, .ref (ad 0 0)), (1, .int x1), (2, .int x2)] [] := by
    intro K2 hK2 n
    induction n with
    | zero => intro ad x1 x2 χ hf; exact hf.elim
    | succ n hK12 =>
      intro ad x1 x2 χ hf
      unfold w_C_clash_12 at hf
      refine g_iload_n hX 2 dX0_clash_12 rfl rfl ?_
      refine g_iload_n hX 1 dX0_clash_13 rfl rfl ?_
      refine g_icmp_ge hX 64 dX0_clash_14 (by decide) (fun z => ?_) (fun z => ?_)
      · replace hf := hf.1 z
        refine g_iinc hX (v := _) 1 dX0_clash_64 rfl rfl (by decide) rfl ?_
        refine g_goto hX 2 dX0_clash_67 (by decide) ?_
        refine g_sub [1, 0] rfl ?_
        exact hK2 _ _ _ hf
      · replace hf := hf.2 z
        refine g_aload_n hX 0 dX0_clash_17 rfl rfl ?_
        refine g_getK hX (k := 17) (d := 14) (fc0 _) ff0 rfl (by decide) rfl rfl in_X0 (by decide) q217 dX0_clash_18 ?_
        refine g_iload_n hX 1 dX0_clash_21 rfl rfl ?_
        have hg1 := hf.1
        replace hf := hf.2
        obtain ⟨z2, hz2, hf⟩ := hf
        refine g_aaldE hX (fc14 _) ff14 rfl rfl hg1 dX0_clash_22 hz2 (fun hvz2 => ?_)
        refine g_aload_n hX 0 dX0_clash_23 rfl rfl ?_
        refine g_getK hX (k := 17) (d := 14) (fc0 _) ff0 rfl (by decide) rfl rfl in_X0 (by decide) q217 dX0_clash_24 ?_
        refine g_iload_n hX 2 dX0_clash_27 rfl rfl ?_
        have hg3 := hf.1
        replace hf := hf.2
        obtain ⟨z4, hz4, hf⟩ := hf
        refine g_aaldE hX (fc14 _) ff14 rfl rfl hg3 dX0_clash_28 hz4 (fun hvz4 => ?_)
        refine g_callVi hX (n := 1) (mt_X15_meets X.l X.Γ _ _ _ _ _) ⟨hvz2, hvz4, hf⟩ q979 q980 q981 q114 q982 ⟨rfl, hy_X15_meets⟩ (by decide) hvz2 ff22 rfl rfl rfl (Nat.le_of_ble_eq_true rfl) dX0_clash_29 (fun r5 χ6 hf hc6 => ?_)
        refine g_if_eq hX 58 dX0_clash_32 (by decide) (fun z => ?_) (fun z => ?_)
        · replace hf := hf.1 z
          exact B58 K2 hK2 (w_C_clash_12 Q K2 n) hK12 _ _ _ _ hf
        · replace hf := hf.2 z
          refine g_aload_n hX 0 dX0_clash_35 rfl rfl ?_
          refine g_getK hX (k := 17) (d := 14) (fc0 _) ff0 rfl (by decide) rfl rfl in_X0 (by decide) q217 dX0_clash_36 ?_
          refine g_iload_n hX 1 dX0_clash_39 rfl rfl ?_
          have hg7 := hf.1
          replace hf := hf.2
          obtain ⟨z8, hz8, hf⟩ := hf
          refine g_aaldE hX (fc14 _) ff14 rfl rfl hg7 dX0_clash_40 hz8 (fun hvz8 => ?_)
          refine g_getIN hX (k := 2) hvz8 ff22 rfl rfl in_X15 (by decide) q963 dX0_clash_41 ?_
          refine g_aload_n hX 0 dX0_clash_44 rfl rfl ?_
          refine g_getK hX (k := 17) (d := 14) (fc0 _) ff0 rfl (by decide) rfl rfl in_X0 (by decide) q217 dX0_clash_45 ?_
          refine g_iload_n hX 2 dX0_clash_48 rfl rfl ?_
          have hg9 := hf.1
          replace hf := hf.2
          obtain ⟨z10, hz10, hf⟩ := hf
          refine g_aaldE hX (fc14 _) ff14 rfl rfl hg9 dX0_clash_49 hz10 (fun hvz10 => ?_)
          refine g_getIN hX (k := 2) hvz10 ff22 rfl rfl in_X15 (by decide) q963 dX0_clash_50 ?_
          refine g_icmp_eq hX 58 dX0_clash_53 (by decide) (fun z => ?_) (fun z => ?_)
          · replace hf := hf.1 z
            exact B58 K2 hK2 (w_C_clash_12 Q K2 n) hK12 _ _ _ _ hf
          · replace hf := hf.2 z
            refine g_iload_n hX 1 dX0_clash_56 rfl rfl ?_
            exact g_iret hX ⟨_, rfl, hf⟩ dX0_clash_57
  have B2 : ∀ (n : Nat) (ad : Nat → Nat → Nat) (x1 : Int32) (χ : St), w_C_clash_2 Q n x1 χ → G X ad χ 2 [(0, .ref (ad 0 0)), (1, .int x1)] [] := by
    intro n
    induction n with
    | zero => intro ad x1 χ hf; exact hf.elim
    | succ n hK2 =>
      intro ad x1 χ hf
      unfold w_C_clash_2 at hf
      refine g_iload_n hX 1 dX0_clash_2 rfl rfl ?_
      refine g_aload_n hX 0 dX0_clash_3 rfl rfl ?_
      refine g_getI hX (k := 18) (fc0 _) ff0 rfl rfl in_X0 (by decide) q218 dX0_clash_4 ?_
      refine g_icmp_ge hX 70 dX0_clash_7 (by decide) (fun z => ?_) (fun z => ?_)
      · replace hf := hf.1 z
        refine g_bipush hX (v := (-2 : Int32)) dX0_clash_70 rfl ?_
        exact g_iret hX ⟨_, rfl, hf⟩ dX0_clash_72
      · replace hf := hf.2 z
        refine g_iconst hX (v := (0 : Int32)) dX0_clash_10 rfl ?_
        refine g_istore_n hX dX0_clash_11 rfl (by decide) rfl ?_
        obtain ⟨n0, hf⟩ := hf
        refine g_sub [1, 2, 0] rfl ?_
        exact B12 (w_C_clash_2 Q n) hK2 n0 _ _ _ _ hf
  unfold w_C_clash at hf
  refine g_iconst hX (v := (0 : Int32)) dX0_clash_0 rfl ?_
  refine g_istore_n hX dX0_clash_1 rfl (by decide) rfl ?_
  obtain ⟨n0, hf⟩ := hf
  refine g_sub [1, 0] rfl ?_
  exact B2 n0 _ _ _ hf

def w_X15_has (x0 : Nat) (x1 : Int32) (χ : St) (Q : Int32 → St → Prop) : Prop := ((x1 < (gI χ 2300 x0 0) → (Q (0 : Int32) χ)) ∧ (¬ x1 < (gI χ 2300 x0 0) → (((gI χ 2301 x0 0) < x1 → (Q (0 : Int32) χ)) ∧ (¬ (gI χ 2301 x0 0) < x1 → (Q (1 : Int32) χ)))))
set_option maxHeartbeats 4000000 in
theorem mt_X15_has (l : Launch) (Γ : Gh) (ad : Nat → Nat → Nat) (x0 : Nat) (x1 : Int32) (χ : St) (Q : Int32 → St → Prop) : Mt l yX15_has (ws_ yX15_has cX15_has 2 (some .boolean)) (rmO (0) (0) χ) (Pm Γ ad χ [.ref (ad 22 x0), .int x1] (x0 < cn χ 22 ∧ w_X15_has x0 x1 χ Q)) (Qm Γ true ad χ (pI Q)) (frB Γ) := by
  refine Mt.start (by decide) RX15 rfl (Nat.le_of_ble_eq_true rfl) ?_
  intro X hX hG _ _ hna _ ⟨hv0, hf⟩
  unfold w_X15_has at hf
  refine g_aload_n hX 0 dX15_has_0 rfl rfl ?_
  refine g_getI hX (k := 0) hv0 ff22 rfl rfl in_X15 (by decide) q958 dX15_has_1 ?_
  refine g_iload_n hX 1 dX15_has_4 rfl rfl ?_
  refine g_icmp_gt hX 20 dX15_has_5 (by decide) (fun z => ?_) (fun z => ?_)
  · replace hf := hf.1 z
    refine g_iconst hX (v := (0 : Int32)) dX15_has_20 rfl ?_
    exact g_zret hX rfl ⟨_, rfl, hf⟩ dX15_has_21
  · replace hf := hf.2 z
    refine g_iload_n hX 1 dX15_has_8 rfl rfl ?_
    refine g_aload_n hX 0 dX15_has_9 rfl rfl ?_
    refine g_getI hX (k := 1) hv0 ff22 rfl rfl in_X15 (by decide) q960 dX15_has_10 ?_
    refine g_icmp_gt hX 20 dX15_has_13 (by decide) (fun z => ?_) (fun z => ?_)
    · replace hf := hf.1 z
      refine g_iconst hX (v := (0 : Int32)) dX15_has_20 rfl ?_
      exact g_zret hX rfl ⟨_, rfl, hf⟩ dX15_has_21
    · replace hf := hf.2 z
      refine g_iconst hX (v := (1 : Int32)) dX15_has_16 rfl ?_
      refine g_goto hX 21 dX15_has_17 (by decide) ?_
      exact g_zret hX rfl ⟨_, rfl, hf⟩ dX15_has_21

def w_C_houseOf_2 (Q : Int32 → St → Prop) : Nat → Int32 → Int32 → St → Prop
  | 0 => fun _ _ _ => False
  | n + 1 => fun x1 x2 χ => (((gI χ 118 0 0) ≤ x2 → (Q (-2 : Int32) χ)) ∧ (¬ (gI χ 118 0 0) ≤ x2 → (vp_in x2 10) ∧ ((∃ z2, (gR χ 14 0 x2.toNatClampNeg) = some z2 ∧ ((w_X15_has z2 x1 χ (fun r3 χ4 => ((r3 = 0 → (w_C_houseOf_2 Q n x1 (x2 + (1 : Int32)) χ4)) ∧ (¬ r3 = 0 → (vp_in x2 10) ∧ ((∃ z6, (gR χ4 14 0 x2.toNatClampNeg) = some z6 ∧ ((Q (gI χ4 2302 z6 0) χ4)))))))))))))
def w_C_houseOf (x1 : Int32) (χ : St) (Q : Int32 → St → Prop) : Prop := (∃ k2, w_C_houseOf_2 Q k2 x1 (0 : Int32) χ)
set_option maxHeartbeats 4000000 in
theorem mt_C_houseOf (l : Launch) (Γ : Gh) (ad : Nat → Nat → Nat) (x1 : Int32) (χ : St) (Q : Int32 → St → Prop) : Mt l yX0_houseOf (ws_ yX0_houseOf cX0_houseOf 3 (some .int)) (rmO (1) (21) χ) (Pm Γ ad χ [.ref (ad 0 0), .int x1] (w_C_houseOf x1 χ Q)) (Qm Γ true ad χ (pI Q)) (frB Γ) := by
  refine Mt.start (by decide) RX0 rfl (Nat.le_of_ble_eq_true rfl) ?_
  intro X hX hG _ _ hna _ hf
  have B2 : ∀ (n : Nat) (ad : Nat → Nat → Nat) (x1 : Int32) (x2 : Int32) (χ : St), w_C_houseOf_2 Q n x1 x2 χ → G X ad χ 2 [(0, .ref (ad 0 0)), (1, .int x1), (2, .int x2)] [] := by
    intro n
    induction n with
    | zero => intro ad x1 x2 χ hf; exact hf.elim
    | succ n hK2 =>
      intro ad x1 x2 χ hf
      unfold w_C_houseOf_2 at hf
      refine g_iload_n hX 2 dX0_houseOf_2 rfl rfl ?_
      refine g_aload_n hX 0 dX0_houseOf_3 rfl rfl ?_
      refine g_getI hX (k := 18) (fc0 _) ff0 rfl rfl in_X0 (by decide) q218 dX0_houseOf_4 ?_
      refine g_icmp_ge hX 39 dX0_houseOf_7 (by decide) (fun z => ?_) (fun z => ?_)
      · replace hf := hf.1 z
        refine g_bipush hX (v := (-2 : Int32)) dX0_houseOf_39 rfl ?_
        exact g_iret hX ⟨_, rfl, hf⟩ dX0_houseOf_41
      · replace hf := hf.2 z
        refine g_aload_n hX 0 dX0_houseOf_10 rfl rfl ?_
        refine g_getK hX (k := 17) (d := 14) (fc0 _) ff0 rfl (by decide) rfl rfl in_X0 (by decide) q217 dX0_houseOf_11 ?_
        refine g_iload_n hX 2 dX0_houseOf_14 rfl rfl ?_
        have hg1 := hf.1
        replace hf := hf.2
        obtain ⟨z2, hz2, hf⟩ := hf
        refine g_aaldE hX (fc14 _) ff14 rfl rfl hg1 dX0_houseOf_15 hz2 (fun hvz2 => ?_)
        refine g_iload_n hX 1 dX0_houseOf_16 rfl rfl ?_
        refine g_callVi hX (n := 1) (mt_X15_has X.l X.Γ _ _ _ _ _) ⟨hvz2, hf⟩ q991 q992 q993 q114 q994 ⟨rfl, hy_X15_has⟩ (by decide) hvz2 ff22 rfl rfl rfl (Nat.le_of_ble_eq_true rfl) dX0_houseOf_17 (fun r3 χ4 hf hc4 => ?_)
        refine g_if_eq hX 33 dX0_houseOf_20 (by decide) (fun z => ?_) (fun z => ?_)
        · replace hf := hf.1 z
          refine g_iinc hX (v := _) 2 dX0_houseOf_33 rfl rfl (by decide) rfl ?_
          refine g_goto hX 2 dX0_houseOf_36 (by decide) ?_
          refine g_sub [1, 2, 0] rfl ?_
          exact hK2 _ _ _ _ hf
        · replace hf := hf.2 z
          refine g_aload_n hX 0 dX0_houseOf_23 rfl rfl ?_
          refine g_getK hX (k := 17) (d := 14) (fc0 _) ff0 rfl (by decide) rfl rfl in_X0 (by decide) q217 dX0_houseOf_24 ?_
          refine g_iload_n hX 2 dX0_houseOf_27 rfl rfl ?_
          have hg5 := hf.1
          replace hf := hf.2
          obtain ⟨z6, hz6, hf⟩ := hf
          refine g_aaldE hX (fc14 _) ff14 rfl rfl hg5 dX0_houseOf_28 hz6 (fun hvz6 => ?_)
          refine g_getIN hX (k := 2) hvz6 ff22 rfl rfl in_X15 (by decide) q963 dX0_houseOf_29 ?_
          exact g_iret hX ⟨_, rfl, hf⟩ dX0_houseOf_32
  unfold w_C_houseOf at hf
  refine g_iconst hX (v := (0 : Int32)) dX0_houseOf_0 rfl ?_
  refine g_istore_n hX dX0_houseOf_1 rfl (by decide) rfl ?_
  obtain ⟨n0, hf⟩ := hf
  refine g_sub [1, 2, 0] rfl ?_
  exact B2 n0 _ _ _ _ hf

def w_C_gaps_75 (Q : Int32 → St → Prop) (K54 : Int32 → Int32 → Int32 → St → Prop) (x2 : Int32) (x4 : Int32) (z0 : Int32) (z1 : Int32) (χ : St) : Prop := (K54 x2 (z1 + z0) (x4 + (1 : Int32)) χ)
def w_C_gaps_54 (Q : Int32 → St → Prop) : Nat → Int32 → Int32 → Int32 → St → Prop
  | 0 => fun _ _ _ _ => False
  | n + 1 => fun x2 x3 x4 χ => ((x2 < x4 → (Q x3 χ)) ∧ (¬ x2 < x4 → (w_C_houseOf x4 χ (fun r1 χ2 => ((0 ≤ r1 → (w_C_gaps_75 Q (w_C_gaps_54 Q n) x2 x4 (0 : Int32) x3 χ2)) ∧ (¬ 0 ≤ r1 → (w_C_gaps_75 Q (w_C_gaps_54 Q n) x2 x4 (1 : Int32) x3 χ2)))))))
def w_C_gaps_7 (Q : Int32 → St → Prop) : Nat → Int32 → Int32 → Int32 → St → Prop
  | 0 => fun _ _ _ _ => False
  | n + 1 => fun x1 x2 x3 χ => (((gI χ 118 0 0) ≤ x3 → (∃ k54, w_C_gaps_54 Q k54 x2 (0 : Int32) x1 χ)) ∧ (¬ (gI χ 118 0 0) ≤ x3 → (vp_in x3 10) ∧ ((∃ z4, (gR χ 14 0 x3.toNatClampNeg) = some z4 ∧ ((∀ v5 : Int32, v5 = (if (gI χ 2300 z4 0) < x1 then (gI χ 2300 z4 0) else x1) → (vp_in x3 10) ∧ ((∃ z7, (gR χ 14 0 x3.toNatClampNeg) = some z7 ∧ ((∀ v8 : Int32, v8 = (if x2 < (gI χ 2301 z7 0) then (gI χ 2301 z7 0) else x2) → (w_C_gaps_7 Q n v5 v8 (x3 + (1 : Int32)) χ)))))))))))
def w_C_gaps (χ : St) (Q : Int32 → St → Prop) : Prop := (∃ k7, w_C_gaps_7 Q k7 (30 : Int32) (-1 : Int32) (0 : Int32) χ)
set_option maxHeartbeats 4000000 in
theorem mt_C_gaps (l : Launch) (Γ : Gh) (ad : Nat → Nat → Nat) (χ : St) (Q : Int32 → St → Prop) : Mt l yX0_gaps (ws_ yX0_gaps cX0_gaps 5 (some .int)) (rmO (2) (43) χ) (Pm Γ ad χ [.ref (ad 0 0)] (w_C_gaps χ Q)) (Qm Γ true ad χ (pI Q)) (frB Γ) := by
  refine Mt.start (by decide) RX0 rfl (Nat.le_of_ble_eq_true rfl) ?_
  intro X hX hG _ _ hna _ hf
  have B75 : ∀ (K54 : Int32 → Int32 → Int32 → St → Prop) (hK54 : ∀ (ad : Nat → Nat → Nat) (x2 : Int32) (x3 : Int32) (x4 : Int32) (χ : St), K54 x2 x3 x4 χ → G X ad χ 54 [(0, .ref (ad 0 0)), (2, .int x2), (3, .int x3), (4, .int x4)] []) (ad : Nat → Nat → Nat) (x2 : Int32) (x4 : Int32) (z0 : Int32) (z1 : Int32) (χ : St), w_C_gaps_75 Q K54 x2 x4 z0 z1 χ → G X ad χ 75 [(0, .ref (ad 0 0)), (2, .int x2), (4, .int x4)] [.int z0, .int z1] := by
    intro K54 hK54 ad x2 x4 z0 z1 χ hf
    unfold w_C_gaps_75 at hf
    refine g_iadd hX dX0_gaps_75 ?_
    refine g_istore_n hX dX0_gaps_76 rfl (by decide) rfl ?_
    refine g_iinc hX (v := _) 3 dX0_gaps_77 rfl rfl (by decide) rfl ?_
    refine g_goto hX 54 dX0_gaps_80 (by decide) ?_
    refine g_sub [2, 3, 1, 0] rfl ?_
    exact hK54 _ _ _ _ _ hf
  have B54 : ∀ (n : Nat) (ad : Nat → Nat → Nat) (x2 : Int32) (x3 : Int32) (x4 : Int32) (χ : St), w_C_gaps_54 Q n x2 x3 x4 χ → G X ad χ 54 [(0, .ref (ad 0 0)), (2, .int x2), (3, .int x3), (4, .int x4)] [] := by
    intro n
    induction n with
    | zero => intro ad x2 x3 x4 χ hf; exact hf.elim
    | succ n hK54 =>
      intro ad x2 x3 x4 χ hf
      unfold w_C_gaps_54 at hf
      refine g_iload hX 3 dX0_gaps_54 rfl ?_
      refine g_iload_n hX 1 dX0_gaps_56 rfl rfl ?_
      refine g_icmp_gt hX 83 dX0_gaps_57 (by decide) (fun z => ?_) (fun z => ?_)
      · replace hf := hf.1 z
        refine g_iload_n hX 2 dX0_gaps_83 rfl rfl ?_
        exact g_iret hX ⟨_, rfl, hf⟩ dX0_gaps_84
      · replace hf := hf.2 z
        refine g_iload_n hX 2 dX0_gaps_60 rfl rfl ?_
        refine g_aload_n hX 0 dX0_gaps_61 rfl rfl ?_
        refine g_iload hX 3 dX0_gaps_62 rfl ?_
        refine g_callVi hX (n := 1) (mt_C_houseOf X.l X.Γ _ _ _ _) hf q987 q989 qs39 q85 q990 ⟨rfl, hy_C_houseOf⟩ (by decide) (fc0 _) ff0 rfl rfl rfl (Nat.le_of_ble_eq_true rfl) dX0_gaps_64 (fun r1 χ2 hf hc2 => ?_)
        refine g_if_ge hX 74 dX0_gaps_67 (by decide) (fun z => ?_) (fun z => ?_)
        · replace hf := hf.1 z
          refine g_iconst hX (v := (0 : Int32)) dX0_gaps_74 rfl ?_
          refine g_sub [0, 1, 3] rfl ?_
          exact B75 (w_C_gaps_54 Q n) hK54 _ _ _ _ _ _ hf
        · replace hf := hf.2 z
          refine g_iconst hX (v := (1 : Int32)) dX0_gaps_70 rfl ?_
          refine g_goto hX 75 dX0_gaps_71 (by decide) ?_
          refine g_sub [0, 1, 3] rfl ?_
          exact B75 (w_C_gaps_54 Q n) hK54 _ _ _ _ _ _ hf
  have B7 : ∀ (n : Nat) (ad : Nat → Nat → Nat) (x1 : Int32) (x2 : Int32) (x3 : Int32) (χ : St), w_C_gaps_7 Q n x1 x2 x3 χ → G X ad χ 7 [(0, .ref (ad 0 0)), (1, .int x1), (2, .int x2), (3, .int x3)] [] := by
    intro n
    induction n with
    | zero => intro ad x1 x2 x3 χ hf; exact hf.elim
    | succ n hK7 =>
      intro ad x1 x2 x3 χ hf
      unfold w_C_gaps_7 at hf
      refine g_iload_n hX 3 dX0_gaps_7 rfl rfl ?_
      refine g_aload_n hX 0 dX0_gaps_8 rfl rfl ?_
      refine g_getI hX (k := 18) (fc0 _) ff0 rfl rfl in_X0 (by decide) q218 dX0_gaps_9 ?_
      refine g_icmp_ge hX 49 dX0_gaps_12 (by decide) (fun z => ?_) (fun z => ?_)
      · replace hf := hf.1 z
        refine g_iconst hX (v := (0 : Int32)) dX0_gaps_49 rfl ?_
        refine g_istore_n hX dX0_gaps_50 rfl (by decide) rfl ?_
        refine g_iload_n hX 2 dX0_gaps_51 rfl rfl ?_
        refine g_istore hX dX0_gaps_52 (by decide) rfl ?_
        obtain ⟨n0, hf⟩ := hf
        refine g_sub [2, 4, 1, 0] rfl ?_
        exact B54 n0 _ _ _ _ _ hf
      · replace hf := hf.2 z
        refine g_iload_n hX 1 dX0_gaps_15 rfl rfl ?_
        refine g_aload_n hX 0 dX0_gaps_16 rfl rfl ?_
        refine g_getK hX (k := 17) (d := 14) (fc0 _) ff0 rfl (by decide) rfl rfl in_X0 (by decide) q217 dX0_gaps_17 ?_
        refine g_iload_n hX 3 dX0_gaps_20 rfl rfl ?_
        have hg3 := hf.1
        replace hf := hf.2
        obtain ⟨z4, hz4, hf⟩ := hf
        refine g_aaldE hX (fc14 _) ff14 rfl rfl hg3 dX0_gaps_21 hz4 (fun hvz4 => ?_)
        refine g_getIN hX (k := 0) hvz4 ff22 rfl rfl in_X15 (by decide) q959 dX0_gaps_22 ?_
        refine g_mmin hX q805 q634 q103 q635 ⟨by decide, by decide⟩ (Nat.le_of_ble_eq_true rfl) dX0_gaps_25 ?_
        replace hf := hf _ rfl
        refine g_istore_n hX dX0_gaps_28 rfl (by decide) rfl ?_
        refine g_iload_n hX 2 dX0_gaps_29 rfl rfl ?_
        refine g_aload_n hX 1 dX0_gaps_30 rfl rfl ?_
        refine g_getK hX (k := 17) (d := 14) (fc0 _) ff0 rfl (by decide) rfl rfl in_X0 (by decide) q217 dX0_gaps_31 ?_
        refine g_iload_n hX 3 dX0_gaps_34 rfl rfl ?_
        have hg6 := hf.1
        replace hf := hf.2
        obtain ⟨z7, hz7, hf⟩ := hf
        refine g_aaldE hX (fc14 _) ff14 rfl rfl hg6 dX0_gaps_35 hz7 (fun hvz7 => ?_)
        refine g_getIN hX (k := 1) hvz7 ff22 rfl rfl in_X15 (by decide) q961 dX0_gaps_36 ?_
        refine g_mmax hX q806 q631 q103 q632 ⟨by decide, by decide⟩ (Nat.le_of_ble_eq_true rfl) dX0_gaps_39 ?_
        replace hf := hf _ rfl
        refine g_istore_n hX dX0_gaps_42 rfl (by decide) rfl ?_
        refine g_iinc hX (v := _) 3 dX0_gaps_43 rfl rfl (by decide) rfl ?_
        refine g_goto hX 7 dX0_gaps_46 (by decide) ?_
        refine g_sub [3, 2, 1, 0] rfl ?_
        exact hK7 _ _ _ _ _ hf
  unfold w_C_gaps at hf
  refine g_bipush hX (v := (30 : Int32)) dX0_gaps_0 rfl ?_
  refine g_istore_n hX dX0_gaps_2 rfl (by decide) rfl ?_
  refine g_iconst hX (v := (-1 : Int32)) dX0_gaps_3 rfl ?_
  refine g_istore_n hX dX0_gaps_4 rfl (by decide) rfl ?_
  refine g_iconst hX (v := (0 : Int32)) dX0_gaps_5 rfl ?_
  refine g_istore_n hX dX0_gaps_6 rfl (by decide) rfl ?_
  obtain ⟨n0, hf⟩ := hf
  refine g_sub [3, 2, 1, 0] rfl ?_
  exact B7 n0 _ _ _ _ _ hf

def w_C_papers (x1 : Int32) (χ : St) (Q : Int32 → St → Prop) : Prop := ((¬ x1 = 0 → ((¬ x1 = (1 : Int32) → (Q (-1 : Int32) χ)) ∧ (x1 = (1 : Int32) → (w_C_gaps χ (fun r1 χ2 => (Q r1 χ2)))))) ∧ (x1 = 0 → (w_C_clash χ (fun r3 χ4 => (Q r3 χ4)))))
set_option maxHeartbeats 4000000 in
theorem mt_C_papers (l : Launch) (Γ : Gh) (ad : Nat → Nat → Nat) (x1 : Int32) (χ : St) (Q : Int32 → St → Prop) : Mt l yX0_papers (ws_ yX0_papers cX0_papers 2 (some .int)) (rmO (3) (67) χ) (Pm Γ ad χ [.ref (ad 0 0), .int x1] (w_C_papers x1 χ Q)) (Qm Γ true ad χ (pI Q)) (frB Γ) := by
  refine Mt.start (by decide) RX0 rfl (Nat.le_of_ble_eq_true rfl) ?_
  intro X hX hG _ _ hna _ hf
  unfold w_C_papers at hf
  refine g_iload_n hX 1 dX0_papers_0 rfl rfl ?_
  refine g_if_ne hX 11 dX0_papers_1 (by decide) (fun z => ?_) (fun z => ?_)
  · replace hf := hf.1 z
    refine g_iload_n hX 1 dX0_papers_11 rfl rfl ?_
    refine g_iconst hX (v := (1 : Int32)) dX0_papers_12 rfl ?_
    refine g_icmp_ne hX 23 dX0_papers_13 (by decide) (fun z => ?_) (fun z => ?_)
    · replace hf := hf.1 z
      refine g_iconst hX (v := (-1 : Int32)) dX0_papers_23 rfl ?_
      exact g_iret hX ⟨_, rfl, hf⟩ dX0_papers_24
    · replace hf := hf.2 z
      refine g_aload_n hX 0 dX0_papers_16 rfl rfl ?_
      refine g_callVi hX (n := 0) (mt_C_gaps X.l X.Γ _ _ _) hf q983 q985 qs38 q85 q986 ⟨rfl, hy_C_gaps⟩ (by decide) (fc0 _) ff0 rfl rfl rfl (Nat.le_of_ble_eq_true rfl) dX0_papers_17 (fun r1 χ2 hf hc2 => ?_)
      refine g_goto hX 24 dX0_papers_20 (by decide) ?_
      exact g_iret hX ⟨_, rfl, hf⟩ dX0_papers_24
  · replace hf := hf.2 z
    refine g_aload_n hX 0 dX0_papers_4 rfl rfl ?_
    refine g_callVi hX (n := 0) (mt_C_clash X.l X.Γ _ _ _) hf q975 q977 qs37 q85 q978 ⟨rfl, hy_C_clash⟩ (by decide) (fc0 _) ff0 rfl rfl rfl (Nat.le_of_ble_eq_true rfl) dX0_papers_5 (fun r3 χ4 hf hc4 => ?_)
    refine g_goto hX 24 dX0_papers_8 (by decide) ?_
    exact g_iret hX ⟨_, rfl, hf⟩ dX0_papers_24

def w_C_house (x1 : Int32) (χ : St) (Q : Int32 → St → Prop) : Prop := (w_C_isTime x1 χ (fun r1 χ2 => ((r1 = 0 → (Q (-1 : Int32) χ2)) ∧ (¬ r1 = 0 → (w_C_houseOf x1 χ2 (fun r3 χ4 => (Q r3 χ4)))))))
set_option maxHeartbeats 4000000 in
theorem mt_C_house (l : Launch) (Γ : Gh) (ad : Nat → Nat → Nat) (x1 : Int32) (χ : St) (Q : Int32 → St → Prop) : Mt l yX0_house (ws_ yX0_house cX0_house 2 (some .int)) (rmO (2) (43) χ) (Pm Γ ad χ [.ref (ad 0 0), .int x1] (w_C_house x1 χ Q)) (Qm Γ true ad χ (pI Q)) (frB Γ) := by
  refine Mt.start (by decide) RX0 rfl (Nat.le_of_ble_eq_true rfl) ?_
  intro X hX hG _ _ hna _ hf
  unfold w_C_house at hf
  refine g_iload_n hX 1 dX0_house_0 rfl rfl ?_
  refine g_callSi hX (n := 1) (mt_C_isTime X.l X.Γ _ _ _ _) hf q767 q768 q85 q769 hy_C_isTime (by decide) rfl rfl (Nat.le_of_ble_eq_true rfl) dX0_house_1 (fun r1 χ2 hf hc2 => ?_)
  refine g_if_eq hX 15 dX0_house_4 (by decide) (fun z => ?_) (fun z => ?_)
  · replace hf := hf.1 z
    refine g_iconst hX (v := (-1 : Int32)) dX0_house_15 rfl ?_
    exact g_iret hX ⟨_, rfl, hf⟩ dX0_house_16
  · replace hf := hf.2 z
    refine g_aload_n hX 0 dX0_house_7 rfl rfl ?_
    refine g_iload_n hX 1 dX0_house_8 rfl rfl ?_
    refine g_callVi hX (n := 1) (mt_C_houseOf X.l X.Γ _ _ _ _) hf q987 q989 qs39 q85 q990 ⟨rfl, hy_C_houseOf⟩ (by decide) (fc0 _) ff0 rfl rfl rfl (Nat.le_of_ble_eq_true rfl) dX0_house_9 (fun r3 χ4 hf hc4 => ?_)
    refine g_goto hX 16 dX0_house_12 (by decide) ?_
    exact g_iret hX ⟨_, rfl, hf⟩ dX0_house_16

def w_C_drawn_178 (Q : Int32 → St → Prop) (K83 : Int32 → Int32 → Int32 → Int32 → Int32 → Int32 → St → Prop) (x2 : Int32) (x3 : Int32) (x4 : Int32) (x5 : Int32) (x7 : Int32) (z0 : Int32) (z1 : Int32) (χ : St) : Prop := (K83 x2 x3 x4 x5 (z1 + z0) (x7 + (1 : Int32)) χ)
def w_C_drawn_150 (Q : Int32 → St → Prop) (K83 : Int32 → Int32 → Int32 → Int32 → Int32 → Int32 → St → Prop) (K95 : Int32 → Int32 → Int32 → Int32 → Int32 → Int32 → Int32 → Int32 → St → Prop) (x2 : Int32) (x3 : Int32) (x4 : Int32) (x5 : Int32) (x6 : Int32) (x7 : Int32) (x8 : Int32) (x9 : Int32) (χ : St) : Prop := (K95 x2 x3 x4 x5 x6 x7 x8 (x9 + (1 : Int32)) χ)
def w_C_drawn_95 (Q : Int32 → St → Prop) (K83 : Int32 → Int32 → Int32 → Int32 → Int32 → Int32 → St → Prop) : Nat → Int32 → Int32 → Int32 → Int32 → Int32 → Int32 → Int32 → Int32 → St → Prop
  | 0 => fun _ _ _ _ _ _ _ _ _ => False
  | n + 1 => fun x2 x3 x4 x5 x6 x7 x8 x9 χ => (((6 : Int32) ≤ x9 → (w_C_weighMade x8 χ (fun χ13 => (w_C_best χ13 (fun r14 χ15 => ((¬ r14 = x4 → (w_C_drawn_178 Q K83 x2 x3 x4 x5 x7 (0 : Int32) x6 χ15)) ∧ (r14 = x4 → (w_C_drawn_178 Q K83 x2 x3 x4 x5 x7 (1 : Int32) x6 χ15)))))))) ∧ (¬ (6 : Int32) ≤ x9 → (∀ v16 : Int32, v16 = ((x5 * (1103515245 : Int32)) + (12345 : Int32)) → (w_C_numberAt x9 (((30 : Int32) * x4) + (x3 - x3 / (100 : Int32) * (100 : Int32))) χ (fun r17 χ18 => ((r17 ≤ ((v16.toUInt32 >>> ((8 : Int32).toUInt32 &&& Int32.toUInt32 31)).toInt32 - (v16.toUInt32 >>> ((8 : Int32).toUInt32 &&& Int32.toUInt32 31)).toInt32 / (100 : Int32) * (100 : Int32)) → (w_C_drawn_150 Q K83 (w_C_drawn_95 Q K83 n) x2 x3 x4 v16 x6 x7 x8 x9 χ18)) ∧ (¬ r17 ≤ ((v16.toUInt32 >>> ((8 : Int32).toUInt32 &&& Int32.toUInt32 31)).toInt32 - (v16.toUInt32 >>> ((8 : Int32).toUInt32 &&& Int32.toUInt32 31)).toInt32 / (100 : Int32) * (100 : Int32)) → (∀ v19 : Int32, v19 = (x8 ||| ((1 : Int32) <<< (x9 &&& 31))) → (w_C_drawn_150 Q K83 (w_C_drawn_95 Q K83 n) x2 x3 x4 v16 x6 x7 v19 x9 χ18)))))))))
def w_C_drawn_83 (Q : Int32 → St → Prop) : Nat → Int32 → Int32 → Int32 → Int32 → Int32 → Int32 → St → Prop
  | 0 => fun _ _ _ _ _ _ _ => False
  | n + 1 => fun x2 x3 x4 x5 x6 x7 χ => ((x2 ≤ x7 → (Q x6 χ)) ∧ (¬ x2 ≤ x7 → (∃ k95, w_C_drawn_95 Q (w_C_drawn_83 Q n) k95 x2 x3 x4 x5 x6 x7 (0 : Int32) (0 : Int32) χ)))
def w_C_drawn (x1 : Int32) (x2 : Int32) (x3 : Int32) (χ : St) (Q : Int32 → St → Prop) : Prop := (w_C_in x2 (1 : Int32) (30 : Int32) χ (fun r1 χ2 => ((r1 = 0 → (Q (-1 : Int32) χ2)) ∧ (¬ r1 = 0 → ((x3 < 0 → (Q (-1 : Int32) χ2)) ∧ (¬ x3 < 0 → (w_C_isPart (x3 / (1000 : Int32)) χ2 (fun r3 χ4 => ((r3 = 0 → (Q (-1 : Int32) χ4)) ∧ (¬ r3 = 0 → (w_C_isKind ((x3 / (100 : Int32)) - (x3 / (100 : Int32)) / (10 : Int32) * (10 : Int32)) χ4 (fun r5 χ6 => ((r5 = 0 → (Q (-1 : Int32) χ6)) ∧ (¬ r5 = 0 → (w_C_isTime (x3 - x3 / (100 : Int32) * (100 : Int32)) χ6 (fun r7 χ8 => ((¬ r7 = 0 → (vp_in (x3 / (1000 : Int32)) 8) ∧ ((∃ z10, (gR χ8 1 0 (x3 / (1000 : Int32)).toNatClampNeg) = some z10 ∧ ((w_C_findNumbers z10 χ8 (fun χ11 => (∀ v12 : Int32, v12 = ((x3 / (100 : Int32)) - (x3 / (100 : Int32)) / (10 : Int32) * (10 : Int32)) → (∃ k83, w_C_drawn_83 Q k83 x2 x3 v12 x1 (0 : Int32) (0 : Int32) χ11)))))))) ∧ (r7 = 0 → (Q (-1 : Int32) χ8)))))))))))))))))))
set_option maxHeartbeats 4000000 in
theorem mt_C_drawn (l : Launch) (Γ : Gh) (ad : Nat → Nat → Nat) (x1 : Int32) (x2 : Int32) (x3 : Int32) (χ : St) (Q : Int32 → St → Prop) : Mt l yX0_drawn (ws_ yX0_drawn cX0_drawn 10 (some .int)) (rmO (264) (5294) χ) (Pm Γ ad χ [.ref (ad 0 0), .int x1, .int x2, .int x3] (w_C_drawn x1 x2 x3 χ Q)) (Qm Γ true ad χ (pI Q)) (frB Γ) := by
  refine Mt.start (by decide) RX0 rfl (Nat.le_of_ble_eq_true rfl) ?_
  intro X hX hG _ _ hna _ hf
  have B178 : ∀ (K83 : Int32 → Int32 → Int32 → Int32 → Int32 → Int32 → St → Prop) (hK83 : ∀ (ad : Nat → Nat → Nat) (x2 : Int32) (x3 : Int32) (x4 : Int32) (x5 : Int32) (x6 : Int32) (x7 : Int32) (χ : St), K83 x2 x3 x4 x5 x6 x7 χ → G X ad χ 83 [(0, .ref (ad 0 0)), (2, .int x2), (3, .int x3), (4, .int x4), (5, .int x5), (6, .int x6), (7, .int x7)] []) (ad : Nat → Nat → Nat) (x2 : Int32) (x3 : Int32) (x4 : Int32) (x5 : Int32) (x7 : Int32) (z0 : Int32) (z1 : Int32) (χ : St), w_C_drawn_178 Q K83 x2 x3 x4 x5 x7 z0 z1 χ → G X ad χ 178 [(0, .ref (ad 0 0)), (2, .int x2), (3, .int x3), (4, .int x4), (5, .int x5), (7, .int x7)] [.int z0, .int z1] := by
    intro K83 hK83 ad x2 x3 x4 x5 x7 z0 z1 χ hf
    unfold w_C_drawn_178 at hf
    refine g_iadd hX dX0_drawn_178 ?_
    refine g_istore hX dX0_drawn_179 (by decide) rfl ?_
    refine g_iinc hX (v := _) 6 dX0_drawn_181 rfl rfl (by decide) rfl ?_
    refine g_goto hX 83 dX0_drawn_184 (by decide) ?_
    refine g_sub [2, 3, 4, 5, 6, 1, 0] rfl ?_
    exact hK83 _ _ _ _ _ _ _ _ hf
  have B150 : ∀ (K83 : Int32 → Int32 → Int32 → Int32 → Int32 → Int32 → St → Prop) (hK83 : ∀ (ad : Nat → Nat → Nat) (x2 : Int32) (x3 : Int32) (x4 : Int32) (x5 : Int32) (x6 : Int32) (x7 : Int32) (χ : St), K83 x2 x3 x4 x5 x6 x7 χ → G X ad χ 83 [(0, .ref (ad 0 0)), (2, .int x2), (3, .int x3), (4, .int x4), (5, .int x5), (6, .int x6), (7, .int x7)] []) (K95 : Int32 → Int32 → Int32 → Int32 → Int32 → Int32 → Int32 → Int32 → St → Prop) (hK95 : ∀ (ad : Nat → Nat → Nat) (x2 : Int32) (x3 : Int32) (x4 : Int32) (x5 : Int32) (x6 : Int32) (x7 : Int32) (x8 : Int32) (x9 : Int32) (χ : St), K95 x2 x3 x4 x5 x6 x7 x8 x9 χ → G X ad χ 95 [(0, .ref (ad 0 0)), (2, .int x2), (3, .int x3), (4, .int x4), (5, .int x5), (6, .int x6), (7, .int x7), (8, .int x8), (9, .int x9)] []) (ad : Nat → Nat → Nat) (x2 : Int32) (x3 : Int32) (x4 : Int32) (x5 : Int32) (x6 : Int32) (x7 : Int32) (x8 : Int32) (x9 : Int32) (χ : St), w_C_drawn_150 Q K83 K95 x2 x3 x4 x5 x6 x7 x8 x9 χ → G X ad χ 150 [(0, .ref (ad 0 0)), (2, .int x2), (3, .int x3), (4, .int x4), (5, .int x5), (6, .int x6), (7, .int x7), (8, .int x8), (9, .int x9)] [] := by
    intro K83 hK83 K95 hK95 ad x2 x3 x4 x5 x6 x7 x8 x9 χ hf
    unfold w_C_drawn_150 at hf
    refine g_iinc hX (v := _) 8 dX0_drawn_150 rfl rfl (by decide) rfl ?_
    refine g_goto hX 95 dX0_drawn_153 (by decide) ?_
    refine g_sub [1, 2, 3, 4, 5, 6, 7, 8, 0] rfl ?_
    exact hK95 _ _ _ _ _ _ _ _ _ _ hf
  have B95 : ∀ (K83 : Int32 → Int32 → Int32 → Int32 → Int32 → Int32 → St → Prop) (hK83 : ∀ (ad : Nat → Nat → Nat) (x2 : Int32) (x3 : Int32) (x4 : Int32) (x5 : Int32) (x6 : Int32) (x7 : Int32) (χ : St), K83 x2 x3 x4 x5 x6 x7 χ → G X ad χ 83 [(0, .ref (ad 0 0)), (2, .int x2), (3, .int x3), (4, .int x4), (5, .int x5), (6, .int x6), (7, .int x7)] []) (n : Nat) (ad : Nat → Nat → Nat) (x2 : Int32) (x3 : Int32) (x4 : Int32) (x5 : Int32) (x6 : Int32) (x7 : Int32) (x8 : Int32) (x9 : Int32) (χ : St), w_C_drawn_95 Q K83 n x2 x3 x4 x5 x6 x7 x8 x9 χ → G X ad χ 95 [(0, .ref (ad 0 0)), (2, .int x2), (3, .int x3), (4, .int x4), (5, .int x5), (6, .int x6), (7, .int x7), (8, .int x8), (9, .int x9)] [] := by
    intro K83 hK83 n
    induction n with
    | zero => intro ad x2 x3 x4 x5 x6 x7 x8 x9 χ hf; exact hf.elim
    | succ n hK95 =>
      intro ad x2 x3 x4 x5 x6 x7 x8 x9 χ hf
      unfold w_C_drawn_95 at hf
      refine g_iload hX 8 dX0_drawn_95 rfl ?_
      refine g_bipush hX (v := (6 : Int32)) dX0_drawn_97 rfl ?_
      refine g_icmp_ge hX 156 dX0_drawn_99 (by decide) (fun z => ?_) (fun z => ?_)
      · replace hf := hf.1 z
        refine g_aload_n hX 0 dX0_drawn_156 rfl rfl ?_
        refine g_iload hX 7 dX0_drawn_157 rfl ?_
        refine g_callVv hX (n := 1) (mt_C_weighMade X.l X.Γ _ _ _ _) hf q925 q927 qs34 q85 q928 ⟨rfl, hy_C_weighMade⟩ (by decide) (fc0 _) ff0 rfl rfl rfl (Nat.le_of_ble_eq_true rfl) dX0_drawn_159 (fun χ13 hf hc13 => ?_)
        refine g_iload hX 5 dX0_drawn_162 rfl ?_
        refine g_aload_n hX 0 dX0_drawn_164 rfl rfl ?_
        refine g_callVi hX (n := 0) (mt_C_best X.l X.Γ _ _ _) hf q848 q850 qs26 q85 q851 ⟨rfl, hy_C_best⟩ (by decide) (fc0 _) ff0 rfl rfl rfl (Nat.le_of_ble_eq_true rfl) dX0_drawn_165 (fun r14 χ15 hf hc15 => ?_)
        refine g_iload hX 3 dX0_drawn_168 rfl ?_
        refine g_icmp_ne hX 177 dX0_drawn_170 (by decide) (fun z => ?_) (fun z => ?_)
        · replace hf := hf.1 z
          refine g_iconst hX (v := (0 : Int32)) dX0_drawn_177 rfl ?_
          refine g_sub [0, 1, 2, 3, 4, 6] rfl ?_
          exact B178 K83 hK83 _ _ _ _ _ _ _ _ _ hf
        · replace hf := hf.2 z
          refine g_iconst hX (v := (1 : Int32)) dX0_drawn_173 rfl ?_
          refine g_goto hX 178 dX0_drawn_174 (by decide) ?_
          refine g_sub [0, 1, 2, 3, 4, 6] rfl ?_
          exact B178 K83 hK83 _ _ _ _ _ _ _ _ _ hf
      · replace hf := hf.2 z
        refine g_iload hX 4 dX0_drawn_102 rfl ?_
        refine g_ldcw hX q1003 dX0_drawn_104 ?_
        refine g_imul hX dX0_drawn_107 ?_
        refine g_sipush hX (v := (12345 : Int32)) dX0_drawn_108 rfl ?_
        refine g_iadd hX dX0_drawn_111 ?_
        replace hf := hf _ rfl
        refine g_istore hX dX0_drawn_112 (by decide) rfl ?_
        refine g_iload hX 0 dX0_drawn_114 rfl ?_
        refine g_bipush hX (v := (8 : Int32)) dX0_drawn_116 rfl ?_
        refine g_iushr hX dX0_drawn_118 ?_
        refine g_bipush hX (v := (100 : Int32)) dX0_drawn_119 rfl ?_
        refine g_irem hX dX0_drawn_121 (by decide) ?_
        refine g_aload_n hX 1 dX0_drawn_122 rfl rfl ?_
        refine g_iload hX 8 dX0_drawn_123 rfl ?_
        refine g_bipush hX (v := (30 : Int32)) dX0_drawn_125 rfl ?_
        refine g_iload hX 4 dX0_drawn_127 rfl ?_
        refine g_imul hX dX0_drawn_129 ?_
        refine g_iload_n hX 3 dX0_drawn_130 rfl rfl ?_
        refine g_bipush hX (v := (100 : Int32)) dX0_drawn_131 rfl ?_
        refine g_irem hX dX0_drawn_133 (by decide) ?_
        refine g_iadd hX dX0_drawn_134 ?_
        refine g_callVi hX (n := 2) (mt_C_numberAt X.l X.Γ _ _ _ _ _) hf q828 q830 qs24 q85 q831 ⟨rfl, hy_C_numberAt⟩ (by decide) (fc0 _) ff0 rfl rfl rfl (Nat.le_of_ble_eq_true rfl) dX0_drawn_135 (fun r17 χ18 hf hc18 => ?_)
        refine g_icmp_ge hX 150 dX0_drawn_138 (by decide) (fun z => ?_) (fun z => ?_)
        · replace hf := hf.1 z
          refine g_sub [1, 2, 3, 4, 0, 5, 6, 7, 8] rfl ?_
          exact B150 K83 hK83 (w_C_drawn_95 Q K83 n) hK95 _ _ _ _ _ _ _ _ _ _ hf
        · replace hf := hf.2 z
          refine g_iload hX 7 dX0_drawn_141 rfl ?_
          refine g_iconst hX (v := (1 : Int32)) dX0_drawn_143 rfl ?_
          refine g_iload hX 8 dX0_drawn_144 rfl ?_
          refine g_ishl hX dX0_drawn_146 ?_
          refine g_ior hX dX0_drawn_147 ?_
          replace hf := hf _ rfl
          refine g_istore hX dX0_drawn_148 (by decide) rfl ?_
          refine g_sub [2, 3, 4, 5, 1, 6, 7, 0, 8] rfl ?_
          exact B150 K83 hK83 (w_C_drawn_95 Q K83 n) hK95 _ _ _ _ _ _ _ _ _ _ hf
  have B83 : ∀ (n : Nat) (ad : Nat → Nat → Nat) (x2 : Int32) (x3 : Int32) (x4 : Int32) (x5 : Int32) (x6 : Int32) (x7 : Int32) (χ : St), w_C_drawn_83 Q n x2 x3 x4 x5 x6 x7 χ → G X ad χ 83 [(0, .ref (ad 0 0)), (2, .int x2), (3, .int x3), (4, .int x4), (5, .int x5), (6, .int x6), (7, .int x7)] [] := by
    intro n
    induction n with
    | zero => intro ad x2 x3 x4 x5 x6 x7 χ hf; exact hf.elim
    | succ n hK83 =>
      intro ad x2 x3 x4 x5 x6 x7 χ hf
      unfold w_C_drawn_83 at hf
      refine g_iload hX 6 dX0_drawn_83 rfl ?_
      refine g_iload_n hX 1 dX0_drawn_85 rfl rfl ?_
      refine g_icmp_ge hX 187 dX0_drawn_86 (by decide) (fun z => ?_) (fun z => ?_)
      · replace hf := hf.1 z
        refine g_iload hX 5 dX0_drawn_187 rfl ?_
        exact g_iret hX ⟨_, rfl, hf⟩ dX0_drawn_189
      · replace hf := hf.2 z
        refine g_iconst hX (v := (0 : Int32)) dX0_drawn_89 rfl ?_
        refine g_istore hX dX0_drawn_90 (by decide) rfl ?_
        refine g_iconst hX (v := (0 : Int32)) dX0_drawn_92 rfl ?_
        refine g_istore hX dX0_drawn_93 (by decide) rfl ?_
        obtain ⟨n0, hf⟩ := hf
        refine g_sub [2, 3, 4, 5, 6, 7, 8, 1, 0] rfl ?_
        exact B95 (w_C_drawn_83 Q n) hK83 n0 _ _ _ _ _ _ _ _ _ _ hf
  unfold w_C_drawn at hf
  refine g_iload_n hX 2 dX0_drawn_0 rfl rfl ?_
  refine g_iconst hX (v := (1 : Int32)) dX0_drawn_1 rfl ?_
  refine g_bipush hX (v := (30 : Int32)) dX0_drawn_2 rfl ?_
  refine g_callSi hX (n := 3) (mt_C_in X.l X.Γ _ _ _ _ _ _) hf q281 q282 q85 q283 hy_C_in (by decide) rfl rfl (Nat.le_of_ble_eq_true rfl) dX0_drawn_4 (fun r1 χ2 hf hc2 => ?_)
  refine g_if_eq hX 49 dX0_drawn_7 (by decide) (fun z => ?_) (fun z => ?_)
  · replace hf := hf.1 z
    refine g_iconst hX (v := (-1 : Int32)) dX0_drawn_49 rfl ?_
    exact g_iret hX ⟨_, rfl, hf⟩ dX0_drawn_50
  · replace hf := hf.2 z
    refine g_iload_n hX 3 dX0_drawn_10 rfl rfl ?_
    refine g_if_lt hX 49 dX0_drawn_11 (by decide) (fun z => ?_) (fun z => ?_)
    · replace hf := hf.1 z
      refine g_iconst hX (v := (-1 : Int32)) dX0_drawn_49 rfl ?_
      exact g_iret hX ⟨_, rfl, hf⟩ dX0_drawn_50
    · replace hf := hf.2 z
      refine g_aload_n hX 0 dX0_drawn_14 rfl rfl ?_
      refine g_iload_n hX 3 dX0_drawn_15 rfl rfl ?_
      refine g_sipush hX (v := (1000 : Int32)) dX0_drawn_16 rfl ?_
      refine g_idiv hX dX0_drawn_19 (by decide) ?_
      refine g_callVi hX (n := 1) (mt_C_isPart X.l X.Γ _ _ _ _) hf q458 q460 qs4 q85 q461 ⟨rfl, hy_C_isPart⟩ (by decide) (fc0 _) ff0 rfl rfl rfl (Nat.le_of_ble_eq_true rfl) dX0_drawn_20 (fun r3 χ4 hf hc4 => ?_)
      refine g_if_eq hX 49 dX0_drawn_23 (by decide) (fun z => ?_) (fun z => ?_)
      · replace hf := hf.1 z
        refine g_iconst hX (v := (-1 : Int32)) dX0_drawn_49 rfl ?_
        exact g_iret hX ⟨_, rfl, hf⟩ dX0_drawn_50
      · replace hf := hf.2 z
        refine g_iload_n hX 3 dX0_drawn_26 rfl rfl ?_
        refine g_bipush hX (v := (100 : Int32)) dX0_drawn_27 rfl ?_
        refine g_idiv hX dX0_drawn_29 (by decide) ?_
        refine g_bipush hX (v := (10 : Int32)) dX0_drawn_30 rfl ?_
        refine g_irem hX dX0_drawn_32 (by decide) ?_
        refine g_callSi hX (n := 1) (mt_C_isKind X.l X.Γ _ _ _ _) hf q469 q470 q85 q471 hy_C_isKind (by decide) rfl rfl (Nat.le_of_ble_eq_true rfl) dX0_drawn_33 (fun r5 χ6 hf hc6 => ?_)
        refine g_if_eq hX 49 dX0_drawn_36 (by decide) (fun z => ?_) (fun z => ?_)
        · replace hf := hf.1 z
          refine g_iconst hX (v := (-1 : Int32)) dX0_drawn_49 rfl ?_
          exact g_iret hX ⟨_, rfl, hf⟩ dX0_drawn_50
        · replace hf := hf.2 z
          refine g_iload_n hX 3 dX0_drawn_39 rfl rfl ?_
          refine g_bipush hX (v := (100 : Int32)) dX0_drawn_40 rfl ?_
          refine g_irem hX dX0_drawn_42 (by decide) ?_
          refine g_callSi hX (n := 1) (mt_C_isTime X.l X.Γ _ _ _ _) hf q767 q768 q85 q769 hy_C_isTime (by decide) rfl rfl (Nat.le_of_ble_eq_true rfl) dX0_drawn_43 (fun r7 χ8 hf hc8 => ?_)
          refine g_if_ne hX 51 dX0_drawn_46 (by decide) (fun z => ?_) (fun z => ?_)
          · replace hf := hf.1 z
            refine g_aload_n hX 0 dX0_drawn_51 rfl rfl ?_
            refine g_aload_n hX 0 dX0_drawn_52 rfl rfl ?_
            refine g_getK hX (k := 0) (d := 1) (fc0 _) ff0 rfl (by decide) rfl rfl in_X0 (by decide) q198 dX0_drawn_53 ?_
            refine g_iload_n hX 3 dX0_drawn_56 rfl rfl ?_
            refine g_sipush hX (v := (1000 : Int32)) dX0_drawn_57 rfl ?_
            refine g_idiv hX dX0_drawn_60 (by decide) ?_
            have hg9 := hf.1
            replace hf := hf.2
            obtain ⟨z10, hz10, hf⟩ := hf
            refine g_aaldE hX (fc1 _) ff1 rfl rfl hg9 dX0_drawn_61 hz10 (fun hvz10 => ?_)
            refine g_callVv hX (n := 1) (mt_C_findNumbers X.l X.Γ _ _ _ _) ⟨hvz10, hf⟩ q820 q822 qs22 q85 q823 ⟨rfl, hy_C_findNumbers⟩ (by decide) (fc0 _) ff0 rfl rfl rfl (Nat.le_of_ble_eq_true rfl) dX0_drawn_62 (fun χ11 hf hc11 => ?_)
            refine g_iload_n hX 3 dX0_drawn_65 rfl rfl ?_
            refine g_bipush hX (v := (100 : Int32)) dX0_drawn_66 rfl ?_
            refine g_idiv hX dX0_drawn_68 (by decide) ?_
            refine g_bipush hX (v := (10 : Int32)) dX0_drawn_69 rfl ?_
            refine g_irem hX dX0_drawn_71 (by decide) ?_
            replace hf := hf _ rfl
            refine g_istore hX dX0_drawn_72 (by decide) rfl ?_
            refine g_iload_n hX 2 dX0_drawn_74 rfl rfl ?_
            refine g_istore hX dX0_drawn_75 (by decide) rfl ?_
            refine g_iconst hX (v := (0 : Int32)) dX0_drawn_77 rfl ?_
            refine g_istore hX dX0_drawn_78 (by decide) rfl ?_
            refine g_iconst hX (v := (0 : Int32)) dX0_drawn_80 rfl ?_
            refine g_istore hX dX0_drawn_81 (by decide) rfl ?_
            obtain ⟨n0, hf⟩ := hf
            refine g_sub [4, 6, 7, 3, 2, 1, 0] rfl ?_
            exact B83 n0 _ _ _ _ _ _ _ _ hf
          · replace hf := hf.2 z
            refine g_iconst hX (v := (-1 : Int32)) dX0_drawn_49 rfl ?_
            exact g_iret hX ⟨_, rfl, hf⟩ dX0_drawn_50

def w_C_image_20 (Q : Int32 → St → Prop) (K10 : Int32 → St → Prop) : Nat → Int32 → Int32 → St → Prop
  | 0 => fun _ _ _ => False
  | n + 1 => fun x1 x2 χ => (((6 : Int32) ≤ x2 → (K10 (x1 + (1 : Int32)) χ)) ∧ (¬ (6 : Int32) ≤ x2 → (vp_in x1 8) ∧ ((∃ z3, (gR χ 1 0 x1.toNatClampNeg) = some z3 ∧ ((∃ z4, (gR χ 2103 z3 0) = some z4 ∧ ((vp_in x1 8) ∧ ((∃ z6, (gR χ 1 0 x1.toNatClampNeg) = some z6 ∧ ((∃ z7, (gR χ 2102 z6 0) = some z7 ∧ ((vp_in x2 (tg χ 25 z7)) ∧ ((vp_in x2 (tg χ 25 z4)) ∧ ((∀ χ8 : St, χ8 = (sI χ 25 z4 x2.toNatClampNeg (vp_nar .byte (gI χ 25 z7 x2.toNatClampNeg))) → (w_C_image_20 Q K10 n x1 (x2 + (1 : Int32)) χ8))))))))))))))))
def w_C_image_10 (Q : Int32 → St → Prop) : Nat → Int32 → St → Prop
  | 0 => fun _ _ => False
  | n + 1 => fun x1 χ => (((gI χ 103 0 0) ≤ x1 → (Q (gI χ 103 0 0) χ)) ∧ (¬ (gI χ 103 0 0) ≤ x1 → (∃ k20, w_C_image_20 Q (w_C_image_10 Q n) k20 x1 (0 : Int32) χ)))
def w_C_image (χ : St) (Q : Int32 → St → Prop) : Prop := (∀ χ1 : St, χ1 = (sI χ 119 0 0 (gI χ 103 0 0)) → (∃ k10, w_C_image_10 Q k10 (0 : Int32) χ1))
set_option maxHeartbeats 4000000 in
theorem mt_C_image (l : Launch) (Γ : Gh) (ad : Nat → Nat → Nat) (χ : St) (Q : Int32 → St → Prop) : Mt l yX0_image (ws_ yX0_image cX0_image 3 (some .int)) (rmO (0) (0) χ) (Pm Γ ad χ [.ref (ad 0 0)] (w_C_image χ Q)) (Qm Γ true ad χ (pI Q)) (frB Γ) := by
  refine Mt.start (by decide) RX0 rfl (Nat.le_of_ble_eq_true rfl) ?_
  intro X hX hG _ _ hna _ hf
  have B20 : ∀ (K10 : Int32 → St → Prop) (hK10 : ∀ (ad : Nat → Nat → Nat) (x1 : Int32) (χ : St), K10 x1 χ → G X ad χ 10 [(0, .ref (ad 0 0)), (1, .int x1)] []) (n : Nat) (ad : Nat → Nat → Nat) (x1 : Int32) (x2 : Int32) (χ : St), w_C_image_20 Q K10 n x1 x2 χ → G X ad χ 20 [(0, .ref (ad 0 0)), (1, .int x1), (2, .int x2)] [] := by
    intro K10 hK10 n
    induction n with
    | zero => intro ad x1 x2 χ hf; exact hf.elim
    | succ n hK20 =>
      intro ad x1 x2 χ hf
      unfold w_C_image_20 at hf
      refine g_iload_n hX 2 dX0_image_20 rfl rfl ?_
      refine g_bipush hX (v := (6 : Int32)) dX0_image_21 rfl ?_
      refine g_icmp_ge hX 54 dX0_image_23 (by decide) (fun z => ?_) (fun z => ?_)
      · replace hf := hf.1 z
        refine g_iinc hX (v := _) 1 dX0_image_54 rfl rfl (by decide) rfl ?_
        refine g_goto hX 10 dX0_image_57 (by decide) ?_
        refine g_sub [1, 0] rfl ?_
        exact hK10 _ _ _ hf
      · replace hf := hf.2 z
        refine g_aload_n hX 0 dX0_image_26 rfl rfl ?_
        refine g_getK hX (k := 0) (d := 1) (fc0 _) ff0 rfl (by decide) rfl rfl in_X0 (by decide) q198 dX0_image_27 ?_
        refine g_iload_n hX 1 dX0_image_30 rfl rfl ?_
        have hg2 := hf.1
        replace hf := hf.2
        obtain ⟨z3, hz3, hf⟩ := hf
        refine g_aaldE hX (fc1 _) ff1 rfl rfl hg2 dX0_image_31 hz3 (fun hvz3 => ?_)
        obtain ⟨z4, hz4, hf⟩ := hf
        refine g_getEN hX (k := 3) hvz3 ff20 rfl (by decide) (by decide) rfl rfl rfl in_X5 (by decide) q300 dX0_image_32 hz4 (fun hvz4 => ?_)
        refine g_iload_n hX 2 dX0_image_35 rfl rfl ?_
        refine g_aload_n hX 0 dX0_image_36 rfl rfl ?_
        refine g_getK hX (k := 0) (d := 1) (fc0 _) ff0 rfl (by decide) rfl rfl in_X0 (by decide) q198 dX0_image_37 ?_
        refine g_iload_n hX 1 dX0_image_40 rfl rfl ?_
        have hg5 := hf.1
        replace hf := hf.2
        obtain ⟨z6, hz6, hf⟩ := hf
        refine g_aaldE hX (fc1 _) ff1 rfl rfl hg5 dX0_image_41 hz6 (fun hvz6 => ?_)
        obtain ⟨z7, hz7, hf⟩ := hf
        refine g_getEN hX (k := 2) hvz6 ff20 rfl (by decide) (by decide) rfl rfl rfl in_X5 (by decide) q298 dX0_image_42 hz7 (fun hvz7 => ?_)
        refine g_iload_n hX 2 dX0_image_45 rfl rfl ?_
        refine g_bald hX hvz7 ff25 rfl hf.1 dX0_image_46 ?_
        replace hf := hf.2
        refine g_bast hX hvz4 ff25 rfl hf.1 dX0_image_47 ?_
        replace hf := hf.2
        replace hf := hf _ rfl
        refine g_iinc hX (v := _) 2 dX0_image_48 rfl rfl (by decide) rfl ?_
        refine g_goto hX 20 dX0_image_51 (by decide) ?_
        refine g_sub [1, 2, 0] rfl ?_
        exact hK20 _ _ _ _ hf
  have B10 : ∀ (n : Nat) (ad : Nat → Nat → Nat) (x1 : Int32) (χ : St), w_C_image_10 Q n x1 χ → G X ad χ 10 [(0, .ref (ad 0 0)), (1, .int x1)] [] := by
    intro n
    induction n with
    | zero => intro ad x1 χ hf; exact hf.elim
    | succ n hK10 =>
      intro ad x1 χ hf
      unfold w_C_image_10 at hf
      refine g_iload_n hX 1 dX0_image_10 rfl rfl ?_
      refine g_aload_n hX 0 dX0_image_11 rfl rfl ?_
      refine g_getI hX (k := 3) (fc0 _) ff0 rfl rfl in_X0 (by decide) q201 dX0_image_12 ?_
      refine g_icmp_ge hX 60 dX0_image_15 (by decide) (fun z => ?_) (fun z => ?_)
      · replace hf := hf.1 z
        refine g_aload_n hX 0 dX0_image_60 rfl rfl ?_
        refine g_getI hX (k := 3) (fc0 _) ff0 rfl rfl in_X0 (by decide) q201 dX0_image_61 ?_
        exact g_iret hX ⟨_, rfl, hf⟩ dX0_image_64
      · replace hf := hf.2 z
        refine g_iconst hX (v := (0 : Int32)) dX0_image_18 rfl ?_
        refine g_istore_n hX dX0_image_19 rfl (by decide) rfl ?_
        obtain ⟨n0, hf⟩ := hf
        refine g_sub [1, 2, 0] rfl ?_
        exact B20 (w_C_image_10 Q n) hK10 n0 _ _ _ _ hf
  unfold w_C_image at hf
  refine g_aload_n hX 0 dX0_image_0 rfl rfl ?_
  refine g_aload_n hX 0 dX0_image_1 rfl rfl ?_
  refine g_getI hX (k := 3) (fc0 _) ff0 rfl rfl in_X0 (by decide) q201 dX0_image_2 ?_
  refine g_putI hX (k := 19) (fc0 _) ff0 rfl rfl in_X0 tyX0_ok nmX0 (by decide) q219 rfl rfl rfl rfl dX0_image_5 ?_
  replace hf := hf _ rfl
  refine g_iconst hX (v := (0 : Int32)) dX0_image_8 rfl ?_
  refine g_istore_n hX dX0_image_9 rfl (by decide) rfl ?_
  obtain ⟨n0, hf⟩ := hf
  refine g_sub [1, 0] rfl ?_
  exact B10 n0 _ _ _ hf

def w_C_back_61 (Q : Int32 → St → Prop) (K12 : Int32 → St → Prop) (K22 : Int32 → Int32 → St → Prop) (x1 : Int32) (x2 : Int32) (z0 : Int32) (z1 : Int32) (z2 : Nat) (χ : St) : Prop := (vp_in z1 (tg χ 25 z2)) ∧ ((∀ χ4 : St, χ4 = (sI χ 25 z2 z1.toNatClampNeg (vp_nar .byte z0)) → (K22 x1 (x2 + (1 : Int32)) χ4)))
def w_C_back_22 (Q : Int32 → St → Prop) (K12 : Int32 → St → Prop) : Nat → Int32 → Int32 → St → Prop
  | 0 => fun _ _ _ => False
  | n + 1 => fun x1 x2 χ => (((6 : Int32) ≤ x2 → (K12 (x1 + (1 : Int32)) χ)) ∧ (¬ (6 : Int32) ≤ x2 → (vp_in x1 8) ∧ ((∃ z2, (gR χ 1 0 x1.toNatClampNeg) = some z2 ∧ ((∃ z3, (gR χ 2102 z2 0) = some z3 ∧ ((((gI χ 119 0 0) ≤ x1 → (w_C_back_61 Q K12 (w_C_back_22 Q K12 n) x1 x2 (0 : Int32) x2 z3 χ)) ∧ (¬ (gI χ 119 0 0) ≤ x1 → (vp_in x1 8) ∧ ((∃ z6, (gR χ 1 0 x1.toNatClampNeg) = some z6 ∧ ((∃ z7, (gR χ 2103 z6 0) = some z7 ∧ ((vp_in x2 (tg χ 25 z7)) ∧ ((w_C_back_61 Q K12 (w_C_back_22 Q K12 n) x1 x2 (gI χ 25 z7 x2.toNatClampNeg) x2 z3 χ))))))))))))))))
def w_C_back_12 (Q : Int32 → St → Prop) : Nat → Int32 → St → Prop
  | 0 => fun _ _ => False
  | n + 1 => fun x1 χ => (((gI χ 103 0 0) ≤ x1 → (Q (gI χ 103 0 0) χ)) ∧ (¬ (gI χ 103 0 0) ≤ x1 → (∃ k22, w_C_back_22 Q (w_C_back_12 Q n) k22 x1 (0 : Int32) χ)))
def w_C_back (χ : St) (Q : Int32 → St → Prop) : Prop := ((0 ≤ (gI χ 119 0 0) → (∃ k12, w_C_back_12 Q k12 (0 : Int32) χ)) ∧ (¬ 0 ≤ (gI χ 119 0 0) → (Q (-5 : Int32) χ)))
set_option maxHeartbeats 4000000 in
theorem mt_C_back (l : Launch) (Γ : Gh) (ad : Nat → Nat → Nat) (χ : St) (Q : Int32 → St → Prop) : Mt l yX0_back (ws_ yX0_back cX0_back 3 (some .int)) (rmO (0) (0) χ) (Pm Γ ad χ [.ref (ad 0 0)] (w_C_back χ Q)) (Qm Γ true ad χ (pI Q)) (frB Γ) := by
  refine Mt.start (by decide) RX0 rfl (Nat.le_of_ble_eq_true rfl) ?_
  intro X hX hG _ _ hna _ hf
  have B61 : ∀ (K12 : Int32 → St → Prop) (hK12 : ∀ (ad : Nat → Nat → Nat) (x1 : Int32) (χ : St), K12 x1 χ → G X ad χ 12 [(0, .ref (ad 0 0)), (1, .int x1)] []) (K22 : Int32 → Int32 → St → Prop) (hK22 : ∀ (ad : Nat → Nat → Nat) (x1 : Int32) (x2 : Int32) (χ : St), K22 x1 x2 χ → G X ad χ 22 [(0, .ref (ad 0 0)), (1, .int x1), (2, .int x2)] []) (ad : Nat → Nat → Nat) (x1 : Int32) (x2 : Int32) (z0 : Int32) (z1 : Int32) (z2 : Nat) (χ : St), z2 < cn χ 25 → w_C_back_61 Q K12 K22 x1 x2 z0 z1 z2 χ → G X ad χ 61 [(0, .ref (ad 0 0)), (1, .int x1), (2, .int x2)] [.int z0, .int z1, .ref (ad 25 z2)] := by
    intro K12 hK12 K22 hK22 ad x1 x2 z0 z1 z2 χ hv_z2 hf
    unfold w_C_back_61 at hf
    refine g_bast hX hv_z2 ff25 rfl hf.1 dX0_back_61 ?_
    replace hf := hf.2
    replace hf := hf _ rfl
    refine g_iinc hX (v := _) 2 dX0_back_62 rfl rfl (by decide) rfl ?_
    refine g_goto hX 22 dX0_back_65 (by decide) ?_
    refine g_sub [1, 2, 0] rfl ?_
    exact hK22 _ _ _ _ hf
  have B22 : ∀ (K12 : Int32 → St → Prop) (hK12 : ∀ (ad : Nat → Nat → Nat) (x1 : Int32) (χ : St), K12 x1 χ → G X ad χ 12 [(0, .ref (ad 0 0)), (1, .int x1)] []) (n : Nat) (ad : Nat → Nat → Nat) (x1 : Int32) (x2 : Int32) (χ : St), w_C_back_22 Q K12 n x1 x2 χ → G X ad χ 22 [(0, .ref (ad 0 0)), (1, .int x1), (2, .int x2)] [] := by
    intro K12 hK12 n
    induction n with
    | zero => intro ad x1 x2 χ hf; exact hf.elim
    | succ n hK22 =>
      intro ad x1 x2 χ hf
      unfold w_C_back_22 at hf
      refine g_iload_n hX 2 dX0_back_22 rfl rfl ?_
      refine g_bipush hX (v := (6 : Int32)) dX0_back_23 rfl ?_
      refine g_icmp_ge hX 68 dX0_back_25 (by decide) (fun z => ?_) (fun z => ?_)
      · replace hf := hf.1 z
        refine g_iinc hX (v := _) 1 dX0_back_68 rfl rfl (by decide) rfl ?_
        refine g_goto hX 12 dX0_back_71 (by decide) ?_
        refine g_sub [1, 0] rfl ?_
        exact hK12 _ _ _ hf
      · replace hf := hf.2 z
        refine g_aload_n hX 0 dX0_back_28 rfl rfl ?_
        refine g_getK hX (k := 0) (d := 1) (fc0 _) ff0 rfl (by decide) rfl rfl in_X0 (by decide) q198 dX0_back_29 ?_
        refine g_iload_n hX 1 dX0_back_32 rfl rfl ?_
        have hg1 := hf.1
        replace hf := hf.2
        obtain ⟨z2, hz2, hf⟩ := hf
        refine g_aaldE hX (fc1 _) ff1 rfl rfl hg1 dX0_back_33 hz2 (fun hvz2 => ?_)
        obtain ⟨z3, hz3, hf⟩ := hf
        refine g_getEN hX (k := 2) hvz2 ff20 rfl (by decide) (by decide) rfl rfl rfl in_X5 (by decide) q298 dX0_back_34 hz3 (fun hvz3 => ?_)
        refine g_iload_n hX 2 dX0_back_37 rfl rfl ?_
        refine g_iload_n hX 1 dX0_back_38 rfl rfl ?_
        refine g_aload_n hX 0 dX0_back_39 rfl rfl ?_
        refine g_getI hX (k := 19) (fc0 _) ff0 rfl rfl in_X0 (by decide) q219 dX0_back_40 ?_
        refine g_icmp_ge hX 60 dX0_back_43 (by decide) (fun z => ?_) (fun z => ?_)
        · replace hf := hf.1 z
          refine g_iconst hX (v := (0 : Int32)) dX0_back_60 rfl ?_
          exact B61 K12 hK12 (w_C_back_22 Q K12 n) hK22 _ _ _ _ _ _ _ (hvz3) hf
        · replace hf := hf.2 z
          refine g_aload_n hX 0 dX0_back_46 rfl rfl ?_
          refine g_getK hX (k := 0) (d := 1) (fc0 _) ff0 rfl (by decide) rfl rfl in_X0 (by decide) q198 dX0_back_47 ?_
          refine g_iload_n hX 1 dX0_back_50 rfl rfl ?_
          have hg5 := hf.1
          replace hf := hf.2
          obtain ⟨z6, hz6, hf⟩ := hf
          refine g_aaldE hX (fc1 _) ff1 rfl rfl hg5 dX0_back_51 hz6 (fun hvz6 => ?_)
          obtain ⟨z7, hz7, hf⟩ := hf
          refine g_getEN hX (k := 3) hvz6 ff20 rfl (by decide) (by decide) rfl rfl rfl in_X5 (by decide) q300 dX0_back_52 hz7 (fun hvz7 => ?_)
          refine g_iload_n hX 2 dX0_back_55 rfl rfl ?_
          refine g_bald hX hvz7 ff25 rfl hf.1 dX0_back_56 ?_
          replace hf := hf.2
          refine g_goto hX 61 dX0_back_57 (by decide) ?_
          exact B61 K12 hK12 (w_C_back_22 Q K12 n) hK22 _ _ _ _ _ _ _ (hvz3) hf
  have B12 : ∀ (n : Nat) (ad : Nat → Nat → Nat) (x1 : Int32) (χ : St), w_C_back_12 Q n x1 χ → G X ad χ 12 [(0, .ref (ad 0 0)), (1, .int x1)] [] := by
    intro n
    induction n with
    | zero => intro ad x1 χ hf; exact hf.elim
    | succ n hK12 =>
      intro ad x1 χ hf
      unfold w_C_back_12 at hf
      refine g_iload_n hX 1 dX0_back_12 rfl rfl ?_
      refine g_aload_n hX 0 dX0_back_13 rfl rfl ?_
      refine g_getI hX (k := 3) (fc0 _) ff0 rfl rfl in_X0 (by decide) q201 dX0_back_14 ?_
      refine g_icmp_ge hX 74 dX0_back_17 (by decide) (fun z => ?_) (fun z => ?_)
      · replace hf := hf.1 z
        refine g_aload_n hX 0 dX0_back_74 rfl rfl ?_
        refine g_getI hX (k := 3) (fc0 _) ff0 rfl rfl in_X0 (by decide) q201 dX0_back_75 ?_
        exact g_iret hX ⟨_, rfl, hf⟩ dX0_back_78
      · replace hf := hf.2 z
        refine g_iconst hX (v := (0 : Int32)) dX0_back_20 rfl ?_
        refine g_istore_n hX dX0_back_21 rfl (by decide) rfl ?_
        obtain ⟨n0, hf⟩ := hf
        refine g_sub [1, 2, 0] rfl ?_
        exact B22 (w_C_back_12 Q n) hK12 n0 _ _ _ _ hf
  unfold w_C_back at hf
  refine g_aload_n hX 0 dX0_back_0 rfl rfl ?_
  refine g_getI hX (k := 19) (fc0 _) ff0 rfl rfl in_X0 (by decide) q219 dX0_back_1 ?_
  refine g_if_ge hX 10 dX0_back_4 (by decide) (fun z => ?_) (fun z => ?_)
  · replace hf := hf.1 z
    refine g_iconst hX (v := (0 : Int32)) dX0_back_10 rfl ?_
    refine g_istore_n hX dX0_back_11 rfl (by decide) rfl ?_
    obtain ⟨n0, hf⟩ := hf
    refine g_sub [1, 0] rfl ?_
    exact B12 n0 _ _ _ hf
  · replace hf := hf.2 z
    refine g_bipush hX (v := (-5 : Int32)) dX0_back_7 rfl ?_
    exact g_iret hX ⟨_, rfl, hf⟩ dX0_back_9

def w_C_isBody (x1 : Int32) (χ : St) (Q : Int32 → St → Prop) : Prop := (w_C_in x1 (0 : Int32) ((gI χ 123 0 0) - (1 : Int32)) χ (fun r1 χ2 => (narrow .boolean (.int r1) = .int r1) ∧ ((Q r1 χ2))))
set_option maxHeartbeats 4000000 in
theorem mt_C_isBody (l : Launch) (Γ : Gh) (ad : Nat → Nat → Nat) (x1 : Int32) (χ : St) (Q : Int32 → St → Prop) : Mt l yX0_isBody (ws_ yX0_isBody cX0_isBody 2 (some .boolean)) (rmO (1) (22) χ) (Pm Γ ad χ [.ref (ad 0 0), .int x1] (w_C_isBody x1 χ Q)) (Qm Γ true ad χ (pI Q)) (frB Γ) := by
  refine Mt.start (by decide) RX0 rfl (Nat.le_of_ble_eq_true rfl) ?_
  intro X hX hG _ _ hna _ hf
  unfold w_C_isBody at hf
  refine g_iload_n hX 1 dX0_isBody_0 rfl rfl ?_
  refine g_iconst hX (v := (0 : Int32)) dX0_isBody_1 rfl ?_
  refine g_aload_n hX 0 dX0_isBody_2 rfl rfl ?_
  refine g_getI hX (k := 23) (fc0 _) ff0 rfl rfl in_X0 (by decide) q223 dX0_isBody_3 ?_
  refine g_iconst hX (v := (1 : Int32)) dX0_isBody_6 rfl ?_
  refine g_isub hX dX0_isBody_7 ?_
  refine g_callSi hX (n := 3) (mt_C_in X.l X.Γ _ _ _ _ _ _) hf q281 q282 q85 q283 hy_C_in (by decide) rfl rfl (Nat.le_of_ble_eq_true rfl) dX0_isBody_8 (fun r1 χ2 hf hc2 => ?_)
  exact g_zret hX hf.1 ⟨_, rfl, hf.2⟩ dX0_isBody_11

def w_C_ran_20 (Q : St → Prop) (χ : St) : Prop := (∀ χ1 : St, χ1 = (sI χ 120 0 0 ((gI χ 120 0 0) + (1 : Int32))) → (Q χ1))
def w_C_ran (x1 : Int32) (χ : St) (Q : St → Prop) : Prop := (((24 : Int32) ≤ (gI χ 120 0 0) → (w_C_ran_20 Q χ)) ∧ (¬ (24 : Int32) ≤ (gI χ 120 0 0) → (vp_in (gI χ 120 0 0) 24) ∧ ((∀ χ2 : St, χ2 = (sI χ 15 0 (gI χ 120 0 0).toNatClampNeg (vp_nar .byte x1.toInt8.toInt32)) → (w_C_ran_20 Q χ2)))))
set_option maxHeartbeats 4000000 in
theorem mt_C_ran (l : Launch) (Γ : Gh) (ad : Nat → Nat → Nat) (x1 : Int32) (χ : St) (Q : St → Prop) : Mt l yX0_ran (ws_ yX0_ran cX0_ran 2 (none)) (rmO (0) (0) χ) (Pm Γ ad χ [.ref (ad 0 0), .int x1] (w_C_ran x1 χ Q)) (Qm Γ true ad χ (pV Q)) (frB Γ) := by
  refine Mt.start (by decide) RX0 rfl (Nat.le_of_ble_eq_true rfl) ?_
  intro X hX hG _ _ hna _ hf
  have B20 : ∀ (ad : Nat → Nat → Nat) (χ : St), w_C_ran_20 Q χ → G X ad χ 20 [(0, .ref (ad 0 0))] [] := by
    intro ad χ hf
    unfold w_C_ran_20 at hf
    refine g_aload_n hX 0 dX0_ran_20 rfl rfl ?_
    refine g_dup hX dX0_ran_21 rfl ?_
    refine g_getI hX (k := 20) (fc0 _) ff0 rfl rfl in_X0 (by decide) q220 dX0_ran_22 ?_
    refine g_iconst hX (v := (1 : Int32)) dX0_ran_25 rfl ?_
    refine g_iadd hX dX0_ran_26 ?_
    refine g_putI hX (k := 20) (fc0 _) ff0 rfl rfl in_X0 tyX0_ok nmX0 (by decide) q220 rfl rfl rfl rfl dX0_ran_27 ?_
    replace hf := hf _ rfl
    exact g_vret hX ⟨rfl, hf⟩ dX0_ran_30
  unfold w_C_ran at hf
  refine g_aload_n hX 0 dX0_ran_0 rfl rfl ?_
  refine g_getI hX (k := 20) (fc0 _) ff0 rfl rfl in_X0 (by decide) q220 dX0_ran_1 ?_
  refine g_bipush hX (v := (24 : Int32)) dX0_ran_4 rfl ?_
  refine g_icmp_ge hX 20 dX0_ran_6 (by decide) (fun z => ?_) (fun z => ?_)
  · replace hf := hf.1 z
    refine g_sub [0] rfl ?_
    exact B20 _ _ hf
  · replace hf := hf.2 z
    refine g_aload_n hX 0 dX0_ran_9 rfl rfl ?_
    refine g_getK hX (k := 21) (d := 15) (fc0 _) ff0 rfl (by decide) rfl rfl in_X0 (by decide) q221 dX0_ran_10 ?_
    refine g_aload_n hX 0 dX0_ran_13 rfl rfl ?_
    refine g_getI hX (k := 20) (fc0 _) ff0 rfl rfl in_X0 (by decide) q220 dX0_ran_14 ?_
    refine g_iload_n hX 1 dX0_ran_17 rfl rfl ?_
    refine g_i2b hX dX0_ran_18 ?_
    refine g_bast hX (fc15 _) ff15 rfl hf.1 dX0_ran_19 ?_
    replace hf := hf.2
    replace hf := hf _ rfl
    refine g_sub [0] rfl ?_
    exact B20 _ _ hf

def w_C_trace (x1 : Int32) (χ : St) (Q : Int32 → St → Prop) : Prop := ((x1 < 0 → (Q (-1 : Int32) χ)) ∧ (¬ x1 < 0 → (((gI χ 120 0 0) ≤ x1 → (Q (-1 : Int32) χ)) ∧ (¬ (gI χ 120 0 0) ≤ x1 → (((24 : Int32) ≤ x1 → (Q (-1 : Int32) χ)) ∧ (¬ (24 : Int32) ≤ x1 → (vp_in x1 24) ∧ ((Q (gI χ 15 0 x1.toNatClampNeg) χ))))))))
set_option maxHeartbeats 4000000 in
theorem mt_C_trace (l : Launch) (Γ : Gh) (ad : Nat → Nat → Nat) (x1 : Int32) (χ : St) (Q : Int32 → St → Prop) : Mt l yX0_trace (ws_ yX0_trace cX0_trace 2 (some .int)) (rmO (0) (0) χ) (Pm Γ ad χ [.ref (ad 0 0), .int x1] (w_C_trace x1 χ Q)) (Qm Γ true ad χ (pI Q)) (frB Γ) := by
  refine Mt.start (by decide) RX0 rfl (Nat.le_of_ble_eq_true rfl) ?_
  intro X hX hG _ _ hna _ hf
  unfold w_C_trace at hf
  refine g_iload_n hX 1 dX0_trace_0 rfl rfl ?_
  refine g_if_lt hX 27 dX0_trace_1 (by decide) (fun z => ?_) (fun z => ?_)
  · replace hf := hf.1 z
    refine g_iconst hX (v := (-1 : Int32)) dX0_trace_27 rfl ?_
    exact g_iret hX ⟨_, rfl, hf⟩ dX0_trace_28
  · replace hf := hf.2 z
    refine g_iload_n hX 1 dX0_trace_4 rfl rfl ?_
    refine g_aload_n hX 0 dX0_trace_5 rfl rfl ?_
    refine g_getI hX (k := 20) (fc0 _) ff0 rfl rfl in_X0 (by decide) q220 dX0_trace_6 ?_
    refine g_icmp_ge hX 27 dX0_trace_9 (by decide) (fun z => ?_) (fun z => ?_)
    · replace hf := hf.1 z
      refine g_iconst hX (v := (-1 : Int32)) dX0_trace_27 rfl ?_
      exact g_iret hX ⟨_, rfl, hf⟩ dX0_trace_28
    · replace hf := hf.2 z
      refine g_iload_n hX 1 dX0_trace_12 rfl rfl ?_
      refine g_bipush hX (v := (24 : Int32)) dX0_trace_13 rfl ?_
      refine g_icmp_ge hX 27 dX0_trace_15 (by decide) (fun z => ?_) (fun z => ?_)
      · replace hf := hf.1 z
        refine g_iconst hX (v := (-1 : Int32)) dX0_trace_27 rfl ?_
        exact g_iret hX ⟨_, rfl, hf⟩ dX0_trace_28
      · replace hf := hf.2 z
        refine g_aload_n hX 0 dX0_trace_18 rfl rfl ?_
        refine g_getK hX (k := 21) (d := 15) (fc0 _) ff0 rfl (by decide) rfl rfl in_X0 (by decide) q221 dX0_trace_19 ?_
        refine g_iload_n hX 1 dX0_trace_22 rfl rfl ?_
        refine g_bald hX (fc15 _) ff15 rfl hf.1 dX0_trace_23 ?_
        replace hf := hf.2
        refine g_goto hX 28 dX0_trace_24 (by decide) ?_
        exact g_iret hX ⟨_, rfl, hf⟩ dX0_trace_28

def w_X5_looked_25 (Q : Int32 → St → Prop) (K4 : Nat → Int32 → Int32 → St → Prop) (x0 : Nat) (x2 : Int32) (z0 : Int32) (z1 : Int32) (χ : St) : Prop := (K4 x0 (z1 + z0) (x2 + (1 : Int32)) χ)
def w_X5_looked_4 (Q : Int32 → St → Prop) : Nat → Nat → Int32 → Int32 → St → Prop
  | 0 => fun _ _ _ _ => False
  | n + 1 => fun x0 x1 x2 χ => (((6 : Int32) ≤ x2 → (Q x1 χ)) ∧ (¬ (6 : Int32) ≤ x2 → (∃ z1, (gR χ 2102 x0 0) = some z1 ∧ ((vp_in x2 (tg χ 25 z1)) ∧ (((¬ (gI χ 25 z1 x2.toNatClampNeg) = 0 → (w_X5_looked_25 Q (w_X5_looked_4 Q n) x0 x2 (1 : Int32) x1 χ)) ∧ ((gI χ 25 z1 x2.toNatClampNeg) = 0 → (w_X5_looked_25 Q (w_X5_looked_4 Q n) x0 x2 (0 : Int32) x1 χ))))))))
def w_X5_looked (x0 : Nat) (χ : St) (Q : Int32 → St → Prop) : Prop := (∃ k4, w_X5_looked_4 Q k4 x0 (0 : Int32) (0 : Int32) χ)
set_option maxHeartbeats 4000000 in
theorem mt_X5_looked (l : Launch) (Γ : Gh) (ad : Nat → Nat → Nat) (x0 : Nat) (χ : St) (Q : Int32 → St → Prop) : Mt l yX5_looked (ws_ yX5_looked cX5_looked 3 (some .int)) (rmO (0) (0) χ) (Pm Γ ad χ [.ref (ad 20 x0)] (x0 < cn χ 20 ∧ w_X5_looked x0 χ Q)) (Qm Γ true ad χ (pI Q)) (frB Γ) := by
  refine Mt.start (by decide) RX5 rfl (Nat.le_of_ble_eq_true rfl) ?_
  intro X hX hG _ _ hna _ ⟨hv0, hf⟩
  have B25 : ∀ (K4 : Nat → Int32 → Int32 → St → Prop) (hK4 : ∀ (ad : Nat → Nat → Nat) (x0 : Nat) (x1 : Int32) (x2 : Int32) (χ : St), x0 < cn χ 20 → K4 x0 x1 x2 χ → G X ad χ 4 [(0, .ref (ad 20 x0)), (1, .int x1), (2, .int x2)] []) (ad : Nat → Nat → Nat) (x0 : Nat) (x2 : Int32) (z0 : Int32) (z1 : Int32) (χ : St), x0 < cn χ 20 → w_X5_looked_25 Q K4 x0 x2 z0 z1 χ → G X ad χ 25 [(0, .ref (ad 20 x0)), (2, .int x2)] [.int z0, .int z1] := by
    intro K4 hK4 ad x0 x2 z0 z1 χ hv_x0 hf
    unfold w_X5_looked_25 at hf
    refine g_iadd hX dX5_looked_25 ?_
    refine g_istore_n hX dX5_looked_26 rfl (by decide) rfl ?_
    refine g_iinc hX (v := _) 2 dX5_looked_27 rfl rfl (by decide) rfl ?_
    refine g_goto hX 4 dX5_looked_30 (by decide) ?_
    refine g_sub [2, 1, 0] rfl ?_
    exact hK4 _ _ _ _ _ (hv_x0) hf
  have B4 : ∀ (n : Nat) (ad : Nat → Nat → Nat) (x0 : Nat) (x1 : Int32) (x2 : Int32) (χ : St), x0 < cn χ 20 → w_X5_looked_4 Q n x0 x1 x2 χ → G X ad χ 4 [(0, .ref (ad 20 x0)), (1, .int x1), (2, .int x2)] [] := by
    intro n
    induction n with
    | zero => intro ad x0 x1 x2 χ hv_x0 hf; exact hf.elim
    | succ n hK4 =>
      intro ad x0 x1 x2 χ hv_x0 hf
      unfold w_X5_looked_4 at hf
      refine g_iload_n hX 2 dX5_looked_4 rfl rfl ?_
      refine g_bipush hX (v := (6 : Int32)) dX5_looked_5 rfl ?_
      refine g_icmp_ge hX 33 dX5_looked_7 (by decide) (fun z => ?_) (fun z => ?_)
      · replace hf := hf.1 z
        refine g_iload_n hX 1 dX5_looked_33 rfl rfl ?_
        exact g_iret hX ⟨_, rfl, hf⟩ dX5_looked_34
      · replace hf := hf.2 z
        refine g_iload_n hX 1 dX5_looked_10 rfl rfl ?_
        refine g_aload_n hX 0 dX5_looked_11 rfl rfl ?_
        obtain ⟨z1, hz1, hf⟩ := hf
        refine g_getE hX (k := 2) hv_x0 ff20 rfl (by decide) (by decide) rfl rfl rfl in_X5 (by decide) q297 dX5_looked_12 hz1 (fun hvz1 => ?_)
        refine g_iload_n hX 2 dX5_looked_15 rfl rfl ?_
        refine g_bald hX hvz1 ff25 rfl hf.1 dX5_looked_16 ?_
        replace hf := hf.2
        refine g_if_ne hX 24 dX5_looked_17 (by decide) (fun z => ?_) (fun z => ?_)
        · replace hf := hf.1 z
          refine g_iconst hX (v := (1 : Int32)) dX5_looked_24 rfl ?_
          refine g_sub [0, 2] rfl ?_
          exact B25 (w_X5_looked_4 Q n) hK4 _ _ _ _ _ _ (hv_x0) hf
        · replace hf := hf.2 z
          refine g_iconst hX (v := (0 : Int32)) dX5_looked_20 rfl ?_
          refine g_goto hX 25 dX5_looked_21 (by decide) ?_
          refine g_sub [0, 2] rfl ?_
          exact B25 (w_X5_looked_4 Q n) hK4 _ _ _ _ _ _ (hv_x0) hf
  unfold w_X5_looked at hf
  refine g_iconst hX (v := (0 : Int32)) dX5_looked_0 rfl ?_
  refine g_istore_n hX dX5_looked_1 rfl (by decide) rfl ?_
  refine g_iconst hX (v := (0 : Int32)) dX5_looked_2 rfl ?_
  refine g_istore_n hX dX5_looked_3 rfl (by decide) rfl ?_
  obtain ⟨n0, hf⟩ := hf
  refine g_sub [2, 1, 0] rfl ?_
  exact B4 n0 _ _ _ _ _ (hv0) hf

def w_C_lookedAll_4 (Q : Int32 → St → Prop) : Nat → Int32 → Int32 → St → Prop
  | 0 => fun _ _ _ => False
  | n + 1 => fun x1 x2 χ => (((gI χ 103 0 0) ≤ x2 → (Q x1 χ)) ∧ (¬ (gI χ 103 0 0) ≤ x2 → (vp_in x2 8) ∧ ((∃ z2, (gR χ 1 0 x2.toNatClampNeg) = some z2 ∧ ((w_X5_looked z2 χ (fun r3 χ4 => (w_C_lookedAll_4 Q n (x1 + r3) (x2 + (1 : Int32)) χ4))))))))
def w_C_lookedAll (χ : St) (Q : Int32 → St → Prop) : Prop := (∃ k4, w_C_lookedAll_4 Q k4 (0 : Int32) (0 : Int32) χ)
set_option maxHeartbeats 4000000 in
theorem mt_C_lookedAll (l : Launch) (Γ : Gh) (ad : Nat → Nat → Nat) (χ : St) (Q : Int32 → St → Prop) : Mt l yX0_lookedAll (ws_ yX0_lookedAll cX0_lookedAll 3 (some .int)) (rmO (1) (22) χ) (Pm Γ ad χ [.ref (ad 0 0)] (w_C_lookedAll χ Q)) (Qm Γ true ad χ (pI Q)) (frB Γ) := by
  refine Mt.start (by decide) RX0 rfl (Nat.le_of_ble_eq_true rfl) ?_
  intro X hX hG _ _ hna _ hf
  have B4 : ∀ (n : Nat) (ad : Nat → Nat → Nat) (x1 : Int32) (x2 : Int32) (χ : St), w_C_lookedAll_4 Q n x1 x2 χ → G X ad χ 4 [(0, .ref (ad 0 0)), (1, .int x1), (2, .int x2)] [] := by
    intro n
    induction n with
    | zero => intro ad x1 x2 χ hf; exact hf.elim
    | succ n hK4 =>
      intro ad x1 x2 χ hf
      unfold w_C_lookedAll_4 at hf
      refine g_iload_n hX 2 dX0_lookedAll_4 rfl rfl ?_
      refine g_aload_n hX 0 dX0_lookedAll_5 rfl rfl ?_
      refine g_getI hX (k := 3) (fc0 _) ff0 rfl rfl in_X0 (by decide) q201 dX0_lookedAll_6 ?_
      refine g_icmp_ge hX 30 dX0_lookedAll_9 (by decide) (fun z => ?_) (fun z => ?_)
      · replace hf := hf.1 z
        refine g_iload_n hX 1 dX0_lookedAll_30 rfl rfl ?_
        exact g_iret hX ⟨_, rfl, hf⟩ dX0_lookedAll_31
      · replace hf := hf.2 z
        refine g_iload_n hX 1 dX0_lookedAll_12 rfl rfl ?_
        refine g_aload_n hX 0 dX0_lookedAll_13 rfl rfl ?_
        refine g_getK hX (k := 0) (d := 1) (fc0 _) ff0 rfl (by decide) rfl rfl in_X0 (by decide) q198 dX0_lookedAll_14 ?_
        refine g_iload_n hX 2 dX0_lookedAll_17 rfl rfl ?_
        have hg1 := hf.1
        replace hf := hf.2
        obtain ⟨z2, hz2, hf⟩ := hf
        refine g_aaldE hX (fc1 _) ff1 rfl rfl hg1 dX0_lookedAll_18 hz2 (fun hvz2 => ?_)
        refine g_callVi hX (n := 0) (mt_X5_looked X.l X.Γ _ _ _ _) ⟨hvz2, hf⟩ q1495 q1496 q1497 q90 q1498 ⟨rfl, hy_X5_looked⟩ (by decide) hvz2 ff20 rfl rfl rfl (Nat.le_of_ble_eq_true rfl) dX0_lookedAll_19 (fun r3 χ4 hf hc4 => ?_)
        refine g_iadd hX dX0_lookedAll_22 ?_
        refine g_istore_n hX dX0_lookedAll_23 rfl (by decide) rfl ?_
        refine g_iinc hX (v := _) 2 dX0_lookedAll_24 rfl rfl (by decide) rfl ?_
        refine g_goto hX 4 dX0_lookedAll_27 (by decide) ?_
        refine g_sub [2, 1, 0] rfl ?_
        exact hK4 _ _ _ _ hf
  unfold w_C_lookedAll at hf
  refine g_iconst hX (v := (0 : Int32)) dX0_lookedAll_0 rfl ?_
  refine g_istore_n hX dX0_lookedAll_1 rfl (by decide) rfl ?_
  refine g_iconst hX (v := (0 : Int32)) dX0_lookedAll_2 rfl ?_
  refine g_istore_n hX dX0_lookedAll_3 rfl (by decide) rfl ?_
  obtain ⟨n0, hf⟩ := hf
  refine g_sub [2, 1, 0] rfl ?_
  exact B4 n0 _ _ _ _ hf

def w_C_count (x1 : Int32) (χ : St) (Q : Int32 → St → Prop) : Prop := (∀ v1 : Int32, v1 = x1 → ((v1 = (0 : Int32) → (Q (gI χ 103 0 0) χ)) ∧ (v1 = (1 : Int32) → (Q (gI χ 118 0 0) χ)) ∧ (v1 = (2 : Int32) → (w_C_lookedAll χ (fun r2 χ3 => (Q r2 χ3)))) ∧ (v1 = (3 : Int32) → (Q (gI χ 108 0 0) χ)) ∧ (v1 = (4 : Int32) → (Q (gI χ 105 0 0) χ)) ∧ (v1 = (5 : Int32) → (Q (gI χ 123 0 0) χ)) ∧ (v1 = (6 : Int32) → (Q (gI χ 120 0 0) χ)) ∧ (¬ v1 = (0 : Int32) → ¬ v1 = (1 : Int32) → ¬ v1 = (2 : Int32) → ¬ v1 = (3 : Int32) → ¬ v1 = (4 : Int32) → ¬ v1 = (5 : Int32) → ¬ v1 = (6 : Int32) → (Q (-1 : Int32) χ))))
set_option maxHeartbeats 4000000 in
theorem mt_C_count (l : Launch) (Γ : Gh) (ad : Nat → Nat → Nat) (x1 : Int32) (χ : St) (Q : Int32 → St → Prop) : Mt l yX0_count (ws_ yX0_count cX0_count 2 (some .int)) (rmO (2) (44) χ) (Pm Γ ad χ [.ref (ad 0 0), .int x1] (w_C_count x1 χ Q)) (Qm Γ true ad χ (pI Q)) (frB Γ) := by
  refine Mt.start (by decide) RX0 rfl (Nat.le_of_ble_eq_true rfl) ?_
  intro X hX hG _ _ hna _ hf
  unfold w_C_count at hf
  refine g_iload_n hX 1 dX0_count_0 rfl rfl ?_
  replace hf := hf _ rfl
  by_cases z0 : x1 = (0 : Int32)
  · replace hf := hf.1 z0
    refine g_tableIn hX 44 dX0_count_1 (by rw [z0]; decide) (by rw [z0]; decide) (by rw [z0] <;> rfl) (by decide) ?_
    refine g_aload_n hX 0 dX0_count_44 rfl rfl ?_
    refine g_getI hX (k := 3) (fc0 _) ff0 rfl rfl in_X0 (by decide) q201 dX0_count_45 ?_
    exact g_iret hX ⟨_, rfl, hf⟩ dX0_count_48
  replace hf := hf.2
  by_cases z1 : x1 = (1 : Int32)
  · replace hf := hf.1 z1
    refine g_tableIn hX 49 dX0_count_1 (by rw [z1]; decide) (by rw [z1]; decide) (by rw [z1] <;> rfl) (by decide) ?_
    refine g_aload_n hX 0 dX0_count_49 rfl rfl ?_
    refine g_getI hX (k := 18) (fc0 _) ff0 rfl rfl in_X0 (by decide) q218 dX0_count_50 ?_
    exact g_iret hX ⟨_, rfl, hf⟩ dX0_count_53
  replace hf := hf.2
  by_cases z2 : x1 = (2 : Int32)
  · replace hf := hf.1 z2
    refine g_tableIn hX 54 dX0_count_1 (by rw [z2]; decide) (by rw [z2]; decide) (by rw [z2] <;> rfl) (by decide) ?_
    refine g_aload_n hX 0 dX0_count_54 rfl rfl ?_
    refine g_callVi hX (n := 0) (mt_C_lookedAll X.l X.Γ _ _ _) hf q1491 q1493 qs43 q85 q1494 ⟨rfl, hy_C_lookedAll⟩ (by decide) (fc0 _) ff0 rfl rfl rfl (Nat.le_of_ble_eq_true rfl) dX0_count_55 (fun r2 χ3 hf hc3 => ?_)
    exact g_iret hX ⟨_, rfl, hf⟩ dX0_count_58
  replace hf := hf.2
  by_cases z3 : x1 = (3 : Int32)
  · replace hf := hf.1 z3
    refine g_tableIn hX 59 dX0_count_1 (by rw [z3]; decide) (by rw [z3]; decide) (by rw [z3] <;> rfl) (by decide) ?_
    refine g_aload_n hX 0 dX0_count_59 rfl rfl ?_
    refine g_getI hX (k := 8) (fc0 _) ff0 rfl rfl in_X0 (by decide) q208 dX0_count_60 ?_
    exact g_iret hX ⟨_, rfl, hf⟩ dX0_count_63
  replace hf := hf.2
  by_cases z4 : x1 = (4 : Int32)
  · replace hf := hf.1 z4
    refine g_tableIn hX 64 dX0_count_1 (by rw [z4]; decide) (by rw [z4]; decide) (by rw [z4] <;> rfl) (by decide) ?_
    refine g_aload_n hX 0 dX0_count_64 rfl rfl ?_
    refine g_getI hX (k := 5) (fc0 _) ff0 rfl rfl in_X0 (by decide) q203 dX0_count_65 ?_
    exact g_iret hX ⟨_, rfl, hf⟩ dX0_count_68
  replace hf := hf.2
  by_cases z5 : x1 = (5 : Int32)
  · replace hf := hf.1 z5
    refine g_tableIn hX 69 dX0_count_1 (by rw [z5]; decide) (by rw [z5]; decide) (by rw [z5] <;> rfl) (by decide) ?_
    refine g_aload_n hX 0 dX0_count_69 rfl rfl ?_
    refine g_getI hX (k := 23) (fc0 _) ff0 rfl rfl in_X0 (by decide) q223 dX0_count_70 ?_
    exact g_iret hX ⟨_, rfl, hf⟩ dX0_count_73
  replace hf := hf.2
  by_cases z6 : x1 = (6 : Int32)
  · replace hf := hf.1 z6
    refine g_tableIn hX 74 dX0_count_1 (by rw [z6]; decide) (by rw [z6]; decide) (by rw [z6] <;> rfl) (by decide) ?_
    refine g_aload_n hX 0 dX0_count_74 rfl rfl ?_
    refine g_getI hX (k := 20) (fc0 _) ff0 rfl rfl in_X0 (by decide) q220 dX0_count_75 ?_
    exact g_iret hX ⟨_, rfl, hf⟩ dX0_count_78
  replace hf := hf.2
  replace hf := hf z0 z1 z2 z3 z4 z5 z6
  refine g_tableOut hX 79 dX0_count_1 (tb_out (fun v h1 h2 => ?_)) (by decide) ?_
  · have h3 : v = 0 ∨ v = 1 ∨ v = 2 ∨ v = 3 ∨ v = 4 ∨ v = 5 ∨ v = 6 := by omega
    rcases h3 with rfl | rfl | rfl | rfl | rfl | rfl | rfl
    · exact z0
    · exact z1
    · exact z2
    · exact z3
    · exact z4
    · exact z5
    · exact z6
  refine g_iconst hX (v := (-1 : Int32)) dX0_count_79 rfl ?_
  exact g_iret hX ⟨_, rfl, hf⟩ dX0_count_80

def w_X1_init (x0 : Nat) (χ : St) (Q : St → Prop) : Prop := (∀ χ1 : St, χ1 = (sI χ 1900 x0 0 (1 : Int32)) → (Q χ1))
set_option maxHeartbeats 4000000 in
theorem mt_X1_init (l : Launch) (Γ : Gh) (ad : Nat → Nat → Nat) (x0 : Nat) (χ : St) (Q : St → Prop) : Mt l yX1_init (ws_ yX1_init cX1_init 1 (none)) (rmO (1) (20) χ) (Pm Γ ad χ [.ref (ad 18 x0)] (x0 < cn χ 18 ∧ w_X1_init x0 χ Q)) (Qm Γ true ad χ (pV Q)) (frB Γ) := by
  refine Mt.start (by decide) RX1 rfl (Nat.le_of_ble_eq_true rfl) ?_
  intro X hX hG _ _ hna _ ⟨hv0, hf⟩
  unfold w_X1_init at hf
  refine g_aload_n hX 0 dX1_init_0 rfl rfl ?_
  refine g_objInit hX q148 q138 q139 ⟨by decide, by decide⟩ (Nat.le_of_ble_eq_true rfl) dX1_init_1 ?_
  refine g_aload_n hX 0 dX1_init_4 rfl rfl ?_
  refine g_iconst hX (v := (1 : Int32)) dX1_init_5 rfl ?_
  refine g_putI hX (k := 0) hv0 ff18 rfl rfl in_X1 tyX1_ok nmX1 (by decide) q149 rfl rfl rfl rfl dX1_init_6 ?_
  replace hf := hf _ rfl
  exact g_vret hX ⟨rfl, hf⟩ dX1_init_9

def w_X2_init (x0 : Nat) (χ : St) (Q : St → Prop) : Prop := (∀ χ1 : St, χ1 = (sI χ 2000 x0 0 (1 : Int32)) → (∀ χ2 : St, χ2 = (sI χ1 2001 x0 0 (10 : Int32)) → (Q χ2)))
set_option maxHeartbeats 4000000 in
theorem mt_X2_init (l : Launch) (Γ : Gh) (ad : Nat → Nat → Nat) (x0 : Nat) (χ : St) (Q : St → Prop) : Mt l yX2_init (ws_ yX2_init cX2_init 1 (none)) (rmO (1) (20) χ) (Pm Γ ad χ [.ref (ad 19 x0)] (x0 < cn χ 19 ∧ w_X2_init x0 χ Q)) (Qm Γ true ad χ (pV Q)) (frB Γ) := by
  refine Mt.start (by decide) RX2 rfl (Nat.le_of_ble_eq_true rfl) ?_
  intro X hX hG _ _ hna _ ⟨hv0, hf⟩
  unfold w_X2_init at hf
  refine g_aload_n hX 0 dX2_init_0 rfl rfl ?_
  refine g_objInit hX q163 q138 q139 ⟨by decide, by decide⟩ (Nat.le_of_ble_eq_true rfl) dX2_init_1 ?_
  refine g_aload_n hX 0 dX2_init_4 rfl rfl ?_
  refine g_iconst hX (v := (1 : Int32)) dX2_init_5 rfl ?_
  refine g_putI hX (k := 0) hv0 ff19 rfl rfl in_X2 tyX2_ok nmX2 (by decide) q164 rfl rfl rfl rfl dX2_init_6 ?_
  replace hf := hf _ rfl
  refine g_aload_n hX 0 dX2_init_9 rfl rfl ?_
  refine g_bipush hX (v := (10 : Int32)) dX2_init_10 rfl ?_
  refine g_putI hX (k := 1) hv0 ff19 rfl rfl in_X2 tyX2_ok nmX2 (by decide) q166 rfl rfl rfl rfl dX2_init_12 ?_
  replace hf := hf _ rfl
  exact g_vret hX ⟨rfl, hf⟩ dX2_init_15
