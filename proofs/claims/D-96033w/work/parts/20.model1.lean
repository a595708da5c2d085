set_option maxRecDepth 100000
theorem hy_M_undo : yX4_undo.cls ≠ "java/lang/invoke/MethodHandle" ∧ yX4_undo.cls ≠ "java/lang/invoke/VarHandle" ∧ (parseMethodDescriptor yX4_undo.desc).map (fun d => d.parameters.length) = some 0 := by decide +kernel
theorem hy_M_redo : yX4_redo.cls ≠ "java/lang/invoke/MethodHandle" ∧ yX4_redo.cls ≠ "java/lang/invoke/VarHandle" ∧ (parseMethodDescriptor yX4_redo.desc).map (fun d => d.parameters.length) = some 0 := by decide +kernel
theorem hy_M_part : yX4_part.cls ≠ "java/lang/invoke/MethodHandle" ∧ yX4_part.cls ≠ "java/lang/invoke/VarHandle" ∧ (parseMethodDescriptor yX4_part.desc).map (fun d => d.parameters.length) = some 1 := by decide +kernel
theorem hy_M_within : yX4_within.cls ≠ "java/lang/invoke/MethodHandle" ∧ yX4_within.cls ≠ "java/lang/invoke/VarHandle" ∧ (parseMethodDescriptor yX4_within.desc).map (fun d => d.parameters.length) = some 3 := by decide +kernel
theorem hy_M_adds : yX4_adds.cls ≠ "java/lang/invoke/MethodHandle" ∧ yX4_adds.cls ≠ "java/lang/invoke/VarHandle" ∧ (parseMethodDescriptor yX4_adds.desc).map (fun d => d.parameters.length) = some 2 := by decide +kernel
theorem hy_M_parts : yX4_parts.cls ≠ "java/lang/invoke/MethodHandle" ∧ yX4_parts.cls ≠ "java/lang/invoke/VarHandle" ∧ (parseMethodDescriptor yX4_parts.desc).map (fun d => d.parameters.length) = some 3 := by decide +kernel
theorem hy_M_isShelf : yX4_isShelf.cls ≠ "java/lang/invoke/MethodHandle" ∧ yX4_isShelf.cls ≠ "java/lang/invoke/VarHandle" ∧ (parseMethodDescriptor yX4_isShelf.desc).map (fun d => d.parameters.length) = some 1 := by decide +kernel
theorem hy_M_mend : yX4_mend.cls ≠ "java/lang/invoke/MethodHandle" ∧ yX4_mend.cls ≠ "java/lang/invoke/VarHandle" ∧ (parseMethodDescriptor yX4_mend.desc).map (fun d => d.parameters.length) = some 3 := by decide +kernel
theorem hy_M_isKind : yX4_isKind.cls ≠ "java/lang/invoke/MethodHandle" ∧ yX4_isKind.cls ≠ "java/lang/invoke/VarHandle" ∧ (parseMethodDescriptor yX4_isKind.desc).map (fun d => d.parameters.length) = some 1 := by decide +kernel
theorem hy_M_becomes : yX4_becomes.cls ≠ "java/lang/invoke/MethodHandle" ∧ yX4_becomes.cls ≠ "java/lang/invoke/VarHandle" ∧ (parseMethodDescriptor yX4_becomes.desc).map (fun d => d.parameters.length) = some 2 := by decide +kernel
theorem hy_M_isMark : yX4_isMark.cls ≠ "java/lang/invoke/MethodHandle" ∧ yX4_isMark.cls ≠ "java/lang/invoke/VarHandle" ∧ (parseMethodDescriptor yX4_isMark.desc).map (fun d => d.parameters.length) = some 1 := by decide +kernel
theorem hy_M_find : yX4_find.cls ≠ "java/lang/invoke/MethodHandle" ∧ yX4_find.cls ≠ "java/lang/invoke/VarHandle" ∧ (parseMethodDescriptor yX4_find.desc).map (fun d => d.parameters.length) = some 2 := by decide +kernel
theorem hy_M_isPm : yX4_isPm.cls ≠ "java/lang/invoke/MethodHandle" ∧ yX4_isPm.cls ≠ "java/lang/invoke/VarHandle" ∧ (parseMethodDescriptor yX4_isPm.desc).map (fun d => d.parameters.length) = some 1 := by decide +kernel
theorem hy_M_isPart : yX4_isPart.cls ≠ "java/lang/invoke/MethodHandle" ∧ yX4_isPart.cls ≠ "java/lang/invoke/VarHandle" ∧ (parseMethodDescriptor yX4_isPart.desc).map (fun d => d.parameters.length) = some 1 := by decide +kernel
theorem hy_M_of : yX4_of.cls ≠ "java/lang/invoke/MethodHandle" ∧ yX4_of.cls ≠ "java/lang/invoke/VarHandle" ∧ (parseMethodDescriptor yX4_of.desc).map (fun d => d.parameters.length) = some 2 := by decide +kernel
theorem hy_M_feed : yX4_feed.cls ≠ "java/lang/invoke/MethodHandle" ∧ yX4_feed.cls ≠ "java/lang/invoke/VarHandle" ∧ (parseMethodDescriptor yX4_feed.desc).map (fun d => d.parameters.length) = some 1 := by decide +kernel
theorem hy_M_law : yX4_law.cls ≠ "java/lang/invoke/MethodHandle" ∧ yX4_law.cls ≠ "java/lang/invoke/VarHandle" ∧ (parseMethodDescriptor yX4_law.desc).map (fun d => d.parameters.length) = some 1 := by decide +kernel
theorem hy_M_workOut : yX4_workOut.cls ≠ "java/lang/invoke/MethodHandle" ∧ yX4_workOut.cls ≠ "java/lang/invoke/VarHandle" ∧ (parseMethodDescriptor yX4_workOut.desc).map (fun d => d.parameters.length) = some 2 := by decide +kernel
theorem hy_M_either : yX4_either.cls ≠ "java/lang/invoke/MethodHandle" ∧ yX4_either.cls ≠ "java/lang/invoke/VarHandle" ∧ (parseMethodDescriptor yX4_either.desc).map (fun d => d.parameters.length) = some 0 := by decide +kernel
theorem hy_M_both : yX4_both.cls ≠ "java/lang/invoke/MethodHandle" ∧ yX4_both.cls ≠ "java/lang/invoke/VarHandle" ∧ (parseMethodDescriptor yX4_both.desc).map (fun d => d.parameters.length) = some 0 := by decide +kernel
theorem hy_M_compared : yX4_compared.cls ≠ "java/lang/invoke/MethodHandle" ∧ yX4_compared.cls ≠ "java/lang/invoke/VarHandle" ∧ (parseMethodDescriptor yX4_compared.desc).map (fun d => d.parameters.length) = some 0 := by decide +kernel
theorem hy_M_sums : yX4_sums.cls ≠ "java/lang/invoke/MethodHandle" ∧ yX4_sums.cls ≠ "java/lang/invoke/VarHandle" ∧ (parseMethodDescriptor yX4_sums.desc).map (fun d => d.parameters.length) = some 0 := by decide +kernel
theorem hy_M_product : yX4_product.cls ≠ "java/lang/invoke/MethodHandle" ∧ yX4_product.cls ≠ "java/lang/invoke/VarHandle" ∧ (parseMethodDescriptor yX4_product.desc).map (fun d => d.parameters.length) = some 0 := by decide +kernel
theorem hy_M_one : yX4_one.cls ≠ "java/lang/invoke/MethodHandle" ∧ yX4_one.cls ≠ "java/lang/invoke/VarHandle" ∧ (parseMethodDescriptor yX4_one.desc).map (fun d => d.parameters.length) = some 0 := by decide +kernel
theorem hy_M_byteAt : yX4_byteAt.cls ≠ "java/lang/invoke/MethodHandle" ∧ yX4_byteAt.cls ≠ "java/lang/invoke/VarHandle" ∧ (parseMethodDescriptor yX4_byteAt.desc).map (fun d => d.parameters.length) = some 0 := by decide +kernel
theorem hy_M_wrong : yX4_wrong.cls ≠ "java/lang/invoke/MethodHandle" ∧ yX4_wrong.cls ≠ "java/lang/invoke/VarHandle" ∧ (parseMethodDescriptor yX4_wrong.desc).map (fun d => d.parameters.length) = some 0 := by decide +kernel
theorem hy_M_takes : yX4_takes.cls ≠ "java/lang/invoke/MethodHandle" ∧ yX4_takes.cls ≠ "java/lang/invoke/VarHandle" ∧ (parseMethodDescriptor yX4_takes.desc).map (fun d => d.parameters.length) = some 1 := by decide +kernel
theorem hy_M_nameOf : yX4_nameOf.cls ≠ "java/lang/invoke/MethodHandle" ∧ yX4_nameOf.cls ≠ "java/lang/invoke/VarHandle" ∧ (parseMethodDescriptor yX4_nameOf.desc).map (fun d => d.parameters.length) = some 1 := by decide +kernel
theorem hy_M_number : yX4_number.cls ≠ "java/lang/invoke/MethodHandle" ∧ yX4_number.cls ≠ "java/lang/invoke/VarHandle" ∧ (parseMethodDescriptor yX4_number.desc).map (fun d => d.parameters.length) = some 2 := by decide +kernel
theorem hy_M_numberOf : yX4_numberOf.cls ≠ "java/lang/invoke/MethodHandle" ∧ yX4_numberOf.cls ≠ "java/lang/invoke/VarHandle" ∧ (parseMethodDescriptor yX4_numberOf.desc).map (fun d => d.parameters.length) = some 4 := by decide +kernel
theorem hy_M_likely : yX4_likely.cls ≠ "java/lang/invoke/MethodHandle" ∧ yX4_likely.cls ≠ "java/lang/invoke/VarHandle" ∧ (parseMethodDescriptor yX4_likely.desc).map (fun d => d.parameters.length) = some 2 := by decide +kernel
theorem hy_M_isPk : yX4_isPk.cls ≠ "java/lang/invoke/MethodHandle" ∧ yX4_isPk.cls ≠ "java/lang/invoke/VarHandle" ∧ (parseMethodDescriptor yX4_isPk.desc).map (fun d => d.parameters.length) = some 1 := by decide +kernel
theorem hy_M_weighsPart : yX4_weighsPart.cls ≠ "java/lang/invoke/MethodHandle" ∧ yX4_weighsPart.cls ≠ "java/lang/invoke/VarHandle" ∧ (parseMethodDescriptor yX4_weighsPart.desc).map (fun d => d.parameters.length) = some 1 := by decide +kernel
theorem hy_M_looksAt : yX4_looksAt.cls ≠ "java/lang/invoke/MethodHandle" ∧ yX4_looksAt.cls ≠ "java/lang/invoke/VarHandle" ∧ (parseMethodDescriptor yX4_looksAt.desc).map (fun d => d.parameters.length) = some 1 := by decide +kernel
theorem hy_M_weighs : yX4_weighs.cls ≠ "java/lang/invoke/MethodHandle" ∧ yX4_weighs.cls ≠ "java/lang/invoke/VarHandle" ∧ (parseMethodDescriptor yX4_weighs.desc).map (fun d => d.parameters.length) = some 0 := by decide +kernel
theorem hy_M_common : yX4_common.cls ≠ "java/lang/invoke/MethodHandle" ∧ yX4_common.cls ≠ "java/lang/invoke/VarHandle" ∧ (parseMethodDescriptor yX4_common.desc).map (fun d => d.parameters.length) = some 2 := by decide +kernel
theorem hy_M_percent : yX4_percent.cls ≠ "java/lang/invoke/MethodHandle" ∧ yX4_percent.cls ≠ "java/lang/invoke/VarHandle" ∧ (parseMethodDescriptor yX4_percent.desc).map (fun d => d.parameters.length) = some 1 := by decide +kernel
theorem hy_M_percentNow : yX4_percentNow.cls ≠ "java/lang/invoke/MethodHandle" ∧ yX4_percentNow.cls ≠ "java/lang/invoke/VarHandle" ∧ (parseMethodDescriptor yX4_percentNow.desc).map (fun d => d.parameters.length) = some 1 := by decide +kernel
theorem hy_M_likeliest : yX4_likeliest.cls ≠ "java/lang/invoke/MethodHandle" ∧ yX4_likeliest.cls ≠ "java/lang/invoke/VarHandle" ∧ (parseMethodDescriptor yX4_likeliest.desc).map (fun d => d.parameters.length) = some 1 := by decide +kernel
theorem hy_M_mostOf : yX4_mostOf.cls ≠ "java/lang/invoke/MethodHandle" ∧ yX4_mostOf.cls ≠ "java/lang/invoke/VarHandle" ∧ (parseMethodDescriptor yX4_mostOf.desc).map (fun d => d.parameters.length) = some 0 := by decide +kernel
theorem hy_M_when : yX4_when.cls ≠ "java/lang/invoke/MethodHandle" ∧ yX4_when.cls ≠ "java/lang/invoke/VarHandle" ∧ (parseMethodDescriptor yX4_when.desc).map (fun d => d.parameters.length) = some 2 := by decide +kernel
theorem hy_M_whenNow : yX4_whenNow.cls ≠ "java/lang/invoke/MethodHandle" ∧ yX4_whenNow.cls ≠ "java/lang/invoke/VarHandle" ∧ (parseMethodDescriptor yX4_whenNow.desc).map (fun d => d.parameters.length) = some 1 := by decide +kernel
theorem hy_M_whole : yX4_whole.cls ≠ "java/lang/invoke/MethodHandle" ∧ yX4_whole.cls ≠ "java/lang/invoke/VarHandle" ∧ (parseMethodDescriptor yX4_whole.desc).map (fun d => d.parameters.length) = some 1 := by decide +kernel
theorem hy_M_odd : yX4_odd.cls ≠ "java/lang/invoke/MethodHandle" ∧ yX4_odd.cls ≠ "java/lang/invoke/VarHandle" ∧ (parseMethodDescriptor yX4_odd.desc).map (fun d => d.parameters.length) = some 0 := by decide +kernel
theorem hy_M_next : yX4_next.cls ≠ "java/lang/invoke/MethodHandle" ∧ yX4_next.cls ≠ "java/lang/invoke/VarHandle" ∧ (parseMethodDescriptor yX4_next.desc).map (fun d => d.parameters.length) = some 1 := by decide +kernel
theorem hy_M_named : yX4_named.cls ≠ "java/lang/invoke/MethodHandle" ∧ yX4_named.cls ≠ "java/lang/invoke/VarHandle" ∧ (parseMethodDescriptor yX4_named.desc).map (fun d => d.parameters.length) = some 2 := by decide +kernel
theorem hy_M_unlooked : yX4_unlooked.cls ≠ "java/lang/invoke/MethodHandle" ∧ yX4_unlooked.cls ≠ "java/lang/invoke/VarHandle" ∧ (parseMethodDescriptor yX4_unlooked.desc).map (fun d => d.parameters.length) = some 1 := by decide +kernel
theorem hy_M_namedBy : yX4_namedBy.cls ≠ "java/lang/invoke/MethodHandle" ∧ yX4_namedBy.cls ≠ "java/lang/invoke/VarHandle" ∧ (parseMethodDescriptor yX4_namedBy.desc).map (fun d => d.parameters.length) = some 3 := by decide +kernel
theorem hy_M_plan : yX4_plan.cls ≠ "java/lang/invoke/MethodHandle" ∧ yX4_plan.cls ≠ "java/lang/invoke/VarHandle" ∧ (parseMethodDescriptor yX4_plan.desc).map (fun d => d.parameters.length) = some 2 := by decide +kernel
theorem hy_M_minutesOf : yX4_minutesOf.cls ≠ "java/lang/invoke/MethodHandle" ∧ yX4_minutesOf.cls ≠ "java/lang/invoke/VarHandle" ∧ (parseMethodDescriptor yX4_minutesOf.desc).map (fun d => d.parameters.length) = some 1 := by decide +kernel
theorem hy_M_believed : yX4_believed.cls ≠ "java/lang/invoke/MethodHandle" ∧ yX4_believed.cls ≠ "java/lang/invoke/VarHandle" ∧ (parseMethodDescriptor yX4_believed.desc).map (fun d => d.parameters.length) = some 2 := by decide +kernel
theorem hy_M_believedBy : yX4_believedBy.cls ≠ "java/lang/invoke/MethodHandle" ∧ yX4_believedBy.cls ≠ "java/lang/invoke/VarHandle" ∧ (parseMethodDescriptor yX4_believedBy.desc).map (fun d => d.parameters.length) = some 1 := by decide +kernel
theorem hy_M_cheapest : yX4_cheapest.cls ≠ "java/lang/invoke/MethodHandle" ∧ yX4_cheapest.cls ≠ "java/lang/invoke/VarHandle" ∧ (parseMethodDescriptor yX4_cheapest.desc).map (fun d => d.parameters.length) = some 3 := by decide +kernel
theorem hy_M_costOf : yX4_costOf.cls ≠ "java/lang/invoke/MethodHandle" ∧ yX4_costOf.cls ≠ "java/lang/invoke/VarHandle" ∧ (parseMethodDescriptor yX4_costOf.desc).map (fun d => d.parameters.length) = some 1 := by decide +kernel
theorem hy_M_spoils : yX4_spoils.cls ≠ "java/lang/invoke/MethodHandle" ∧ yX4_spoils.cls ≠ "java/lang/invoke/VarHandle" ∧ (parseMethodDescriptor yX4_spoils.desc).map (fun d => d.parameters.length) = some 2 := by decide +kernel
theorem hy_M_price : yX4_price.cls ≠ "java/lang/invoke/MethodHandle" ∧ yX4_price.cls ≠ "java/lang/invoke/VarHandle" ∧ (parseMethodDescriptor yX4_price.desc).map (fun d => d.parameters.length) = some 1 := by decide +kernel
theorem hy_M_priceOf : yX4_priceOf.cls ≠ "java/lang/invoke/MethodHandle" ∧ yX4_priceOf.cls ≠ "java/lang/invoke/VarHandle" ∧ (parseMethodDescriptor yX4_priceOf.desc).map (fun d => d.parameters.length) = some 1 := by decide +kernel
theorem hy_M_paper : yX4_paper.cls ≠ "java/lang/invoke/MethodHandle" ∧ yX4_paper.cls ≠ "java/lang/invoke/VarHandle" ∧ (parseMethodDescriptor yX4_paper.desc).map (fun d => d.parameters.length) = some 2 := by decide +kernel
theorem hy_M_papers : yX4_papers.cls ≠ "java/lang/invoke/MethodHandle" ∧ yX4_papers.cls ≠ "java/lang/invoke/VarHandle" ∧ (parseMethodDescriptor yX4_papers.desc).map (fun d => d.parameters.length) = some 1 := by decide +kernel
theorem hy_M_clash : yX4_clash.cls ≠ "java/lang/invoke/MethodHandle" ∧ yX4_clash.cls ≠ "java/lang/invoke/VarHandle" ∧ (parseMethodDescriptor yX4_clash.desc).map (fun d => d.parameters.length) = some 0 := by decide +kernel
theorem hy_M_gaps : yX4_gaps.cls ≠ "java/lang/invoke/MethodHandle" ∧ yX4_gaps.cls ≠ "java/lang/invoke/VarHandle" ∧ (parseMethodDescriptor yX4_gaps.desc).map (fun d => d.parameters.length) = some 0 := by decide +kernel
theorem hy_M_houseOf : yX4_houseOf.cls ≠ "java/lang/invoke/MethodHandle" ∧ yX4_houseOf.cls ≠ "java/lang/invoke/VarHandle" ∧ (parseMethodDescriptor yX4_houseOf.desc).map (fun d => d.parameters.length) = some 1 := by decide +kernel
theorem hy_M_house : yX4_house.cls ≠ "java/lang/invoke/MethodHandle" ∧ yX4_house.cls ≠ "java/lang/invoke/VarHandle" ∧ (parseMethodDescriptor yX4_house.desc).map (fun d => d.parameters.length) = some 1 := by decide +kernel
theorem hy_M_drawn : yX4_drawn.cls ≠ "java/lang/invoke/MethodHandle" ∧ yX4_drawn.cls ≠ "java/lang/invoke/VarHandle" ∧ (parseMethodDescriptor yX4_drawn.desc).map (fun d => d.parameters.length) = some 3 := by decide +kernel
theorem hy_M_image : yX4_image.cls ≠ "java/lang/invoke/MethodHandle" ∧ yX4_image.cls ≠ "java/lang/invoke/VarHandle" ∧ (parseMethodDescriptor yX4_image.desc).map (fun d => d.parameters.length) = some 0 := by decide +kernel
theorem hy_M_back : yX4_back.cls ≠ "java/lang/invoke/MethodHandle" ∧ yX4_back.cls ≠ "java/lang/invoke/VarHandle" ∧ (parseMethodDescriptor yX4_back.desc).map (fun d => d.parameters.length) = some 0 := by decide +kernel
theorem hy_M_body : yX4_body.cls ≠ "java/lang/invoke/MethodHandle" ∧ yX4_body.cls ≠ "java/lang/invoke/VarHandle" ∧ (parseMethodDescriptor yX4_body.desc).map (fun d => d.parameters.length) = some 1 := by decide +kernel
theorem hy_M_act : yX4_act.cls ≠ "java/lang/invoke/MethodHandle" ∧ yX4_act.cls ≠ "java/lang/invoke/VarHandle" ∧ (parseMethodDescriptor yX4_act.desc).map (fun d => d.parameters.length) = some 3 := by decide +kernel
theorem hy_M_isBody : yX4_isBody.cls ≠ "java/lang/invoke/MethodHandle" ∧ yX4_isBody.cls ≠ "java/lang/invoke/VarHandle" ∧ (parseMethodDescriptor yX4_isBody.desc).map (fun d => d.parameters.length) = some 1 := by decide +kernel
theorem hy_M_agesAs : yX4_agesAs.cls ≠ "java/lang/invoke/MethodHandle" ∧ yX4_agesAs.cls ≠ "java/lang/invoke/VarHandle" ∧ (parseMethodDescriptor yX4_agesAs.desc).map (fun d => d.parameters.length) = some 2 := by decide +kernel
theorem hy_M_begins : yX4_begins.cls ≠ "java/lang/invoke/MethodHandle" ∧ yX4_begins.cls ≠ "java/lang/invoke/VarHandle" ∧ (parseMethodDescriptor yX4_begins.desc).map (fun d => d.parameters.length) = some 1 := by decide +kernel
theorem hy_M_joinsAs : yX4_joinsAs.cls ≠ "java/lang/invoke/MethodHandle" ∧ yX4_joinsAs.cls ≠ "java/lang/invoke/VarHandle" ∧ (parseMethodDescriptor yX4_joinsAs.desc).map (fun d => d.parameters.length) = some 2 := by decide +kernel
theorem hy_M_showsAs : yX4_showsAs.cls ≠ "java/lang/invoke/MethodHandle" ∧ yX4_showsAs.cls ≠ "java/lang/invoke/VarHandle" ∧ (parseMethodDescriptor yX4_showsAs.desc).map (fun d => d.parameters.length) = some 2 := by decide +kernel
theorem hy_M_tellsAs : yX4_tellsAs.cls ≠ "java/lang/invoke/MethodHandle" ∧ yX4_tellsAs.cls ≠ "java/lang/invoke/VarHandle" ∧ (parseMethodDescriptor yX4_tellsAs.desc).map (fun d => d.parameters.length) = some 2 := by decide +kernel
theorem hy_M_trace : yX4_trace.cls ≠ "java/lang/invoke/MethodHandle" ∧ yX4_trace.cls ≠ "java/lang/invoke/VarHandle" ∧ (parseMethodDescriptor yX4_trace.desc).map (fun d => d.parameters.length) = some 1 := by decide +kernel
theorem hy_M_keep : yX4_keep.cls ≠ "java/lang/invoke/MethodHandle" ∧ yX4_keep.cls ≠ "java/lang/invoke/VarHandle" ∧ (parseMethodDescriptor yX4_keep.desc).map (fun d => d.parameters.length) = some 2 := by decide +kernel
theorem hy_M_row : yX4_row.cls ≠ "java/lang/invoke/MethodHandle" ∧ yX4_row.cls ≠ "java/lang/invoke/VarHandle" ∧ (parseMethodDescriptor yX4_row.desc).map (fun d => d.parameters.length) = some 3 := by decide +kernel
theorem hy_M_put : yX4_put.cls ≠ "java/lang/invoke/MethodHandle" ∧ yX4_put.cls ≠ "java/lang/invoke/VarHandle" ∧ (parseMethodDescriptor yX4_put.desc).map (fun d => d.parameters.length) = some 3 := by decide +kernel
theorem hy_M_refusal : yX4_refusal.cls ≠ "java/lang/invoke/MethodHandle" ∧ yX4_refusal.cls ≠ "java/lang/invoke/VarHandle" ∧ (parseMethodDescriptor yX4_refusal.desc).map (fun d => d.parameters.length) = some 2 := by decide +kernel
theorem hy_M_asSort : yX4_asSort.cls ≠ "java/lang/invoke/MethodHandle" ∧ yX4_asSort.cls ≠ "java/lang/invoke/VarHandle" ∧ (parseMethodDescriptor yX4_asSort.desc).map (fun d => d.parameters.length) = some 2 := by decide +kernel
theorem hy_M_element : yX4_element.cls ≠ "java/lang/invoke/MethodHandle" ∧ yX4_element.cls ≠ "java/lang/invoke/VarHandle" ∧ (parseMethodDescriptor yX4_element.desc).map (fun d => d.parameters.length) = some 2 := by decide +kernel
theorem hy_M_shift : yX4_shift.cls ≠ "java/lang/invoke/MethodHandle" ∧ yX4_shift.cls ≠ "java/lang/invoke/VarHandle" ∧ (parseMethodDescriptor yX4_shift.desc).map (fun d => d.parameters.length) = some 5 := by decide +kernel
theorem hy_M_taken : yX4_taken.cls ≠ "java/lang/invoke/MethodHandle" ∧ yX4_taken.cls ≠ "java/lang/invoke/VarHandle" ∧ (parseMethodDescriptor yX4_taken.desc).map (fun d => d.parameters.length) = some 2 := by decide +kernel
theorem hy_M_kindOf : yX4_kindOf.cls ≠ "java/lang/invoke/MethodHandle" ∧ yX4_kindOf.cls ≠ "java/lang/invoke/VarHandle" ∧ (parseMethodDescriptor yX4_kindOf.desc).map (fun d => d.parameters.length) = some 1 := by decide +kernel
theorem hy_M_above : yX4_above.cls ≠ "java/lang/invoke/MethodHandle" ∧ yX4_above.cls ≠ "java/lang/invoke/VarHandle" ∧ (parseMethodDescriptor yX4_above.desc).map (fun d => d.parameters.length) = some 1 := by decide +kernel
theorem hy_M_count : yX4_count.cls ≠ "java/lang/invoke/MethodHandle" ∧ yX4_count.cls ≠ "java/lang/invoke/VarHandle" ∧ (parseMethodDescriptor yX4_count.desc).map (fun d => d.parameters.length) = some 1 := by decide +kernel
theorem hy_M_lookedFor : yX4_lookedFor.cls ≠ "java/lang/invoke/MethodHandle" ∧ yX4_lookedFor.cls ≠ "java/lang/invoke/VarHandle" ∧ (parseMethodDescriptor yX4_lookedFor.desc).map (fun d => d.parameters.length) = some 0 := by decide +kernel
def w_M_undo (χ : St) (Q : Int32 → St → Prop) : Prop := ((¬ (gI χ 4105 0 0) = 0 → (∀ χ1 : St, χ1 = (sI χ 4105 0 0 ((gI χ 4105 0 0) - (1 : Int32))) → (vp_in (gI χ1 4105 0 0) 40) ∧ ((vp_in (gI χ1 4105 0 0) 40) ∧ ((vp_in (gI χ1 42 0 (gI χ1 4105 0 0).toNatClampNeg) 24) ∧ ((∀ χ2 : St, χ2 = (sI χ1 41 0 (gI χ1 42 0 (gI χ1 4105 0 0).toNatClampNeg).toNatClampNeg (gI χ1 43 0 (gI χ1 4105 0 0).toNatClampNeg)) → (Q (gI χ2 4105 0 0) χ2))))))) ∧ ((gI χ 4105 0 0) = 0 → (Q (-5 : Int32) χ)))
set_option maxHeartbeats 4000000 in
theorem mt_M_undo (l : Launch) (Γ : Gh) (ad : Nat → Nat → Nat) (χ : St) (Q : Int32 → St → Prop) : Mt l yX4_undo (ws_ yX4_undo cX4_undo 1 (some .int)) (rmO (0) (0) χ) (Pm Γ ad χ [.ref (ad 40 0)] (w_M_undo χ Q)) (Qm Γ true ad χ (pI Q)) (frB Γ) := by
  refine Mt.start (by decide) RX4 rfl (Nat.le_of_ble_eq_true rfl) ?_
  intro X hX hG _ _ hna _ hf
  unfold w_M_undo at hf
  refine g_aload_n hX 0 dX4_undo_0 rfl rfl ?_
  refine g_getI hX (k := 5) (fc40 _) ff40 rfl rfl in_X4 (by decide) q1510 dX4_undo_1 ?_
  refine g_if_ne hX 10 dX4_undo_4 (by decide) (fun z => ?_) (fun z => ?_)
  · replace hf := hf.1 z
    refine g_aload_n hX 0 dX4_undo_10 rfl rfl ?_
    refine g_dup hX dX4_undo_11 rfl ?_
    refine g_getI hX (k := 5) (fc40 _) ff40 rfl rfl in_X4 (by decide) q1510 dX4_undo_12 ?_
    refine g_iconst hX (v := (1 : Int32)) dX4_undo_15 rfl ?_
    refine g_isub hX dX4_undo_16 ?_
    refine g_putI hX (k := 5) (fc40 _) ff40 rfl rfl in_X4 tyX4_ok nmX4 (by decide) q1510 rfl rfl rfl rfl dX4_undo_17 ?_
    replace hf := hf _ rfl
    refine g_aload_n hX 0 dX4_undo_20 rfl rfl ?_
    refine g_getK hX (k := 0) (d := 41) (fc40 _) ff40 rfl (by decide) rfl rfl in_X4 (by decide) q1505 dX4_undo_21 ?_
    refine g_aload_n hX 0 dX4_undo_24 rfl rfl ?_
    refine g_getK hX (k := 1) (d := 42) (fc40 _) ff40 rfl (by decide) rfl rfl in_X4 (by decide) q1506 dX4_undo_25 ?_
    refine g_aload_n hX 0 dX4_undo_28 rfl rfl ?_
    refine g_getI hX (k := 5) (fc40 _) ff40 rfl rfl in_X4 (by decide) q1510 dX4_undo_29 ?_
    refine g_iald hX (fc42 _) ff42 rfl hf.1 dX4_undo_32 ?_
    replace hf := hf.2
    refine g_aload_n hX 0 dX4_undo_33 rfl rfl ?_
    refine g_getK hX (k := 2) (d := 43) (fc40 _) ff40 rfl (by decide) rfl rfl in_X4 (by decide) q1507 dX4_undo_34 ?_
    refine g_aload_n hX 0 dX4_undo_37 rfl rfl ?_
    refine g_getI hX (k := 5) (fc40 _) ff40 rfl rfl in_X4 (by decide) q1510 dX4_undo_38 ?_
    refine g_iald hX (fc43 _) ff43 rfl hf.1 dX4_undo_41 ?_
    replace hf := hf.2
    refine g_iast hX (fc41 _) ff41 rfl hf.1 dX4_undo_42 ?_
    replace hf := hf.2
    replace hf := hf _ rfl
    refine g_aload_n hX 0 dX4_undo_43 rfl rfl ?_
    refine g_getI hX (k := 5) (fc40 _) ff40 rfl rfl in_X4 (by decide) q1510 dX4_undo_44 ?_
    exact g_iret hX ⟨_, rfl, hf⟩ dX4_undo_47
  · replace hf := hf.2 z
    refine g_bipush hX (v := (-5 : Int32)) dX4_undo_7 rfl ?_
    exact g_iret hX ⟨_, rfl, hf⟩ dX4_undo_9

def w_M_redo (χ : St) (Q : Int32 → St → Prop) : Prop := ((¬ (gI χ 4105 0 0) = (gI χ 4104 0 0) → (vp_in (gI χ 4105 0 0) 40) ∧ ((vp_in (gI χ 4105 0 0) 40) ∧ ((vp_in (gI χ 42 0 (gI χ 4105 0 0).toNatClampNeg) 24) ∧ ((∀ χ1 : St, χ1 = (sI χ 41 0 (gI χ 42 0 (gI χ 4105 0 0).toNatClampNeg).toNatClampNeg (gI χ 44 0 (gI χ 4105 0 0).toNatClampNeg)) → (∀ χ2 : St, χ2 = (sI χ1 4105 0 0 ((gI χ1 4105 0 0) + (1 : Int32))) → (Q ((gI χ2 4104 0 0) - (gI χ2 4105 0 0)) χ2))))))) ∧ ((gI χ 4105 0 0) = (gI χ 4104 0 0) → (Q (-5 : Int32) χ)))
set_option maxHeartbeats 4000000 in
theorem mt_M_redo (l : Launch) (Γ : Gh) (ad : Nat → Nat → Nat) (χ : St) (Q : Int32 → St → Prop) : Mt l yX4_redo (ws_ yX4_redo cX4_redo 1 (some .int)) (rmO (0) (0) χ) (Pm Γ ad χ [.ref (ad 40 0)] (w_M_redo χ Q)) (Qm Γ true ad χ (pI Q)) (frB Γ) := by
  refine Mt.start (by decide) RX4 rfl (Nat.le_of_ble_eq_true rfl) ?_
  intro X hX hG _ _ hna _ hf
  unfold w_M_redo at hf
  refine g_aload_n hX 0 dX4_redo_0 rfl rfl ?_
  refine g_getI hX (k := 5) (fc40 _) ff40 rfl rfl in_X4 (by decide) q1510 dX4_redo_1 ?_
  refine g_aload_n hX 0 dX4_redo_4 rfl rfl ?_
  refine g_getI hX (k := 4) (fc40 _) ff40 rfl rfl in_X4 (by decide) q1509 dX4_redo_5 ?_
  refine g_icmp_ne hX 14 dX4_redo_8 (by decide) (fun z => ?_) (fun z => ?_)
  · replace hf := hf.1 z
    refine g_aload_n hX 0 dX4_redo_14 rfl rfl ?_
    refine g_getK hX (k := 0) (d := 41) (fc40 _) ff40 rfl (by decide) rfl rfl in_X4 (by decide) q1505 dX4_redo_15 ?_
    refine g_aload_n hX 0 dX4_redo_18 rfl rfl ?_
    refine g_getK hX (k := 1) (d := 42) (fc40 _) ff40 rfl (by decide) rfl rfl in_X4 (by decide) q1506 dX4_redo_19 ?_
    refine g_aload_n hX 0 dX4_redo_22 rfl rfl ?_
    refine g_getI hX (k := 5) (fc40 _) ff40 rfl rfl in_X4 (by decide) q1510 dX4_redo_23 ?_
    refine g_iald hX (fc42 _) ff42 rfl hf.1 dX4_redo_26 ?_
    replace hf := hf.2
    refine g_aload_n hX 0 dX4_redo_27 rfl rfl ?_
    refine g_getK hX (k := 3) (d := 44) (fc40 _) ff40 rfl (by decide) rfl rfl in_X4 (by decide) q1508 dX4_redo_28 ?_
    refine g_aload_n hX 0 dX4_redo_31 rfl rfl ?_
    refine g_getI hX (k := 5) (fc40 _) ff40 rfl rfl in_X4 (by decide) q1510 dX4_redo_32 ?_
    refine g_iald hX (fc44 _) ff44 rfl hf.1 dX4_redo_35 ?_
    replace hf := hf.2
    refine g_iast hX (fc41 _) ff41 rfl hf.1 dX4_redo_36 ?_
    replace hf := hf.2
    replace hf := hf _ rfl
    refine g_aload_n hX 0 dX4_redo_37 rfl rfl ?_
    refine g_dup hX dX4_redo_38 rfl ?_
    refine g_getI hX (k := 5) (fc40 _) ff40 rfl rfl in_X4 (by decide) q1510 dX4_redo_39 ?_
    refine g_iconst hX (v := (1 : Int32)) dX4_redo_42 rfl ?_
    refine g_iadd hX dX4_redo_43 ?_
    refine g_putI hX (k := 5) (fc40 _) ff40 rfl rfl in_X4 tyX4_ok nmX4 (by decide) q1510 rfl rfl rfl rfl dX4_redo_44 ?_
    replace hf := hf _ rfl
    refine g_aload_n hX 0 dX4_redo_47 rfl rfl ?_
    refine g_getI hX (k := 4) (fc40 _) ff40 rfl rfl in_X4 (by decide) q1509 dX4_redo_48 ?_
    refine g_aload_n hX 0 dX4_redo_51 rfl rfl ?_
    refine g_getI hX (k := 5) (fc40 _) ff40 rfl rfl in_X4 (by decide) q1510 dX4_redo_52 ?_
    refine g_isub hX dX4_redo_55 ?_
    exact g_iret hX ⟨_, rfl, hf⟩ dX4_redo_56
  · replace hf := hf.2 z
    refine g_bipush hX (v := (-5 : Int32)) dX4_redo_11 rfl ?_
    exact g_iret hX ⟨_, rfl, hf⟩ dX4_redo_13

def w_M_within (x0 : Int64) (x2 : Int64) (x4 : Int64) (χ : St) (Q : Int32 → St → Prop) : Prop := (((lg_cmp x0 x2) < 0 → (Q (0 : Int32) χ)) ∧ (¬ (lg_cmp x0 x2) < 0 → ((0 < (lg_cmp x0 x4) → (Q (0 : Int32) χ)) ∧ (¬ 0 < (lg_cmp x0 x4) → (Q (1 : Int32) χ)))))
set_option maxHeartbeats 4000000 in
theorem mt_M_within (l : Launch) (Γ : Gh) (ad : Nat → Nat → Nat) (x0 : Int64) (x2 : Int64) (x4 : Int64) (χ : St) (Q : Int32 → St → Prop) : Mt l yX4_within (ws_ yX4_within cX4_within 6 (some .boolean)) (rmO (0) (0) χ) (Pm Γ ad χ [.long x0, .long x2, .long x4] (w_M_within x0 x2 x4 χ Q)) (Qm Γ true ad χ (pI Q)) (frB Γ) := by
  refine Mt.start (by decide) RX4 rfl (Nat.le_of_ble_eq_true rfl) ?_
  intro X hX hG _ _ hna _ hf
  unfold w_M_within at hf
  refine g_lload_n hX 0 dX4_within_0 rfl rfl ?_
  refine g_lload_n hX 1 dX4_within_1 rfl rfl ?_
  refine g_lcmp hX dX4_within_2 ?_
  refine g_if_lt hX 17 dX4_within_3 (by decide) (fun z => ?_) (fun z => ?_)
  · replace hf := hf.1 z
    refine g_iconst hX (v := (0 : Int32)) dX4_within_17 rfl ?_
    exact g_zret hX rfl ⟨_, rfl, hf⟩ dX4_within_18
  · replace hf := hf.2 z
    refine g_lload_n hX 0 dX4_within_6 rfl rfl ?_
    refine g_lload hX 2 dX4_within_7 rfl ?_
    refine g_lcmp hX dX4_within_9 ?_
    refine g_if_gt hX 17 dX4_within_10 (by decide) (fun z => ?_) (fun z => ?_)
    · replace hf := hf.1 z
      refine g_iconst hX (v := (0 : Int32)) dX4_within_17 rfl ?_
      exact g_zret hX rfl ⟨_, rfl, hf⟩ dX4_within_18
    · replace hf := hf.2 z
      refine g_iconst hX (v := (1 : Int32)) dX4_within_13 rfl ?_
      refine g_goto hX 18 dX4_within_14 (by decide) ?_
      exact g_zret hX rfl ⟨_, rfl, hf⟩ dX4_within_18

def w_M_adds_22 (Q : St → Prop) : Nat → Int32 → St → Prop
  | 0 => fun _ _ => False
  | n + 1 => fun x3 χ => (((6 : Int32) ≤ x3 → (∀ χ3 : St, χ3 = (sI χ 4106 0 0 ((gI χ 4106 0 0) + (1 : Int32))) → (Q χ3))) ∧ (¬ (6 : Int32) ≤ x3 → (vp_in (((6 : Int32) * (gI χ 4106 0 0)) + x3) 48) ∧ ((∀ χ4 : St, χ4 = (sI χ 47 0 (((6 : Int32) * (gI χ 4106 0 0)) + x3).toNatClampNeg (0 : Int32)) → (w_M_adds_22 Q n (x3 + (1 : Int32)) χ4)))))
def w_M_adds (x1 : Int32) (x2 : Int32) (χ : St) (Q : St → Prop) : Prop := (vp_in (gI χ 4106 0 0) 8) ∧ ((∀ χ1 : St, χ1 = (sI χ 45 0 (gI χ 4106 0 0).toNatClampNeg x1) → (vp_in (gI χ1 4106 0 0) 8) ∧ ((∀ χ2 : St, χ2 = (sI χ1 46 0 (gI χ1 4106 0 0).toNatClampNeg x2) → (∃ k22, w_M_adds_22 Q k22 (0 : Int32) χ2)))))
set_option maxHeartbeats 4000000 in
theorem mt_M_adds (l : Launch) (Γ : Gh) (ad : Nat → Nat → Nat) (x1 : Int32) (x2 : Int32) (χ : St) (Q : St → Prop) : Mt l yX4_adds (ws_ yX4_adds cX4_adds 4 (none)) (rmO (0) (0) χ) (Pm Γ ad χ [.ref (ad 40 0), .int x1, .int x2] (w_M_adds x1 x2 χ Q)) (Qm Γ true ad χ (pV Q)) (frB Γ) := by
  refine Mt.start (by decide) RX4 rfl (Nat.le_of_ble_eq_true rfl) ?_
  intro X hX hG _ _ hna _ hf
  have B22 : ∀ (n : Nat) (ad : Nat → Nat → Nat) (x3 : Int32) (χ : St), w_M_adds_22 Q n x3 χ → G X ad χ 22 [(0, .ref (ad 40 0)), (3, .int x3)] [] := by
    intro n
    induction n with
    | zero => intro ad x3 χ hf; exact hf.elim
    | succ n hK22 =>
      intro ad x3 χ hf
      unfold w_M_adds_22 at hf
      refine g_iload_n hX 1 dX4_adds_22 rfl rfl ?_
      refine g_bipush hX (v := (6 : Int32)) dX4_adds_23 rfl ?_
      refine g_icmp_ge hX 49 dX4_adds_25 (by decide) (fun z => ?_) (fun z => ?_)
      · replace hf := hf.1 z
        refine g_aload_n hX 0 dX4_adds_49 rfl rfl ?_
        refine g_dup hX dX4_adds_50 rfl ?_
        refine g_getI hX (k := 6) (fc40 _) ff40 rfl rfl in_X4 (by decide) q1511 dX4_adds_51 ?_
        refine g_iconst hX (v := (1 : Int32)) dX4_adds_54 rfl ?_
        refine g_iadd hX dX4_adds_55 ?_
        refine g_putI hX (k := 6) (fc40 _) ff40 rfl rfl in_X4 tyX4_ok nmX4 (by decide) q1511 rfl rfl rfl rfl dX4_adds_56 ?_
        replace hf := hf _ rfl
        exact g_vret hX ⟨rfl, hf⟩ dX4_adds_59
      · replace hf := hf.2 z
        refine g_aload_n hX 0 dX4_adds_28 rfl rfl ?_
        refine g_getK hX (k := 9) (d := 47) (fc40 _) ff40 rfl (by decide) rfl rfl in_X4 (by decide) q1514 dX4_adds_29 ?_
        refine g_bipush hX (v := (6 : Int32)) dX4_adds_32 rfl ?_
        refine g_aload_n hX 0 dX4_adds_34 rfl rfl ?_
        refine g_getI hX (k := 6) (fc40 _) ff40 rfl rfl in_X4 (by decide) q1511 dX4_adds_35 ?_
        refine g_imul hX dX4_adds_38 ?_
        refine g_iload_n hX 1 dX4_adds_39 rfl rfl ?_
        refine g_iadd hX dX4_adds_40 ?_
        refine g_iconst hX (v := (0 : Int32)) dX4_adds_41 rfl ?_
        refine g_iast hX (fc47 _) ff47 rfl hf.1 dX4_adds_42 ?_
        replace hf := hf.2
        replace hf := hf _ rfl
        refine g_iinc hX (v := _) 1 dX4_adds_43 rfl rfl (by decide) rfl ?_
        refine g_goto hX 22 dX4_adds_46 (by decide) ?_
        refine g_sub [1, 0] rfl ?_
        exact hK22 _ _ _ hf
  unfold w_M_adds at hf
  refine g_aload_n hX 0 dX4_adds_0 rfl rfl ?_
  refine g_getK hX (k := 7) (d := 45) (fc40 _) ff40 rfl (by decide) rfl rfl in_X4 (by decide) q1512 dX4_adds_1 ?_
  refine g_aload_n hX 0 dX4_adds_4 rfl rfl ?_
  refine g_getI hX (k := 6) (fc40 _) ff40 rfl rfl in_X4 (by decide) q1511 dX4_adds_5 ?_
  refine g_iload_n hX 1 dX4_adds_8 rfl rfl ?_
  refine g_iast hX (fc45 _) ff45 rfl hf.1 dX4_adds_9 ?_
  replace hf := hf.2
  replace hf := hf _ rfl
  refine g_aload_n hX 0 dX4_adds_10 rfl rfl ?_
  refine g_getK hX (k := 8) (d := 46) (fc40 _) ff40 rfl (by decide) rfl rfl in_X4 (by decide) q1513 dX4_adds_11 ?_
  refine g_aload_n hX 0 dX4_adds_14 rfl rfl ?_
  refine g_getI hX (k := 6) (fc40 _) ff40 rfl rfl in_X4 (by decide) q1511 dX4_adds_15 ?_
  refine g_iload_n hX 2 dX4_adds_18 rfl rfl ?_
  refine g_iast hX (fc46 _) ff46 rfl hf.1 dX4_adds_19 ?_
  replace hf := hf.2
  replace hf := hf _ rfl
  refine g_iconst hX (v := (0 : Int32)) dX4_adds_20 rfl ?_
  refine g_istore_n hX dX4_adds_21 rfl (by decide) rfl ?_
  obtain ⟨n0, hf⟩ := hf
  refine g_sub [1, 0] rfl ?_
  exact B22 n0 _ _ _ hf

def w_M_part (x1 : Int32) (χ : St) (Q : Int32 → St → Prop) : Prop := (w_M_within x1.toInt64 (0 : Int64) (99 : Int64) χ (fun r1 χ2 => ((¬ r1 = 0 → ((¬ (gI χ2 4106 0 0) = (8 : Int32) → (w_M_adds (x1 / (10 : Int32)) (x1 - x1 / (10 : Int32) * (10 : Int32)) χ2 (fun χ3 => (Q ((gI χ3 4106 0 0) - (1 : Int32)) χ3)))) ∧ ((gI χ2 4106 0 0) = (8 : Int32) → (Q (-3 : Int32) χ2)))) ∧ (r1 = 0 → (Q (-1 : Int32) χ2)))))
set_option maxHeartbeats 4000000 in
theorem mt_M_part (l : Launch) (Γ : Gh) (ad : Nat → Nat → Nat) (x1 : Int32) (χ : St) (Q : Int32 → St → Prop) : Mt l yX4_part (ws_ yX4_part cX4_part 2 (some .int)) (rmO (1) (25) χ) (Pm Γ ad χ [.ref (ad 40 0), .int x1] (w_M_part x1 χ Q)) (Qm Γ true ad χ (pI Q)) (frB Γ) := by
  refine Mt.start (by decide) RX4 rfl (Nat.le_of_ble_eq_true rfl) ?_
  intro X hX hG _ _ hna _ hf
  unfold w_M_part at hf
  refine g_iload_n hX 1 dX4_part_0 rfl rfl ?_
  refine g_i2l hX dX4_part_1 ?_
  refine g_lconst hX (v := (0 : Int64)) dX4_part_2 rfl ?_
  refine g_ldc2 hX q1650 dX4_part_3 ?_
  refine g_callSi hX (n := 3) (mt_M_within X.l X.Γ _ _ _ _ _ _) hf q1651 q1652 q89 q1653 hy_M_within (by decide) rfl rfl (Nat.le_of_ble_eq_true rfl) dX4_part_6 (fun r1 χ2 hf hc2 => ?_)
  refine g_if_ne hX 14 dX4_part_9 (by decide) (fun z => ?_) (fun z => ?_)
  · replace hf := hf.1 z
    refine g_aload_n hX 0 dX4_part_14 rfl rfl ?_
    refine g_getI hX (k := 6) (fc40 _) ff40 rfl rfl in_X4 (by decide) q1511 dX4_part_15 ?_
    refine g_bipush hX (v := (8 : Int32)) dX4_part_18 rfl ?_
    refine g_icmp_ne hX 26 dX4_part_20 (by decide) (fun z => ?_) (fun z => ?_)
    · replace hf := hf.1 z
      refine g_aload_n hX 0 dX4_part_26 rfl rfl ?_
      refine g_iload_n hX 1 dX4_part_27 rfl rfl ?_
      refine g_bipush hX (v := (10 : Int32)) dX4_part_28 rfl ?_
      refine g_idiv hX dX4_part_30 (by decide) ?_
      refine g_iload_n hX 1 dX4_part_31 rfl rfl ?_
      refine g_bipush hX (v := (10 : Int32)) dX4_part_32 rfl ?_
      refine g_irem hX dX4_part_34 (by decide) ?_
      refine g_callVv hX (n := 2) (mt_M_adds X.l X.Γ _ _ _ _ _) hf q1654 q1656 qs44 q89 q1657 ⟨rfl, hy_M_adds⟩ (by decide) (fc40 _) ff40 rfl rfl rfl (Nat.le_of_ble_eq_true rfl) dX4_part_35 (fun χ3 hf hc3 => ?_)
      refine g_aload_n hX 0 dX4_part_38 rfl rfl ?_
      refine g_getI hX (k := 6) (fc40 _) ff40 rfl rfl in_X4 (by decide) q1511 dX4_part_39 ?_
      refine g_iconst hX (v := (1 : Int32)) dX4_part_42 rfl ?_
      refine g_isub hX dX4_part_43 ?_
      exact g_iret hX ⟨_, rfl, hf⟩ dX4_part_44
    · replace hf := hf.2 z
      refine g_bipush hX (v := (-3 : Int32)) dX4_part_23 rfl ?_
      exact g_iret hX ⟨_, rfl, hf⟩ dX4_part_25
  · replace hf := hf.2 z
    refine g_iconst hX (v := (-1 : Int32)) dX4_part_12 rfl ?_
    exact g_iret hX ⟨_, rfl, hf⟩ dX4_part_13

def w_M_isShelf (x0 : Int32) (χ : St) (Q : Int32 → St → Prop) : Prop := (w_M_within x0.toInt64 (0 : Int64) (5 : Int64) χ (fun r1 χ2 => (narrow .boolean (.int r1) = .int r1) ∧ ((Q r1 χ2))))
set_option maxHeartbeats 4000000 in
theorem mt_M_isShelf (l : Launch) (Γ : Gh) (ad : Nat → Nat → Nat) (x0 : Int32) (χ : St) (Q : Int32 → St → Prop) : Mt l yX4_isShelf (ws_ yX4_isShelf cX4_isShelf 1 (some .boolean)) (rmO (1) (25) χ) (Pm Γ ad χ [.int x0] (w_M_isShelf x0 χ Q)) (Qm Γ true ad χ (pI Q)) (frB Γ) := by
  refine Mt.start (by decide) RX4 rfl (Nat.le_of_ble_eq_true rfl) ?_
  intro X hX hG _ _ hna _ hf
  unfold w_M_isShelf at hf
  refine g_iload_n hX 0 dX4_isShelf_0 rfl rfl ?_
  refine g_i2l hX dX4_isShelf_1 ?_
  refine g_lconst hX (v := (0 : Int64)) dX4_isShelf_2 rfl ?_
  refine g_ldc2 hX q1665 dX4_isShelf_3 ?_
  refine g_callSi hX (n := 3) (mt_M_within X.l X.Γ _ _ _ _ _ _) hf q1651 q1652 q89 q1653 hy_M_within (by decide) rfl rfl (Nat.le_of_ble_eq_true rfl) dX4_isShelf_6 (fun r1 χ2 hf hc2 => ?_)
  exact g_zret hX hf.1 ⟨_, rfl, hf.2⟩ dX4_isShelf_9

def w_M_parts_204 (Q : Int32 → St → Prop) (K69 : Int32 → Int32 → Int32 → Int32 → Int32 → St → Prop) (x1 : Int32) (x2 : Int32) (x3 : Int32) (x4 : Int32) (x5 : Int32) (χ : St) : Prop := (K69 x1 x2 x3 x4 x5 χ)
def w_M_parts_172 (Q : Int32 → St → Prop) (K69 : Int32 → Int32 → Int32 → Int32 → Int32 → St → Prop) (x1 : Int32) (x2 : Int32) (x3 : Int32) (x4 : Int32) (x6 : Int32) (z0 : Int32) (χ : St) : Prop := ((z0 = 0 → (w_M_parts_204 Q K69 x1 x2 x3 x4 z0 χ)) ∧ (¬ z0 = 0 → (vp_in x6 360) ∧ ((vp_in (x6 + (1 : Int32)) 360) ∧ ((w_M_adds (gL χ 66 0 x6.toNatClampNeg).toInt32 (gL χ 66 0 (x6 + (1 : Int32)).toNatClampNeg).toInt32 χ (fun χ6 => (w_M_parts_204 Q K69 x1 x2 x3 (x4 + (1 : Int32)) z0 χ6)))))))
def w_M_parts_171 (Q : Int32 → St → Prop) (K69 : Int32 → Int32 → Int32 → Int32 → Int32 → St → Prop) (x1 : Int32) (x2 : Int32) (x3 : Int32) (x4 : Int32) (x6 : Int32) (χ : St) : Prop := (w_M_parts_172 Q K69 x1 x2 x3 x4 x6 (0 : Int32) χ)
def w_M_parts_111 (Q : Int32 → St → Prop) (K69 : Int32 → Int32 → Int32 → Int32 → Int32 → St → Prop) (x1 : Int32) (x2 : Int32) (x3 : Int32) (x4 : Int32) (z0 : Int32) (χ : St) : Prop := (∀ v5 : Int32, v5 = ((((60 : Int32) * x1) + x2) + ((2 : Int32) * x4)) → ((z0 = 0 → (w_M_parts_171 Q K69 x1 x2 x3 x4 v5 χ)) ∧ (¬ z0 = 0 → (vp_in v5 360) ∧ ((w_M_within (gL χ 66 0 v5.toNatClampNeg) (0 : Int64) (9 : Int64) χ (fun r7 χ8 => ((r7 = 0 → (w_M_parts_171 Q K69 x1 x2 x3 x4 v5 χ8)) ∧ (¬ r7 = 0 → (vp_in (v5 + (1 : Int32)) 360) ∧ ((w_M_within (gL χ8 66 0 (v5 + (1 : Int32)).toNatClampNeg) (0 : Int64) (9 : Int64) χ8 (fun r9 χ10 => ((r9 = 0 → (w_M_parts_171 Q K69 x1 x2 x3 x4 v5 χ10)) ∧ (¬ r9 = 0 → (w_M_parts_172 Q K69 x1 x2 x3 x4 v5 (1 : Int32) χ10))))))))))))))
def w_M_parts_110 (Q : Int32 → St → Prop) (K69 : Int32 → Int32 → Int32 → Int32 → Int32 → St → Prop) (x1 : Int32) (x2 : Int32) (x3 : Int32) (x4 : Int32) (χ : St) : Prop := (w_M_parts_111 Q K69 x1 x2 x3 x4 (0 : Int32) χ)
def w_M_parts_69 (Q : Int32 → St → Prop) : Nat → Int32 → Int32 → Int32 → Int32 → Int32 → St → Prop
  | 0 => fun _ _ _ _ _ _ => False
  | n + 1 => fun x1 x2 x3 x4 x5 χ => ((x5 = 0 → (Q x4 χ)) ∧ (¬ x5 = 0 → ((x3 ≤ x4 → (Q x4 χ)) ∧ (¬ x3 ≤ x4 → (vp_in x1 6) ∧ ((((((gI χ 65 0 x1.toNatClampNeg) - (2 : Int32)) - ((2 : Int32) * x4)) < x2 → (w_M_parts_110 Q (w_M_parts_69 Q n) x1 x2 x3 x4 χ)) ∧ (¬ (((gI χ 65 0 x1.toNatClampNeg) - (2 : Int32)) - ((2 : Int32) * x4)) < x2 → (((8 : Int32) ≤ (gI χ 4106 0 0) → (w_M_parts_110 Q (w_M_parts_69 Q n) x1 x2 x3 x4 χ)) ∧ (¬ (8 : Int32) ≤ (gI χ 4106 0 0) → (w_M_parts_111 Q (w_M_parts_69 Q n) x1 x2 x3 x4 (1 : Int32) χ))))))))))
def w_M_parts_67 (Q : Int32 → St → Prop) (x1 : Int32) (x2 : Int32) (x3 : Int32) (x4 : Int32) (z0 : Int32) (χ : St) : Prop := (∃ k69, w_M_parts_69 Q k69 x1 x2 x3 x4 z0 χ)
def w_M_parts_66 (Q : Int32 → St → Prop) (x1 : Int32) (x2 : Int32) (x3 : Int32) (x4 : Int32) (χ : St) : Prop := (w_M_parts_67 Q x1 x2 x3 x4 (0 : Int32) χ)
def w_M_parts_44 (Q : Int32 → St → Prop) (x1 : Int32) (x2 : Int32) (x3 : Int32) (χ : St) : Prop := (vp_in x1 6) ∧ (((¬ (gI χ 64 0 x1.toNatClampNeg) = (50 : Int32) → (w_M_parts_66 Q x1 x2 x3 (0 : Int32) χ)) ∧ ((gI χ 64 0 x1.toNatClampNeg) = (50 : Int32) → ((x2 < 0 → (w_M_parts_66 Q x1 x2 x3 (0 : Int32) χ)) ∧ (¬ x2 < 0 → (w_M_parts_67 Q x1 x2 x3 (0 : Int32) (1 : Int32) χ))))))
def w_M_parts (x1 : Int32) (x2 : Int32) (x3 : Int32) (χ : St) (Q : Int32 → St → Prop) : Prop := (w_M_isShelf x1 χ (fun r1 χ2 => ((r1 = 0 → (Q (-1 : Int32) χ2)) ∧ (¬ r1 = 0 → (w_M_within x3.toInt64 (1 : Int64) (8 : Int64) χ2 (fun r3 χ4 => ((¬ r3 = 0 → (vp_in x1 6) ∧ ((((gI χ4 64 0 x1.toNatClampNeg) < 0 → (w_M_parts_44 Q x1 x2 x3 χ4)) ∧ (¬ (gI χ4 64 0 x1.toNatClampNeg) < 0 → (vp_in x1 6) ∧ ((((gI χ4 64 0 x1.toNatClampNeg) = (50 : Int32) → (w_M_parts_44 Q x1 x2 x3 χ4)) ∧ (¬ (gI χ4 64 0 x1.toNatClampNeg) = (50 : Int32) → (Q (-12 : Int32) χ4)))))))) ∧ (r3 = 0 → (Q (-1 : Int32) χ4)))))))))
set_option maxHeartbeats 4000000 in
theorem mt_M_parts (l : Launch) (Γ : Gh) (ad : Nat → Nat → Nat) (x1 : Int32) (x2 : Int32) (x3 : Int32) (χ : St) (Q : Int32 → St → Prop) : Mt l yX4_parts (ws_ yX4_parts cX4_parts 7 (some .int)) (rmO (2) (45) χ) (Pm Γ ad χ [.ref (ad 40 0), .int x1, .int x2, .int x3] (w_M_parts x1 x2 x3 χ Q)) (Qm Γ true ad χ (pI Q)) (frB Γ) := by
  refine Mt.start (by decide) RX4 rfl (Nat.le_of_ble_eq_true rfl) ?_
  intro X hX hG _ _ hna _ hf
  have B204 : ∀ (K69 : Int32 → Int32 → Int32 → Int32 → Int32 → St → Prop) (hK69 : ∀ (ad : Nat → Nat → Nat) (x1 : Int32) (x2 : Int32) (x3 : Int32) (x4 : Int32) (x5 : Int32) (χ : St), K69 x1 x2 x3 x4 x5 χ → G X ad χ 69 [(0, .ref (ad 40 0)), (1, .int x1), (2, .int x2), (3, .int x3), (4, .int x4), (5, .int x5)] []) (ad : Nat → Nat → Nat) (x1 : Int32) (x2 : Int32) (x3 : Int32) (x4 : Int32) (x5 : Int32) (χ : St), w_M_parts_204 Q K69 x1 x2 x3 x4 x5 χ → G X ad χ 204 [(0, .ref (ad 40 0)), (1, .int x1), (2, .int x2), (3, .int x3), (4, .int x4), (5, .int x5)] [] := by
    intro K69 hK69 ad x1 x2 x3 x4 x5 χ hf
    unfold w_M_parts_204 at hf
    refine g_goto hX 69 dX4_parts_204 (by decide) ?_
    exact hK69 _ _ _ _ _ _ _ hf
  have B172 : ∀ (K69 : Int32 → Int32 → Int32 → Int32 → Int32 → St → Prop) (hK69 : ∀ (ad : Nat → Nat → Nat) (x1 : Int32) (x2 : Int32) (x3 : Int32) (x4 : Int32) (x5 : Int32) (χ : St), K69 x1 x2 x3 x4 x5 χ → G X ad χ 69 [(0, .ref (ad 40 0)), (1, .int x1), (2, .int x2), (3, .int x3), (4, .int x4), (5, .int x5)] []) (ad : Nat → Nat → Nat) (x1 : Int32) (x2 : Int32) (x3 : Int32) (x4 : Int32) (x6 : Int32) (z0 : Int32) (χ : St), w_M_parts_172 Q K69 x1 x2 x3 x4 x6 z0 χ → G X ad χ 172 [(0, .ref (ad 40 0)), (1, .int x1), (2, .int x2), (3, .int x3), (4, .int x4), (6, .int x6)] [.int z0] := by
    intro K69 hK69 ad x1 x2 x3 x4 x6 z0 χ hf
    unfold w_M_parts_172 at hf
    refine g_istore hX dX4_parts_172 (by decide) rfl ?_
    refine g_iload hX 0 dX4_parts_174 rfl ?_
    refine g_if_eq hX 204 dX4_parts_176 (by decide) (fun z => ?_) (fun z => ?_)
    · replace hf := hf.1 z
      refine g_sub [1, 2, 3, 4, 5, 0] rfl ?_
      exact B204 K69 hK69 _ _ _ _ _ _ _ hf
    · replace hf := hf.2 z
      refine g_aload_n hX 1 dX4_parts_179 rfl rfl ?_
      refine g_aload_n hX 1 dX4_parts_180 rfl rfl ?_
      refine g_getK hX (k := 42) (d := 66) (fc40 _) ff40 rfl (by decide) rfl rfl in_X4 (by decide) q1547 dX4_parts_181 ?_
      refine g_iload hX 6 dX4_parts_184 rfl ?_
      refine g_lald hX (fc66 _) ff66 rfl hf.1 dX4_parts_186 ?_
      replace hf := hf.2
      refine g_l2i hX dX4_parts_187 ?_
      refine g_aload_n hX 1 dX4_parts_188 rfl rfl ?_
      refine g_getK hX (k := 42) (d := 66) (fc40 _) ff40 rfl (by decide) rfl rfl in_X4 (by decide) q1547 dX4_parts_189 ?_
      refine g_iload hX 6 dX4_parts_192 rfl ?_
      refine g_iconst hX (v := (1 : Int32)) dX4_parts_194 rfl ?_
      refine g_iadd hX dX4_parts_195 ?_
      refine g_lald hX (fc66 _) ff66 rfl hf.1 dX4_parts_196 ?_
      replace hf := hf.2
      refine g_l2i hX dX4_parts_197 ?_
      refine g_callVv hX (n := 2) (mt_M_adds X.l X.Γ _ _ _ _ _) hf q1654 q1656 qs44 q89 q1657 ⟨rfl, hy_M_adds⟩ (by decide) (fc40 _) ff40 rfl rfl rfl (Nat.le_of_ble_eq_true rfl) dX4_parts_198 (fun χ6 hf hc6 => ?_)
      refine g_iinc hX (v := _) 5 dX4_parts_201 rfl rfl (by decide) rfl ?_
      refine g_sub [2, 3, 4, 5, 0, 1] rfl ?_
      exact B204 K69 hK69 _ _ _ _ _ _ _ hf
  have B171 : ∀ (K69 : Int32 → Int32 → Int32 → Int32 → Int32 → St → Prop) (hK69 : ∀ (ad : Nat → Nat → Nat) (x1 : Int32) (x2 : Int32) (x3 : Int32) (x4 : Int32) (x5 : Int32) (χ : St), K69 x1 x2 x3 x4 x5 χ → G X ad χ 69 [(0, .ref (ad 40 0)), (1, .int x1), (2, .int x2), (3, .int x3), (4, .int x4), (5, .int x5)] []) (ad : Nat → Nat → Nat) (x1 : Int32) (x2 : Int32) (x3 : Int32) (x4 : Int32) (x6 : Int32) (χ : St), w_M_parts_171 Q K69 x1 x2 x3 x4 x6 χ → G X ad χ 171 [(0, .ref (ad 40 0)), (1, .int x1), (2, .int x2), (3, .int x3), (4, .int x4), (6, .int x6)] [] := by
    intro K69 hK69 ad x1 x2 x3 x4 x6 χ hf
    unfold w_M_parts_171 at hf
    refine g_iconst hX (v := (0 : Int32)) dX4_parts_171 rfl ?_
    exact B172 K69 hK69 _ _ _ _ _ _ _ _ hf
  have B111 : ∀ (K69 : Int32 → Int32 → Int32 → Int32 → Int32 → St → Prop) (hK69 : ∀ (ad : Nat → Nat → Nat) (x1 : Int32) (x2 : Int32) (x3 : Int32) (x4 : Int32) (x5 : Int32) (χ : St), K69 x1 x2 x3 x4 x5 χ → G X ad χ 69 [(0, .ref (ad 40 0)), (1, .int x1), (2, .int x2), (3, .int x3), (4, .int x4), (5, .int x5)] []) (ad : Nat → Nat → Nat) (x1 : Int32) (x2 : Int32) (x3 : Int32) (x4 : Int32) (z0 : Int32) (χ : St), w_M_parts_111 Q K69 x1 x2 x3 x4 z0 χ → G X ad χ 111 [(0, .ref (ad 40 0)), (1, .int x1), (2, .int x2), (3, .int x3), (4, .int x4)] [.int z0] := by
    intro K69 hK69 ad x1 x2 x3 x4 z0 χ hf
    unfold w_M_parts_111 at hf
    refine g_istore hX dX4_parts_111 (by decide) rfl ?_
    refine g_bipush hX (v := (60 : Int32)) dX4_parts_113 rfl ?_
    refine g_iload_n hX 2 dX4_parts_115 rfl rfl ?_
    refine g_imul hX dX4_parts_116 ?_
    refine g_iload_n hX 3 dX4_parts_117 rfl rfl ?_
    refine g_iadd hX dX4_parts_118 ?_
    refine g_iconst hX (v := (2 : Int32)) dX4_parts_119 rfl ?_
    refine g_iload hX 5 dX4_parts_120 rfl ?_
    refine g_imul hX dX4_parts_122 ?_
    refine g_iadd hX dX4_parts_123 ?_
    replace hf := hf _ rfl
    refine g_istore hX dX4_parts_124 (by decide) rfl ?_
    refine g_iload hX 1 dX4_parts_126 rfl ?_
    refine g_if_eq hX 171 dX4_parts_128 (by decide) (fun z => ?_) (fun z => ?_)
    · replace hf := hf.1 z
      refine g_sub [2, 3, 4, 5, 6, 0] rfl ?_
      exact B171 K69 hK69 _ _ _ _ _ _ _ hf
    · replace hf := hf.2 z
      refine g_aload_n hX 2 dX4_parts_131 rfl rfl ?_
      refine g_getK hX (k := 42) (d := 66) (fc40 _) ff40 rfl (by decide) rfl rfl in_X4 (by decide) q1547 dX4_parts_132 ?_
      refine g_iload hX 0 dX4_parts_135 rfl ?_
      refine g_lald hX (fc66 _) ff66 rfl hf.1 dX4_parts_137 ?_
      replace hf := hf.2
      refine g_lconst hX (v := (0 : Int64)) dX4_parts_138 rfl ?_
      refine g_ldc2 hX q1667 dX4_parts_139 ?_
      refine g_callSi hX (n := 3) (mt_M_within X.l X.Γ _ _ _ _ _ _) hf q1651 q1652 q89 q1653 hy_M_within (by decide) rfl rfl (Nat.le_of_ble_eq_true rfl) dX4_parts_142 (fun r7 χ8 hf hc8 => ?_)
      refine g_if_eq hX 171 dX4_parts_145 (by decide) (fun z => ?_) (fun z => ?_)
      · replace hf := hf.1 z
        refine g_sub [2, 3, 4, 5, 6, 0] rfl ?_
        exact B171 K69 hK69 _ _ _ _ _ _ _ hf
      · replace hf := hf.2 z
        refine g_aload_n hX 2 dX4_parts_148 rfl rfl ?_
        refine g_getK hX (k := 42) (d := 66) (fc40 _) ff40 rfl (by decide) rfl rfl in_X4 (by decide) q1547 dX4_parts_149 ?_
        refine g_iload hX 0 dX4_parts_152 rfl ?_
        refine g_iconst hX (v := (1 : Int32)) dX4_parts_154 rfl ?_
        refine g_iadd hX dX4_parts_155 ?_
        refine g_lald hX (fc66 _) ff66 rfl hf.1 dX4_parts_156 ?_
        replace hf := hf.2
        refine g_lconst hX (v := (0 : Int64)) dX4_parts_157 rfl ?_
        refine g_ldc2 hX q1667 dX4_parts_158 ?_
        refine g_callSi hX (n := 3) (mt_M_within X.l X.Γ _ _ _ _ _ _) hf q1651 q1652 q89 q1653 hy_M_within (by decide) rfl rfl (Nat.le_of_ble_eq_true rfl) dX4_parts_161 (fun r9 χ10 hf hc10 => ?_)
        refine g_if_eq hX 171 dX4_parts_164 (by decide) (fun z => ?_) (fun z => ?_)
        · replace hf := hf.1 z
          refine g_sub [2, 3, 4, 5, 6, 0] rfl ?_
          exact B171 K69 hK69 _ _ _ _ _ _ _ hf
        · replace hf := hf.2 z
          refine g_iconst hX (v := (1 : Int32)) dX4_parts_167 rfl ?_
          refine g_goto hX 172 dX4_parts_168 (by decide) ?_
          refine g_sub [2, 3, 4, 5, 6, 0] rfl ?_
          exact B172 K69 hK69 _ _ _ _ _ _ _ _ hf
  have B110 : ∀ (K69 : Int32 → Int32 → Int32 → Int32 → Int32 → St → Prop) (hK69 : ∀ (ad : Nat → Nat → Nat) (x1 : Int32) (x2 : Int32) (x3 : Int32) (x4 : Int32) (x5 : Int32) (χ : St), K69 x1 x2 x3 x4 x5 χ → G X ad χ 69 [(0, .ref (ad 40 0)), (1, .int x1), (2, .int x2), (3, .int x3), (4, .int x4), (5, .int x5)] []) (ad : Nat → Nat → Nat) (x1 : Int32) (x2 : Int32) (x3 : Int32) (x4 : Int32) (χ : St), w_M_parts_110 Q K69 x1 x2 x3 x4 χ → G X ad χ 110 [(0, .ref (ad 40 0)), (1, .int x1), (2, .int x2), (3, .int x3), (4, .int x4)] [] := by
    intro K69 hK69 ad x1 x2 x3 x4 χ hf
    unfold w_M_parts_110 at hf
    refine g_iconst hX (v := (0 : Int32)) dX4_parts_110 rfl ?_
    exact B111 K69 hK69 _ _ _ _ _ _ _ hf
  have B69 : ∀ (n : Nat) (ad : Nat → Nat → Nat) (x1 : Int32) (x2 : Int32) (x3 : Int32) (x4 : Int32) (x5 : Int32) (χ : St), w_M_parts_69 Q n x1 x2 x3 x4 x5 χ → G X ad χ 69 [(0, .ref (ad 40 0)), (1, .int x1), (2, .int x2), (3, .int x3), (4, .int x4), (5, .int x5)] [] := by
    intro n
    induction n with
    | zero => intro ad x1 x2 x3 x4 x5 χ hf; exact hf.elim
    | succ n hK69 =>
      intro ad x1 x2 x3 x4 x5 χ hf
      unfold w_M_parts_69 at hf
      refine g_iload hX 5 dX4_parts_69 rfl ?_
      refine g_if_eq hX 207 dX4_parts_71 (by decide) (fun z => ?_) (fun z => ?_)
      · replace hf := hf.1 z
        refine g_iload hX 4 dX4_parts_207 rfl ?_
        exact g_iret hX ⟨_, rfl, hf⟩ dX4_parts_209
      · replace hf := hf.2 z
        refine g_iload hX 4 dX4_parts_74 rfl ?_
        refine g_iload_n hX 3 dX4_parts_76 rfl rfl ?_
        refine g_icmp_ge hX 207 dX4_parts_77 (by decide) (fun z => ?_) (fun z => ?_)
        · replace hf := hf.1 z
          refine g_iload hX 4 dX4_parts_207 rfl ?_
          exact g_iret hX ⟨_, rfl, hf⟩ dX4_parts_209
        · replace hf := hf.2 z
          refine g_iload_n hX 2 dX4_parts_80 rfl rfl ?_
          refine g_aload_n hX 0 dX4_parts_81 rfl rfl ?_
          refine g_getK hX (k := 41) (d := 65) (fc40 _) ff40 rfl (by decide) rfl rfl in_X4 (by decide) q1546 dX4_parts_82 ?_
          refine g_iload_n hX 1 dX4_parts_85 rfl rfl ?_
          refine g_iald hX (fc65 _) ff65 rfl hf.1 dX4_parts_86 ?_
          replace hf := hf.2
          refine g_iconst hX (v := (2 : Int32)) dX4_parts_87 rfl ?_
          refine g_isub hX dX4_parts_88 ?_
          refine g_iconst hX (v := (2 : Int32)) dX4_parts_89 rfl ?_
          refine g_iload hX 4 dX4_parts_90 rfl ?_
          refine g_imul hX dX4_parts_92 ?_
          refine g_isub hX dX4_parts_93 ?_
          refine g_icmp_gt hX 110 dX4_parts_94 (by decide) (fun z => ?_) (fun z => ?_)
          · replace hf := hf.1 z
            refine g_sub [0, 1, 2, 3, 4] rfl ?_
            exact B110 (w_M_parts_69 Q n) hK69 _ _ _ _ _ _ hf
          · replace hf := hf.2 z
            refine g_aload_n hX 0 dX4_parts_97 rfl rfl ?_
            refine g_getI hX (k := 6) (fc40 _) ff40 rfl rfl in_X4 (by decide) q1511 dX4_parts_98 ?_
            refine g_bipush hX (v := (8 : Int32)) dX4_parts_101 rfl ?_
            refine g_icmp_ge hX 110 dX4_parts_103 (by decide) (fun z => ?_) (fun z => ?_)
            · replace hf := hf.1 z
              refine g_sub [0, 1, 2, 3, 4] rfl ?_
              exact B110 (w_M_parts_69 Q n) hK69 _ _ _ _ _ _ hf
            · replace hf := hf.2 z
              refine g_iconst hX (v := (1 : Int32)) dX4_parts_106 rfl ?_
              refine g_goto hX 111 dX4_parts_107 (by decide) ?_
              refine g_sub [0, 1, 2, 3, 4] rfl ?_
              exact B111 (w_M_parts_69 Q n) hK69 _ _ _ _ _ _ _ hf
  have B67 : ∀ (ad : Nat → Nat → Nat) (x1 : Int32) (x2 : Int32) (x3 : Int32) (x4 : Int32) (z0 : Int32) (χ : St), w_M_parts_67 Q x1 x2 x3 x4 z0 χ → G X ad χ 67 [(0, .ref (ad 40 0)), (1, .int x1), (2, .int x2), (3, .int x3), (4, .int x4)] [.int z0] := by
    intro ad x1 x2 x3 x4 z0 χ hf
    unfold w_M_parts_67 at hf
    refine g_istore hX dX4_parts_67 (by decide) rfl ?_
    obtain ⟨n0, hf⟩ := hf
    refine g_sub [1, 2, 3, 4, 5, 0] rfl ?_
    exact B69 n0 _ _ _ _ _ _ _ hf
  have B66 : ∀ (ad : Nat → Nat → Nat) (x1 : Int32) (x2 : Int32) (x3 : Int32) (x4 : Int32) (χ : St), w_M_parts_66 Q x1 x2 x3 x4 χ → G X ad χ 66 [(0, .ref (ad 40 0)), (1, .int x1), (2, .int x2), (3, .int x3), (4, .int x4)] [] := by
    intro ad x1 x2 x3 x4 χ hf
    unfold w_M_parts_66 at hf
    refine g_iconst hX (v := (0 : Int32)) dX4_parts_66 rfl ?_
    exact B67 _ _ _ _ _ _ _ hf
  have B44 : ∀ (ad : Nat → Nat → Nat) (x1 : Int32) (x2 : Int32) (x3 : Int32) (χ : St), w_M_parts_44 Q x1 x2 x3 χ → G X ad χ 44 [(0, .ref (ad 40 0)), (1, .int x1), (2, .int x2), (3, .int x3)] [] := by
    intro ad x1 x2 x3 χ hf
    unfold w_M_parts_44 at hf
    refine g_iconst hX (v := (0 : Int32)) dX4_parts_44 rfl ?_
    refine g_istore hX dX4_parts_45 (by decide) rfl ?_
    refine g_aload_n hX 1 dX4_parts_47 rfl rfl ?_
    refine g_getK hX (k := 40) (d := 64) (fc40 _) ff40 rfl (by decide) rfl rfl in_X4 (by decide) q1545 dX4_parts_48 ?_
    refine g_iload_n hX 2 dX4_parts_51 rfl rfl ?_
    refine g_iald hX (fc64 _) ff64 rfl hf.1 dX4_parts_52 ?_
    replace hf := hf.2
    refine g_bipush hX (v := (50 : Int32)) dX4_parts_53 rfl ?_
    refine g_icmp_ne hX 66 dX4_parts_55 (by decide) (fun z => ?_) (fun z => ?_)
    · replace hf := hf.1 z
      refine g_sub [1, 2, 3, 4, 0] rfl ?_
      exact B66 _ _ _ _ _ _ hf
    · replace hf := hf.2 z
      refine g_iload_n hX 3 dX4_parts_58 rfl rfl ?_
      refine g_if_lt hX 66 dX4_parts_59 (by decide) (fun z => ?_) (fun z => ?_)
      · replace hf := hf.1 z
        refine g_sub [1, 2, 3, 4, 0] rfl ?_
        exact B66 _ _ _ _ _ _ hf
      · replace hf := hf.2 z
        refine g_iconst hX (v := (1 : Int32)) dX4_parts_62 rfl ?_
        refine g_goto hX 67 dX4_parts_63 (by decide) ?_
        refine g_sub [1, 2, 3, 4, 0] rfl ?_
        exact B67 _ _ _ _ _ _ _ hf
  unfold w_M_parts at hf
  refine g_iload_n hX 1 dX4_parts_0 rfl rfl ?_
  refine g_callSi hX (n := 1) (mt_M_isShelf X.l X.Γ _ _ _ _) hf q1662 q1663 q89 q1664 hy_M_isShelf (by decide) rfl rfl (Nat.le_of_ble_eq_true rfl) dX4_parts_1 (fun r1 χ2 hf hc2 => ?_)
  refine g_if_eq hX 19 dX4_parts_4 (by decide) (fun z => ?_) (fun z => ?_)
  · replace hf := hf.1 z
    refine g_iconst hX (v := (-1 : Int32)) dX4_parts_19 rfl ?_
    exact g_iret hX ⟨_, rfl, hf⟩ dX4_parts_20
  · replace hf := hf.2 z
    refine g_iload_n hX 3 dX4_parts_7 rfl rfl ?_
    refine g_i2l hX dX4_parts_8 ?_
    refine g_lconst hX (v := (1 : Int64)) dX4_parts_9 rfl ?_
    refine g_ldc2 hX q1666 dX4_parts_10 ?_
    refine g_callSi hX (n := 3) (mt_M_within X.l X.Γ _ _ _ _ _ _) hf q1651 q1652 q89 q1653 hy_M_within (by decide) rfl rfl (Nat.le_of_ble_eq_true rfl) dX4_parts_13 (fun r3 χ4 hf hc4 => ?_)
    refine g_if_ne hX 21 dX4_parts_16 (by decide) (fun z => ?_) (fun z => ?_)
    · replace hf := hf.1 z
      refine g_aload_n hX 0 dX4_parts_21 rfl rfl ?_
      refine g_getK hX (k := 40) (d := 64) (fc40 _) ff40 rfl (by decide) rfl rfl in_X4 (by decide) q1545 dX4_parts_22 ?_
      refine g_iload_n hX 1 dX4_parts_25 rfl rfl ?_
      refine g_iald hX (fc64 _) ff64 rfl hf.1 dX4_parts_26 ?_
      replace hf := hf.2
      refine g_if_lt hX 44 dX4_parts_27 (by decide) (fun z => ?_) (fun z => ?_)
      · replace hf := hf.1 z
        exact B44 _ _ _ _ _ hf
      · replace hf := hf.2 z
        refine g_aload_n hX 0 dX4_parts_30 rfl rfl ?_
        refine g_getK hX (k := 40) (d := 64) (fc40 _) ff40 rfl (by decide) rfl rfl in_X4 (by decide) q1545 dX4_parts_31 ?_
        refine g_iload_n hX 1 dX4_parts_34 rfl rfl ?_
        refine g_iald hX (fc64 _) ff64 rfl hf.1 dX4_parts_35 ?_
        replace hf := hf.2
        refine g_bipush hX (v := (50 : Int32)) dX4_parts_36 rfl ?_
        refine g_icmp_eq hX 44 dX4_parts_38 (by decide) (fun z => ?_) (fun z => ?_)
        · replace hf := hf.1 z
          exact B44 _ _ _ _ _ hf
        · replace hf := hf.2 z
          refine g_bipush hX (v := (-12 : Int32)) dX4_parts_41 rfl ?_
          exact g_iret hX ⟨_, rfl, hf⟩ dX4_parts_43
    · replace hf := hf.2 z
      refine g_iconst hX (v := (-1 : Int32)) dX4_parts_19 rfl ?_
      exact g_iret hX ⟨_, rfl, hf⟩ dX4_parts_20

def w_M_isKind (x0 : Int32) (χ : St) (Q : Int32 → St → Prop) : Prop := (w_M_within x0.toInt64 (0 : Int64) (5 : Int64) χ (fun r1 χ2 => (narrow .boolean (.int r1) = .int r1) ∧ ((Q r1 χ2))))
set_option maxHeartbeats 4000000 in
theorem mt_M_isKind (l : Launch) (Γ : Gh) (ad : Nat → Nat → Nat) (x0 : Int32) (χ : St) (Q : Int32 → St → Prop) : Mt l yX4_isKind (ws_ yX4_isKind cX4_isKind 1 (some .boolean)) (rmO (1) (25) χ) (Pm Γ ad χ [.int x0] (w_M_isKind x0 χ Q)) (Qm Γ true ad χ (pI Q)) (frB Γ) := by
  refine Mt.start (by decide) RX4 rfl (Nat.le_of_ble_eq_true rfl) ?_
  intro X hX hG _ _ hna _ hf
  unfold w_M_isKind at hf
  refine g_iload_n hX 0 dX4_isKind_0 rfl rfl ?_
  refine g_i2l hX dX4_isKind_1 ?_
  refine g_lconst hX (v := (0 : Int64)) dX4_isKind_2 rfl ?_
  refine g_ldc2 hX q1665 dX4_isKind_3 ?_
  refine g_callSi hX (n := 3) (mt_M_within X.l X.Γ _ _ _ _ _ _) hf q1651 q1652 q89 q1653 hy_M_within (by decide) rfl rfl (Nat.le_of_ble_eq_true rfl) dX4_isKind_6 (fun r1 χ2 hf hc2 => ?_)
  exact g_zret hX hf.1 ⟨_, rfl, hf.2⟩ dX4_isKind_9

def w_M_becomes_97 (Q : Int32 → St → Prop) (x1 : Int32) (x2 : Int32) (x3 : Int32) (χ : St) : Prop := (vp_in (gI χ 4105 0 0) 40) ∧ ((∀ χ2 : St, χ2 = (sI χ 42 0 (gI χ 4105 0 0).toNatClampNeg x1) → (vp_in (gI χ2 4105 0 0) 40) ∧ ((∀ χ3 : St, χ3 = (sI χ2 43 0 (gI χ2 4105 0 0).toNatClampNeg x3) → (vp_in (gI χ3 4105 0 0) 40) ∧ ((∀ χ4 : St, χ4 = (sI χ3 44 0 (gI χ3 4105 0 0).toNatClampNeg x2) → (∀ χ5 : St, χ5 = (sI χ4 4105 0 0 ((gI χ4 4105 0 0) + (1 : Int32))) → (∀ χ6 : St, χ6 = (sI χ5 4104 0 0 (gI χ5 4105 0 0)) → (vp_in x1 24) ∧ ((∀ χ7 : St, χ7 = (sI χ6 41 0 x1.toNatClampNeg x2) → (Q x3 χ7)))))))))))
def w_M_becomes_26 (Q : Int32 → St → Prop) : Nat → Int32 → Int32 → Int32 → Int32 → St → Prop
  | 0 => fun _ _ _ _ _ => False
  | n + 1 => fun x1 x2 x3 x4 χ => (((40 : Int32) ≤ x4 → (∀ χ8 : St, χ8 = (sI χ 4105 0 0 ((gI χ 4105 0 0) - (1 : Int32))) → (w_M_becomes_97 Q x1 x2 x3 χ8))) ∧ (¬ (40 : Int32) ≤ x4 → (vp_in x4 40) ∧ ((vp_in (x4 - (1 : Int32)) 40) ∧ ((∀ χ9 : St, χ9 = (sI χ 42 0 (x4 - (1 : Int32)).toNatClampNeg (gI χ 42 0 x4.toNatClampNeg)) → (vp_in x4 40) ∧ ((vp_in (x4 - (1 : Int32)) 40) ∧ ((∀ χ10 : St, χ10 = (sI χ9 43 0 (x4 - (1 : Int32)).toNatClampNeg (gI χ9 43 0 x4.toNatClampNeg)) → (vp_in x4 40) ∧ ((vp_in (x4 - (1 : Int32)) 40) ∧ ((∀ χ11 : St, χ11 = (sI χ10 44 0 (x4 - (1 : Int32)).toNatClampNeg (gI χ10 44 0 x4.toNatClampNeg)) → (w_M_becomes_26 Q n x1 x2 x3 (x4 + (1 : Int32)) χ11))))))))))))
def w_M_becomes (x1 : Int32) (x2 : Int32) (χ : St) (Q : Int32 → St → Prop) : Prop := (vp_in x1 24) ∧ ((∀ v1 : Int32, v1 = (gI χ 41 0 x1.toNatClampNeg) → ((¬ v1 = x2 → ((¬ (gI χ 4105 0 0) = (40 : Int32) → (w_M_becomes_97 Q x1 x2 v1 χ)) ∧ ((gI χ 4105 0 0) = (40 : Int32) → (∃ k26, w_M_becomes_26 Q k26 x1 x2 v1 (1 : Int32) χ)))) ∧ (v1 = x2 → (Q v1 χ)))))
set_option maxHeartbeats 4000000 in
theorem mt_M_becomes (l : Launch) (Γ : Gh) (ad : Nat → Nat → Nat) (x1 : Int32) (x2 : Int32) (χ : St) (Q : Int32 → St → Prop) : Mt l yX4_becomes (ws_ yX4_becomes cX4_becomes 5 (some .int)) (rmO (0) (0) χ) (Pm Γ ad χ [.ref (ad 40 0), .int x1, .int x2] (w_M_becomes x1 x2 χ Q)) (Qm Γ true ad χ (pI Q)) (frB Γ) := by
  refine Mt.start (by decide) RX4 rfl (Nat.le_of_ble_eq_true rfl) ?_
  intro X hX hG _ _ hna _ hf
  have B97 : ∀ (ad : Nat → Nat → Nat) (x1 : Int32) (x2 : Int32) (x3 : Int32) (χ : St), w_M_becomes_97 Q x1 x2 x3 χ → G X ad χ 97 [(0, .ref (ad 40 0)), (1, .int x1), (2, .int x2), (3, .int x3)] [] := by
    intro ad x1 x2 x3 χ hf
    unfold w_M_becomes_97 at hf
    refine g_aload_n hX 0 dX4_becomes_97 rfl rfl ?_
    refine g_getK hX (k := 1) (d := 42) (fc40 _) ff40 rfl (by decide) rfl rfl in_X4 (by decide) q1506 dX4_becomes_98 ?_
    refine g_aload_n hX 0 dX4_becomes_101 rfl rfl ?_
    refine g_getI hX (k := 5) (fc40 _) ff40 rfl rfl in_X4 (by decide) q1510 dX4_becomes_102 ?_
    refine g_iload_n hX 1 dX4_becomes_105 rfl rfl ?_
    refine g_iast hX (fc42 _) ff42 rfl hf.1 dX4_becomes_106 ?_
    replace hf := hf.2
    replace hf := hf _ rfl
    refine g_aload_n hX 0 dX4_becomes_107 rfl rfl ?_
    refine g_getK hX (k := 2) (d := 43) (fc40 _) ff40 rfl (by decide) rfl rfl in_X4 (by decide) q1507 dX4_becomes_108 ?_
    refine g_aload_n hX 0 dX4_becomes_111 rfl rfl ?_
    refine g_getI hX (k := 5) (fc40 _) ff40 rfl rfl in_X4 (by decide) q1510 dX4_becomes_112 ?_
    refine g_iload_n hX 3 dX4_becomes_115 rfl rfl ?_
    refine g_iast hX (fc43 _) ff43 rfl hf.1 dX4_becomes_116 ?_
    replace hf := hf.2
    replace hf := hf _ rfl
    refine g_aload_n hX 0 dX4_becomes_117 rfl rfl ?_
    refine g_getK hX (k := 3) (d := 44) (fc40 _) ff40 rfl (by decide) rfl rfl in_X4 (by decide) q1508 dX4_becomes_118 ?_
    refine g_aload_n hX 0 dX4_becomes_121 rfl rfl ?_
    refine g_getI hX (k := 5) (fc40 _) ff40 rfl rfl in_X4 (by decide) q1510 dX4_becomes_122 ?_
    refine g_iload_n hX 2 dX4_becomes_125 rfl rfl ?_
    refine g_iast hX (fc44 _) ff44 rfl hf.1 dX4_becomes_126 ?_
    replace hf := hf.2
    replace hf := hf _ rfl
    refine g_aload_n hX 0 dX4_becomes_127 rfl rfl ?_
    refine g_dup hX dX4_becomes_128 rfl ?_
    refine g_getI hX (k := 5) (fc40 _) ff40 rfl rfl in_X4 (by decide) q1510 dX4_becomes_129 ?_
    refine g_iconst hX (v := (1 : Int32)) dX4_becomes_132 rfl ?_
    refine g_iadd hX dX4_becomes_133 ?_
    refine g_putI hX (k := 5) (fc40 _) ff40 rfl rfl in_X4 tyX4_ok nmX4 (by decide) q1510 rfl rfl rfl rfl dX4_becomes_134 ?_
    replace hf := hf _ rfl
    refine g_aload_n hX 0 dX4_becomes_137 rfl rfl ?_
    refine g_aload_n hX 0 dX4_becomes_138 rfl rfl ?_
    refine g_getI hX (k := 5) (fc40 _) ff40 rfl rfl in_X4 (by decide) q1510 dX4_becomes_139 ?_
    refine g_putI hX (k := 4) (fc40 _) ff40 rfl rfl in_X4 tyX4_ok nmX4 (by decide) q1509 rfl rfl rfl rfl dX4_becomes_142 ?_
    replace hf := hf _ rfl
    refine g_aload_n hX 0 dX4_becomes_145 rfl rfl ?_
    refine g_getK hX (k := 0) (d := 41) (fc40 _) ff40 rfl (by decide) rfl rfl in_X4 (by decide) q1505 dX4_becomes_146 ?_
    refine g_iload_n hX 1 dX4_becomes_149 rfl rfl ?_
    refine g_iload_n hX 2 dX4_becomes_150 rfl rfl ?_
    refine g_iast hX (fc41 _) ff41 rfl hf.1 dX4_becomes_151 ?_
    replace hf := hf.2
    replace hf := hf _ rfl
    refine g_iload_n hX 3 dX4_becomes_152 rfl rfl ?_
    exact g_iret hX ⟨_, rfl, hf⟩ dX4_becomes_153
  have B26 : ∀ (n : Nat) (ad : Nat → Nat → Nat) (x1 : Int32) (x2 : Int32) (x3 : Int32) (x4 : Int32) (χ : St), w_M_becomes_26 Q n x1 x2 x3 x4 χ → G X ad χ 26 [(0, .ref (ad 40 0)), (1, .int x1), (2, .int x2), (3, .int x3), (4, .int x4)] [] := by
    intro n
    induction n with
    | zero => intro ad x1 x2 x3 x4 χ hf; exact hf.elim
    | succ n hK26 =>
      intro ad x1 x2 x3 x4 χ hf
      unfold w_M_becomes_26 at hf
      refine g_iload hX 4 dX4_becomes_26 rfl ?_
      refine g_bipush hX (v := (40 : Int32)) dX4_becomes_28 rfl ?_
      refine g_icmp_ge hX 87 dX4_becomes_30 (by decide) (fun z => ?_) (fun z => ?_)
      · replace hf := hf.1 z
        refine g_aload_n hX 0 dX4_becomes_87 rfl rfl ?_
        refine g_dup hX dX4_becomes_88 rfl ?_
        refine g_getI hX (k := 5) (fc40 _) ff40 rfl rfl in_X4 (by decide) q1510 dX4_becomes_89 ?_
        refine g_iconst hX (v := (1 : Int32)) dX4_becomes_92 rfl ?_
        refine g_isub hX dX4_becomes_93 ?_
        refine g_putI hX (k := 5) (fc40 _) ff40 rfl rfl in_X4 tyX4_ok nmX4 (by decide) q1510 rfl rfl rfl rfl dX4_becomes_94 ?_
        replace hf := hf _ rfl
        refine g_sub [0, 1, 2, 3] rfl ?_
        exact B97 _ _ _ _ _ hf
      · replace hf := hf.2 z
        refine g_aload_n hX 0 dX4_becomes_33 rfl rfl ?_
        refine g_getK hX (k := 1) (d := 42) (fc40 _) ff40 rfl (by decide) rfl rfl in_X4 (by decide) q1506 dX4_becomes_34 ?_
        refine g_iload hX 4 dX4_becomes_37 rfl ?_
        refine g_iconst hX (v := (1 : Int32)) dX4_becomes_39 rfl ?_
        refine g_isub hX dX4_becomes_40 ?_
        refine g_aload_n hX 0 dX4_becomes_41 rfl rfl ?_
        refine g_getK hX (k := 1) (d := 42) (fc40 _) ff40 rfl (by decide) rfl rfl in_X4 (by decide) q1506 dX4_becomes_42 ?_
        refine g_iload hX 4 dX4_becomes_45 rfl ?_
        refine g_iald hX (fc42 _) ff42 rfl hf.1 dX4_becomes_47 ?_
        replace hf := hf.2
        refine g_iast hX (fc42 _) ff42 rfl hf.1 dX4_becomes_48 ?_
        replace hf := hf.2
        replace hf := hf _ rfl
        refine g_aload_n hX 0 dX4_becomes_49 rfl rfl ?_
        refine g_getK hX (k := 2) (d := 43) (fc40 _) ff40 rfl (by decide) rfl rfl in_X4 (by decide) q1507 dX4_becomes_50 ?_
        refine g_iload hX 4 dX4_becomes_53 rfl ?_
        refine g_iconst hX (v := (1 : Int32)) dX4_becomes_55 rfl ?_
        refine g_isub hX dX4_becomes_56 ?_
        refine g_aload_n hX 0 dX4_becomes_57 rfl rfl ?_
        refine g_getK hX (k := 2) (d := 43) (fc40 _) ff40 rfl (by decide) rfl rfl in_X4 (by decide) q1507 dX4_becomes_58 ?_
        refine g_iload hX 4 dX4_becomes_61 rfl ?_
        refine g_iald hX (fc43 _) ff43 rfl hf.1 dX4_becomes_63 ?_
        replace hf := hf.2
        refine g_iast hX (fc43 _) ff43 rfl hf.1 dX4_becomes_64 ?_
        replace hf := hf.2
        replace hf := hf _ rfl
        refine g_aload_n hX 0 dX4_becomes_65 rfl rfl ?_
        refine g_getK hX (k := 3) (d := 44) (fc40 _) ff40 rfl (by decide) rfl rfl in_X4 (by decide) q1508 dX4_becomes_66 ?_
        refine g_iload hX 4 dX4_becomes_69 rfl ?_
        refine g_iconst hX (v := (1 : Int32)) dX4_becomes_71 rfl ?_
        refine g_isub hX dX4_becomes_72 ?_
        refine g_aload_n hX 0 dX4_becomes_73 rfl rfl ?_
        refine g_getK hX (k := 3) (d := 44) (fc40 _) ff40 rfl (by decide) rfl rfl in_X4 (by decide) q1508 dX4_becomes_74 ?_
        refine g_iload hX 4 dX4_becomes_77 rfl ?_
        refine g_iald hX (fc44 _) ff44 rfl hf.1 dX4_becomes_79 ?_
        replace hf := hf.2
        refine g_iast hX (fc44 _) ff44 rfl hf.1 dX4_becomes_80 ?_
        replace hf := hf.2
        replace hf := hf _ rfl
        refine g_iinc hX (v := _) 4 dX4_becomes_81 rfl rfl (by decide) rfl ?_
        refine g_goto hX 26 dX4_becomes_84 (by decide) ?_
        refine g_sub [1, 2, 3, 4, 0] rfl ?_
        exact hK26 _ _ _ _ _ _ hf
  unfold w_M_becomes at hf
  refine g_aload_n hX 0 dX4_becomes_0 rfl rfl ?_
  refine g_getK hX (k := 0) (d := 41) (fc40 _) ff40 rfl (by decide) rfl rfl in_X4 (by decide) q1505 dX4_becomes_1 ?_
  refine g_iload_n hX 1 dX4_becomes_4 rfl rfl ?_
  refine g_iald hX (fc41 _) ff41 rfl hf.1 dX4_becomes_5 ?_
  replace hf := hf.2
  replace hf := hf _ rfl
  refine g_istore_n hX dX4_becomes_6 rfl (by decide) rfl ?_
  refine g_iload_n hX 0 dX4_becomes_7 rfl rfl ?_
  refine g_iload_n hX 3 dX4_becomes_8 rfl rfl ?_
  refine g_icmp_ne hX 14 dX4_becomes_9 (by decide) (fun z => ?_) (fun z => ?_)
  · replace hf := hf.1 z
    refine g_aload_n hX 1 dX4_becomes_14 rfl rfl ?_
    refine g_getI hX (k := 5) (fc40 _) ff40 rfl rfl in_X4 (by decide) q1510 dX4_becomes_15 ?_
    refine g_bipush hX (v := (40 : Int32)) dX4_becomes_18 rfl ?_
    refine g_icmp_ne hX 97 dX4_becomes_20 (by decide) (fun z => ?_) (fun z => ?_)
    · replace hf := hf.1 z
      refine g_sub [1, 2, 3, 0] rfl ?_
      exact B97 _ _ _ _ _ hf
    · replace hf := hf.2 z
      refine g_iconst hX (v := (1 : Int32)) dX4_becomes_23 rfl ?_
      refine g_istore hX dX4_becomes_24 (by decide) rfl ?_
      obtain ⟨n0, hf⟩ := hf
      refine g_sub [2, 3, 4, 1, 0] rfl ?_
      exact B26 n0 _ _ _ _ _ _ hf
  · replace hf := hf.2 z
    refine g_iload_n hX 0 dX4_becomes_12 rfl rfl ?_
    exact g_iret hX ⟨_, rfl, hf⟩ dX4_becomes_13

def w_M_isMark (x0 : Int32) (χ : St) (Q : Int32 → St → Prop) : Prop := (w_M_within x0.toInt64 (0 : Int64) (5 : Int64) χ (fun r1 χ2 => (narrow .boolean (.int r1) = .int r1) ∧ ((Q r1 χ2))))
set_option maxHeartbeats 4000000 in
theorem mt_M_isMark (l : Launch) (Γ : Gh) (ad : Nat → Nat → Nat) (x0 : Int32) (χ : St) (Q : Int32 → St → Prop) : Mt l yX4_isMark (ws_ yX4_isMark cX4_isMark 1 (some .boolean)) (rmO (1) (25) χ) (Pm Γ ad χ [.int x0] (w_M_isMark x0 χ Q)) (Qm Γ true ad χ (pI Q)) (frB Γ) := by
  refine Mt.start (by decide) RX4 rfl (Nat.le_of_ble_eq_true rfl) ?_
  intro X hX hG _ _ hna _ hf
  unfold w_M_isMark at hf
  refine g_iload_n hX 0 dX4_isMark_0 rfl rfl ?_
  refine g_i2l hX dX4_isMark_1 ?_
  refine g_lconst hX (v := (0 : Int64)) dX4_isMark_2 rfl ?_
  refine g_ldc2 hX q1665 dX4_isMark_3 ?_
  refine g_callSi hX (n := 3) (mt_M_within X.l X.Γ _ _ _ _ _ _) hf q1651 q1652 q89 q1653 hy_M_within (by decide) rfl rfl (Nat.le_of_ble_eq_true rfl) dX4_isMark_6 (fun r1 χ2 hf hc2 => ?_)
  exact g_zret hX hf.1 ⟨_, rfl, hf.2⟩ dX4_isMark_9

def w_M_mend (x1 : Int32) (x2 : Int32) (x3 : Int32) (χ : St) (Q : Int32 → St → Prop) : Prop := (∀ v1 : Int32, v1 = x2 → ((v1 = (0 : Int32) → (w_M_isKind x1 χ (fun r2 χ3 => ((r2 = 0 → (Q (-1 : Int32) χ3)) ∧ (¬ r2 = 0 → (w_M_within x3.toInt64 (0 : Int64) (9 : Int64) χ3 (fun r4 χ5 => ((r4 = 0 → (Q (-1 : Int32) χ5)) ∧ (¬ r4 = 0 → (w_M_becomes x1 x3 χ5 (fun r6 χ7 => (Q r6 χ7)))))))))))) ∧ (v1 = (1 : Int32) → (w_M_isKind x1 χ (fun r8 χ9 => ((r8 = 0 → (Q (-1 : Int32) χ9)) ∧ (¬ r8 = 0 → (w_M_within x3.toInt64 (0 : Int64) (99 : Int64) χ9 (fun r10 χ11 => ((r10 = 0 → (Q (-1 : Int32) χ11)) ∧ (¬ r10 = 0 → (w_M_becomes ((6 : Int32) + x1) x3 χ11 (fun r12 χ13 => (Q r12 χ13)))))))))))) ∧ (v1 = (2 : Int32) → (w_M_isMark x1 χ (fun r14 χ15 => ((r14 = 0 → (Q (-1 : Int32) χ15)) ∧ (¬ r14 = 0 → (w_M_within x3.toInt64 (1 : Int64) (9 : Int64) χ15 (fun r16 χ17 => ((r16 = 0 → (Q (-1 : Int32) χ17)) ∧ (¬ r16 = 0 → (w_M_becomes ((12 : Int32) + x1) x3 χ17 (fun r18 χ19 => (Q r18 χ19)))))))))))) ∧ (v1 = (3 : Int32) → (w_M_isMark x1 χ (fun r20 χ21 => ((r20 = 0 → (Q (-1 : Int32) χ21)) ∧ (¬ r20 = 0 → (w_M_within x3.toInt64 (0 : Int64) (99 : Int64) χ21 (fun r22 χ23 => ((r22 = 0 → (Q (-1 : Int32) χ23)) ∧ (¬ r22 = 0 → (w_M_becomes ((18 : Int32) + x1) x3 χ23 (fun r24 χ25 => (Q r24 χ25)))))))))))) ∧ (¬ v1 = (0 : Int32) → ¬ v1 = (1 : Int32) → ¬ v1 = (2 : Int32) → ¬ v1 = (3 : Int32) → (Q (-1 : Int32) χ))))
set_option maxHeartbeats 4000000 in
theorem mt_M_mend (l : Launch) (Γ : Gh) (ad : Nat → Nat → Nat) (x1 : Int32) (x2 : Int32) (x3 : Int32) (χ : St) (Q : Int32 → St → Prop) : Mt l yX4_mend (ws_ yX4_mend cX4_mend 4 (some .int)) (rmO (2) (45) χ) (Pm Γ ad χ [.ref (ad 40 0), .int x1, .int x2, .int x3] (w_M_mend x1 x2 x3 χ Q)) (Qm Γ true ad χ (pI Q)) (frB Γ) := by
  refine Mt.start (by decide) RX4 rfl (Nat.le_of_ble_eq_true rfl) ?_
  intro X hX hG _ _ hna _ hf
  unfold w_M_mend at hf
  refine g_iload_n hX 2 dX4_mend_0 rfl rfl ?_
  replace hf := hf _ rfl
  by_cases z0 : x2 = (0 : Int32)
  · replace hf := hf.1 z0
    refine g_tableIn hX 32 dX4_mend_1 (by rw [z0]; decide) (by rw [z0]; decide) (by rw [z0] <;> rfl) (by decide) ?_
    refine g_iload_n hX 1 dX4_mend_32 rfl rfl ?_
    refine g_callSi hX (n := 1) (mt_M_isKind X.l X.Γ _ _ _ _) hf q1672 q1673 q89 q1674 hy_M_isKind (by decide) rfl rfl (Nat.le_of_ble_eq_true rfl) dX4_mend_33 (fun r2 χ3 hf hc3 => ?_)
    refine g_if_eq hX 60 dX4_mend_36 (by decide) (fun z => ?_) (fun z => ?_)
    · replace hf := hf.1 z
      refine g_iconst hX (v := (-1 : Int32)) dX4_mend_60 rfl ?_
      exact g_iret hX ⟨_, rfl, hf⟩ dX4_mend_61
    · replace hf := hf.2 z
      refine g_iload_n hX 3 dX4_mend_39 rfl rfl ?_
      refine g_i2l hX dX4_mend_40 ?_
      refine g_lconst hX (v := (0 : Int64)) dX4_mend_41 rfl ?_
      refine g_ldc2 hX q1667 dX4_mend_42 ?_
      refine g_callSi hX (n := 3) (mt_M_within X.l X.Γ _ _ _ _ _ _) hf q1651 q1652 q89 q1653 hy_M_within (by decide) rfl rfl (Nat.le_of_ble_eq_true rfl) dX4_mend_45 (fun r4 χ5 hf hc5 => ?_)
      refine g_if_eq hX 60 dX4_mend_48 (by decide) (fun z => ?_) (fun z => ?_)
      · replace hf := hf.1 z
        refine g_iconst hX (v := (-1 : Int32)) dX4_mend_60 rfl ?_
        exact g_iret hX ⟨_, rfl, hf⟩ dX4_mend_61
      · replace hf := hf.2 z
        refine g_aload_n hX 0 dX4_mend_51 rfl rfl ?_
        refine g_iload_n hX 1 dX4_mend_52 rfl rfl ?_
        refine g_iload_n hX 3 dX4_mend_53 rfl rfl ?_
        refine g_callVi hX (n := 2) (mt_M_becomes X.l X.Γ _ _ _ _ _) hf q1675 q1677 qs45 q89 q1678 ⟨rfl, hy_M_becomes⟩ (by decide) (fc40 _) ff40 rfl rfl rfl (Nat.le_of_ble_eq_true rfl) dX4_mend_54 (fun r6 χ7 hf hc7 => ?_)
        refine g_goto hX 61 dX4_mend_57 (by decide) ?_
        exact g_iret hX ⟨_, rfl, hf⟩ dX4_mend_61
  replace hf := hf.2
  by_cases z1 : x2 = (1 : Int32)
  · replace hf := hf.1 z1
    refine g_tableIn hX 62 dX4_mend_1 (by rw [z1]; decide) (by rw [z1]; decide) (by rw [z1] <;> rfl) (by decide) ?_
    refine g_iload_n hX 1 dX4_mend_62 rfl rfl ?_
    refine g_callSi hX (n := 1) (mt_M_isKind X.l X.Γ _ _ _ _) hf q1672 q1673 q89 q1674 hy_M_isKind (by decide) rfl rfl (Nat.le_of_ble_eq_true rfl) dX4_mend_63 (fun r8 χ9 hf hc9 => ?_)
    refine g_if_eq hX 93 dX4_mend_66 (by decide) (fun z => ?_) (fun z => ?_)
    · replace hf := hf.1 z
      refine g_iconst hX (v := (-1 : Int32)) dX4_mend_93 rfl ?_
      exact g_iret hX ⟨_, rfl, hf⟩ dX4_mend_94
    · replace hf := hf.2 z
      refine g_iload_n hX 3 dX4_mend_69 rfl rfl ?_
      refine g_i2l hX dX4_mend_70 ?_
      refine g_lconst hX (v := (0 : Int64)) dX4_mend_71 rfl ?_
      refine g_ldc2 hX q1650 dX4_mend_72 ?_
      refine g_callSi hX (n := 3) (mt_M_within X.l X.Γ _ _ _ _ _ _) hf q1651 q1652 q89 q1653 hy_M_within (by decide) rfl rfl (Nat.le_of_ble_eq_true rfl) dX4_mend_75 (fun r10 χ11 hf hc11 => ?_)
      refine g_if_eq hX 93 dX4_mend_78 (by decide) (fun z => ?_) (fun z => ?_)
      · replace hf := hf.1 z
        refine g_iconst hX (v := (-1 : Int32)) dX4_mend_93 rfl ?_
        exact g_iret hX ⟨_, rfl, hf⟩ dX4_mend_94
      · replace hf := hf.2 z
        refine g_aload_n hX 0 dX4_mend_81 rfl rfl ?_
        refine g_bipush hX (v := (6 : Int32)) dX4_mend_82 rfl ?_
        refine g_iload_n hX 1 dX4_mend_84 rfl rfl ?_
        refine g_iadd hX dX4_mend_85 ?_
        refine g_iload_n hX 3 dX4_mend_86 rfl rfl ?_
        refine g_callVi hX (n := 2) (mt_M_becomes X.l X.Γ _ _ _ _ _) hf q1675 q1677 qs45 q89 q1678 ⟨rfl, hy_M_becomes⟩ (by decide) (fc40 _) ff40 rfl rfl rfl (Nat.le_of_ble_eq_true rfl) dX4_mend_87 (fun r12 χ13 hf hc13 => ?_)
        refine g_goto hX 94 dX4_mend_90 (by decide) ?_
        exact g_iret hX ⟨_, rfl, hf⟩ dX4_mend_94
  replace hf := hf.2
  by_cases z2 : x2 = (2 : Int32)
  · replace hf := hf.1 z2
    refine g_tableIn hX 95 dX4_mend_1 (by rw [z2]; decide) (by rw [z2]; decide) (by rw [z2] <;> rfl) (by decide) ?_
    refine g_iload_n hX 1 dX4_mend_95 rfl rfl ?_
    refine g_callSi hX (n := 1) (mt_M_isMark X.l X.Γ _ _ _ _) hf q1679 q1680 q89 q1681 hy_M_isMark (by decide) rfl rfl (Nat.le_of_ble_eq_true rfl) dX4_mend_96 (fun r14 χ15 hf hc15 => ?_)
    refine g_if_eq hX 126 dX4_mend_99 (by decide) (fun z => ?_) (fun z => ?_)
    · replace hf := hf.1 z
      refine g_iconst hX (v := (-1 : Int32)) dX4_mend_126 rfl ?_
      exact g_iret hX ⟨_, rfl, hf⟩ dX4_mend_127
    · replace hf := hf.2 z
      refine g_iload_n hX 3 dX4_mend_102 rfl rfl ?_
      refine g_i2l hX dX4_mend_103 ?_
      refine g_lconst hX (v := (1 : Int64)) dX4_mend_104 rfl ?_
      refine g_ldc2 hX q1667 dX4_mend_105 ?_
      refine g_callSi hX (n := 3) (mt_M_within X.l X.Γ _ _ _ _ _ _) hf q1651 q1652 q89 q1653 hy_M_within (by decide) rfl rfl (Nat.le_of_ble_eq_true rfl) dX4_mend_108 (fun r16 χ17 hf hc17 => ?_)
      refine g_if_eq hX 126 dX4_mend_111 (by decide) (fun z => ?_) (fun z => ?_)
      · replace hf := hf.1 z
        refine g_iconst hX (v := (-1 : Int32)) dX4_mend_126 rfl ?_
        exact g_iret hX ⟨_, rfl, hf⟩ dX4_mend_127
      · replace hf := hf.2 z
        refine g_aload_n hX 0 dX4_mend_114 rfl rfl ?_
        refine g_bipush hX (v := (12 : Int32)) dX4_mend_115 rfl ?_
        refine g_iload_n hX 1 dX4_mend_117 rfl rfl ?_
        refine g_iadd hX dX4_mend_118 ?_
        refine g_iload_n hX 3 dX4_mend_119 rfl rfl ?_
        refine g_callVi hX (n := 2) (mt_M_becomes X.l X.Γ _ _ _ _ _) hf q1675 q1677 qs45 q89 q1678 ⟨rfl, hy_M_becomes⟩ (by decide) (fc40 _) ff40 rfl rfl rfl (Nat.le_of_ble_eq_true rfl) dX4_mend_120 (fun r18 χ19 hf hc19 => ?_)
        refine g_goto hX 127 dX4_mend_123 (by decide) ?_
        exact g_iret hX ⟨_, rfl, hf⟩ dX4_mend_127
  replace hf := hf.2
  by_cases z3 : x2 = (3 : Int32)
  · replace hf := hf.1 z3
    refine g_tableIn hX 128 dX4_mend_1 (by rw [z3]; decide) (by rw [z3]; decide) (by rw [z3] <;> rfl) (by decide) ?_
    refine g_iload_n hX 1 dX4_mend_128 rfl rfl ?_
    refine g_callSi hX (n := 1) (mt_M_isMark X.l X.Γ _ _ _ _) hf q1679 q1680 q89 q1681 hy_M_isMark (by decide) rfl rfl (Nat.le_of_ble_eq_true rfl) dX4_mend_129 (fun r20 χ21 hf hc21 => ?_)
    refine g_if_eq hX 159 dX4_mend_132 (by decide) (fun z => ?_) (fun z => ?_)
    · replace hf := hf.1 z
      refine g_iconst hX (v := (-1 : Int32)) dX4_mend_159 rfl ?_
      exact g_iret hX ⟨_, rfl, hf⟩ dX4_mend_160
    · replace hf := hf.2 z
      refine g_iload_n hX 3 dX4_mend_135 rfl rfl ?_
      refine g_i2l hX dX4_mend_136 ?_
      refine g_lconst hX (v := (0 : Int64)) dX4_mend_137 rfl ?_
      refine g_ldc2 hX q1650 dX4_mend_138 ?_
      refine g_callSi hX (n := 3) (mt_M_within X.l X.Γ _ _ _ _ _ _) hf q1651 q1652 q89 q1653 hy_M_within (by decide) rfl rfl (Nat.le_of_ble_eq_true rfl) dX4_mend_141 (fun r22 χ23 hf hc23 => ?_)
      refine g_if_eq hX 159 dX4_mend_144 (by decide) (fun z => ?_) (fun z => ?_)
      · replace hf := hf.1 z
        refine g_iconst hX (v := (-1 : Int32)) dX4_mend_159 rfl ?_
        exact g_iret hX ⟨_, rfl, hf⟩ dX4_mend_160
      · replace hf := hf.2 z
        refine g_aload_n hX 0 dX4_mend_147 rfl rfl ?_
        refine g_bipush hX (v := (18 : Int32)) dX4_mend_148 rfl ?_
        refine g_iload_n hX 1 dX4_mend_150 rfl rfl ?_
        refine g_iadd hX dX4_mend_151 ?_
        refine g_iload_n hX 3 dX4_mend_152 rfl rfl ?_
        refine g_callVi hX (n := 2) (mt_M_becomes X.l X.Γ _ _ _ _ _) hf q1675 q1677 qs45 q89 q1678 ⟨rfl, hy_M_becomes⟩ (by decide) (fc40 _) ff40 rfl rfl rfl (Nat.le_of_ble_eq_true rfl) dX4_mend_153 (fun r24 χ25 hf hc25 => ?_)
        refine g_goto hX 160 dX4_mend_156 (by decide) ?_
        exact g_iret hX ⟨_, rfl, hf⟩ dX4_mend_160
  replace hf := hf.2
  replace hf := hf z0 z1 z2 z3
  refine g_tableOut hX 161 dX4_mend_1 (tb_out (fun v h1 h2 => ?_)) (by decide) ?_
  · have h3 : v = 0 ∨ v = 1 ∨ v = 2 ∨ v = 3 := by omega
    rcases h3 with rfl | rfl | rfl | rfl
    · exact z0
    · exact z1
    · exact z2
    · exact z3
  refine g_iconst hX (v := (-1 : Int32)) dX4_mend_161 rfl ?_
  exact g_iret hX ⟨_, rfl, hf⟩ dX4_mend_162

def w_M_isPart (x1 : Int32) (χ : St) (Q : Int32 → St → Prop) : Prop := (w_M_within x1.toInt64 (0 : Int64) ((gI χ 4106 0 0) - (1 : Int32)).toInt64 χ (fun r1 χ2 => (narrow .boolean (.int r1) = .int r1) ∧ ((Q r1 χ2))))
set_option maxHeartbeats 4000000 in
theorem mt_M_isPart (l : Launch) (Γ : Gh) (ad : Nat → Nat → Nat) (x1 : Int32) (χ : St) (Q : Int32 → St → Prop) : Mt l yX4_isPart (ws_ yX4_isPart cX4_isPart 2 (some .boolean)) (rmO (1) (25) χ) (Pm Γ ad χ [.ref (ad 40 0), .int x1] (w_M_isPart x1 χ Q)) (Qm Γ true ad χ (pI Q)) (frB Γ) := by
  refine Mt.start (by decide) RX4 rfl (Nat.le_of_ble_eq_true rfl) ?_
  intro X hX hG _ _ hna _ hf
  unfold w_M_isPart at hf
  refine g_iload_n hX 1 dX4_isPart_0 rfl rfl ?_
  refine g_i2l hX dX4_isPart_1 ?_
  refine g_lconst hX (v := (0 : Int64)) dX4_isPart_2 rfl ?_
  refine g_aload_n hX 0 dX4_isPart_3 rfl rfl ?_
  refine g_getI hX (k := 6) (fc40 _) ff40 rfl rfl in_X4 (by decide) q1511 dX4_isPart_4 ?_
  refine g_iconst hX (v := (1 : Int32)) dX4_isPart_7 rfl ?_
  refine g_isub hX dX4_isPart_8 ?_
  refine g_i2l hX dX4_isPart_9 ?_
  refine g_callSi hX (n := 3) (mt_M_within X.l X.Γ _ _ _ _ _ _) hf q1651 q1652 q89 q1653 hy_M_within (by decide) rfl rfl (Nat.le_of_ble_eq_true rfl) dX4_isPart_10 (fun r1 χ2 hf hc2 => ?_)
  exact g_zret hX hf.1 ⟨_, rfl, hf.2⟩ dX4_isPart_13

def w_M_isPm (x1 : Int32) (χ : St) (Q : Int32 → St → Prop) : Prop := ((x1 < 0 → (Q (0 : Int32) χ)) ∧ (¬ x1 < 0 → (w_M_isPart (x1 / (10 : Int32)) χ (fun r1 χ2 => ((r1 = 0 → (Q (0 : Int32) χ2)) ∧ (¬ r1 = 0 → (w_M_isMark (x1 - x1 / (10 : Int32) * (10 : Int32)) χ2 (fun r3 χ4 => ((r3 = 0 → (Q (0 : Int32) χ4)) ∧ (¬ r3 = 0 → (Q (1 : Int32) χ4)))))))))))
set_option maxHeartbeats 4000000 in
theorem mt_M_isPm (l : Launch) (Γ : Gh) (ad : Nat → Nat → Nat) (x1 : Int32) (χ : St) (Q : Int32 → St → Prop) : Mt l yX4_isPm (ws_ yX4_isPm cX4_isPm 2 (some .boolean)) (rmO (2) (46) χ) (Pm Γ ad χ [.ref (ad 40 0), .int x1] (w_M_isPm x1 χ Q)) (Qm Γ true ad χ (pI Q)) (frB Γ) := by
  refine Mt.start (by decide) RX4 rfl (Nat.le_of_ble_eq_true rfl) ?_
  intro X hX hG _ _ hna _ hf
  unfold w_M_isPm at hf
  refine g_iload_n hX 1 dX4_isPm_0 rfl rfl ?_
  refine g_if_lt hX 29 dX4_isPm_1 (by decide) (fun z => ?_) (fun z => ?_)
  · replace hf := hf.1 z
    refine g_iconst hX (v := (0 : Int32)) dX4_isPm_29 rfl ?_
    exact g_zret hX rfl ⟨_, rfl, hf⟩ dX4_isPm_30
  · replace hf := hf.2 z
    refine g_aload_n hX 0 dX4_isPm_4 rfl rfl ?_
    refine g_iload_n hX 1 dX4_isPm_5 rfl rfl ?_
    refine g_bipush hX (v := (10 : Int32)) dX4_isPm_6 rfl ?_
    refine g_idiv hX dX4_isPm_8 (by decide) ?_
    refine g_callVi hX (n := 1) (mt_M_isPart X.l X.Γ _ _ _ _) hf q1690 q1692 qs47 q89 q1693 ⟨rfl, hy_M_isPart⟩ (by decide) (fc40 _) ff40 rfl rfl rfl (Nat.le_of_ble_eq_true rfl) dX4_isPm_9 (fun r1 χ2 hf hc2 => ?_)
    refine g_if_eq hX 29 dX4_isPm_12 (by decide) (fun z => ?_) (fun z => ?_)
    · replace hf := hf.1 z
      refine g_iconst hX (v := (0 : Int32)) dX4_isPm_29 rfl ?_
      exact g_zret hX rfl ⟨_, rfl, hf⟩ dX4_isPm_30
    · replace hf := hf.2 z
      refine g_iload_n hX 1 dX4_isPm_15 rfl rfl ?_
      refine g_bipush hX (v := (10 : Int32)) dX4_isPm_16 rfl ?_
      refine g_irem hX dX4_isPm_18 (by decide) ?_
      refine g_callSi hX (n := 1) (mt_M_isMark X.l X.Γ _ _ _ _) hf q1679 q1680 q89 q1681 hy_M_isMark (by decide) rfl rfl (Nat.le_of_ble_eq_true rfl) dX4_isPm_19 (fun r3 χ4 hf hc4 => ?_)
      refine g_if_eq hX 29 dX4_isPm_22 (by decide) (fun z => ?_) (fun z => ?_)
      · replace hf := hf.1 z
        refine g_iconst hX (v := (0 : Int32)) dX4_isPm_29 rfl ?_
        exact g_zret hX rfl ⟨_, rfl, hf⟩ dX4_isPm_30
      · replace hf := hf.2 z
        refine g_iconst hX (v := (1 : Int32)) dX4_isPm_25 rfl ?_
        refine g_goto hX 30 dX4_isPm_26 (by decide) ?_
        exact g_zret hX rfl ⟨_, rfl, hf⟩ dX4_isPm_30

def w_M_find (x1 : Int32) (x2 : Int32) (χ : St) (Q : Int32 → St → Prop) : Prop := (w_M_isPm x1 χ (fun r1 χ2 => ((r1 = 0 → (Q (-1 : Int32) χ2)) ∧ (¬ r1 = 0 → (w_M_within x2.toInt64 (0 : Int64) (2 : Int64) χ2 (fun r3 χ4 => ((¬ r3 = 0 → (∀ v5 : Int32, v5 = (((6 : Int32) * (x1 / (10 : Int32))) + (x1 - x1 / (10 : Int32) * (10 : Int32))) → (vp_in v5 48) ∧ ((∀ v6 : Int32, v6 = (gI χ4 47 0 v5.toNatClampNeg) → (vp_in v5 48) ∧ ((∀ χ7 : St, χ7 = (sI χ4 47 0 v5.toNatClampNeg x2) → (Q v6 χ7))))))) ∧ (r3 = 0 → (Q (-1 : Int32) χ4)))))))))
set_option maxHeartbeats 4000000 in
theorem mt_M_find (l : Launch) (Γ : Gh) (ad : Nat → Nat → Nat) (x1 : Int32) (x2 : Int32) (χ : St) (Q : Int32 → St → Prop) : Mt l yX4_find (ws_ yX4_find cX4_find 5 (some .int)) (rmO (3) (67) χ) (Pm Γ ad χ [.ref (ad 40 0), .int x1, .int x2] (w_M_find x1 x2 χ Q)) (Qm Γ true ad χ (pI Q)) (frB Γ) := by
  refine Mt.start (by decide) RX4 rfl (Nat.le_of_ble_eq_true rfl) ?_
  intro X hX hG _ _ hna _ hf
  unfold w_M_find at hf
  refine g_aload_n hX 0 dX4_find_0 rfl rfl ?_
  refine g_iload_n hX 1 dX4_find_1 rfl rfl ?_
  refine g_callVi hX (n := 1) (mt_M_isPm X.l X.Γ _ _ _ _) hf q1686 q1688 qs46 q89 q1689 ⟨rfl, hy_M_isPm⟩ (by decide) (fc40 _) ff40 rfl rfl rfl (Nat.le_of_ble_eq_true rfl) dX4_find_2 (fun r1 χ2 hf hc2 => ?_)
  refine g_if_eq hX 20 dX4_find_5 (by decide) (fun z => ?_) (fun z => ?_)
  · replace hf := hf.1 z
    refine g_iconst hX (v := (-1 : Int32)) dX4_find_20 rfl ?_
    exact g_iret hX ⟨_, rfl, hf⟩ dX4_find_21
  · replace hf := hf.2 z
    refine g_iload_n hX 2 dX4_find_8 rfl rfl ?_
    refine g_i2l hX dX4_find_9 ?_
    refine g_lconst hX (v := (0 : Int64)) dX4_find_10 rfl ?_
    refine g_ldc2 hX q1694 dX4_find_11 ?_
    refine g_callSi hX (n := 3) (mt_M_within X.l X.Γ _ _ _ _ _ _) hf q1651 q1652 q89 q1653 hy_M_within (by decide) rfl rfl (Nat.le_of_ble_eq_true rfl) dX4_find_14 (fun r3 χ4 hf hc4 => ?_)
    refine g_if_ne hX 22 dX4_find_17 (by decide) (fun z => ?_) (fun z => ?_)
    · replace hf := hf.1 z
      refine g_bipush hX (v := (6 : Int32)) dX4_find_22 rfl ?_
      refine g_iload_n hX 1 dX4_find_24 rfl rfl ?_
      refine g_bipush hX (v := (10 : Int32)) dX4_find_25 rfl ?_
      refine g_idiv hX dX4_find_27 (by decide) ?_
      refine g_imul hX dX4_find_28 ?_
      refine g_iload_n hX 1 dX4_find_29 rfl rfl ?_
      refine g_bipush hX (v := (10 : Int32)) dX4_find_30 rfl ?_
      refine g_irem hX dX4_find_32 (by decide) ?_
      refine g_iadd hX dX4_find_33 ?_
      replace hf := hf _ rfl
      refine g_istore_n hX dX4_find_34 rfl (by decide) rfl ?_
      refine g_aload_n hX 1 dX4_find_35 rfl rfl ?_
      refine g_getK hX (k := 9) (d := 47) (fc40 _) ff40 rfl (by decide) rfl rfl in_X4 (by decide) q1514 dX4_find_36 ?_
      refine g_iload_n hX 0 dX4_find_39 rfl rfl ?_
      refine g_iald hX (fc47 _) ff47 rfl hf.1 dX4_find_40 ?_
      replace hf := hf.2
      replace hf := hf _ rfl
      refine g_istore hX dX4_find_41 (by decide) rfl ?_
      refine g_aload_n hX 2 dX4_find_43 rfl rfl ?_
      refine g_getK hX (k := 9) (d := 47) (fc40 _) ff40 rfl (by decide) rfl rfl in_X4 (by decide) q1514 dX4_find_44 ?_
      refine g_iload_n hX 1 dX4_find_47 rfl rfl ?_
      refine g_iload_n hX 4 dX4_find_48 rfl rfl ?_
      refine g_iast hX (fc47 _) ff47 rfl hf.1 dX4_find_49 ?_
      replace hf := hf.2
      replace hf := hf _ rfl
      refine g_iload hX 0 dX4_find_50 rfl ?_
      exact g_iret hX ⟨_, rfl, hf⟩ dX4_find_52
    · replace hf := hf.2 z
      refine g_iconst hX (v := (-1 : Int32)) dX4_find_20 rfl ?_
      exact g_iret hX ⟨_, rfl, hf⟩ dX4_find_21

def w_M_of (x1 : Int32) (x2 : Int32) (χ : St) (Q : Int32 → St → Prop) : Prop := (w_M_within x2.toInt64 (0 : Int64) (1 : Int64) χ (fun r1 χ2 => ((r1 = 0 → (w_M_within x2.toInt64 (10 : Int64) (15 : Int64) χ2 (fun r3 χ4 => ((r3 = 0 → (w_M_within x2.toInt64 (20 : Int64) (21 : Int64) χ4 (fun r5 χ6 => ((r5 = 0 → (w_M_within x2.toInt64 (30 : Int64) (31 : Int64) χ6 (fun r7 χ8 => ((r7 = 0 → (Q (-1 : Int32) χ8)) ∧ (¬ r7 = 0 → (w_M_isMark x1 χ8 (fun r9 χ10 => ((r9 = 0 → (Q (-1 : Int32) χ10)) ∧ (¬ r9 = 0 → (vp_in (((12 : Int32) + ((6 : Int32) * (x2 - (30 : Int32)))) + x1) 24) ∧ ((Q (gI χ10 41 0 (((12 : Int32) + ((6 : Int32) * (x2 - (30 : Int32)))) + x1).toNatClampNeg) χ10))))))))))) ∧ (¬ r5 = 0 → (w_M_isKind x1 χ6 (fun r11 χ12 => ((r11 = 0 → (Q (-1 : Int32) χ12)) ∧ (¬ r11 = 0 → (vp_in (((6 : Int32) * (x2 - (20 : Int32))) + x1) 24) ∧ ((Q (gI χ12 41 0 (((6 : Int32) * (x2 - (20 : Int32))) + x1).toNatClampNeg) χ12))))))))))) ∧ (¬ r3 = 0 → (w_M_isPart x1 χ4 (fun r13 χ14 => ((r13 = 0 → (Q (-1 : Int32) χ14)) ∧ (¬ r13 = 0 → (vp_in ((((6 : Int32) * x1) + x2) - (10 : Int32)) 48) ∧ ((Q (gI χ14 47 0 ((((6 : Int32) * x1) + x2) - (10 : Int32)).toNatClampNeg) χ14))))))))))) ∧ (¬ r1 = 0 → (w_M_isPart x1 χ2 (fun r15 χ16 => ((¬ r15 = 0 → ((¬ x2 = 0 → (vp_in x1 8) ∧ ((Q (gI χ16 46 0 x1.toNatClampNeg) χ16))) ∧ (x2 = 0 → (vp_in x1 8) ∧ ((Q (gI χ16 45 0 x1.toNatClampNeg) χ16))))) ∧ (r15 = 0 → (Q (-1 : Int32) χ16)))))))))
set_option maxHeartbeats 4000000 in
theorem mt_M_of (l : Launch) (Γ : Gh) (ad : Nat → Nat → Nat) (x1 : Int32) (x2 : Int32) (χ : St) (Q : Int32 → St → Prop) : Mt l yX4_of (ws_ yX4_of cX4_of 3 (some .int)) (rmO (2) (46) χ) (Pm Γ ad χ [.ref (ad 40 0), .int x1, .int x2] (w_M_of x1 x2 χ Q)) (Qm Γ true ad χ (pI Q)) (frB Γ) := by
  refine Mt.start (by decide) RX4 rfl (Nat.le_of_ble_eq_true rfl) ?_
  intro X hX hG _ _ hna _ hf
  unfold w_M_of at hf
  refine g_iload_n hX 2 dX4_of_0 rfl rfl ?_
  refine g_i2l hX dX4_of_1 ?_
  refine g_lconst hX (v := (0 : Int64)) dX4_of_2 rfl ?_
  refine g_lconst hX (v := (1 : Int64)) dX4_of_3 rfl ?_
  refine g_callSi hX (n := 3) (mt_M_within X.l X.Γ _ _ _ _ _ _) hf q1651 q1652 q89 q1653 hy_M_within (by decide) rfl rfl (Nat.le_of_ble_eq_true rfl) dX4_of_4 (fun r1 χ2 hf hc2 => ?_)
  refine g_if_eq hX 42 dX4_of_7 (by decide) (fun z => ?_) (fun z => ?_)
  · replace hf := hf.1 z
    refine g_iload_n hX 2 dX4_of_42 rfl rfl ?_
    refine g_i2l hX dX4_of_43 ?_
    refine g_ldc2 hX q1699 dX4_of_44 ?_
    refine g_ldc2 hX q1700 dX4_of_47 ?_
    refine g_callSi hX (n := 3) (mt_M_within X.l X.Γ _ _ _ _ _ _) hf q1651 q1652 q89 q1653 hy_M_within (by decide) rfl rfl (Nat.le_of_ble_eq_true rfl) dX4_of_50 (fun r3 χ4 hf hc4 => ?_)
    refine g_if_eq hX 83 dX4_of_53 (by decide) (fun z => ?_) (fun z => ?_)
    · replace hf := hf.1 z
      refine g_iload_n hX 2 dX4_of_83 rfl rfl ?_
      refine g_i2l hX dX4_of_84 ?_
      refine g_ldc2 hX q1701 dX4_of_85 ?_
      refine g_ldc2 hX q1702 dX4_of_88 ?_
      refine g_callSi hX (n := 3) (mt_M_within X.l X.Γ _ _ _ _ _ _) hf q1651 q1652 q89 q1653 hy_M_within (by decide) rfl rfl (Nat.le_of_ble_eq_true rfl) dX4_of_91 (fun r5 χ6 hf hc6 => ?_)
      refine g_if_eq hX 123 dX4_of_94 (by decide) (fun z => ?_) (fun z => ?_)
      · replace hf := hf.1 z
        refine g_iload_n hX 2 dX4_of_123 rfl rfl ?_
        refine g_i2l hX dX4_of_124 ?_
        refine g_ldc2 hX q1703 dX4_of_125 ?_
        refine g_ldc2 hX q1704 dX4_of_128 ?_
        refine g_callSi hX (n := 3) (mt_M_within X.l X.Γ _ _ _ _ _ _) hf q1651 q1652 q89 q1653 hy_M_within (by decide) rfl rfl (Nat.le_of_ble_eq_true rfl) dX4_of_131 (fun r7 χ8 hf hc8 => ?_)
        refine g_if_eq hX 164 dX4_of_134 (by decide) (fun z => ?_) (fun z => ?_)
        · replace hf := hf.1 z
          refine g_iconst hX (v := (-1 : Int32)) dX4_of_164 rfl ?_
          exact g_iret hX ⟨_, rfl, hf⟩ dX4_of_165
        · replace hf := hf.2 z
          refine g_iload_n hX 1 dX4_of_137 rfl rfl ?_
          refine g_callSi hX (n := 1) (mt_M_isMark X.l X.Γ _ _ _ _) hf q1679 q1680 q89 q1681 hy_M_isMark (by decide) rfl rfl (Nat.le_of_ble_eq_true rfl) dX4_of_138 (fun r9 χ10 hf hc10 => ?_)
          refine g_if_eq hX 164 dX4_of_141 (by decide) (fun z => ?_) (fun z => ?_)
          · replace hf := hf.1 z
            refine g_iconst hX (v := (-1 : Int32)) dX4_of_164 rfl ?_
            exact g_iret hX ⟨_, rfl, hf⟩ dX4_of_165
          · replace hf := hf.2 z
            refine g_aload_n hX 0 dX4_of_144 rfl rfl ?_
            refine g_getK hX (k := 0) (d := 41) (fc40 _) ff40 rfl (by decide) rfl rfl in_X4 (by decide) q1505 dX4_of_145 ?_
            refine g_bipush hX (v := (12 : Int32)) dX4_of_148 rfl ?_
            refine g_bipush hX (v := (6 : Int32)) dX4_of_150 rfl ?_
            refine g_iload_n hX 2 dX4_of_152 rfl rfl ?_
            refine g_bipush hX (v := (30 : Int32)) dX4_of_153 rfl ?_
            refine g_isub hX dX4_of_155 ?_
            refine g_imul hX dX4_of_156 ?_
            refine g_iadd hX dX4_of_157 ?_
            refine g_iload_n hX 1 dX4_of_158 rfl rfl ?_
            refine g_iadd hX dX4_of_159 ?_
            refine g_iald hX (fc41 _) ff41 rfl hf.1 dX4_of_160 ?_
            replace hf := hf.2
            refine g_goto hX 165 dX4_of_161 (by decide) ?_
            exact g_iret hX ⟨_, rfl, hf⟩ dX4_of_165
      · replace hf := hf.2 z
        refine g_iload_n hX 1 dX4_of_97 rfl rfl ?_
        refine g_callSi hX (n := 1) (mt_M_isKind X.l X.Γ _ _ _ _) hf q1672 q1673 q89 q1674 hy_M_isKind (by decide) rfl rfl (Nat.le_of_ble_eq_true rfl) dX4_of_98 (fun r11 χ12 hf hc12 => ?_)
        refine g_if_eq hX 121 dX4_of_101 (by decide) (fun z => ?_) (fun z => ?_)
        · replace hf := hf.1 z
          refine g_iconst hX (v := (-1 : Int32)) dX4_of_121 rfl ?_
          exact g_iret hX ⟨_, rfl, hf⟩ dX4_of_122
        · replace hf := hf.2 z
          refine g_aload_n hX 0 dX4_of_104 rfl rfl ?_
          refine g_getK hX (k := 0) (d := 41) (fc40 _) ff40 rfl (by decide) rfl rfl in_X4 (by decide) q1505 dX4_of_105 ?_
          refine g_bipush hX (v := (6 : Int32)) dX4_of_108 rfl ?_
          refine g_iload_n hX 2 dX4_of_110 rfl rfl ?_
          refine g_bipush hX (v := (20 : Int32)) dX4_of_111 rfl ?_
          refine g_isub hX dX4_of_113 ?_
          refine g_imul hX dX4_of_114 ?_
          refine g_iload_n hX 1 dX4_of_115 rfl rfl ?_
          refine g_iadd hX dX4_of_116 ?_
          refine g_iald hX (fc41 _) ff41 rfl hf.1 dX4_of_117 ?_
          replace hf := hf.2
          refine g_goto hX 122 dX4_of_118 (by decide) ?_
          exact g_iret hX ⟨_, rfl, hf⟩ dX4_of_122
    · replace hf := hf.2 z
      refine g_aload_n hX 0 dX4_of_56 rfl rfl ?_
      refine g_iload_n hX 1 dX4_of_57 rfl rfl ?_
      refine g_callVi hX (n := 1) (mt_M_isPart X.l X.Γ _ _ _ _) hf q1690 q1692 qs47 q89 q1693 ⟨rfl, hy_M_isPart⟩ (by decide) (fc40 _) ff40 rfl rfl rfl (Nat.le_of_ble_eq_true rfl) dX4_of_58 (fun r13 χ14 hf hc14 => ?_)
      refine g_if_eq hX 81 dX4_of_61 (by decide) (fun z => ?_) (fun z => ?_)
      · replace hf := hf.1 z
        refine g_iconst hX (v := (-1 : Int32)) dX4_of_81 rfl ?_
        exact g_iret hX ⟨_, rfl, hf⟩ dX4_of_82
      · replace hf := hf.2 z
        refine g_aload_n hX 0 dX4_of_64 rfl rfl ?_
        refine g_getK hX (k := 9) (d := 47) (fc40 _) ff40 rfl (by decide) rfl rfl in_X4 (by decide) q1514 dX4_of_65 ?_
        refine g_bipush hX (v := (6 : Int32)) dX4_of_68 rfl ?_
        refine g_iload_n hX 1 dX4_of_70 rfl rfl ?_
        refine g_imul hX dX4_of_71 ?_
        refine g_iload_n hX 2 dX4_of_72 rfl rfl ?_
        refine g_iadd hX dX4_of_73 ?_
        refine g_bipush hX (v := (10 : Int32)) dX4_of_74 rfl ?_
        refine g_isub hX dX4_of_76 ?_
        refine g_iald hX (fc47 _) ff47 rfl hf.1 dX4_of_77 ?_
        replace hf := hf.2
        refine g_goto hX 82 dX4_of_78 (by decide) ?_
        exact g_iret hX ⟨_, rfl, hf⟩ dX4_of_82
  · replace hf := hf.2 z
    refine g_aload_n hX 0 dX4_of_10 rfl rfl ?_
    refine g_iload_n hX 1 dX4_of_11 rfl rfl ?_
    refine g_callVi hX (n := 1) (mt_M_isPart X.l X.Γ _ _ _ _) hf q1690 q1692 qs47 q89 q1693 ⟨rfl, hy_M_isPart⟩ (by decide) (fc40 _) ff40 rfl rfl rfl (Nat.le_of_ble_eq_true rfl) dX4_of_12 (fun r15 χ16 hf hc16 => ?_)
    refine g_if_ne hX 22 dX4_of_15 (by decide) (fun z => ?_) (fun z => ?_)
    · replace hf := hf.1 z
      refine g_iload_n hX 2 dX4_of_22 rfl rfl ?_
      refine g_if_ne hX 35 dX4_of_23 (by decide) (fun z => ?_) (fun z => ?_)
      · replace hf := hf.1 z
        refine g_aload_n hX 0 dX4_of_35 rfl rfl ?_
        refine g_getK hX (k := 8) (d := 46) (fc40 _) ff40 rfl (by decide) rfl rfl in_X4 (by decide) q1513 dX4_of_36 ?_
        refine g_iload_n hX 1 dX4_of_39 rfl rfl ?_
        refine g_iald hX (fc46 _) ff46 rfl hf.1 dX4_of_40 ?_
        replace hf := hf.2
        exact g_iret hX ⟨_, rfl, hf⟩ dX4_of_41
      · replace hf := hf.2 z
        refine g_aload_n hX 0 dX4_of_26 rfl rfl ?_
        refine g_getK hX (k := 7) (d := 45) (fc40 _) ff40 rfl (by decide) rfl rfl in_X4 (by decide) q1512 dX4_of_27 ?_
        refine g_iload_n hX 1 dX4_of_30 rfl rfl ?_
        refine g_iald hX (fc45 _) ff45 rfl hf.1 dX4_of_31 ?_
        replace hf := hf.2
        refine g_goto hX 41 dX4_of_32 (by decide) ?_
        exact g_iret hX ⟨_, rfl, hf⟩ dX4_of_41
    · replace hf := hf.2 z
      refine g_iconst hX (v := (-1 : Int32)) dX4_of_18 rfl ?_
      refine g_goto hX 41 dX4_of_19 (by decide) ?_
      exact g_iret hX ⟨_, rfl, hf⟩ dX4_of_41

def w_M_feed (x1 : Int32) (χ : St) (Q : Int32 → St → Prop) : Prop := (w_M_within x1.toInt64 (0 : Int64) (255 : Int64) χ (fun r1 χ2 => ((¬ r1 = 0 → ((¬ (gI χ2 4111 0 0) = (120 : Int32) → (vp_in (gI χ2 4111 0 0) 120) ∧ ((∀ χ3 : St, χ3 = (sI χ2 48 0 (gI χ2 4111 0 0).toNatClampNeg x1) → (∀ χ4 : St, χ4 = (sI χ3 4111 0 0 ((gI χ3 4111 0 0) + (1 : Int32))) → (Q (gI χ4 4111 0 0) χ4))))) ∧ ((gI χ2 4111 0 0) = (120 : Int32) → (Q (-3 : Int32) χ2)))) ∧ (r1 = 0 → (Q (-1 : Int32) χ2)))))
set_option maxHeartbeats 4000000 in
theorem mt_M_feed (l : Launch) (Γ : Gh) (ad : Nat → Nat → Nat) (x1 : Int32) (χ : St) (Q : Int32 → St → Prop) : Mt l yX4_feed (ws_ yX4_feed cX4_feed 2 (some .int)) (rmO (1) (25) χ) (Pm Γ ad χ [.ref (ad 40 0), .int x1] (w_M_feed x1 χ Q)) (Qm Γ true ad χ (pI Q)) (frB Γ) := by
  refine Mt.start (by decide) RX4 rfl (Nat.le_of_ble_eq_true rfl) ?_
  intro X hX hG _ _ hna _ hf
  unfold w_M_feed at hf
  refine g_iload_n hX 1 dX4_feed_0 rfl rfl ?_
  refine g_i2l hX dX4_feed_1 ?_
  refine g_lconst hX (v := (0 : Int64)) dX4_feed_2 rfl ?_
  refine g_ldc2 hX q1709 dX4_feed_3 ?_
  refine g_callSi hX (n := 3) (mt_M_within X.l X.Γ _ _ _ _ _ _) hf q1651 q1652 q89 q1653 hy_M_within (by decide) rfl rfl (Nat.le_of_ble_eq_true rfl) dX4_feed_6 (fun r1 χ2 hf hc2 => ?_)
  refine g_if_ne hX 14 dX4_feed_9 (by decide) (fun z => ?_) (fun z => ?_)
  · replace hf := hf.1 z
    refine g_aload_n hX 0 dX4_feed_14 rfl rfl ?_
    refine g_getI hX (k := 11) (fc40 _) ff40 rfl rfl in_X4 (by decide) q1516 dX4_feed_15 ?_
    refine g_bipush hX (v := (120 : Int32)) dX4_feed_18 rfl ?_
    refine g_icmp_ne hX 26 dX4_feed_20 (by decide) (fun z => ?_) (fun z => ?_)
    · replace hf := hf.1 z
      refine g_aload_n hX 0 dX4_feed_26 rfl rfl ?_
      refine g_getK hX (k := 10) (d := 48) (fc40 _) ff40 rfl (by decide) rfl rfl in_X4 (by decide) q1515 dX4_feed_27 ?_
      refine g_aload_n hX 0 dX4_feed_30 rfl rfl ?_
      refine g_getI hX (k := 11) (fc40 _) ff40 rfl rfl in_X4 (by decide) q1516 dX4_feed_31 ?_
      refine g_iload_n hX 1 dX4_feed_34 rfl rfl ?_
      refine g_iast hX (fc48 _) ff48 rfl hf.1 dX4_feed_35 ?_
      replace hf := hf.2
      replace hf := hf _ rfl
      refine g_aload_n hX 0 dX4_feed_36 rfl rfl ?_
      refine g_dup hX dX4_feed_37 rfl ?_
      refine g_getI hX (k := 11) (fc40 _) ff40 rfl rfl in_X4 (by decide) q1516 dX4_feed_38 ?_
      refine g_iconst hX (v := (1 : Int32)) dX4_feed_41 rfl ?_
      refine g_iadd hX dX4_feed_42 ?_
      refine g_putI hX (k := 11) (fc40 _) ff40 rfl rfl in_X4 tyX4_ok nmX4 (by decide) q1516 rfl rfl rfl rfl dX4_feed_43 ?_
      replace hf := hf _ rfl
      refine g_aload_n hX 0 dX4_feed_46 rfl rfl ?_
      refine g_getI hX (k := 11) (fc40 _) ff40 rfl rfl in_X4 (by decide) q1516 dX4_feed_47 ?_
      exact g_iret hX ⟨_, rfl, hf⟩ dX4_feed_50
    · replace hf := hf.2 z
      refine g_bipush hX (v := (-3 : Int32)) dX4_feed_23 rfl ?_
      exact g_iret hX ⟨_, rfl, hf⟩ dX4_feed_25
  · replace hf := hf.2 z
    refine g_iconst hX (v := (-1 : Int32)) dX4_feed_12 rfl ?_
    exact g_iret hX ⟨_, rfl, hf⟩ dX4_feed_13

def w_M_byteAt (χ : St) (Q : Int32 → St → Prop) : Prop := (((gI χ 4116 0 0) ≤ (gI χ 4115 0 0) → (Q (0 : Int32) χ)) ∧ (¬ (gI χ 4116 0 0) ≤ (gI χ 4115 0 0) → ((0 ≤ (gI χ 4114 0 0) → (vp_in ((gI χ 4114 0 0) + (gI χ 4115 0 0)) 720) ∧ ((Q (gI χ 49 0 ((gI χ 4114 0 0) + (gI χ 4115 0 0)).toNatClampNeg) χ))) ∧ (¬ 0 ≤ (gI χ 4114 0 0) → (vp_in (gI χ 4115 0 0) 120) ∧ ((Q (gI χ 48 0 (gI χ 4115 0 0).toNatClampNeg) χ))))))
set_option maxHeartbeats 4000000 in
theorem mt_M_byteAt (l : Launch) (Γ : Gh) (ad : Nat → Nat → Nat) (χ : St) (Q : Int32 → St → Prop) : Mt l yX4_byteAt (ws_ yX4_byteAt cX4_byteAt 1 (some .int)) (rmO (0) (0) χ) (Pm Γ ad χ [.ref (ad 40 0)] (w_M_byteAt χ Q)) (Qm Γ true ad χ (pI Q)) (frB Γ) := by
  refine Mt.start (by decide) RX4 rfl (Nat.le_of_ble_eq_true rfl) ?_
  intro X hX hG _ _ hna _ hf
  unfold w_M_byteAt at hf
  refine g_aload_n hX 0 dX4_byteAt_0 rfl rfl ?_
  refine g_getI hX (k := 15) (fc40 _) ff40 rfl rfl in_X4 (by decide) q1520 dX4_byteAt_1 ?_
  refine g_aload_n hX 0 dX4_byteAt_4 rfl rfl ?_
  refine g_getI hX (k := 16) (fc40 _) ff40 rfl rfl in_X4 (by decide) q1521 dX4_byteAt_5 ?_
  refine g_icmp_ge hX 47 dX4_byteAt_8 (by decide) (fun z => ?_) (fun z => ?_)
  · replace hf := hf.1 z
    refine g_iconst hX (v := (0 : Int32)) dX4_byteAt_47 rfl ?_
    exact g_iret hX ⟨_, rfl, hf⟩ dX4_byteAt_48
  · replace hf := hf.2 z
    refine g_aload_n hX 0 dX4_byteAt_11 rfl rfl ?_
    refine g_getI hX (k := 14) (fc40 _) ff40 rfl rfl in_X4 (by decide) q1519 dX4_byteAt_12 ?_
    refine g_if_ge hX 30 dX4_byteAt_15 (by decide) (fun z => ?_) (fun z => ?_)
    · replace hf := hf.1 z
      refine g_aload_n hX 0 dX4_byteAt_30 rfl rfl ?_
      refine g_getK hX (k := 12) (d := 49) (fc40 _) ff40 rfl (by decide) rfl rfl in_X4 (by decide) q1517 dX4_byteAt_31 ?_
      refine g_aload_n hX 0 dX4_byteAt_34 rfl rfl ?_
      refine g_getI hX (k := 14) (fc40 _) ff40 rfl rfl in_X4 (by decide) q1519 dX4_byteAt_35 ?_
      refine g_aload_n hX 0 dX4_byteAt_38 rfl rfl ?_
      refine g_getI hX (k := 15) (fc40 _) ff40 rfl rfl in_X4 (by decide) q1520 dX4_byteAt_39 ?_
      refine g_iadd hX dX4_byteAt_42 ?_
      refine g_iald hX (fc49 _) ff49 rfl hf.1 dX4_byteAt_43 ?_
      replace hf := hf.2
      refine g_goto hX 48 dX4_byteAt_44 (by decide) ?_
      exact g_iret hX ⟨_, rfl, hf⟩ dX4_byteAt_48
    · replace hf := hf.2 z
      refine g_aload_n hX 0 dX4_byteAt_18 rfl rfl ?_
      refine g_getK hX (k := 10) (d := 48) (fc40 _) ff40 rfl (by decide) rfl rfl in_X4 (by decide) q1515 dX4_byteAt_19 ?_
      refine g_aload_n hX 0 dX4_byteAt_22 rfl rfl ?_
      refine g_getI hX (k := 15) (fc40 _) ff40 rfl rfl in_X4 (by decide) q1520 dX4_byteAt_23 ?_
      refine g_iald hX (fc48 _) ff48 rfl hf.1 dX4_byteAt_26 ?_
      replace hf := hf.2
      refine g_goto hX 48 dX4_byteAt_27 (by decide) ?_
      exact g_iret hX ⟨_, rfl, hf⟩ dX4_byteAt_48

def w_M_product_85 (W1 : St → (Int32 → St → Prop) → Prop) (Q : Int32 → St → Prop) (K10 : Int32 → Int32 → St → Prop) (z0 : Int32) (χ : St) : Prop := (w_M_byteAt χ (fun r8 χ9 => (K10 z0 r8 χ9)))
def w_M_product_35 (W1 : St → (Int32 → St → Prop) → Prop) (Q : Int32 → St → Prop) (K10 : Int32 → Int32 → St → Prop) (x1 : Int32) (x2 : Int32) (χ : St) : Prop := (∀ χ5 : St, χ5 = (sI χ 4115 0 0 ((gI χ 4115 0 0) + (1 : Int32))) → (W1 χ5 (fun r6 χ7 => ((¬ x2 = (42 : Int32) → ((¬ r6 = 0 → ((¬ x2 = (47 : Int32) → (¬ r6 = 0) ∧ ((w_M_product_85 W1 Q K10 (x1 - x1 / r6 * r6) χ7))) ∧ (x2 = (47 : Int32) → (¬ r6 = 0) ∧ ((w_M_product_85 W1 Q K10 (x1 / r6) χ7))))) ∧ (r6 = 0 → (w_M_product_85 W1 Q K10 (0 : Int32) χ7)))) ∧ (x2 = (42 : Int32) → (w_M_product_85 W1 Q K10 (x1 * r6) χ7))))))
def w_M_product_10 (W1 : St → (Int32 → St → Prop) → Prop) (Q : Int32 → St → Prop) : Nat → Int32 → Int32 → St → Prop
  | 0 => fun _ _ _ => False
  | n + 1 => fun x1 x2 χ => ((0 ≤ (gI χ 4117 0 0) → (Q x1 χ)) ∧ (¬ 0 ≤ (gI χ 4117 0 0) → ((x2 = (42 : Int32) → (w_M_product_35 W1 Q (w_M_product_10 W1 Q n) x1 x2 χ)) ∧ (¬ x2 = (42 : Int32) → ((x2 = (47 : Int32) → (w_M_product_35 W1 Q (w_M_product_10 W1 Q n) x1 x2 χ)) ∧ (¬ x2 = (47 : Int32) → ((¬ x2 = (37 : Int32) → (Q x1 χ)) ∧ (x2 = (37 : Int32) → (w_M_product_35 W1 Q (w_M_product_10 W1 Q n) x1 x2 χ)))))))))
def w_M_product (W1 : St → (Int32 → St → Prop) → Prop) (χ : St) (Q : Int32 → St → Prop) : Prop := (W1 χ (fun r1 χ2 => (w_M_byteAt χ2 (fun r3 χ4 => (∃ k10, w_M_product_10 W1 Q k10 r1 r3 χ4)))))
set_option maxHeartbeats 4000000 in
theorem mt_M_product (l : Launch) (Γ : Gh) (W1 : St → (Int32 → St → Prop) → Prop) (F1 L1 : Nat) (h1 : ∀ (l : Launch) (Γ : Gh) (ad : Nat → Nat → Nat) (χ : St) (Q : Int32 → St → Prop), Mt l yX4_one (ws_ yX4_one cX4_one 5 (some .int)) (rmO F1 L1 χ) (Pm Γ ad χ [.ref (ad 40 0)] (W1 χ Q)) (Qm Γ true ad χ (pI Q)) (frB Γ)) (ad : Nat → Nat → Nat) (χ : St) (Q : Int32 → St → Prop) : Mt l yX4_product (ws_ yX4_product cX4_product 4 (some .int)) (rmO (F1 + 1) (L1 + 24) χ) (Pm Γ ad χ [.ref (ad 40 0)] (w_M_product W1 χ Q)) (Qm Γ true ad χ (pI Q)) (frB Γ) := by
  refine Mt.start (by decide) RX4 rfl (Nat.le_of_ble_eq_true rfl) ?_
  intro X hX hG _ _ hna _ hf
  have B85 : ∀ (K10 : Int32 → Int32 → St → Prop) (hK10 : ∀ (ad : Nat → Nat → Nat) (x1 : Int32) (x2 : Int32) (χ : St), K10 x1 x2 χ → G X ad χ 10 [(0, .ref (ad 40 0)), (1, .int x1), (2, .int x2)] []) (ad : Nat → Nat → Nat) (z0 : Int32) (χ : St), w_M_product_85 W1 Q K10 z0 χ → G X ad χ 85 [(0, .ref (ad 40 0))] [.int z0] := by
    intro K10 hK10 ad z0 χ hf
    unfold w_M_product_85 at hf
    refine g_istore_n hX dX4_product_85 rfl (by decide) rfl ?_
    refine g_aload_n hX 1 dX4_product_86 rfl rfl ?_
    refine g_callVi hX (n := 0) (mt_M_byteAt X.l X.Γ _ _ _) hf q1742 q1744 qs55 q89 q1745 ⟨rfl, hy_M_byteAt⟩ ⟨by omega, by omega⟩ (fc40 _) ff40 rfl rfl rfl (Nat.le_of_ble_eq_true rfl) dX4_product_87 (fun r8 χ9 hf hc9 => ?_)
    refine g_istore_n hX dX4_product_90 rfl (by decide) rfl ?_
    refine g_goto hX 10 dX4_product_91 (by decide) ?_
    refine g_sub [2, 1, 0] rfl ?_
    exact hK10 _ _ _ _ hf
  have B35 : ∀ (K10 : Int32 → Int32 → St → Prop) (hK10 : ∀ (ad : Nat → Nat → Nat) (x1 : Int32) (x2 : Int32) (χ : St), K10 x1 x2 χ → G X ad χ 10 [(0, .ref (ad 40 0)), (1, .int x1), (2, .int x2)] []) (ad : Nat → Nat → Nat) (x1 : Int32) (x2 : Int32) (χ : St), w_M_product_35 W1 Q K10 x1 x2 χ → G X ad χ 35 [(0, .ref (ad 40 0)), (1, .int x1), (2, .int x2)] [] := by
    intro K10 hK10 ad x1 x2 χ hf
    unfold w_M_product_35 at hf
    refine g_aload_n hX 0 dX4_product_35 rfl rfl ?_
    refine g_dup hX dX4_product_36 rfl ?_
    refine g_getI hX (k := 15) (fc40 _) ff40 rfl rfl in_X4 (by decide) q1520 dX4_product_37 ?_
    refine g_iconst hX (v := (1 : Int32)) dX4_product_40 rfl ?_
    refine g_iadd hX dX4_product_41 ?_
    refine g_putI hX (k := 15) (fc40 _) ff40 rfl rfl in_X4 tyX4_ok nmX4 (by decide) q1520 rfl rfl rfl rfl dX4_product_42 ?_
    replace hf := hf _ rfl
    refine g_aload_n hX 0 dX4_product_45 rfl rfl ?_
    refine g_callVi hX (n := 0) (h1 X.l X.Γ _ _ _) hf q1738 q1740 qs54 q89 q1741 ⟨rfl, hy_M_one⟩ ⟨by omega, by omega⟩ (fc40 _) ff40 rfl rfl rfl (Nat.le_of_ble_eq_true rfl) dX4_product_46 (fun r6 χ7 hf hc7 => ?_)
    refine g_istore_n hX dX4_product_49 rfl (by decide) rfl ?_
    refine g_iload_n hX 3 dX4_product_50 rfl rfl ?_
    refine g_bipush hX (v := (42 : Int32)) dX4_product_51 rfl ?_
    refine g_icmp_ne hX 62 dX4_product_53 (by decide) (fun z => ?_) (fun z => ?_)
    · replace hf := hf.1 z
      refine g_iload_n hX 0 dX4_product_62 rfl rfl ?_
      refine g_if_ne hX 70 dX4_product_63 (by decide) (fun z => ?_) (fun z => ?_)
      · replace hf := hf.1 z
        refine g_iload_n hX 3 dX4_product_70 rfl rfl ?_
        refine g_bipush hX (v := (47 : Int32)) dX4_product_71 rfl ?_
        refine g_icmp_ne hX 82 dX4_product_73 (by decide) (fun z => ?_) (fun z => ?_)
        · replace hf := hf.1 z
          refine g_iload_n hX 2 dX4_product_82 rfl rfl ?_
          refine g_iload_n hX 0 dX4_product_83 rfl rfl ?_
          refine g_irem hX dX4_product_84 hf.1 ?_
          replace hf := hf.2
          refine g_sub [1] rfl ?_
          exact B85 K10 hK10 _ _ _ hf
        · replace hf := hf.2 z
          refine g_iload_n hX 2 dX4_product_76 rfl rfl ?_
          refine g_iload_n hX 0 dX4_product_77 rfl rfl ?_
          refine g_idiv hX dX4_product_78 hf.1 ?_
          replace hf := hf.2
          refine g_goto hX 85 dX4_product_79 (by decide) ?_
          refine g_sub [1] rfl ?_
          exact B85 K10 hK10 _ _ _ hf
      · replace hf := hf.2 z
        refine g_iconst hX (v := (0 : Int32)) dX4_product_66 rfl ?_
        refine g_goto hX 85 dX4_product_67 (by decide) ?_
        refine g_sub [1] rfl ?_
        exact B85 K10 hK10 _ _ _ hf
    · replace hf := hf.2 z
      refine g_iload_n hX 2 dX4_product_56 rfl rfl ?_
      refine g_iload_n hX 0 dX4_product_57 rfl rfl ?_
      refine g_imul hX dX4_product_58 ?_
      refine g_goto hX 85 dX4_product_59 (by decide) ?_
      refine g_sub [1] rfl ?_
      exact B85 K10 hK10 _ _ _ hf
  have B10 : ∀ (n : Nat) (ad : Nat → Nat → Nat) (x1 : Int32) (x2 : Int32) (χ : St), w_M_product_10 W1 Q n x1 x2 χ → G X ad χ 10 [(0, .ref (ad 40 0)), (1, .int x1), (2, .int x2)] [] := by
    intro n
    induction n with
    | zero => intro ad x1 x2 χ hf; exact hf.elim
    | succ n hK10 =>
      intro ad x1 x2 χ hf
      unfold w_M_product_10 at hf
      refine g_aload_n hX 0 dX4_product_10 rfl rfl ?_
      refine g_getI hX (k := 17) (fc40 _) ff40 rfl rfl in_X4 (by decide) q1522 dX4_product_11 ?_
      refine g_if_ge hX 94 dX4_product_14 (by decide) (fun z => ?_) (fun z => ?_)
      · replace hf := hf.1 z
        refine g_iload_n hX 1 dX4_product_94 rfl rfl ?_
        exact g_iret hX ⟨_, rfl, hf⟩ dX4_product_95
      · replace hf := hf.2 z
        refine g_iload_n hX 2 dX4_product_17 rfl rfl ?_
        refine g_bipush hX (v := (42 : Int32)) dX4_product_18 rfl ?_
        refine g_icmp_eq hX 35 dX4_product_20 (by decide) (fun z => ?_) (fun z => ?_)
        · replace hf := hf.1 z
          exact B35 (w_M_product_10 W1 Q n) hK10 _ _ _ _ hf
        · replace hf := hf.2 z
          refine g_iload_n hX 2 dX4_product_23 rfl rfl ?_
          refine g_bipush hX (v := (47 : Int32)) dX4_product_24 rfl ?_
          refine g_icmp_eq hX 35 dX4_product_26 (by decide) (fun z => ?_) (fun z => ?_)
          · replace hf := hf.1 z
            exact B35 (w_M_product_10 W1 Q n) hK10 _ _ _ _ hf
          · replace hf := hf.2 z
            refine g_iload_n hX 2 dX4_product_29 rfl rfl ?_
            refine g_bipush hX (v := (37 : Int32)) dX4_product_30 rfl ?_
            refine g_icmp_ne hX 94 dX4_product_32 (by decide) (fun z => ?_) (fun z => ?_)
            · replace hf := hf.1 z
              refine g_iload_n hX 1 dX4_product_94 rfl rfl ?_
              exact g_iret hX ⟨_, rfl, hf⟩ dX4_product_95
            · replace hf := hf.2 z
              exact B35 (w_M_product_10 W1 Q n) hK10 _ _ _ _ hf
  unfold w_M_product at hf
  refine g_aload_n hX 0 dX4_product_0 rfl rfl ?_
  refine g_callVi hX (n := 0) (h1 X.l X.Γ _ _ _) hf q1738 q1740 qs54 q89 q1741 ⟨rfl, hy_M_one⟩ ⟨by omega, by omega⟩ (fc40 _) ff40 rfl rfl rfl (Nat.le_of_ble_eq_true rfl) dX4_product_1 (fun r1 χ2 hf hc2 => ?_)
  refine g_istore_n hX dX4_product_4 rfl (by decide) rfl ?_
  refine g_aload_n hX 1 dX4_product_5 rfl rfl ?_
  refine g_callVi hX (n := 0) (mt_M_byteAt X.l X.Γ _ _ _) hf q1742 q1744 qs55 q89 q1745 ⟨rfl, hy_M_byteAt⟩ ⟨by omega, by omega⟩ (fc40 _) ff40 rfl rfl rfl (Nat.le_of_ble_eq_true rfl) dX4_product_6 (fun r3 χ4 hf hc4 => ?_)
  refine g_istore_n hX dX4_product_9 rfl (by decide) rfl ?_
  obtain ⟨n0, hf⟩ := hf
  refine g_sub [2, 1, 0] rfl ?_
  exact B10 n0 _ _ _ _ hf

def w_M_sums_73 (W1 : St → (Int32 → St → Prop) → Prop) (Q : Int32 → St → Prop) (K5 : Int32 → St → Prop) (z0 : Int32) (χ : St) : Prop := (K5 z0 χ)
def w_M_sums_44 (W1 : St → (Int32 → St → Prop) → Prop) (Q : Int32 → St → Prop) (K5 : Int32 → St → Prop) (x1 : Int32) (z0 : Int32) (χ : St) : Prop := (∀ χ7 : St, χ7 = (sI χ 4115 0 0 ((gI χ 4115 0 0) + (1 : Int32))) → (w_M_product W1 χ7 (fun r8 χ9 => ((z0 = 0 → (w_M_sums_73 W1 Q K5 (x1 - r8) χ9)) ∧ (¬ z0 = 0 → (w_M_sums_73 W1 Q K5 (x1 + r8) χ9))))))
def w_M_sums_30 (W1 : St → (Int32 → St → Prop) → Prop) (Q : Int32 → St → Prop) (K5 : Int32 → St → Prop) (x1 : Int32) (χ : St) : Prop := (w_M_byteAt χ (fun r5 χ6 => ((¬ r5 = (43 : Int32) → (w_M_sums_44 W1 Q K5 x1 (0 : Int32) χ6)) ∧ (r5 = (43 : Int32) → (w_M_sums_44 W1 Q K5 x1 (1 : Int32) χ6)))))
def w_M_sums_5 (W1 : St → (Int32 → St → Prop) → Prop) (Q : Int32 → St → Prop) : Nat → Int32 → St → Prop
  | 0 => fun _ _ => False
  | n + 1 => fun x1 χ => ((0 ≤ (gI χ 4117 0 0) → (Q x1 χ)) ∧ (¬ 0 ≤ (gI χ 4117 0 0) → (w_M_byteAt χ (fun r3 χ4 => ((r3 = (43 : Int32) → (w_M_sums_30 W1 Q (w_M_sums_5 W1 Q n) x1 χ4)) ∧ (¬ r3 = (43 : Int32) → (w_M_byteAt χ4 (fun r10 χ11 => ((¬ r10 = (45 : Int32) → (Q x1 χ11)) ∧ (r10 = (45 : Int32) → (w_M_sums_30 W1 Q (w_M_sums_5 W1 Q n) x1 χ11)))))))))))
def w_M_sums (W1 : St → (Int32 → St → Prop) → Prop) (χ : St) (Q : Int32 → St → Prop) : Prop := (w_M_product W1 χ (fun r1 χ2 => (∃ k5, w_M_sums_5 W1 Q k5 r1 χ2)))
set_option maxHeartbeats 4000000 in
theorem mt_M_sums (l : Launch) (Γ : Gh) (W1 : St → (Int32 → St → Prop) → Prop) (F1 L1 : Nat) (h1 : ∀ (l : Launch) (Γ : Gh) (ad : Nat → Nat → Nat) (χ : St) (Q : Int32 → St → Prop), Mt l yX4_one (ws_ yX4_one cX4_one 5 (some .int)) (rmO F1 L1 χ) (Pm Γ ad χ [.ref (ad 40 0)] (W1 χ Q)) (Qm Γ true ad χ (pI Q)) (frB Γ)) (ad : Nat → Nat → Nat) (χ : St) (Q : Int32 → St → Prop) : Mt l yX4_sums (ws_ yX4_sums cX4_sums 4 (some .int)) (rmO (F1 + 2) (L1 + 47) χ) (Pm Γ ad χ [.ref (ad 40 0)] (w_M_sums W1 χ Q)) (Qm Γ true ad χ (pI Q)) (frB Γ) := by
  refine Mt.start (by decide) RX4 rfl (Nat.le_of_ble_eq_true rfl) ?_
  intro X hX hG _ _ hna _ hf
  have B73 : ∀ (K5 : Int32 → St → Prop) (hK5 : ∀ (ad : Nat → Nat → Nat) (x1 : Int32) (χ : St), K5 x1 χ → G X ad χ 5 [(0, .ref (ad 40 0)), (1, .int x1)] []) (ad : Nat → Nat → Nat) (z0 : Int32) (χ : St), w_M_sums_73 W1 Q K5 z0 χ → G X ad χ 73 [(0, .ref (ad 40 0))] [.int z0] := by
    intro K5 hK5 ad z0 χ hf
    unfold w_M_sums_73 at hf
    refine g_istore_n hX dX4_sums_73 rfl (by decide) rfl ?_
    refine g_goto hX 5 dX4_sums_74 (by decide) ?_
    refine g_sub [1, 0] rfl ?_
    exact hK5 _ _ _ hf
  have B44 : ∀ (K5 : Int32 → St → Prop) (hK5 : ∀ (ad : Nat → Nat → Nat) (x1 : Int32) (χ : St), K5 x1 χ → G X ad χ 5 [(0, .ref (ad 40 0)), (1, .int x1)] []) (ad : Nat → Nat → Nat) (x1 : Int32) (z0 : Int32) (χ : St), w_M_sums_44 W1 Q K5 x1 z0 χ → G X ad χ 44 [(0, .ref (ad 40 0)), (1, .int x1)] [.int z0] := by
    intro K5 hK5 ad x1 z0 χ hf
    unfold w_M_sums_44 at hf
    refine g_istore_n hX dX4_sums_44 rfl (by decide) rfl ?_
    refine g_aload_n hX 1 dX4_sums_45 rfl rfl ?_
    refine g_dup hX dX4_sums_46 rfl ?_
    refine g_getI hX (k := 15) (fc40 _) ff40 rfl rfl in_X4 (by decide) q1520 dX4_sums_47 ?_
    refine g_iconst hX (v := (1 : Int32)) dX4_sums_50 rfl ?_
    refine g_iadd hX dX4_sums_51 ?_
    refine g_putI hX (k := 15) (fc40 _) ff40 rfl rfl in_X4 tyX4_ok nmX4 (by decide) q1520 rfl rfl rfl rfl dX4_sums_52 ?_
    replace hf := hf _ rfl
    refine g_aload_n hX 1 dX4_sums_55 rfl rfl ?_
    refine g_callVi hX (n := 0) (mt_M_product X.l X.Γ W1 F1 L1 h1 _ _ _) hf q1734 q1736 qs53 q89 q1737 ⟨rfl, hy_M_product⟩ ⟨by omega, by omega⟩ (fc40 _) ff40 rfl rfl rfl (Nat.le_of_ble_eq_true rfl) dX4_sums_56 (fun r8 χ9 hf hc9 => ?_)
    refine g_istore_n hX dX4_sums_59 rfl (by decide) rfl ?_
    refine g_iload_n hX 1 dX4_sums_60 rfl rfl ?_
    refine g_if_eq hX 70 dX4_sums_61 (by decide) (fun z => ?_) (fun z => ?_)
    · replace hf := hf.1 z
      refine g_iload_n hX 3 dX4_sums_70 rfl rfl ?_
      refine g_iload_n hX 0 dX4_sums_71 rfl rfl ?_
      refine g_isub hX dX4_sums_72 ?_
      refine g_sub [2] rfl ?_
      exact B73 K5 hK5 _ _ _ hf
    · replace hf := hf.2 z
      refine g_iload_n hX 3 dX4_sums_64 rfl rfl ?_
      refine g_iload_n hX 0 dX4_sums_65 rfl rfl ?_
      refine g_iadd hX dX4_sums_66 ?_
      refine g_goto hX 73 dX4_sums_67 (by decide) ?_
      refine g_sub [2] rfl ?_
      exact B73 K5 hK5 _ _ _ hf
  have B30 : ∀ (K5 : Int32 → St → Prop) (hK5 : ∀ (ad : Nat → Nat → Nat) (x1 : Int32) (χ : St), K5 x1 χ → G X ad χ 5 [(0, .ref (ad 40 0)), (1, .int x1)] []) (ad : Nat → Nat → Nat) (x1 : Int32) (χ : St), w_M_sums_30 W1 Q K5 x1 χ → G X ad χ 30 [(0, .ref (ad 40 0)), (1, .int x1)] [] := by
    intro K5 hK5 ad x1 χ hf
    unfold w_M_sums_30 at hf
    refine g_aload_n hX 0 dX4_sums_30 rfl rfl ?_
    refine g_callVi hX (n := 0) (mt_M_byteAt X.l X.Γ _ _ _) hf q1742 q1744 qs55 q89 q1745 ⟨rfl, hy_M_byteAt⟩ ⟨by omega, by omega⟩ (fc40 _) ff40 rfl rfl rfl (Nat.le_of_ble_eq_true rfl) dX4_sums_31 (fun r5 χ6 hf hc6 => ?_)
    refine g_bipush hX (v := (43 : Int32)) dX4_sums_34 rfl ?_
    refine g_icmp_ne hX 43 dX4_sums_36 (by decide) (fun z => ?_) (fun z => ?_)
    · replace hf := hf.1 z
      refine g_iconst hX (v := (0 : Int32)) dX4_sums_43 rfl ?_
      exact B44 K5 hK5 _ _ _ _ hf
    · replace hf := hf.2 z
      refine g_iconst hX (v := (1 : Int32)) dX4_sums_39 rfl ?_
      refine g_goto hX 44 dX4_sums_40 (by decide) ?_
      exact B44 K5 hK5 _ _ _ _ hf
  have B5 : ∀ (n : Nat) (ad : Nat → Nat → Nat) (x1 : Int32) (χ : St), w_M_sums_5 W1 Q n x1 χ → G X ad χ 5 [(0, .ref (ad 40 0)), (1, .int x1)] [] := by
    intro n
    induction n with
    | zero => intro ad x1 χ hf; exact hf.elim
    | succ n hK5 =>
      intro ad x1 χ hf
      unfold w_M_sums_5 at hf
      refine g_aload_n hX 0 dX4_sums_5 rfl rfl ?_
      refine g_getI hX (k := 17) (fc40 _) ff40 rfl rfl in_X4 (by decide) q1522 dX4_sums_6 ?_
      refine g_if_ge hX 77 dX4_sums_9 (by decide) (fun z => ?_) (fun z => ?_)
      · replace hf := hf.1 z
        refine g_iload_n hX 1 dX4_sums_77 rfl rfl ?_
        exact g_iret hX ⟨_, rfl, hf⟩ dX4_sums_78
      · replace hf := hf.2 z
        refine g_aload_n hX 0 dX4_sums_12 rfl rfl ?_
        refine g_callVi hX (n := 0) (mt_M_byteAt X.l X.Γ _ _ _) hf q1742 q1744 qs55 q89 q1745 ⟨rfl, hy_M_byteAt⟩ ⟨by omega, by omega⟩ (fc40 _) ff40 rfl rfl rfl (Nat.le_of_ble_eq_true rfl) dX4_sums_13 (fun r3 χ4 hf hc4 => ?_)
        refine g_bipush hX (v := (43 : Int32)) dX4_sums_16 rfl ?_
        refine g_icmp_eq hX 30 dX4_sums_18 (by decide) (fun z => ?_) (fun z => ?_)
        · replace hf := hf.1 z
          exact B30 (w_M_sums_5 W1 Q n) hK5 _ _ _ hf
        · replace hf := hf.2 z
          refine g_aload_n hX 0 dX4_sums_21 rfl rfl ?_
          refine g_callVi hX (n := 0) (mt_M_byteAt X.l X.Γ _ _ _) hf q1742 q1744 qs55 q89 q1745 ⟨rfl, hy_M_byteAt⟩ ⟨by omega, by omega⟩ (fc40 _) ff40 rfl rfl rfl (Nat.le_of_ble_eq_true rfl) dX4_sums_22 (fun r10 χ11 hf hc11 => ?_)
          refine g_bipush hX (v := (45 : Int32)) dX4_sums_25 rfl ?_
          refine g_icmp_ne hX 77 dX4_sums_27 (by decide) (fun z => ?_) (fun z => ?_)
          · replace hf := hf.1 z
            refine g_iload_n hX 1 dX4_sums_77 rfl rfl ?_
            exact g_iret hX ⟨_, rfl, hf⟩ dX4_sums_78
          · replace hf := hf.2 z
            exact B30 (w_M_sums_5 W1 Q n) hK5 _ _ _ hf
  unfold w_M_sums at hf
  refine g_aload_n hX 0 dX4_sums_0 rfl rfl ?_
  refine g_callVi hX (n := 0) (mt_M_product X.l X.Γ W1 F1 L1 h1 _ _ _) hf q1734 q1736 qs53 q89 q1737 ⟨rfl, hy_M_product⟩ ⟨by omega, by omega⟩ (fc40 _) ff40 rfl rfl rfl (Nat.le_of_ble_eq_true rfl) dX4_sums_1 (fun r1 χ2 hf hc2 => ?_)
  refine g_istore_n hX dX4_sums_4 rfl (by decide) rfl ?_
  obtain ⟨n0, hf⟩ := hf
  refine g_sub [1, 0] rfl ?_
  exact B5 n0 _ _ _ hf

def w_M_compared_37 (W1 : St → (Int32 → St → Prop) → Prop) (Q : Int32 → St → Prop) (x1 : Int32) (x2 : Int32) (χ : St) : Prop := (∀ χ5 : St, χ5 = (sI χ 4115 0 0 ((gI χ 4115 0 0) + (1 : Int32))) → (w_M_sums W1 χ5 (fun r6 χ7 => ((¬ x2 = (60 : Int32) → ((¬ x2 = (61 : Int32) → ((x1 ≤ r6 → (Q (0 : Int32) χ7)) ∧ (¬ x1 ≤ r6 → (Q (1 : Int32) χ7)))) ∧ (x2 = (61 : Int32) → ((¬ x1 = r6 → (Q (0 : Int32) χ7)) ∧ (x1 = r6 → (Q (1 : Int32) χ7)))))) ∧ (x2 = (60 : Int32) → ((r6 ≤ x1 → (Q (0 : Int32) χ7)) ∧ (¬ r6 ≤ x1 → (Q (1 : Int32) χ7))))))))
def w_M_compared (W1 : St → (Int32 → St → Prop) → Prop) (χ : St) (Q : Int32 → St → Prop) : Prop := (w_M_sums W1 χ (fun r1 χ2 => (w_M_byteAt χ2 (fun r3 χ4 => ((0 ≤ (gI χ4 4117 0 0) → (Q r1 χ4)) ∧ (¬ 0 ≤ (gI χ4 4117 0 0) → ((r3 = (60 : Int32) → (w_M_compared_37 W1 Q r1 r3 χ4)) ∧ (¬ r3 = (60 : Int32) → ((r3 = (61 : Int32) → (w_M_compared_37 W1 Q r1 r3 χ4)) ∧ (¬ r3 = (61 : Int32) → ((r3 = (62 : Int32) → (w_M_compared_37 W1 Q r1 r3 χ4)) ∧ (¬ r3 = (62 : Int32) → (Q r1 χ4)))))))))))))
set_option maxHeartbeats 4000000 in
theorem mt_M_compared (l : Launch) (Γ : Gh) (W1 : St → (Int32 → St → Prop) → Prop) (F1 L1 : Nat) (h1 : ∀ (l : Launch) (Γ : Gh) (ad : Nat → Nat → Nat) (χ : St) (Q : Int32 → St → Prop), Mt l yX4_one (ws_ yX4_one cX4_one 5 (some .int)) (rmO F1 L1 χ) (Pm Γ ad χ [.ref (ad 40 0)] (W1 χ Q)) (Qm Γ true ad χ (pI Q)) (frB Γ)) (ad : Nat → Nat → Nat) (χ : St) (Q : Int32 → St → Prop) : Mt l yX4_compared (ws_ yX4_compared cX4_compared 4 (some .int)) (rmO (F1 + 3) (L1 + 70) χ) (Pm Γ ad χ [.ref (ad 40 0)] (w_M_compared W1 χ Q)) (Qm Γ true ad χ (pI Q)) (frB Γ) := by
  refine Mt.start (by decide) RX4 rfl (Nat.le_of_ble_eq_true rfl) ?_
  intro X hX hG _ _ hna _ hf
  have B37 : ∀ (ad : Nat → Nat → Nat) (x1 : Int32) (x2 : Int32) (χ : St), w_M_compared_37 W1 Q x1 x2 χ → G X ad χ 37 [(0, .ref (ad 40 0)), (1, .int x1), (2, .int x2)] [] := by
    intro ad x1 x2 χ hf
    unfold w_M_compared_37 at hf
    refine g_aload_n hX 0 dX4_compared_37 rfl rfl ?_
    refine g_dup hX dX4_compared_38 rfl ?_
    refine g_getI hX (k := 15) (fc40 _) ff40 rfl rfl in_X4 (by decide) q1520 dX4_compared_39 ?_
    refine g_iconst hX (v := (1 : Int32)) dX4_compared_42 rfl ?_
    refine g_iadd hX dX4_compared_43 ?_
    refine g_putI hX (k := 15) (fc40 _) ff40 rfl rfl in_X4 tyX4_ok nmX4 (by decide) q1520 rfl rfl rfl rfl dX4_compared_44 ?_
    replace hf := hf _ rfl
    refine g_aload_n hX 0 dX4_compared_47 rfl rfl ?_
    refine g_callVi hX (n := 0) (mt_M_sums X.l X.Γ W1 F1 L1 h1 _ _ _) hf q1730 q1732 qs52 q89 q1733 ⟨rfl, hy_M_sums⟩ ⟨by omega, by omega⟩ (fc40 _) ff40 rfl rfl rfl (Nat.le_of_ble_eq_true rfl) dX4_compared_48 (fun r6 χ7 hf hc7 => ?_)
    refine g_istore_n hX dX4_compared_51 rfl (by decide) rfl ?_
    refine g_iload_n hX 3 dX4_compared_52 rfl rfl ?_
    refine g_bipush hX (v := (60 : Int32)) dX4_compared_53 rfl ?_
    refine g_icmp_ne hX 66 dX4_compared_55 (by decide) (fun z => ?_) (fun z => ?_)
    · replace hf := hf.1 z
      refine g_iload_n hX 3 dX4_compared_66 rfl rfl ?_
      refine g_bipush hX (v := (61 : Int32)) dX4_compared_67 rfl ?_
      refine g_icmp_ne hX 80 dX4_compared_69 (by decide) (fun z => ?_) (fun z => ?_)
      · replace hf := hf.1 z
        refine g_iload_n hX 2 dX4_compared_80 rfl rfl ?_
        refine g_iload_n hX 0 dX4_compared_81 rfl rfl ?_
        refine g_icmp_le hX 89 dX4_compared_82 (by decide) (fun z => ?_) (fun z => ?_)
        · replace hf := hf.1 z
          refine g_iconst hX (v := (0 : Int32)) dX4_compared_89 rfl ?_
          exact g_iret hX ⟨_, rfl, hf⟩ dX4_compared_90
        · replace hf := hf.2 z
          refine g_iconst hX (v := (1 : Int32)) dX4_compared_85 rfl ?_
          refine g_goto hX 90 dX4_compared_86 (by decide) ?_
          exact g_iret hX ⟨_, rfl, hf⟩ dX4_compared_90
      · replace hf := hf.2 z
        refine g_iload_n hX 2 dX4_compared_72 rfl rfl ?_
        refine g_iload_n hX 0 dX4_compared_73 rfl rfl ?_
        refine g_icmp_ne hX 89 dX4_compared_74 (by decide) (fun z => ?_) (fun z => ?_)
        · replace hf := hf.1 z
          refine g_iconst hX (v := (0 : Int32)) dX4_compared_89 rfl ?_
          exact g_iret hX ⟨_, rfl, hf⟩ dX4_compared_90
        · replace hf := hf.2 z
          refine g_goto hX 85 dX4_compared_77 (by decide) ?_
          refine g_iconst hX (v := (1 : Int32)) dX4_compared_85 rfl ?_
          refine g_goto hX 90 dX4_compared_86 (by decide) ?_
          exact g_iret hX ⟨_, rfl, hf⟩ dX4_compared_90
    · replace hf := hf.2 z
      refine g_iload_n hX 2 dX4_compared_58 rfl rfl ?_
      refine g_iload_n hX 0 dX4_compared_59 rfl rfl ?_
      refine g_icmp_ge hX 89 dX4_compared_60 (by decide) (fun z => ?_) (fun z => ?_)
      · replace hf := hf.1 z
        refine g_iconst hX (v := (0 : Int32)) dX4_compared_89 rfl ?_
        exact g_iret hX ⟨_, rfl, hf⟩ dX4_compared_90
      · replace hf := hf.2 z
        refine g_goto hX 85 dX4_compared_63 (by decide) ?_
        refine g_iconst hX (v := (1 : Int32)) dX4_compared_85 rfl ?_
        refine g_goto hX 90 dX4_compared_86 (by decide) ?_
        exact g_iret hX ⟨_, rfl, hf⟩ dX4_compared_90
  unfold w_M_compared at hf
  refine g_aload_n hX 0 dX4_compared_0 rfl rfl ?_
  refine g_callVi hX (n := 0) (mt_M_sums X.l X.Γ W1 F1 L1 h1 _ _ _) hf q1730 q1732 qs52 q89 q1733 ⟨rfl, hy_M_sums⟩ ⟨by omega, by omega⟩ (fc40 _) ff40 rfl rfl rfl (Nat.le_of_ble_eq_true rfl) dX4_compared_1 (fun r1 χ2 hf hc2 => ?_)
  refine g_istore_n hX dX4_compared_4 rfl (by decide) rfl ?_
  refine g_aload_n hX 1 dX4_compared_5 rfl rfl ?_
  refine g_callVi hX (n := 0) (mt_M_byteAt X.l X.Γ _ _ _) hf q1742 q1744 qs55 q89 q1745 ⟨rfl, hy_M_byteAt⟩ ⟨by omega, by omega⟩ (fc40 _) ff40 rfl rfl rfl (Nat.le_of_ble_eq_true rfl) dX4_compared_6 (fun r3 χ4 hf hc4 => ?_)
  refine g_istore_n hX dX4_compared_9 rfl (by decide) rfl ?_
  refine g_aload_n hX 2 dX4_compared_10 rfl rfl ?_
  refine g_getI hX (k := 17) (fc40 _) ff40 rfl rfl in_X4 (by decide) q1522 dX4_compared_11 ?_
  refine g_if_ge hX 35 dX4_compared_14 (by decide) (fun z => ?_) (fun z => ?_)
  · replace hf := hf.1 z
    refine g_iload_n hX 1 dX4_compared_35 rfl rfl ?_
    exact g_iret hX ⟨_, rfl, hf⟩ dX4_compared_36
  · replace hf := hf.2 z
    refine g_iload_n hX 0 dX4_compared_17 rfl rfl ?_
    refine g_bipush hX (v := (60 : Int32)) dX4_compared_18 rfl ?_
    refine g_icmp_eq hX 37 dX4_compared_20 (by decide) (fun z => ?_) (fun z => ?_)
    · replace hf := hf.1 z
      refine g_sub [2, 1, 0] rfl ?_
      exact B37 _ _ _ _ hf
    · replace hf := hf.2 z
      refine g_iload_n hX 0 dX4_compared_23 rfl rfl ?_
      refine g_bipush hX (v := (61 : Int32)) dX4_compared_24 rfl ?_
      refine g_icmp_eq hX 37 dX4_compared_26 (by decide) (fun z => ?_) (fun z => ?_)
      · replace hf := hf.1 z
        refine g_sub [2, 1, 0] rfl ?_
        exact B37 _ _ _ _ hf
      · replace hf := hf.2 z
        refine g_iload_n hX 0 dX4_compared_29 rfl rfl ?_
        refine g_bipush hX (v := (62 : Int32)) dX4_compared_30 rfl ?_
        refine g_icmp_eq hX 37 dX4_compared_32 (by decide) (fun z => ?_) (fun z => ?_)
        · replace hf := hf.1 z
          refine g_sub [2, 1, 0] rfl ?_
          exact B37 _ _ _ _ hf
        · replace hf := hf.2 z
          refine g_iload_n hX 1 dX4_compared_35 rfl rfl ?_
          exact g_iret hX ⟨_, rfl, hf⟩ dX4_compared_36

def w_M_takes (x1 : Int32) (χ : St) (Q : Int32 → St → Prop) : Prop := ((0 ≤ (gI χ 4117 0 0) → (Q (0 : Int32) χ)) ∧ (¬ 0 ≤ (gI χ 4117 0 0) → (w_M_byteAt χ (fun r1 χ2 => ((r1 = x1 → (∀ χ3 : St, χ3 = (sI χ2 4115 0 0 ((gI χ2 4115 0 0) + (1 : Int32))) → (Q (1 : Int32) χ3))) ∧ (¬ r1 = x1 → (Q (0 : Int32) χ2)))))))
set_option maxHeartbeats 4000000 in
theorem mt_M_takes (l : Launch) (Γ : Gh) (ad : Nat → Nat → Nat) (x1 : Int32) (χ : St) (Q : Int32 → St → Prop) : Mt l yX4_takes (ws_ yX4_takes cX4_takes 2 (some .boolean)) (rmO (1) (20) χ) (Pm Γ ad χ [.ref (ad 40 0), .int x1] (w_M_takes x1 χ Q)) (Qm Γ true ad χ (pI Q)) (frB Γ) := by
  refine Mt.start (by decide) RX4 rfl (Nat.le_of_ble_eq_true rfl) ?_
  intro X hX hG _ _ hna _ hf
  unfold w_M_takes at hf
  refine g_aload_n hX 0 dX4_takes_0 rfl rfl ?_
  refine g_getI hX (k := 17) (fc40 _) ff40 rfl rfl in_X4 (by decide) q1522 dX4_takes_1 ?_
  refine g_if_ge hX 15 dX4_takes_4 (by decide) (fun z => ?_) (fun z => ?_)
  · replace hf := hf.1 z
    refine g_iconst hX (v := (0 : Int32)) dX4_takes_15 rfl ?_
    exact g_zret hX rfl ⟨_, rfl, hf⟩ dX4_takes_16
  · replace hf := hf.2 z
    refine g_aload_n hX 0 dX4_takes_7 rfl rfl ?_
    refine g_callVi hX (n := 0) (mt_M_byteAt X.l X.Γ _ _ _) hf q1742 q1744 qs55 q89 q1745 ⟨rfl, hy_M_byteAt⟩ (by decide) (fc40 _) ff40 rfl rfl rfl (Nat.le_of_ble_eq_true rfl) dX4_takes_8 (fun r1 χ2 hf hc2 => ?_)
    refine g_iload_n hX 1 dX4_takes_11 rfl rfl ?_
    refine g_icmp_eq hX 17 dX4_takes_12 (by decide) (fun z => ?_) (fun z => ?_)
    · replace hf := hf.1 z
      refine g_aload_n hX 0 dX4_takes_17 rfl rfl ?_
      refine g_dup hX dX4_takes_18 rfl ?_
      refine g_getI hX (k := 15) (fc40 _) ff40 rfl rfl in_X4 (by decide) q1520 dX4_takes_19 ?_
      refine g_iconst hX (v := (1 : Int32)) dX4_takes_22 rfl ?_
      refine g_iadd hX dX4_takes_23 ?_
      refine g_putI hX (k := 15) (fc40 _) ff40 rfl rfl in_X4 tyX4_ok nmX4 (by decide) q1520 rfl rfl rfl rfl dX4_takes_24 ?_
      replace hf := hf _ rfl
      refine g_iconst hX (v := (1 : Int32)) dX4_takes_27 rfl ?_
      exact g_zret hX rfl ⟨_, rfl, hf⟩ dX4_takes_28
    · replace hf := hf.2 z
      refine g_iconst hX (v := (0 : Int32)) dX4_takes_15 rfl ?_
      exact g_zret hX rfl ⟨_, rfl, hf⟩ dX4_takes_16

def w_M_both_32 (W1 : St → (Int32 → St → Prop) → Prop) (Q : Int32 → St → Prop) (K5 : Int32 → St → Prop) (z0 : Int32) (χ : St) : Prop := (K5 z0 χ)
def w_M_both_31 (W1 : St → (Int32 → St → Prop) → Prop) (Q : Int32 → St → Prop) (K5 : Int32 → St → Prop) (χ : St) : Prop := (w_M_both_32 W1 Q K5 (0 : Int32) χ)
def w_M_both_5 (W1 : St → (Int32 → St → Prop) → Prop) (Q : Int32 → St → Prop) : Nat → Int32 → St → Prop
  | 0 => fun _ _ => False
  | n + 1 => fun x1 χ => (w_M_takes (38 : Int32) χ (fun r3 χ4 => ((r3 = 0 → (Q x1 χ4)) ∧ (¬ r3 = 0 → (w_M_compared W1 χ4 (fun r5 χ6 => ((x1 = 0 → (w_M_both_31 W1 Q (w_M_both_5 W1 Q n) χ6)) ∧ (¬ x1 = 0 → ((r5 = 0 → (w_M_both_31 W1 Q (w_M_both_5 W1 Q n) χ6)) ∧ (¬ r5 = 0 → (w_M_both_32 W1 Q (w_M_both_5 W1 Q n) (1 : Int32) χ6)))))))))))
def w_M_both (W1 : St → (Int32 → St → Prop) → Prop) (χ : St) (Q : Int32 → St → Prop) : Prop := (w_M_compared W1 χ (fun r1 χ2 => (∃ k5, w_M_both_5 W1 Q k5 r1 χ2)))
set_option maxHeartbeats 4000000 in
theorem mt_M_both (l : Launch) (Γ : Gh) (W1 : St → (Int32 → St → Prop) → Prop) (F1 L1 : Nat) (h1 : ∀ (l : Launch) (Γ : Gh) (ad : Nat → Nat → Nat) (χ : St) (Q : Int32 → St → Prop), Mt l yX4_one (ws_ yX4_one cX4_one 5 (some .int)) (rmO F1 L1 χ) (Pm Γ ad χ [.ref (ad 40 0)] (W1 χ Q)) (Qm Γ true ad χ (pI Q)) (frB Γ)) (ad : Nat → Nat → Nat) (χ : St) (Q : Int32 → St → Prop) : Mt l yX4_both (ws_ yX4_both cX4_both 3 (some .int)) (rmO (F1 + 4) (L1 + 93) χ) (Pm Γ ad χ [.ref (ad 40 0)] (w_M_both W1 χ Q)) (Qm Γ true ad χ (pI Q)) (frB Γ) := by
  refine Mt.start (by decide) RX4 rfl (Nat.le_of_ble_eq_true rfl) ?_
  intro X hX hG _ _ hna _ hf
  have B32 : ∀ (K5 : Int32 → St → Prop) (hK5 : ∀ (ad : Nat → Nat → Nat) (x1 : Int32) (χ : St), K5 x1 χ → G X ad χ 5 [(0, .ref (ad 40 0)), (1, .int x1)] []) (ad : Nat → Nat → Nat) (z0 : Int32) (χ : St), w_M_both_32 W1 Q K5 z0 χ → G X ad χ 32 [(0, .ref (ad 40 0))] [.int z0] := by
    intro K5 hK5 ad z0 χ hf
    unfold w_M_both_32 at hf
    refine g_istore_n hX dX4_both_32 rfl (by decide) rfl ?_
    refine g_goto hX 5 dX4_both_33 (by decide) ?_
    refine g_sub [1, 0] rfl ?_
    exact hK5 _ _ _ hf
  have B31 : ∀ (K5 : Int32 → St → Prop) (hK5 : ∀ (ad : Nat → Nat → Nat) (x1 : Int32) (χ : St), K5 x1 χ → G X ad χ 5 [(0, .ref (ad 40 0)), (1, .int x1)] []) (ad : Nat → Nat → Nat) (χ : St), w_M_both_31 W1 Q K5 χ → G X ad χ 31 [(0, .ref (ad 40 0))] [] := by
    intro K5 hK5 ad χ hf
    unfold w_M_both_31 at hf
    refine g_iconst hX (v := (0 : Int32)) dX4_both_31 rfl ?_
    exact B32 K5 hK5 _ _ _ hf
  have B5 : ∀ (n : Nat) (ad : Nat → Nat → Nat) (x1 : Int32) (χ : St), w_M_both_5 W1 Q n x1 χ → G X ad χ 5 [(0, .ref (ad 40 0)), (1, .int x1)] [] := by
    intro n
    induction n with
    | zero => intro ad x1 χ hf; exact hf.elim
    | succ n hK5 =>
      intro ad x1 χ hf
      unfold w_M_both_5 at hf
      refine g_aload_n hX 0 dX4_both_5 rfl rfl ?_
      refine g_bipush hX (v := (38 : Int32)) dX4_both_6 rfl ?_
      refine g_callVi hX (n := 1) (mt_M_takes X.l X.Γ _ _ _ _) hf q1750 q1752 qs57 q89 q1753 ⟨rfl, hy_M_takes⟩ ⟨by omega, by omega⟩ (fc40 _) ff40 rfl rfl rfl (Nat.le_of_ble_eq_true rfl) dX4_both_8 (fun r3 χ4 hf hc4 => ?_)
      refine g_if_eq hX 36 dX4_both_11 (by decide) (fun z => ?_) (fun z => ?_)
      · replace hf := hf.1 z
        refine g_iload_n hX 1 dX4_both_36 rfl rfl ?_
        exact g_iret hX ⟨_, rfl, hf⟩ dX4_both_37
      · replace hf := hf.2 z
        refine g_aload_n hX 0 dX4_both_14 rfl rfl ?_
        refine g_callVi hX (n := 0) (mt_M_compared X.l X.Γ W1 F1 L1 h1 _ _ _) hf q1726 q1728 qs51 q89 q1729 ⟨rfl, hy_M_compared⟩ ⟨by omega, by omega⟩ (fc40 _) ff40 rfl rfl rfl (Nat.le_of_ble_eq_true rfl) dX4_both_15 (fun r5 χ6 hf hc6 => ?_)
        refine g_istore_n hX dX4_both_18 rfl (by decide) rfl ?_
        refine g_iload_n hX 2 dX4_both_19 rfl rfl ?_
        refine g_if_eq hX 31 dX4_both_20 (by decide) (fun z => ?_) (fun z => ?_)
        · replace hf := hf.1 z
          refine g_sub [1] rfl ?_
          exact B31 (w_M_both_5 W1 Q n) hK5 _ _ hf
        · replace hf := hf.2 z
          refine g_iload_n hX 0 dX4_both_23 rfl rfl ?_
          refine g_if_eq hX 31 dX4_both_24 (by decide) (fun z => ?_) (fun z => ?_)
          · replace hf := hf.1 z
            refine g_sub [1] rfl ?_
            exact B31 (w_M_both_5 W1 Q n) hK5 _ _ hf
          · replace hf := hf.2 z
            refine g_iconst hX (v := (1 : Int32)) dX4_both_27 rfl ?_
            refine g_goto hX 32 dX4_both_28 (by decide) ?_
            refine g_sub [1] rfl ?_
            exact B32 (w_M_both_5 W1 Q n) hK5 _ _ _ hf
  unfold w_M_both at hf
  refine g_aload_n hX 0 dX4_both_0 rfl rfl ?_
  refine g_callVi hX (n := 0) (mt_M_compared X.l X.Γ W1 F1 L1 h1 _ _ _) hf q1726 q1728 qs51 q89 q1729 ⟨rfl, hy_M_compared⟩ ⟨by omega, by omega⟩ (fc40 _) ff40 rfl rfl rfl (Nat.le_of_ble_eq_true rfl) dX4_both_1 (fun r1 χ2 hf hc2 => ?_)
  refine g_istore_n hX dX4_both_4 rfl (by decide) rfl ?_
  obtain ⟨n0, hf⟩ := hf
  refine g_sub [1, 0] rfl ?_
  exact B5 n0 _ _ _ hf

def w_M_either_32 (W1 : St → (Int32 → St → Prop) → Prop) (Q : Int32 → St → Prop) (K5 : Int32 → St → Prop) (z0 : Int32) (χ : St) : Prop := (K5 z0 χ)
def w_M_either_27 (W1 : St → (Int32 → St → Prop) → Prop) (Q : Int32 → St → Prop) (K5 : Int32 → St → Prop) (χ : St) : Prop := (w_M_either_32 W1 Q K5 (1 : Int32) χ)
def w_M_either_5 (W1 : St → (Int32 → St → Prop) → Prop) (Q : Int32 → St → Prop) : Nat → Int32 → St → Prop
  | 0 => fun _ _ => False
  | n + 1 => fun x1 χ => (w_M_takes (124 : Int32) χ (fun r3 χ4 => ((r3 = 0 → (Q x1 χ4)) ∧ (¬ r3 = 0 → (w_M_both W1 χ4 (fun r5 χ6 => ((¬ x1 = 0 → (w_M_either_27 W1 Q (w_M_either_5 W1 Q n) χ6)) ∧ (x1 = 0 → ((r5 = 0 → (w_M_either_32 W1 Q (w_M_either_5 W1 Q n) (0 : Int32) χ6)) ∧ (¬ r5 = 0 → (w_M_either_27 W1 Q (w_M_either_5 W1 Q n) χ6)))))))))))
def w_M_either (W1 : St → (Int32 → St → Prop) → Prop) (χ : St) (Q : Int32 → St → Prop) : Prop := (w_M_both W1 χ (fun r1 χ2 => (∃ k5, w_M_either_5 W1 Q k5 r1 χ2)))
set_option maxHeartbeats 4000000 in
theorem mt_M_either (l : Launch) (Γ : Gh) (W1 : St → (Int32 → St → Prop) → Prop) (F1 L1 : Nat) (h1 : ∀ (l : Launch) (Γ : Gh) (ad : Nat → Nat → Nat) (χ : St) (Q : Int32 → St → Prop), Mt l yX4_one (ws_ yX4_one cX4_one 5 (some .int)) (rmO F1 L1 χ) (Pm Γ ad χ [.ref (ad 40 0)] (W1 χ Q)) (Qm Γ true ad χ (pI Q)) (frB Γ)) (ad : Nat → Nat → Nat) (χ : St) (Q : Int32 → St → Prop) : Mt l yX4_either (ws_ yX4_either cX4_either 3 (some .int)) (rmO (F1 + 5) (L1 + 115) χ) (Pm Γ ad χ [.ref (ad 40 0)] (w_M_either W1 χ Q)) (Qm Γ true ad χ (pI Q)) (frB Γ) := by
  refine Mt.start (by decide) RX4 rfl (Nat.le_of_ble_eq_true rfl) ?_
  intro X hX hG _ _ hna _ hf
  have B32 : ∀ (K5 : Int32 → St → Prop) (hK5 : ∀ (ad : Nat → Nat → Nat) (x1 : Int32) (χ : St), K5 x1 χ → G X ad χ 5 [(0, .ref (ad 40 0)), (1, .int x1)] []) (ad : Nat → Nat → Nat) (z0 : Int32) (χ : St), w_M_either_32 W1 Q K5 z0 χ → G X ad χ 32 [(0, .ref (ad 40 0))] [.int z0] := by
    intro K5 hK5 ad z0 χ hf
    unfold w_M_either_32 at hf
    refine g_istore_n hX dX4_either_32 rfl (by decide) rfl ?_
    refine g_goto hX 5 dX4_either_33 (by decide) ?_
    refine g_sub [1, 0] rfl ?_
    exact hK5 _ _ _ hf
  have B27 : ∀ (K5 : Int32 → St → Prop) (hK5 : ∀ (ad : Nat → Nat → Nat) (x1 : Int32) (χ : St), K5 x1 χ → G X ad χ 5 [(0, .ref (ad 40 0)), (1, .int x1)] []) (ad : Nat → Nat → Nat) (χ : St), w_M_either_27 W1 Q K5 χ → G X ad χ 27 [(0, .ref (ad 40 0))] [] := by
    intro K5 hK5 ad χ hf
    unfold w_M_either_27 at hf
    refine g_iconst hX (v := (1 : Int32)) dX4_either_27 rfl ?_
    refine g_goto hX 32 dX4_either_28 (by decide) ?_
    exact B32 K5 hK5 _ _ _ hf
  have B5 : ∀ (n : Nat) (ad : Nat → Nat → Nat) (x1 : Int32) (χ : St), w_M_either_5 W1 Q n x1 χ → G X ad χ 5 [(0, .ref (ad 40 0)), (1, .int x1)] [] := by
    intro n
    induction n with
    | zero => intro ad x1 χ hf; exact hf.elim
    | succ n hK5 =>
      intro ad x1 χ hf
      unfold w_M_either_5 at hf
      refine g_aload_n hX 0 dX4_either_5 rfl rfl ?_
      refine g_bipush hX (v := (124 : Int32)) dX4_either_6 rfl ?_
      refine g_callVi hX (n := 1) (mt_M_takes X.l X.Γ _ _ _ _) hf q1750 q1752 qs57 q89 q1753 ⟨rfl, hy_M_takes⟩ ⟨by omega, by omega⟩ (fc40 _) ff40 rfl rfl rfl (Nat.le_of_ble_eq_true rfl) dX4_either_8 (fun r3 χ4 hf hc4 => ?_)
      refine g_if_eq hX 36 dX4_either_11 (by decide) (fun z => ?_) (fun z => ?_)
      · replace hf := hf.1 z
        refine g_iload_n hX 1 dX4_either_36 rfl rfl ?_
        exact g_iret hX ⟨_, rfl, hf⟩ dX4_either_37
      · replace hf := hf.2 z
        refine g_aload_n hX 0 dX4_either_14 rfl rfl ?_
        refine g_callVi hX (n := 0) (mt_M_both X.l X.Γ W1 F1 L1 h1 _ _ _) hf q1722 q1724 qs50 q89 q1725 ⟨rfl, hy_M_both⟩ ⟨by omega, by omega⟩ (fc40 _) ff40 rfl rfl rfl (Nat.le_of_ble_eq_true rfl) dX4_either_15 (fun r5 χ6 hf hc6 => ?_)
        refine g_istore_n hX dX4_either_18 rfl (by decide) rfl ?_
        refine g_iload_n hX 2 dX4_either_19 rfl rfl ?_
        refine g_if_ne hX 27 dX4_either_20 (by decide) (fun z => ?_) (fun z => ?_)
        · replace hf := hf.1 z
          refine g_sub [1] rfl ?_
          exact B27 (w_M_either_5 W1 Q n) hK5 _ _ hf
        · replace hf := hf.2 z
          refine g_iload_n hX 0 dX4_either_23 rfl rfl ?_
          refine g_if_eq hX 31 dX4_either_24 (by decide) (fun z => ?_) (fun z => ?_)
          · replace hf := hf.1 z
            refine g_iconst hX (v := (0 : Int32)) dX4_either_31 rfl ?_
            refine g_sub [1] rfl ?_
            exact B32 (w_M_either_5 W1 Q n) hK5 _ _ _ hf
          · replace hf := hf.2 z
            refine g_sub [1] rfl ?_
            exact B27 (w_M_either_5 W1 Q n) hK5 _ _ hf
  unfold w_M_either at hf
  refine g_aload_n hX 0 dX4_either_0 rfl rfl ?_
  refine g_callVi hX (n := 0) (mt_M_both X.l X.Γ W1 F1 L1 h1 _ _ _) hf q1722 q1724 qs50 q89 q1725 ⟨rfl, hy_M_both⟩ ⟨by omega, by omega⟩ (fc40 _) ff40 rfl rfl rfl (Nat.le_of_ble_eq_true rfl) dX4_either_1 (fun r1 χ2 hf hc2 => ?_)
  refine g_istore_n hX dX4_either_4 rfl (by decide) rfl ?_
  obtain ⟨n0, hf⟩ := hf
  refine g_sub [1, 0] rfl ?_
  exact B5 n0 _ _ _ hf

def w_M_wrong (χ : St) (Q : Int32 → St → Prop) : Prop := ((0 ≤ (gI χ 4117 0 0) → (∀ χ1 : St, χ1 = (sI χ 4117 0 0 (gI χ 4117 0 0)) → (Q (0 : Int32) χ1))) ∧ (¬ 0 ≤ (gI χ 4117 0 0) → (∀ χ2 : St, χ2 = (sI χ 4117 0 0 (gI χ 4115 0 0)) → (Q (0 : Int32) χ2))))
set_option maxHeartbeats 4000000 in
theorem mt_M_wrong (l : Launch) (Γ : Gh) (ad : Nat → Nat → Nat) (χ : St) (Q : Int32 → St → Prop) : Mt l yX4_wrong (ws_ yX4_wrong cX4_wrong 1 (some .int)) (rmO (0) (0) χ) (Pm Γ ad χ [.ref (ad 40 0)] (w_M_wrong χ Q)) (Qm Γ true ad χ (pI Q)) (frB Γ) := by
  refine Mt.start (by decide) RX4 rfl (Nat.le_of_ble_eq_true rfl) ?_
  intro X hX hG _ _ hna _ hf
  unfold w_M_wrong at hf
  refine g_aload_n hX 0 dX4_wrong_0 rfl rfl ?_
  refine g_aload_n hX 0 dX4_wrong_1 rfl rfl ?_
  refine g_getI hX (k := 17) (fc40 _) ff40 rfl rfl in_X4 (by decide) q1522 dX4_wrong_2 ?_
  refine g_if_ge hX 15 dX4_wrong_5 (by decide) (fun z => ?_) (fun z => ?_)
  · replace hf := hf.1 z
    refine g_aload_n hX 0 dX4_wrong_15 rfl rfl ?_
    refine g_getI hX (k := 17) (fc40 _) ff40 rfl rfl in_X4 (by decide) q1522 dX4_wrong_16 ?_
    refine g_putI hX (k := 17) (fc40 _) ff40 rfl rfl in_X4 tyX4_ok nmX4 (by decide) q1522 rfl rfl rfl rfl dX4_wrong_19 ?_
    replace hf := hf _ rfl
    refine g_iconst hX (v := (0 : Int32)) dX4_wrong_22 rfl ?_
    exact g_iret hX ⟨_, rfl, hf⟩ dX4_wrong_23
  · replace hf := hf.2 z
    refine g_aload_n hX 0 dX4_wrong_8 rfl rfl ?_
    refine g_getI hX (k := 15) (fc40 _) ff40 rfl rfl in_X4 (by decide) q1520 dX4_wrong_9 ?_
    refine g_goto hX 19 dX4_wrong_12 (by decide) ?_
    refine g_putI hX (k := 17) (fc40 _) ff40 rfl rfl in_X4 tyX4_ok nmX4 (by decide) q1522 rfl rfl rfl rfl dX4_wrong_19 ?_
    replace hf := hf _ rfl
    refine g_iconst hX (v := (0 : Int32)) dX4_wrong_22 rfl ?_
    exact g_iret hX ⟨_, rfl, hf⟩ dX4_wrong_23

def w_M_nameOf (x0 : Int32) (χ : St) (Q : Int32 → St → Prop) : Prop := (∀ v1 : Int32, v1 = x0 → ((v1 = (107 : Int32) → (Q (1 : Int32) χ)) ∧ (v1 = (112 : Int32) → (Q (3 : Int32) χ)) ∧ (v1 = (119 : Int32) → (Q (2 : Int32) χ)) ∧ (v1 = (121 : Int32) → (Q (0 : Int32) χ)) ∧ (¬ v1 = (107 : Int32) → ¬ v1 = (112 : Int32) → ¬ v1 = (119 : Int32) → ¬ v1 = (121 : Int32) → (Q (-1 : Int32) χ))))
set_option maxHeartbeats 4000000 in
theorem mt_M_nameOf (l : Launch) (Γ : Gh) (ad : Nat → Nat → Nat) (x0 : Int32) (χ : St) (Q : Int32 → St → Prop) : Mt l yX4_nameOf (ws_ yX4_nameOf cX4_nameOf 1 (some .int)) (rmO (0) (0) χ) (Pm Γ ad χ [.int x0] (w_M_nameOf x0 χ Q)) (Qm Γ true ad χ (pI Q)) (frB Γ) := by
  refine Mt.start (by decide) RX4 rfl (Nat.le_of_ble_eq_true rfl) ?_
  intro X hX hG _ _ hna _ hf
  unfold w_M_nameOf at hf
  refine g_iload_n hX 0 dX4_nameOf_0 rfl rfl ?_
  replace hf := hf _ rfl
  by_cases z107 : x0 = (107 : Int32)
  · replace hf := hf.1 z107
    refine g_lookup hX 46 dX4_nameOf_1 (by decide) (by rw [z107] <;> rfl) (by decide) ?_
    refine g_iconst hX (v := (1 : Int32)) dX4_nameOf_46 rfl ?_
    exact g_iret hX ⟨_, rfl, hf⟩ dX4_nameOf_47
  replace hf := hf.2
  by_cases z112 : x0 = (112 : Int32)
  · replace hf := hf.1 z112
    refine g_lookup hX 50 dX4_nameOf_1 (by decide) (by rw [z112] <;> rfl) (by decide) ?_
    refine g_iconst hX (v := (3 : Int32)) dX4_nameOf_50 rfl ?_
    exact g_iret hX ⟨_, rfl, hf⟩ dX4_nameOf_51
  replace hf := hf.2
  by_cases z119 : x0 = (119 : Int32)
  · replace hf := hf.1 z119
    refine g_lookup hX 48 dX4_nameOf_1 (by decide) (by rw [z119] <;> rfl) (by decide) ?_
    refine g_iconst hX (v := (2 : Int32)) dX4_nameOf_48 rfl ?_
    exact g_iret hX ⟨_, rfl, hf⟩ dX4_nameOf_49
  replace hf := hf.2
  by_cases z121 : x0 = (121 : Int32)
  · replace hf := hf.1 z121
    refine g_lookup hX 44 dX4_nameOf_1 (by decide) (by rw [z121] <;> rfl) (by decide) ?_
    refine g_iconst hX (v := (0 : Int32)) dX4_nameOf_44 rfl ?_
    exact g_iret hX ⟨_, rfl, hf⟩ dX4_nameOf_45
  replace hf := hf.2
  replace hf := hf z107 z112 z119 z121
  refine g_lookup hX (off := 51) 52 dX4_nameOf_1 (by decide) (by refine (if_neg (lk_ne z107)).trans ?_; refine (if_neg (lk_ne z112)).trans ?_; refine (if_neg (lk_ne z119)).trans ?_; refine (if_neg (lk_ne z121)).trans ?_; rfl) (by decide) ?_
  refine g_iconst hX (v := (-1 : Int32)) dX4_nameOf_52 rfl ?_
  exact g_iret hX ⟨_, rfl, hf⟩ dX4_nameOf_53

def w_M_one_104 (W1 : St → (Int32 → St → Prop) → Prop) (Q : Int32 → St → Prop) (x1 : Int32) (x2 : Int32) (χ : St) : Prop := (∀ χ7 : St, χ7 = (sI χ 4118 0 0 ((gI χ 4118 0 0) - (1 : Int32))) → ((¬ x1 = (40 : Int32) → ((¬ x1 = (45 : Int32) → ((¬ x2 = 0 → (Q (0 : Int32) χ7)) ∧ (x2 = 0 → (Q (1 : Int32) χ7)))) ∧ (x1 = (45 : Int32) → (Q (-x2) χ7)))) ∧ (x1 = (40 : Int32) → (Q x2 χ7))))
def w_M_one_83 (W1 : St → (Int32 → St → Prop) → Prop) (Q : Int32 → St → Prop) (x1 : Int32) (z0 : Int32) (χ : St) : Prop := ((¬ x1 = (40 : Int32) → (w_M_one_104 W1 Q x1 z0 χ)) ∧ (x1 = (40 : Int32) → (w_M_takes (41 : Int32) χ (fun r8 χ9 => ((¬ r8 = 0 → (w_M_one_104 W1 Q x1 z0 χ9)) ∧ (r8 = 0 → (w_M_wrong χ9 (fun r10 χ11 => (Q r10 χ11)))))))))
def w_M_one_32 (W1 : St → (Int32 → St → Prop) → Prop) (Q : Int32 → St → Prop) (x1 : Int32) (χ : St) : Prop := ((¬ (gI χ 4118 0 0) = (6 : Int32) → (∀ χ3 : St, χ3 = (sI χ 4118 0 0 ((gI χ 4118 0 0) + (1 : Int32))) → (∀ χ4 : St, χ4 = (sI χ3 4115 0 0 ((gI χ3 4115 0 0) + (1 : Int32))) → ((¬ x1 = (40 : Int32) → (W1 χ4 (fun r5 χ6 => (w_M_one_83 W1 Q x1 r5 χ6)))) ∧ (x1 = (40 : Int32) → (w_M_either W1 χ4 (fun r12 χ13 => (w_M_one_83 W1 Q x1 r12 χ13)))))))) ∧ ((gI χ 4118 0 0) = (6 : Int32) → (w_M_wrong χ (fun r14 χ15 => (Q r14 χ15)))))
def w_M_one_229 (W1 : St → (Int32 → St → Prop) → Prop) (Q : Int32 → St → Prop) (x3 : Int32) (x4 : Int32) (χ : St) : Prop := ((¬ x4 = 0 → (Q x3 χ)) ∧ (x4 = 0 → (w_M_wrong χ (fun r18 χ19 => (Q r18 χ19)))))
def w_M_one_176 (W1 : St → (Int32 → St → Prop) → Prop) (Q : Int32 → St → Prop) : Nat → Int32 → Int32 → St → Prop
  | 0 => fun _ _ _ => False
  | n + 1 => fun x3 x4 χ => (((4 : Int32) ≤ x4 → (w_M_one_229 W1 Q x3 x4 χ)) ∧ (¬ (4 : Int32) ≤ x4 → (w_M_byteAt χ (fun r20 χ21 => ((r20 < (48 : Int32) → (w_M_one_229 W1 Q x3 x4 χ21)) ∧ (¬ r20 < (48 : Int32) → (w_M_byteAt χ21 (fun r22 χ23 => (((57 : Int32) < r22 → (w_M_one_229 W1 Q x3 x4 χ23)) ∧ (¬ (57 : Int32) < r22 → (w_M_byteAt χ23 (fun r24 χ25 => (∀ v26 : Int32, v26 = ((((10 : Int32) * x3) + r24) - (48 : Int32)) → (∀ χ27 : St, χ27 = (sI χ25 4115 0 0 ((gI χ25 4115 0 0) + (1 : Int32))) → (w_M_one_176 W1 Q n v26 (x4 + (1 : Int32)) χ27)))))))))))))))
def w_M_one_b (W1 : St → (Int32 → St → Prop) → Prop) (χ : St) (Q : Int32 → St → Prop) : Prop := (((gI χ 4117 0 0) < 0 → (w_M_byteAt χ (fun r1 χ2 => ((r1 = (33 : Int32) → (w_M_one_32 W1 Q r1 χ2)) ∧ (¬ r1 = (33 : Int32) → ((r1 = (45 : Int32) → (w_M_one_32 W1 Q r1 χ2)) ∧ (¬ r1 = (45 : Int32) → ((¬ r1 = (40 : Int32) → (w_M_nameOf r1 χ2 (fun r16 χ17 => ((r16 < 0 → (∃ k176, w_M_one_176 W1 Q k176 (0 : Int32) (0 : Int32) χ17)) ∧ (¬ r16 < 0 → (∀ χ28 : St, χ28 = (sI χ17 4115 0 0 ((gI χ17 4115 0 0) + (1 : Int32))) → (vp_in r16 4) ∧ ((Q (gI χ28 51 0 r16.toNatClampNeg) χ28)))))))) ∧ (r1 = (40 : Int32) → (w_M_one_32 W1 Q r1 χ2)))))))))) ∧ (¬ (gI χ 4117 0 0) < 0 → (Q (0 : Int32) χ)))
set_option maxHeartbeats 4000000 in
theorem mt_M_one_b (l : Launch) (Γ : Gh) (W1 : St → (Int32 → St → Prop) → Prop) (F1 L1 : Nat) (h1 : ∀ (l : Launch) (Γ : Gh) (ad : Nat → Nat → Nat) (χ : St) (Q : Int32 → St → Prop), Mt l yX4_one (ws_ yX4_one cX4_one 5 (some .int)) (rmO F1 L1 χ) (Pm Γ ad χ [.ref (ad 40 0)] (W1 χ Q)) (Qm Γ true ad χ (pI Q)) (frB Γ)) (ad : Nat → Nat → Nat) (χ : St) (Q : Int32 → St → Prop) : Mt l yX4_one (ws_ yX4_one cX4_one 5 (some .int)) (rmO (F1 + 6) (L1 + 137) χ) (Pm Γ ad χ [.ref (ad 40 0)] (w_M_one_b W1 χ Q)) (Qm Γ true ad χ (pI Q)) (frB Γ) := by
  refine Mt.start (by decide) RX4 rfl (Nat.le_of_ble_eq_true rfl) ?_
  intro X hX hG _ _ hna _ hf
  have B104 : ∀ (ad : Nat → Nat → Nat) (x1 : Int32) (x2 : Int32) (χ : St), w_M_one_104 W1 Q x1 x2 χ → G X ad χ 104 [(0, .ref (ad 40 0)), (1, .int x1), (2, .int x2)] [] := by
    intro ad x1 x2 χ hf
    unfold w_M_one_104 at hf
    refine g_aload_n hX 0 dX4_one_104 rfl rfl ?_
    refine g_dup hX dX4_one_105 rfl ?_
    refine g_getI hX (k := 18) (fc40 _) ff40 rfl rfl in_X4 (by decide) q1523 dX4_one_106 ?_
    refine g_iconst hX (v := (1 : Int32)) dX4_one_109 rfl ?_
    refine g_isub hX dX4_one_110 ?_
    refine g_putI hX (k := 18) (fc40 _) ff40 rfl rfl in_X4 tyX4_ok nmX4 (by decide) q1523 rfl rfl rfl rfl dX4_one_111 ?_
    replace hf := hf _ rfl
    refine g_iload_n hX 1 dX4_one_114 rfl rfl ?_
    refine g_bipush hX (v := (40 : Int32)) dX4_one_115 rfl ?_
    refine g_icmp_ne hX 124 dX4_one_117 (by decide) (fun z => ?_) (fun z => ?_)
    · replace hf := hf.1 z
      refine g_iload_n hX 1 dX4_one_124 rfl rfl ?_
      refine g_bipush hX (v := (45 : Int32)) dX4_one_125 rfl ?_
      refine g_icmp_ne hX 135 dX4_one_127 (by decide) (fun z => ?_) (fun z => ?_)
      · replace hf := hf.1 z
        refine g_iload_n hX 2 dX4_one_135 rfl rfl ?_
        refine g_if_ne hX 143 dX4_one_136 (by decide) (fun z => ?_) (fun z => ?_)
        · replace hf := hf.1 z
          refine g_iconst hX (v := (0 : Int32)) dX4_one_143 rfl ?_
          exact g_iret hX ⟨_, rfl, hf⟩ dX4_one_144
        · replace hf := hf.2 z
          refine g_iconst hX (v := (1 : Int32)) dX4_one_139 rfl ?_
          refine g_goto hX 144 dX4_one_140 (by decide) ?_
          exact g_iret hX ⟨_, rfl, hf⟩ dX4_one_144
      · replace hf := hf.2 z
        refine g_iload_n hX 2 dX4_one_130 rfl rfl ?_
        refine g_ineg hX dX4_one_131 ?_
        refine g_goto hX 144 dX4_one_132 (by decide) ?_
        exact g_iret hX ⟨_, rfl, hf⟩ dX4_one_144
    · replace hf := hf.2 z
      refine g_iload_n hX 2 dX4_one_120 rfl rfl ?_
      refine g_goto hX 144 dX4_one_121 (by decide) ?_
      exact g_iret hX ⟨_, rfl, hf⟩ dX4_one_144
  have B83 : ∀ (ad : Nat → Nat → Nat) (x1 : Int32) (z0 : Int32) (χ : St), w_M_one_83 W1 Q x1 z0 χ → G X ad χ 83 [(0, .ref (ad 40 0)), (1, .int x1)] [.int z0] := by
    intro ad x1 z0 χ hf
    unfold w_M_one_83 at hf
    refine g_istore_n hX dX4_one_83 rfl (by decide) rfl ?_
    refine g_iload_n hX 2 dX4_one_84 rfl rfl ?_
    refine g_bipush hX (v := (40 : Int32)) dX4_one_85 rfl ?_
    refine g_icmp_ne hX 104 dX4_one_87 (by decide) (fun z => ?_) (fun z => ?_)
    · replace hf := hf.1 z
      refine g_sub [1, 2, 0] rfl ?_
      exact B104 _ _ _ _ hf
    · replace hf := hf.2 z
      refine g_aload_n hX 1 dX4_one_90 rfl rfl ?_
      refine g_bipush hX (v := (41 : Int32)) dX4_one_91 rfl ?_
      refine g_callVi hX (n := 1) (mt_M_takes X.l X.Γ _ _ _ _) hf q1750 q1752 qs57 q89 q1753 ⟨rfl, hy_M_takes⟩ ⟨by omega, by omega⟩ (fc40 _) ff40 rfl rfl rfl (Nat.le_of_ble_eq_true rfl) dX4_one_93 (fun r8 χ9 hf hc9 => ?_)
      refine g_if_ne hX 104 dX4_one_96 (by decide) (fun z => ?_) (fun z => ?_)
      · replace hf := hf.1 z
        refine g_sub [1, 2, 0] rfl ?_
        exact B104 _ _ _ _ hf
      · replace hf := hf.2 z
        refine g_aload_n hX 1 dX4_one_99 rfl rfl ?_
        refine g_callVi hX (n := 0) (mt_M_wrong X.l X.Γ _ _ _) hf q1746 q1748 qs56 q89 q1749 ⟨rfl, hy_M_wrong⟩ ⟨by omega, by omega⟩ (fc40 _) ff40 rfl rfl rfl (Nat.le_of_ble_eq_true rfl) dX4_one_100 (fun r10 χ11 hf hc11 => ?_)
        exact g_iret hX ⟨_, rfl, hf⟩ dX4_one_103
  have B32 : ∀ (ad : Nat → Nat → Nat) (x1 : Int32) (χ : St), w_M_one_32 W1 Q x1 χ → G X ad χ 32 [(0, .ref (ad 40 0)), (1, .int x1)] [] := by
    intro ad x1 χ hf
    unfold w_M_one_32 at hf
    refine g_aload_n hX 0 dX4_one_32 rfl rfl ?_
    refine g_getI hX (k := 18) (fc40 _) ff40 rfl rfl in_X4 (by decide) q1523 dX4_one_33 ?_
    refine g_bipush hX (v := (6 : Int32)) dX4_one_36 rfl ?_
    refine g_icmp_ne hX 46 dX4_one_38 (by decide) (fun z => ?_) (fun z => ?_)
    · replace hf := hf.1 z
      refine g_aload_n hX 0 dX4_one_46 rfl rfl ?_
      refine g_dup hX dX4_one_47 rfl ?_
      refine g_getI hX (k := 18) (fc40 _) ff40 rfl rfl in_X4 (by decide) q1523 dX4_one_48 ?_
      refine g_iconst hX (v := (1 : Int32)) dX4_one_51 rfl ?_
      refine g_iadd hX dX4_one_52 ?_
      refine g_putI hX (k := 18) (fc40 _) ff40 rfl rfl in_X4 tyX4_ok nmX4 (by decide) q1523 rfl rfl rfl rfl dX4_one_53 ?_
      replace hf := hf _ rfl
      refine g_aload_n hX 0 dX4_one_56 rfl rfl ?_
      refine g_dup hX dX4_one_57 rfl ?_
      refine g_getI hX (k := 15) (fc40 _) ff40 rfl rfl in_X4 (by decide) q1520 dX4_one_58 ?_
      refine g_iconst hX (v := (1 : Int32)) dX4_one_61 rfl ?_
      refine g_iadd hX dX4_one_62 ?_
      refine g_putI hX (k := 15) (fc40 _) ff40 rfl rfl in_X4 tyX4_ok nmX4 (by decide) q1520 rfl rfl rfl rfl dX4_one_63 ?_
      replace hf := hf _ rfl
      refine g_iload_n hX 1 dX4_one_66 rfl rfl ?_
      refine g_bipush hX (v := (40 : Int32)) dX4_one_67 rfl ?_
      refine g_icmp_ne hX 79 dX4_one_69 (by decide) (fun z => ?_) (fun z => ?_)
      · replace hf := hf.1 z
        refine g_aload_n hX 0 dX4_one_79 rfl rfl ?_
        refine g_callVi hX (n := 0) (h1 X.l X.Γ _ _ _) hf q1738 q1740 qs54 q89 q1741 ⟨rfl, hy_M_one⟩ ⟨by omega, by omega⟩ (fc40 _) ff40 rfl rfl rfl (Nat.le_of_ble_eq_true rfl) dX4_one_80 (fun r5 χ6 hf hc6 => ?_)
        exact B83 _ _ _ _ hf
      · replace hf := hf.2 z
        refine g_aload_n hX 0 dX4_one_72 rfl rfl ?_
        refine g_callVi hX (n := 0) (mt_M_either X.l X.Γ W1 F1 L1 h1 _ _ _) hf q1718 q1720 qs49 q89 q1721 ⟨rfl, hy_M_either⟩ ⟨by omega, by omega⟩ (fc40 _) ff40 rfl rfl rfl (Nat.le_of_ble_eq_true rfl) dX4_one_73 (fun r12 χ13 hf hc13 => ?_)
        refine g_goto hX 83 dX4_one_76 (by decide) ?_
        exact B83 _ _ _ _ hf
    · replace hf := hf.2 z
      refine g_aload_n hX 0 dX4_one_41 rfl rfl ?_
      refine g_callVi hX (n := 0) (mt_M_wrong X.l X.Γ _ _ _) hf q1746 q1748 qs56 q89 q1749 ⟨rfl, hy_M_wrong⟩ ⟨by omega, by omega⟩ (fc40 _) ff40 rfl rfl rfl (Nat.le_of_ble_eq_true rfl) dX4_one_42 (fun r14 χ15 hf hc15 => ?_)
      exact g_iret hX ⟨_, rfl, hf⟩ dX4_one_45
  have B229 : ∀ (ad : Nat → Nat → Nat) (x3 : Int32) (x4 : Int32) (χ : St), w_M_one_229 W1 Q x3 x4 χ → G X ad χ 229 [(0, .ref (ad 40 0)), (3, .int x3), (4, .int x4)] [] := by
    intro ad x3 x4 χ hf
    unfold w_M_one_229 at hf
    refine g_iload hX 2 dX4_one_229 rfl ?_
    refine g_if_ne hX 241 dX4_one_231 (by decide) (fun z => ?_) (fun z => ?_)
    · replace hf := hf.1 z
      refine g_iload_n hX 1 dX4_one_241 rfl rfl ?_
      exact g_iret hX ⟨_, rfl, hf⟩ dX4_one_242
    · replace hf := hf.2 z
      refine g_aload_n hX 0 dX4_one_234 rfl rfl ?_
      refine g_callVi hX (n := 0) (mt_M_wrong X.l X.Γ _ _ _) hf q1746 q1748 qs56 q89 q1749 ⟨rfl, hy_M_wrong⟩ ⟨by omega, by omega⟩ (fc40 _) ff40 rfl rfl rfl (Nat.le_of_ble_eq_true rfl) dX4_one_235 (fun r18 χ19 hf hc19 => ?_)
      refine g_goto hX 242 dX4_one_238 (by decide) ?_
      exact g_iret hX ⟨_, rfl, hf⟩ dX4_one_242
  have B176 : ∀ (n : Nat) (ad : Nat → Nat → Nat) (x3 : Int32) (x4 : Int32) (χ : St), w_M_one_176 W1 Q n x3 x4 χ → G X ad χ 176 [(0, .ref (ad 40 0)), (3, .int x3), (4, .int x4)] [] := by
    intro n
    induction n with
    | zero => intro ad x3 x4 χ hf; exact hf.elim
    | succ n hK176 =>
      intro ad x3 x4 χ hf
      unfold w_M_one_176 at hf
      refine g_iload hX 2 dX4_one_176 rfl ?_
      refine g_iconst hX (v := (4 : Int32)) dX4_one_178 rfl ?_
      refine g_icmp_ge hX 229 dX4_one_179 (by decide) (fun z => ?_) (fun z => ?_)
      · replace hf := hf.1 z
        exact B229 _ _ _ _ hf
      · replace hf := hf.2 z
        refine g_aload_n hX 0 dX4_one_182 rfl rfl ?_
        refine g_callVi hX (n := 0) (mt_M_byteAt X.l X.Γ _ _ _) hf q1742 q1744 qs55 q89 q1745 ⟨rfl, hy_M_byteAt⟩ ⟨by omega, by omega⟩ (fc40 _) ff40 rfl rfl rfl (Nat.le_of_ble_eq_true rfl) dX4_one_183 (fun r20 χ21 hf hc21 => ?_)
        refine g_bipush hX (v := (48 : Int32)) dX4_one_186 rfl ?_
        refine g_icmp_lt hX 229 dX4_one_188 (by decide) (fun z => ?_) (fun z => ?_)
        · replace hf := hf.1 z
          exact B229 _ _ _ _ hf
        · replace hf := hf.2 z
          refine g_aload_n hX 0 dX4_one_191 rfl rfl ?_
          refine g_callVi hX (n := 0) (mt_M_byteAt X.l X.Γ _ _ _) hf q1742 q1744 qs55 q89 q1745 ⟨rfl, hy_M_byteAt⟩ ⟨by omega, by omega⟩ (fc40 _) ff40 rfl rfl rfl (Nat.le_of_ble_eq_true rfl) dX4_one_192 (fun r22 χ23 hf hc23 => ?_)
          refine g_bipush hX (v := (57 : Int32)) dX4_one_195 rfl ?_
          refine g_icmp_gt hX 229 dX4_one_197 (by decide) (fun z => ?_) (fun z => ?_)
          · replace hf := hf.1 z
            exact B229 _ _ _ _ hf
          · replace hf := hf.2 z
            refine g_bipush hX (v := (10 : Int32)) dX4_one_200 rfl ?_
            refine g_iload_n hX 1 dX4_one_202 rfl rfl ?_
            refine g_imul hX dX4_one_203 ?_
            refine g_aload_n hX 0 dX4_one_204 rfl rfl ?_
            refine g_callVi hX (n := 0) (mt_M_byteAt X.l X.Γ _ _ _) hf q1742 q1744 qs55 q89 q1745 ⟨rfl, hy_M_byteAt⟩ ⟨by omega, by omega⟩ (fc40 _) ff40 rfl rfl rfl (Nat.le_of_ble_eq_true rfl) dX4_one_205 (fun r24 χ25 hf hc25 => ?_)
            refine g_iadd hX dX4_one_208 ?_
            refine g_bipush hX (v := (48 : Int32)) dX4_one_209 rfl ?_
            refine g_isub hX dX4_one_211 ?_
            replace hf := hf _ rfl
            refine g_istore_n hX dX4_one_212 rfl (by decide) rfl ?_
            refine g_iinc hX (v := _) 2 dX4_one_213 rfl rfl (by decide) rfl ?_
            refine g_aload_n hX 2 dX4_one_216 rfl rfl ?_
            refine g_dup hX dX4_one_217 rfl ?_
            refine g_getI hX (k := 15) (fc40 _) ff40 rfl rfl in_X4 (by decide) q1520 dX4_one_218 ?_
            refine g_iconst hX (v := (1 : Int32)) dX4_one_221 rfl ?_
            refine g_iadd hX dX4_one_222 ?_
            refine g_putI hX (k := 15) (fc40 _) ff40 rfl rfl in_X4 tyX4_ok nmX4 (by decide) q1520 rfl rfl rfl rfl dX4_one_223 ?_
            replace hf := hf _ rfl
            refine g_goto hX 176 dX4_one_226 (by decide) ?_
            refine g_sub [2, 1, 0] rfl ?_
            exact hK176 _ _ _ _ hf
  unfold w_M_one_b at hf
  refine g_aload_n hX 0 dX4_one_0 rfl rfl ?_
  refine g_getI hX (k := 17) (fc40 _) ff40 rfl rfl in_X4 (by decide) q1522 dX4_one_1 ?_
  refine g_if_lt hX 9 dX4_one_4 (by decide) (fun z => ?_) (fun z => ?_)
  · replace hf := hf.1 z
    refine g_aload_n hX 0 dX4_one_9 rfl rfl ?_
    refine g_callVi hX (n := 0) (mt_M_byteAt X.l X.Γ _ _ _) hf q1742 q1744 qs55 q89 q1745 ⟨rfl, hy_M_byteAt⟩ ⟨by omega, by omega⟩ (fc40 _) ff40 rfl rfl rfl (Nat.le_of_ble_eq_true rfl) dX4_one_10 (fun r1 χ2 hf hc2 => ?_)
    refine g_istore_n hX dX4_one_13 rfl (by decide) rfl ?_
    refine g_iload_n hX 0 dX4_one_14 rfl rfl ?_
    refine g_bipush hX (v := (33 : Int32)) dX4_one_15 rfl ?_
    refine g_icmp_eq hX 32 dX4_one_17 (by decide) (fun z => ?_) (fun z => ?_)
    · replace hf := hf.1 z
      refine g_sub [1, 0] rfl ?_
      exact B32 _ _ _ hf
    · replace hf := hf.2 z
      refine g_iload_n hX 0 dX4_one_20 rfl rfl ?_
      refine g_bipush hX (v := (45 : Int32)) dX4_one_21 rfl ?_
      refine g_icmp_eq hX 32 dX4_one_23 (by decide) (fun z => ?_) (fun z => ?_)
      · replace hf := hf.1 z
        refine g_sub [1, 0] rfl ?_
        exact B32 _ _ _ hf
      · replace hf := hf.2 z
        refine g_iload_n hX 0 dX4_one_26 rfl rfl ?_
        refine g_bipush hX (v := (40 : Int32)) dX4_one_27 rfl ?_
        refine g_icmp_ne hX 145 dX4_one_29 (by decide) (fun z => ?_) (fun z => ?_)
        · replace hf := hf.1 z
          refine g_iload_n hX 0 dX4_one_145 rfl rfl ?_
          refine g_callSi hX (n := 1) (mt_M_nameOf X.l X.Γ _ _ _ _) hf q1754 q1755 q89 q1756 hy_M_nameOf ⟨by omega, by omega⟩ rfl rfl (Nat.le_of_ble_eq_true rfl) dX4_one_146 (fun r16 χ17 hf hc17 => ?_)
          refine g_istore_n hX dX4_one_149 rfl (by decide) rfl ?_
          refine g_iload_n hX 0 dX4_one_150 rfl rfl ?_
          refine g_if_lt hX 171 dX4_one_151 (by decide) (fun z => ?_) (fun z => ?_)
          · replace hf := hf.1 z
            refine g_iconst hX (v := (0 : Int32)) dX4_one_171 rfl ?_
            refine g_istore_n hX dX4_one_172 rfl (by decide) rfl ?_
            refine g_iconst hX (v := (0 : Int32)) dX4_one_173 rfl ?_
            refine g_istore hX dX4_one_174 (by decide) rfl ?_
            obtain ⟨n0, hf⟩ := hf
            refine g_sub [4, 1, 0] rfl ?_
            exact B176 n0 _ _ _ _ hf
          · replace hf := hf.2 z
            refine g_aload_n hX 2 dX4_one_154 rfl rfl ?_
            refine g_dup hX dX4_one_155 rfl ?_
            refine g_getI hX (k := 15) (fc40 _) ff40 rfl rfl in_X4 (by decide) q1520 dX4_one_156 ?_
            refine g_iconst hX (v := (1 : Int32)) dX4_one_159 rfl ?_
            refine g_iadd hX dX4_one_160 ?_
            refine g_putI hX (k := 15) (fc40 _) ff40 rfl rfl in_X4 tyX4_ok nmX4 (by decide) q1520 rfl rfl rfl rfl dX4_one_161 ?_
            replace hf := hf _ rfl
            refine g_aload_n hX 2 dX4_one_164 rfl rfl ?_
            refine g_getK hX (k := 19) (d := 51) (fc40 _) ff40 rfl (by decide) rfl rfl in_X4 (by decide) q1524 dX4_one_165 ?_
            refine g_iload_n hX 0 dX4_one_168 rfl rfl ?_
            refine g_iald hX (fc51 _) ff51 rfl hf.1 dX4_one_169 ?_
            replace hf := hf.2
            exact g_iret hX ⟨_, rfl, hf⟩ dX4_one_170
        · replace hf := hf.2 z
          refine g_sub [1, 0] rfl ?_
          exact B32 _ _ _ hf
  · replace hf := hf.2 z
    refine g_iconst hX (v := (0 : Int32)) dX4_one_7 rfl ?_
    exact g_iret hX ⟨_, rfl, hf⟩ dX4_one_8
def w_M_one : Nat → St → (Int32 → St → Prop) → Prop
  | 0 => fun _ _ => False
  | d + 1 => fun χ Q => w_M_one_b (w_M_one d) χ Q
theorem mt_M_one (l : Launch) (Γ : Gh) (d : Nat) : ∀ (ad : Nat → Nat → Nat) (χ : St) (Q : Int32 → St → Prop), Mt l yX4_one (ws_ yX4_one cX4_one 5 (some .int)) (rmO (6 * d) (137 * d) χ) (Pm Γ ad χ [.ref (ad 40 0)] (w_M_one d χ Q)) (Qm Γ true ad χ (pI Q)) (frB Γ) := by
  have key : ∀ (d : Nat) (l : Launch) (Γ : Gh) (ad : Nat → Nat → Nat) (χ : St) (Q : Int32 → St → Prop), Mt l yX4_one (ws_ yX4_one cX4_one 5 (some .int)) (rmO (6 * d) (137 * d) χ) (Pm Γ ad χ [.ref (ad 40 0)] (w_M_one d χ Q)) (Qm Γ true ad χ (pI Q)) (frB Γ) := by
    intro d
    induction d with
    | zero => intro l Γ ad χ Q; exact Mt.no (fun h => h)
    | succ d ih => intro l Γ ad χ Q; exact mt_M_one_b l Γ (w_M_one d) (6 * d) (137 * d) ih ad χ Q
  exact key d l Γ

def w_M_workOut_96 (Q : Int32 → St → Prop) (K33 : Int32 → Int32 → Int32 → St → Prop) (x3 : Int32) (x4 : Int32) (χ : St) : Prop := (w_M_takes (59 : Int32) χ (fun r12 χ13 => (K33 x3 x4 r12 χ13)))
def w_M_workOut_74 (Q : Int32 → St → Prop) (K33 : Int32 → Int32 → Int32 → St → Prop) (x3 : Int32) (x4 : Int32) (x6 : Int32) (x7 : Int32) (χ : St) : Prop := ((0 ≤ (gI χ 4117 0 0) → (w_M_workOut_96 Q K33 x3 x4 χ)) ∧ (¬ 0 ≤ (gI χ 4117 0 0) → ((x7 = 0 → (w_M_workOut_96 Q K33 x3 x4 χ)) ∧ (¬ x7 = 0 → ((¬ x3 = 0 → (w_M_workOut_96 Q K33 x3 x4 χ)) ∧ (x3 = 0 → (w_M_workOut_96 Q K33 (1 : Int32) x6 χ)))))))
def w_M_workOut_66 (Q : Int32 → St → Prop) (K33 : Int32 → Int32 → Int32 → St → Prop) (x3 : Int32) (x4 : Int32) (z0 : Int32) (χ : St) : Prop := (w_M_either (w_M_one 8) χ (fun r14 χ15 => (w_M_workOut_74 Q K33 x3 x4 r14 z0 χ15)))
def w_M_workOut_33 (Q : Int32 → St → Prop) : Nat → Int32 → Int32 → Int32 → St → Prop
  | 0 => fun _ _ _ _ => False
  | n + 1 => fun x3 x4 x5 χ => ((x5 = 0 → ((0 ≤ (gI χ 4117 0 0) → (Q x4 χ)) ∧ (¬ 0 ≤ (gI χ 4117 0 0) → (((gI χ 4116 0 0) ≤ (gI χ 4115 0 0) → (Q x4 χ)) ∧ (¬ (gI χ 4116 0 0) ≤ (gI χ 4115 0 0) → (w_M_wrong χ (fun r6 χ7 => (Q r6 χ7)))))))) ∧ (¬ x5 = 0 → (w_M_either (w_M_one 8) χ (fun r8 χ9 => (w_M_takes (63 : Int32) χ9 (fun r10 χ11 => ((r10 = 0 → (w_M_workOut_74 Q (w_M_workOut_33 Q n) x3 x4 r8 (1 : Int32) χ11)) ∧ (¬ r10 = 0 → ((r8 = 0 → (w_M_workOut_66 Q (w_M_workOut_33 Q n) x3 x4 (0 : Int32) χ11)) ∧ (¬ r8 = 0 → (w_M_workOut_66 Q (w_M_workOut_33 Q n) x3 x4 (1 : Int32) χ11)))))))))))
def w_M_workOut (x1 : Int32) (x2 : Int32) (χ : St) (Q : Int32 → St → Prop) : Prop := (∀ χ1 : St, χ1 = (sI χ 4114 0 0 x1) → (∀ χ2 : St, χ2 = (sI χ1 4115 0 0 (0 : Int32)) → (∀ χ3 : St, χ3 = (sI χ2 4116 0 0 x2) → (∀ χ4 : St, χ4 = (sI χ3 4117 0 0 (-1 : Int32)) → (∀ χ5 : St, χ5 = (sI χ4 4118 0 0 (0 : Int32)) → (∃ k33, w_M_workOut_33 Q k33 (0 : Int32) (0 : Int32) (1 : Int32) χ5))))))
set_option maxHeartbeats 4000000 in
theorem mt_M_workOut (l : Launch) (Γ : Gh) (ad : Nat → Nat → Nat) (x1 : Int32) (x2 : Int32) (χ : St) (Q : Int32 → St → Prop) : Mt l yX4_workOut (ws_ yX4_workOut cX4_workOut 8 (some .int)) (rmO (54) (1233) χ) (Pm Γ ad χ [.ref (ad 40 0), .int x1, .int x2] (w_M_workOut x1 x2 χ Q)) (Qm Γ true ad χ (pI Q)) (frB Γ) := by
  refine Mt.start (by decide) RX4 rfl (Nat.le_of_ble_eq_true rfl) ?_
  intro X hX hG _ _ hna _ hf
  have B96 : ∀ (K33 : Int32 → Int32 → Int32 → St → Prop) (hK33 : ∀ (ad : Nat → Nat → Nat) (x3 : Int32) (x4 : Int32) (x5 : Int32) (χ : St), K33 x3 x4 x5 χ → G X ad χ 33 [(0, .ref (ad 40 0)), (3, .int x3), (4, .int x4), (5, .int x5)] []) (ad : Nat → Nat → Nat) (x3 : Int32) (x4 : Int32) (χ : St), w_M_workOut_96 Q K33 x3 x4 χ → G X ad χ 96 [(0, .ref (ad 40 0)), (3, .int x3), (4, .int x4)] [] := by
    intro K33 hK33 ad x3 x4 χ hf
    unfold w_M_workOut_96 at hf
    refine g_aload_n hX 0 dX4_workOut_96 rfl rfl ?_
    refine g_bipush hX (v := (59 : Int32)) dX4_workOut_97 rfl ?_
    refine g_callVi hX (n := 1) (mt_M_takes X.l X.Γ _ _ _ _) hf q1750 q1752 qs57 q89 q1753 ⟨rfl, hy_M_takes⟩ (by decide) (fc40 _) ff40 rfl rfl rfl (Nat.le_of_ble_eq_true rfl) dX4_workOut_99 (fun r12 χ13 hf hc13 => ?_)
    refine g_istore hX dX4_workOut_102 (by decide) rfl ?_
    refine g_goto hX 33 dX4_workOut_104 (by decide) ?_
    refine g_sub [1, 2, 3, 0] rfl ?_
    exact hK33 _ _ _ _ _ hf
  have B74 : ∀ (K33 : Int32 → Int32 → Int32 → St → Prop) (hK33 : ∀ (ad : Nat → Nat → Nat) (x3 : Int32) (x4 : Int32) (x5 : Int32) (χ : St), K33 x3 x4 x5 χ → G X ad χ 33 [(0, .ref (ad 40 0)), (3, .int x3), (4, .int x4), (5, .int x5)] []) (ad : Nat → Nat → Nat) (x3 : Int32) (x4 : Int32) (x6 : Int32) (x7 : Int32) (χ : St), w_M_workOut_74 Q K33 x3 x4 x6 x7 χ → G X ad χ 74 [(0, .ref (ad 40 0)), (3, .int x3), (4, .int x4), (6, .int x6), (7, .int x7)] [] := by
    intro K33 hK33 ad x3 x4 x6 x7 χ hf
    unfold w_M_workOut_74 at hf
    refine g_aload_n hX 0 dX4_workOut_74 rfl rfl ?_
    refine g_getI hX (k := 17) (fc40 _) ff40 rfl rfl in_X4 (by decide) q1522 dX4_workOut_75 ?_
    refine g_if_ge hX 96 dX4_workOut_78 (by decide) (fun z => ?_) (fun z => ?_)
    · replace hf := hf.1 z
      refine g_sub [0, 1, 2] rfl ?_
      exact B96 K33 hK33 _ _ _ _ hf
    · replace hf := hf.2 z
      refine g_iload hX 4 dX4_workOut_81 rfl ?_
      refine g_if_eq hX 96 dX4_workOut_83 (by decide) (fun z => ?_) (fun z => ?_)
      · replace hf := hf.1 z
        refine g_sub [0, 1, 2] rfl ?_
        exact B96 K33 hK33 _ _ _ _ hf
      · replace hf := hf.2 z
        refine g_iload_n hX 1 dX4_workOut_86 rfl rfl ?_
        refine g_if_ne hX 96 dX4_workOut_87 (by decide) (fun z => ?_) (fun z => ?_)
        · replace hf := hf.1 z
          refine g_sub [0, 1, 2] rfl ?_
          exact B96 K33 hK33 _ _ _ _ hf
        · replace hf := hf.2 z
          refine g_iconst hX (v := (1 : Int32)) dX4_workOut_90 rfl ?_
          refine g_istore_n hX dX4_workOut_91 rfl (by decide) rfl ?_
          refine g_iload hX 3 dX4_workOut_92 rfl ?_
          refine g_istore hX dX4_workOut_94 (by decide) rfl ?_
          refine g_sub [2, 1, 0] rfl ?_
          exact B96 K33 hK33 _ _ _ _ hf
  have B66 : ∀ (K33 : Int32 → Int32 → Int32 → St → Prop) (hK33 : ∀ (ad : Nat → Nat → Nat) (x3 : Int32) (x4 : Int32) (x5 : Int32) (χ : St), K33 x3 x4 x5 χ → G X ad χ 33 [(0, .ref (ad 40 0)), (3, .int x3), (4, .int x4), (5, .int x5)] []) (ad : Nat → Nat → Nat) (x3 : Int32) (x4 : Int32) (z0 : Int32) (χ : St), w_M_workOut_66 Q K33 x3 x4 z0 χ → G X ad χ 66 [(0, .ref (ad 40 0)), (3, .int x3), (4, .int x4)] [.int z0] := by
    intro K33 hK33 ad x3 x4 z0 χ hf
    unfold w_M_workOut_66 at hf
    refine g_istore hX dX4_workOut_66 (by decide) rfl ?_
    refine g_aload_n hX 1 dX4_workOut_68 rfl rfl ?_
    refine g_callVi hX (n := 0) (mt_M_either X.l X.Γ (w_M_one 8) (6 * 8) (137 * 8) (fun l Γ => mt_M_one l Γ 8) _ _ _) hf q1718 q1720 qs49 q89 q1721 ⟨rfl, hy_M_either⟩ (by decide) (fc40 _) ff40 rfl rfl rfl (Nat.le_of_ble_eq_true rfl) dX4_workOut_69 (fun r14 χ15 hf hc15 => ?_)
    refine g_istore hX dX4_workOut_72 (by decide) rfl ?_
    refine g_sub [2, 3, 4, 0, 1] rfl ?_
    exact B74 K33 hK33 _ _ _ _ _ _ hf
  have B33 : ∀ (n : Nat) (ad : Nat → Nat → Nat) (x3 : Int32) (x4 : Int32) (x5 : Int32) (χ : St), w_M_workOut_33 Q n x3 x4 x5 χ → G X ad χ 33 [(0, .ref (ad 40 0)), (3, .int x3), (4, .int x4), (5, .int x5)] [] := by
    intro n
    induction n with
    | zero => intro ad x3 x4 x5 χ hf; exact hf.elim
    | succ n hK33 =>
      intro ad x3 x4 x5 χ hf
      unfold w_M_workOut_33 at hf
      refine g_iload hX 3 dX4_workOut_33 rfl ?_
      refine g_if_eq hX 107 dX4_workOut_35 (by decide) (fun z => ?_) (fun z => ?_)
      · replace hf := hf.1 z
        refine g_aload_n hX 0 dX4_workOut_107 rfl rfl ?_
        refine g_getI hX (k := 17) (fc40 _) ff40 rfl rfl in_X4 (by decide) q1522 dX4_workOut_108 ?_
        refine g_if_ge hX 130 dX4_workOut_111 (by decide) (fun z => ?_) (fun z => ?_)
        · replace hf := hf.1 z
          refine g_iload hX 2 dX4_workOut_130 rfl ?_
          exact g_iret hX ⟨_, rfl, hf⟩ dX4_workOut_132
        · replace hf := hf.2 z
          refine g_aload_n hX 0 dX4_workOut_114 rfl rfl ?_
          refine g_getI hX (k := 15) (fc40 _) ff40 rfl rfl in_X4 (by decide) q1520 dX4_workOut_115 ?_
          refine g_aload_n hX 0 dX4_workOut_118 rfl rfl ?_
          refine g_getI hX (k := 16) (fc40 _) ff40 rfl rfl in_X4 (by decide) q1521 dX4_workOut_119 ?_
          refine g_icmp_ge hX 130 dX4_workOut_122 (by decide) (fun z => ?_) (fun z => ?_)
          · replace hf := hf.1 z
            refine g_iload hX 2 dX4_workOut_130 rfl ?_
            exact g_iret hX ⟨_, rfl, hf⟩ dX4_workOut_132
          · replace hf := hf.2 z
            refine g_aload_n hX 0 dX4_workOut_125 rfl rfl ?_
            refine g_callVi hX (n := 0) (mt_M_wrong X.l X.Γ _ _ _) hf q1746 q1748 qs56 q89 q1749 ⟨rfl, hy_M_wrong⟩ (by decide) (fc40 _) ff40 rfl rfl rfl (Nat.le_of_ble_eq_true rfl) dX4_workOut_126 (fun r6 χ7 hf hc7 => ?_)
            exact g_iret hX ⟨_, rfl, hf⟩ dX4_workOut_129
      · replace hf := hf.2 z
        refine g_aload_n hX 0 dX4_workOut_38 rfl rfl ?_
        refine g_callVi hX (n := 0) (mt_M_either X.l X.Γ (w_M_one 8) (6 * 8) (137 * 8) (fun l Γ => mt_M_one l Γ 8) _ _ _) hf q1718 q1720 qs49 q89 q1721 ⟨rfl, hy_M_either⟩ (by decide) (fc40 _) ff40 rfl rfl rfl (Nat.le_of_ble_eq_true rfl) dX4_workOut_39 (fun r8 χ9 hf hc9 => ?_)
        refine g_istore hX dX4_workOut_42 (by decide) rfl ?_
        refine g_iconst hX (v := (1 : Int32)) dX4_workOut_44 rfl ?_
        refine g_istore hX dX4_workOut_45 (by decide) rfl ?_
        refine g_aload_n hX 2 dX4_workOut_47 rfl rfl ?_
        refine g_bipush hX (v := (63 : Int32)) dX4_workOut_48 rfl ?_
        refine g_callVi hX (n := 1) (mt_M_takes X.l X.Γ _ _ _ _) hf q1750 q1752 qs57 q89 q1753 ⟨rfl, hy_M_takes⟩ (by decide) (fc40 _) ff40 rfl rfl rfl (Nat.le_of_ble_eq_true rfl) dX4_workOut_50 (fun r10 χ11 hf hc11 => ?_)
        refine g_if_eq hX 74 dX4_workOut_53 (by decide) (fun z => ?_) (fun z => ?_)
        · replace hf := hf.1 z
          refine g_sub [2, 3, 4, 1, 0] rfl ?_
          exact B74 (w_M_workOut_33 Q n) hK33 _ _ _ _ _ _ hf
        · replace hf := hf.2 z
          refine g_iload hX 1 dX4_workOut_56 rfl ?_
          refine g_if_eq hX 65 dX4_workOut_58 (by decide) (fun z => ?_) (fun z => ?_)
          · replace hf := hf.1 z
            refine g_iconst hX (v := (0 : Int32)) dX4_workOut_65 rfl ?_
            refine g_sub [2, 3, 4] rfl ?_
            exact B66 (w_M_workOut_33 Q n) hK33 _ _ _ _ _ hf
          · replace hf := hf.2 z
            refine g_iconst hX (v := (1 : Int32)) dX4_workOut_61 rfl ?_
            refine g_goto hX 66 dX4_workOut_62 (by decide) ?_
            refine g_sub [2, 3, 4] rfl ?_
            exact B66 (w_M_workOut_33 Q n) hK33 _ _ _ _ _ hf
  unfold w_M_workOut at hf
  refine g_aload_n hX 0 dX4_workOut_0 rfl rfl ?_
  refine g_iload_n hX 1 dX4_workOut_1 rfl rfl ?_
  refine g_putI hX (k := 14) (fc40 _) ff40 rfl rfl in_X4 tyX4_ok nmX4 (by decide) q1519 rfl rfl rfl rfl dX4_workOut_2 ?_
  replace hf := hf _ rfl
  refine g_aload_n hX 0 dX4_workOut_5 rfl rfl ?_
  refine g_iconst hX (v := (0 : Int32)) dX4_workOut_6 rfl ?_
  refine g_putI hX (k := 15) (fc40 _) ff40 rfl rfl in_X4 tyX4_ok nmX4 (by decide) q1520 rfl rfl rfl rfl dX4_workOut_7 ?_
  replace hf := hf _ rfl
  refine g_aload_n hX 0 dX4_workOut_10 rfl rfl ?_
  refine g_iload_n hX 2 dX4_workOut_11 rfl rfl ?_
  refine g_putI hX (k := 16) (fc40 _) ff40 rfl rfl in_X4 tyX4_ok nmX4 (by decide) q1521 rfl rfl rfl rfl dX4_workOut_12 ?_
  replace hf := hf _ rfl
  refine g_aload_n hX 0 dX4_workOut_15 rfl rfl ?_
  refine g_iconst hX (v := (-1 : Int32)) dX4_workOut_16 rfl ?_
  refine g_putI hX (k := 17) (fc40 _) ff40 rfl rfl in_X4 tyX4_ok nmX4 (by decide) q1522 rfl rfl rfl rfl dX4_workOut_17 ?_
  replace hf := hf _ rfl
  refine g_aload_n hX 0 dX4_workOut_20 rfl rfl ?_
  refine g_iconst hX (v := (0 : Int32)) dX4_workOut_21 rfl ?_
  refine g_putI hX (k := 18) (fc40 _) ff40 rfl rfl in_X4 tyX4_ok nmX4 (by decide) q1523 rfl rfl rfl rfl dX4_workOut_22 ?_
  replace hf := hf _ rfl
  refine g_iconst hX (v := (0 : Int32)) dX4_workOut_25 rfl ?_
  refine g_istore_n hX dX4_workOut_26 rfl (by decide) rfl ?_
  refine g_iconst hX (v := (0 : Int32)) dX4_workOut_27 rfl ?_
  refine g_istore hX dX4_workOut_28 (by decide) rfl ?_
  refine g_iconst hX (v := (1 : Int32)) dX4_workOut_30 rfl ?_
  refine g_istore hX dX4_workOut_31 (by decide) rfl ?_
  obtain ⟨n0, hf⟩ := hf
  refine g_sub [3, 2, 1, 0] rfl ?_
  exact B33 n0 _ _ _ _ _ hf

def w_M_law_47 (Q : Int32 → St → Prop) : Nat → Int32 → Int32 → Int32 → St → Prop
  | 0 => fun _ _ _ _ => False
  | n + 1 => fun x1 x3 x4 χ => ((x3 ≤ x4 → (vp_in x1 6) ∧ ((∀ χ6 : St, χ6 = (sI χ 50 0 x1.toNatClampNeg x3) → (Q (1 : Int32) χ6)))) ∧ (¬ x3 ≤ x4 → (vp_in x4 120) ∧ ((vp_in (((120 : Int32) * x1) + x4) 720) ∧ ((∀ χ7 : St, χ7 = (sI χ 49 0 (((120 : Int32) * x1) + x4).toNatClampNeg (gI χ 48 0 x4.toNatClampNeg)) → (w_M_law_47 Q n x1 x3 (x4 + (1 : Int32)) χ7))))))
def w_M_law (x1 : Int32) (χ : St) (Q : Int32 → St → Prop) : Prop := (w_M_isMark x1 χ (fun r1 χ2 => ((¬ r1 = 0 → (w_M_workOut (-1 : Int32) (gI χ2 4111 0 0) χ2 (fun r3 χ4 => (∀ χ5 : St, χ5 = (sI χ4 4111 0 0 (0 : Int32)) → (((gI χ5 4117 0 0) < 0 → (∃ k47, w_M_law_47 Q k47 x1 (gI χ4 4111 0 0) (0 : Int32) χ5)) ∧ (¬ (gI χ5 4117 0 0) < 0 → (Q ((-100 : Int32) - (gI χ5 4117 0 0)) χ5))))))) ∧ (r1 = 0 → (Q (-1 : Int32) χ2)))))
set_option maxHeartbeats 4000000 in
theorem mt_M_law (l : Launch) (Γ : Gh) (ad : Nat → Nat → Nat) (x1 : Int32) (χ : St) (Q : Int32 → St → Prop) : Mt l yX4_law (ws_ yX4_law cX4_law 5 (some .int)) (rmO (55) (1260) χ) (Pm Γ ad χ [.ref (ad 40 0), .int x1] (w_M_law x1 χ Q)) (Qm Γ true ad χ (pI Q)) (frB Γ) := by
  refine Mt.start (by decide) RX4 rfl (Nat.le_of_ble_eq_true rfl) ?_
  intro X hX hG _ _ hna _ hf
  have B47 : ∀ (n : Nat) (ad : Nat → Nat → Nat) (x1 : Int32) (x3 : Int32) (x4 : Int32) (χ : St), w_M_law_47 Q n x1 x3 x4 χ → G X ad χ 47 [(0, .ref (ad 40 0)), (1, .int x1), (3, .int x3), (4, .int x4)] [] := by
    intro n
    induction n with
    | zero => intro ad x1 x3 x4 χ hf; exact hf.elim
    | succ n hK47 =>
      intro ad x1 x3 x4 χ hf
      unfold w_M_law_47 at hf
      refine g_iload hX 3 dX4_law_47 rfl ?_
      refine g_iload_n hX 2 dX4_law_49 rfl rfl ?_
      refine g_icmp_ge hX 78 dX4_law_50 (by decide) (fun z => ?_) (fun z => ?_)
      · replace hf := hf.1 z
        refine g_aload_n hX 0 dX4_law_78 rfl rfl ?_
        refine g_getK hX (k := 13) (d := 50) (fc40 _) ff40 rfl (by decide) rfl rfl in_X4 (by decide) q1518 dX4_law_79 ?_
        refine g_iload_n hX 1 dX4_law_82 rfl rfl ?_
        refine g_iload_n hX 2 dX4_law_83 rfl rfl ?_
        refine g_iast hX (fc50 _) ff50 rfl hf.1 dX4_law_84 ?_
        replace hf := hf.2
        replace hf := hf _ rfl
        refine g_iconst hX (v := (1 : Int32)) dX4_law_85 rfl ?_
        exact g_iret hX ⟨_, rfl, hf⟩ dX4_law_86
      · replace hf := hf.2 z
        refine g_aload_n hX 0 dX4_law_53 rfl rfl ?_
        refine g_getK hX (k := 12) (d := 49) (fc40 _) ff40 rfl (by decide) rfl rfl in_X4 (by decide) q1517 dX4_law_54 ?_
        refine g_bipush hX (v := (120 : Int32)) dX4_law_57 rfl ?_
        refine g_iload_n hX 1 dX4_law_59 rfl rfl ?_
        refine g_imul hX dX4_law_60 ?_
        refine g_iload hX 3 dX4_law_61 rfl ?_
        refine g_iadd hX dX4_law_63 ?_
        refine g_aload_n hX 0 dX4_law_64 rfl rfl ?_
        refine g_getK hX (k := 10) (d := 48) (fc40 _) ff40 rfl (by decide) rfl rfl in_X4 (by decide) q1515 dX4_law_65 ?_
        refine g_iload hX 3 dX4_law_68 rfl ?_
        refine g_iald hX (fc48 _) ff48 rfl hf.1 dX4_law_70 ?_
        replace hf := hf.2
        refine g_iast hX (fc49 _) ff49 rfl hf.1 dX4_law_71 ?_
        replace hf := hf.2
        replace hf := hf _ rfl
        refine g_iinc hX (v := _) 3 dX4_law_72 rfl rfl (by decide) rfl ?_
        refine g_goto hX 47 dX4_law_75 (by decide) ?_
        refine g_sub [1, 2, 3, 0] rfl ?_
        exact hK47 _ _ _ _ _ hf
  unfold w_M_law at hf
  refine g_iload_n hX 1 dX4_law_0 rfl rfl ?_
  refine g_callSi hX (n := 1) (mt_M_isMark X.l X.Γ _ _ _ _) hf q1679 q1680 q89 q1681 hy_M_isMark (by decide) rfl rfl (Nat.le_of_ble_eq_true rfl) dX4_law_1 (fun r1 χ2 hf hc2 => ?_)
  refine g_if_ne hX 9 dX4_law_4 (by decide) (fun z => ?_) (fun z => ?_)
  · replace hf := hf.1 z
    refine g_aload_n hX 0 dX4_law_9 rfl rfl ?_
    refine g_iconst hX (v := (-1 : Int32)) dX4_law_10 rfl ?_
    refine g_aload_n hX 0 dX4_law_11 rfl rfl ?_
    refine g_getI hX (k := 11) (fc40 _) ff40 rfl rfl in_X4 (by decide) q1516 dX4_law_12 ?_
    refine g_callVi hX (n := 2) (mt_M_workOut X.l X.Γ _ _ _ _ _) hf q1714 q1716 qs48 q89 q1717 ⟨rfl, hy_M_workOut⟩ (by decide) (fc40 _) ff40 rfl rfl rfl (Nat.le_of_ble_eq_true rfl) dX4_law_15 (fun r3 χ4 hf hc4 => ?_)
    refine g_istore_n hX dX4_law_18 rfl (by decide) rfl ?_
    refine g_aload_n hX 1 dX4_law_19 rfl rfl ?_
    refine g_getI hX (k := 11) (fc40 _) ff40 rfl rfl in_X4 (by decide) q1516 dX4_law_20 ?_
    refine g_istore_n hX dX4_law_23 rfl (by decide) rfl ?_
    refine g_aload_n hX 2 dX4_law_24 rfl rfl ?_
    refine g_iconst hX (v := (0 : Int32)) dX4_law_25 rfl ?_
    refine g_putI hX (k := 11) (fc40 _) ff40 rfl rfl in_X4 tyX4_ok nmX4 (by decide) q1516 rfl rfl rfl rfl dX4_law_26 ?_
    replace hf := hf _ rfl
    refine g_aload_n hX 2 dX4_law_29 rfl rfl ?_
    refine g_getI hX (k := 17) (fc40 _) ff40 rfl rfl in_X4 (by decide) q1522 dX4_law_30 ?_
    refine g_if_lt hX 44 dX4_law_33 (by decide) (fun z => ?_) (fun z => ?_)
    · replace hf := hf.1 z
      refine g_iconst hX (v := (0 : Int32)) dX4_law_44 rfl ?_
      refine g_istore hX dX4_law_45 (by decide) rfl ?_
      obtain ⟨n0, hf⟩ := hf
      refine g_sub [3, 4, 1, 0] rfl ?_
      exact B47 n0 _ _ _ _ _ hf
    · replace hf := hf.2 z
      refine g_bipush hX (v := (-100 : Int32)) dX4_law_36 rfl ?_
      refine g_aload_n hX 2 dX4_law_38 rfl rfl ?_
      refine g_getI hX (k := 17) (fc40 _) ff40 rfl rfl in_X4 (by decide) q1522 dX4_law_39 ?_
      refine g_isub hX dX4_law_42 ?_
      exact g_iret hX ⟨_, rfl, hf⟩ dX4_law_43
  · replace hf := hf.2 z
    refine g_iconst hX (v := (-1 : Int32)) dX4_law_7 rfl ?_
    exact g_iret hX ⟨_, rfl, hf⟩ dX4_law_8

def w_M_numberOf (x1 : Int32) (x2 : Int32) (x3 : Int32) (x4 : Int32) (χ : St) (Q : Int32 → St → Prop) : Prop := (vp_in x2 6) ∧ (((0 ≤ (gI χ 50 0 x2.toNatClampNeg) → (vp_in (0 : Int32) 4) ∧ ((∀ χ1 : St, χ1 = (sI χ 51 0 (0 : Int32).toNatClampNeg x4) → (vp_in (1 : Int32) 4) ∧ ((∀ χ2 : St, χ2 = (sI χ1 51 0 (1 : Int32).toNatClampNeg x3) → (vp_in x1 8) ∧ ((vp_in (2 : Int32) 4) ∧ ((∀ χ3 : St, χ3 = (sI χ2 51 0 (2 : Int32).toNatClampNeg (gI χ2 45 0 x1.toNatClampNeg)) → (vp_in x1 8) ∧ ((vp_in (3 : Int32) 4) ∧ ((∀ χ4 : St, χ4 = (sI χ3 51 0 (3 : Int32).toNatClampNeg (gI χ3 46 0 x1.toNatClampNeg)) → (vp_in x2 6) ∧ ((w_M_workOut ((120 : Int32) * x2) (gI χ4 50 0 x2.toNatClampNeg) χ4 (fun r5 χ6 => ((0 ≤ r5 → ((r5 ≤ (100 : Int32) → (Q r5 χ6)) ∧ (¬ r5 ≤ (100 : Int32) → (Q (100 : Int32) χ6)))) ∧ (¬ 0 ≤ r5 → (Q (0 : Int32) χ6))))))))))))))))) ∧ (¬ 0 ≤ (gI χ 50 0 x2.toNatClampNeg) → (Q (50 : Int32) χ))))
set_option maxHeartbeats 4000000 in
theorem mt_M_numberOf (l : Launch) (Γ : Gh) (ad : Nat → Nat → Nat) (x1 : Int32) (x2 : Int32) (x3 : Int32) (x4 : Int32) (χ : St) (Q : Int32 → St → Prop) : Mt l yX4_numberOf (ws_ yX4_numberOf cX4_numberOf 6 (some .int)) (rmO (55) (1260) χ) (Pm Γ ad χ [.ref (ad 40 0), .int x1, .int x2, .int x3, .int x4] (w_M_numberOf x1 x2 x3 x4 χ Q)) (Qm Γ true ad χ (pI Q)) (frB Γ) := by
  refine Mt.start (by decide) RX4 rfl (Nat.le_of_ble_eq_true rfl) ?_
  intro X hX hG _ _ hna _ hf
  unfold w_M_numberOf at hf
  refine g_aload_n hX 0 dX4_numberOf_0 rfl rfl ?_
  refine g_getK hX (k := 13) (d := 50) (fc40 _) ff40 rfl (by decide) rfl rfl in_X4 (by decide) q1518 dX4_numberOf_1 ?_
  refine g_iload_n hX 2 dX4_numberOf_4 rfl rfl ?_
  refine g_iald hX (fc50 _) ff50 rfl hf.1 dX4_numberOf_5 ?_
  replace hf := hf.2
  refine g_if_ge hX 12 dX4_numberOf_6 (by decide) (fun z => ?_) (fun z => ?_)
  · replace hf := hf.1 z
    refine g_aload_n hX 0 dX4_numberOf_12 rfl rfl ?_
    refine g_getK hX (k := 19) (d := 51) (fc40 _) ff40 rfl (by decide) rfl rfl in_X4 (by decide) q1524 dX4_numberOf_13 ?_
    refine g_iconst hX (v := (0 : Int32)) dX4_numberOf_16 rfl ?_
    refine g_iload hX 4 dX4_numberOf_17 rfl ?_
    refine g_iast hX (fc51 _) ff51 rfl hf.1 dX4_numberOf_19 ?_
    replace hf := hf.2
    replace hf := hf _ rfl
    refine g_aload_n hX 0 dX4_numberOf_20 rfl rfl ?_
    refine g_getK hX (k := 19) (d := 51) (fc40 _) ff40 rfl (by decide) rfl rfl in_X4 (by decide) q1524 dX4_numberOf_21 ?_
    refine g_iconst hX (v := (1 : Int32)) dX4_numberOf_24 rfl ?_
    refine g_iload_n hX 3 dX4_numberOf_25 rfl rfl ?_
    refine g_iast hX (fc51 _) ff51 rfl hf.1 dX4_numberOf_26 ?_
    replace hf := hf.2
    replace hf := hf _ rfl
    refine g_aload_n hX 0 dX4_numberOf_27 rfl rfl ?_
    refine g_getK hX (k := 19) (d := 51) (fc40 _) ff40 rfl (by decide) rfl rfl in_X4 (by decide) q1524 dX4_numberOf_28 ?_
    refine g_iconst hX (v := (2 : Int32)) dX4_numberOf_31 rfl ?_
    refine g_aload_n hX 0 dX4_numberOf_32 rfl rfl ?_
    refine g_getK hX (k := 7) (d := 45) (fc40 _) ff40 rfl (by decide) rfl rfl in_X4 (by decide) q1512 dX4_numberOf_33 ?_
    refine g_iload_n hX 1 dX4_numberOf_36 rfl rfl ?_
    refine g_iald hX (fc45 _) ff45 rfl hf.1 dX4_numberOf_37 ?_
    replace hf := hf.2
    refine g_iast hX (fc51 _) ff51 rfl hf.1 dX4_numberOf_38 ?_
    replace hf := hf.2
    replace hf := hf _ rfl
    refine g_aload_n hX 0 dX4_numberOf_39 rfl rfl ?_
    refine g_getK hX (k := 19) (d := 51) (fc40 _) ff40 rfl (by decide) rfl rfl in_X4 (by decide) q1524 dX4_numberOf_40 ?_
    refine g_iconst hX (v := (3 : Int32)) dX4_numberOf_43 rfl ?_
    refine g_aload_n hX 0 dX4_numberOf_44 rfl rfl ?_
    refine g_getK hX (k := 8) (d := 46) (fc40 _) ff40 rfl (by decide) rfl rfl in_X4 (by decide) q1513 dX4_numberOf_45 ?_
    refine g_iload_n hX 1 dX4_numberOf_48 rfl rfl ?_
    refine g_iald hX (fc46 _) ff46 rfl hf.1 dX4_numberOf_49 ?_
    replace hf := hf.2
    refine g_iast hX (fc51 _) ff51 rfl hf.1 dX4_numberOf_50 ?_
    replace hf := hf.2
    replace hf := hf _ rfl
    refine g_aload_n hX 0 dX4_numberOf_51 rfl rfl ?_
    refine g_bipush hX (v := (120 : Int32)) dX4_numberOf_52 rfl ?_
    refine g_iload_n hX 2 dX4_numberOf_54 rfl rfl ?_
    refine g_imul hX dX4_numberOf_55 ?_
    refine g_aload_n hX 0 dX4_numberOf_56 rfl rfl ?_
    refine g_getK hX (k := 13) (d := 50) (fc40 _) ff40 rfl (by decide) rfl rfl in_X4 (by decide) q1518 dX4_numberOf_57 ?_
    refine g_iload_n hX 2 dX4_numberOf_60 rfl rfl ?_
    refine g_iald hX (fc50 _) ff50 rfl hf.1 dX4_numberOf_61 ?_
    replace hf := hf.2
    refine g_callVi hX (n := 2) (mt_M_workOut X.l X.Γ _ _ _ _ _) hf q1714 q1716 qs48 q89 q1717 ⟨rfl, hy_M_workOut⟩ (by decide) (fc40 _) ff40 rfl rfl rfl (Nat.le_of_ble_eq_true rfl) dX4_numberOf_62 (fun r5 χ6 hf hc6 => ?_)
    refine g_istore hX dX4_numberOf_65 (by decide) rfl ?_
    refine g_iload hX 0 dX4_numberOf_67 rfl ?_
    refine g_if_ge hX 76 dX4_numberOf_69 (by decide) (fun z => ?_) (fun z => ?_)
    · replace hf := hf.1 z
      refine g_iload hX 0 dX4_numberOf_76 rfl ?_
      refine g_bipush hX (v := (100 : Int32)) dX4_numberOf_78 rfl ?_
      refine g_icmp_le hX 88 dX4_numberOf_80 (by decide) (fun z => ?_) (fun z => ?_)
      · replace hf := hf.1 z
        refine g_iload hX 0 dX4_numberOf_88 rfl ?_
        exact g_iret hX ⟨_, rfl, hf⟩ dX4_numberOf_90
      · replace hf := hf.2 z
        refine g_bipush hX (v := (100 : Int32)) dX4_numberOf_83 rfl ?_
        refine g_goto hX 90 dX4_numberOf_85 (by decide) ?_
        exact g_iret hX ⟨_, rfl, hf⟩ dX4_numberOf_90
    · replace hf := hf.2 z
      refine g_iconst hX (v := (0 : Int32)) dX4_numberOf_72 rfl ?_
      refine g_goto hX 90 dX4_numberOf_73 (by decide) ?_
      exact g_iret hX ⟨_, rfl, hf⟩ dX4_numberOf_90
  · replace hf := hf.2 z
    refine g_bipush hX (v := (50 : Int32)) dX4_numberOf_9 rfl ?_
    exact g_iret hX ⟨_, rfl, hf⟩ dX4_numberOf_11

def w_M_number (x1 : Int32) (x2 : Int32) (χ : St) (Q : Int32 → St → Prop) : Prop := (w_M_isPm x1 χ (fun r1 χ2 => ((r1 = 0 → (Q (-1 : Int32) χ2)) ∧ (¬ r1 = 0 → ((x2 < 0 → (Q (-1 : Int32) χ2)) ∧ (¬ x2 < 0 → (w_M_isKind (x2 / (100 : Int32)) χ2 (fun r3 χ4 => ((r3 = 0 → (Q (-1 : Int32) χ4)) ∧ (¬ r3 = 0 → (((x2 - x2 / (100 : Int32) * (100 : Int32)) < (30 : Int32) → (w_M_numberOf (x1 / (10 : Int32)) (x1 - x1 / (10 : Int32) * (10 : Int32)) (x2 / (100 : Int32)) (x2 - x2 / (100 : Int32) * (100 : Int32)) χ4 (fun r5 χ6 => (Q r5 χ6)))) ∧ (¬ (x2 - x2 / (100 : Int32) * (100 : Int32)) < (30 : Int32) → (Q (-1 : Int32) χ4)))))))))))))
set_option maxHeartbeats 4000000 in
theorem mt_M_number (l : Launch) (Γ : Gh) (ad : Nat → Nat → Nat) (x1 : Int32) (x2 : Int32) (χ : St) (Q : Int32 → St → Prop) : Mt l yX4_number (ws_ yX4_number cX4_number 3 (some .int)) (rmO (56) (1285) χ) (Pm Γ ad χ [.ref (ad 40 0), .int x1, .int x2] (w_M_number x1 x2 χ Q)) (Qm Γ true ad χ (pI Q)) (frB Γ) := by
  refine Mt.start (by decide) RX4 rfl (Nat.le_of_ble_eq_true rfl) ?_
  intro X hX hG _ _ hna _ hf
  unfold w_M_number at hf
  refine g_aload_n hX 0 dX4_number_0 rfl rfl ?_
  refine g_iload_n hX 1 dX4_number_1 rfl rfl ?_
  refine g_callVi hX (n := 1) (mt_M_isPm X.l X.Γ _ _ _ _) hf q1686 q1688 qs46 q89 q1689 ⟨rfl, hy_M_isPm⟩ (by decide) (fc40 _) ff40 rfl rfl rfl (Nat.le_of_ble_eq_true rfl) dX4_number_2 (fun r1 χ2 hf hc2 => ?_)
  refine g_if_eq hX 31 dX4_number_5 (by decide) (fun z => ?_) (fun z => ?_)
  · replace hf := hf.1 z
    refine g_iconst hX (v := (-1 : Int32)) dX4_number_31 rfl ?_
    exact g_iret hX ⟨_, rfl, hf⟩ dX4_number_32
  · replace hf := hf.2 z
    refine g_iload_n hX 2 dX4_number_8 rfl rfl ?_
    refine g_if_lt hX 31 dX4_number_9 (by decide) (fun z => ?_) (fun z => ?_)
    · replace hf := hf.1 z
      refine g_iconst hX (v := (-1 : Int32)) dX4_number_31 rfl ?_
      exact g_iret hX ⟨_, rfl, hf⟩ dX4_number_32
    · replace hf := hf.2 z
      refine g_iload_n hX 2 dX4_number_12 rfl rfl ?_
      refine g_bipush hX (v := (100 : Int32)) dX4_number_13 rfl ?_
      refine g_idiv hX dX4_number_15 (by decide) ?_
      refine g_callSi hX (n := 1) (mt_M_isKind X.l X.Γ _ _ _ _) hf q1672 q1673 q89 q1674 hy_M_isKind (by decide) rfl rfl (Nat.le_of_ble_eq_true rfl) dX4_number_16 (fun r3 χ4 hf hc4 => ?_)
      refine g_if_eq hX 31 dX4_number_19 (by decide) (fun z => ?_) (fun z => ?_)
      · replace hf := hf.1 z
        refine g_iconst hX (v := (-1 : Int32)) dX4_number_31 rfl ?_
        exact g_iret hX ⟨_, rfl, hf⟩ dX4_number_32
      · replace hf := hf.2 z
        refine g_iload_n hX 2 dX4_number_22 rfl rfl ?_
        refine g_bipush hX (v := (100 : Int32)) dX4_number_23 rfl ?_
        refine g_irem hX dX4_number_25 (by decide) ?_
        refine g_bipush hX (v := (30 : Int32)) dX4_number_26 rfl ?_
        refine g_icmp_lt hX 33 dX4_number_28 (by decide) (fun z => ?_) (fun z => ?_)
        · replace hf := hf.1 z
          refine g_aload_n hX 0 dX4_number_33 rfl rfl ?_
          refine g_iload_n hX 1 dX4_number_34 rfl rfl ?_
          refine g_bipush hX (v := (10 : Int32)) dX4_number_35 rfl ?_
          refine g_idiv hX dX4_number_37 (by decide) ?_
          refine g_iload_n hX 1 dX4_number_38 rfl rfl ?_
          refine g_bipush hX (v := (10 : Int32)) dX4_number_39 rfl ?_
          refine g_irem hX dX4_number_41 (by decide) ?_
          refine g_iload_n hX 2 dX4_number_42 rfl rfl ?_
          refine g_bipush hX (v := (100 : Int32)) dX4_number_43 rfl ?_
          refine g_idiv hX dX4_number_45 (by decide) ?_
          refine g_iload_n hX 2 dX4_number_46 rfl rfl ?_
          refine g_bipush hX (v := (100 : Int32)) dX4_number_47 rfl ?_
          refine g_irem hX dX4_number_49 (by decide) ?_
          refine g_callVi hX (n := 4) (mt_M_numberOf X.l X.Γ _ _ _ _ _ _ _) hf q1761 q1763 qs58 q89 q1764 ⟨rfl, hy_M_numberOf⟩ (by decide) (fc40 _) ff40 rfl rfl rfl (Nat.le_of_ble_eq_true rfl) dX4_number_50 (fun r5 χ6 hf hc6 => ?_)
          exact g_iret hX ⟨_, rfl, hf⟩ dX4_number_53
        · replace hf := hf.2 z
          refine g_iconst hX (v := (-1 : Int32)) dX4_number_31 rfl ?_
          exact g_iret hX ⟨_, rfl, hf⟩ dX4_number_32

def w_M_isPk (x1 : Int32) (χ : St) (Q : Int32 → St → Prop) : Prop := ((x1 < 0 → (Q (0 : Int32) χ)) ∧ (¬ x1 < 0 → (w_M_isPart (x1 / (10 : Int32)) χ (fun r1 χ2 => ((r1 = 0 → (Q (0 : Int32) χ2)) ∧ (¬ r1 = 0 → (w_M_isKind (x1 - x1 / (10 : Int32) * (10 : Int32)) χ2 (fun r3 χ4 => ((r3 = 0 → (Q (0 : Int32) χ4)) ∧ (¬ r3 = 0 → (Q (1 : Int32) χ4)))))))))))
set_option maxHeartbeats 4000000 in
theorem mt_M_isPk (l : Launch) (Γ : Gh) (ad : Nat → Nat → Nat) (x1 : Int32) (χ : St) (Q : Int32 → St → Prop) : Mt l yX4_isPk (ws_ yX4_isPk cX4_isPk 2 (some .boolean)) (rmO (2) (46) χ) (Pm Γ ad χ [.ref (ad 40 0), .int x1] (w_M_isPk x1 χ Q)) (Qm Γ true ad χ (pI Q)) (frB Γ) := by
  refine Mt.start (by decide) RX4 rfl (Nat.le_of_ble_eq_true rfl) ?_
  intro X hX hG _ _ hna _ hf
  unfold w_M_isPk at hf
  refine g_iload_n hX 1 dX4_isPk_0 rfl rfl ?_
  refine g_if_lt hX 29 dX4_isPk_1 (by decide) (fun z => ?_) (fun z => ?_)
  · replace hf := hf.1 z
    refine g_iconst hX (v := (0 : Int32)) dX4_isPk_29 rfl ?_
    exact g_zret hX rfl ⟨_, rfl, hf⟩ dX4_isPk_30
  · replace hf := hf.2 z
    refine g_aload_n hX 0 dX4_isPk_4 rfl rfl ?_
    refine g_iload_n hX 1 dX4_isPk_5 rfl rfl ?_
    refine g_bipush hX (v := (10 : Int32)) dX4_isPk_6 rfl ?_
    refine g_idiv hX dX4_isPk_8 (by decide) ?_
    refine g_callVi hX (n := 1) (mt_M_isPart X.l X.Γ _ _ _ _) hf q1690 q1692 qs47 q89 q1693 ⟨rfl, hy_M_isPart⟩ (by decide) (fc40 _) ff40 rfl rfl rfl (Nat.le_of_ble_eq_true rfl) dX4_isPk_9 (fun r1 χ2 hf hc2 => ?_)
    refine g_if_eq hX 29 dX4_isPk_12 (by decide) (fun z => ?_) (fun z => ?_)
    · replace hf := hf.1 z
      refine g_iconst hX (v := (0 : Int32)) dX4_isPk_29 rfl ?_
      exact g_zret hX rfl ⟨_, rfl, hf⟩ dX4_isPk_30
    · replace hf := hf.2 z
      refine g_iload_n hX 1 dX4_isPk_15 rfl rfl ?_
      refine g_bipush hX (v := (10 : Int32)) dX4_isPk_16 rfl ?_
      refine g_irem hX dX4_isPk_18 (by decide) ?_
      refine g_callSi hX (n := 1) (mt_M_isKind X.l X.Γ _ _ _ _) hf q1672 q1673 q89 q1674 hy_M_isKind (by decide) rfl rfl (Nat.le_of_ble_eq_true rfl) dX4_isPk_19 (fun r3 χ4 hf hc4 => ?_)
      refine g_if_eq hX 29 dX4_isPk_22 (by decide) (fun z => ?_) (fun z => ?_)
      · replace hf := hf.1 z
        refine g_iconst hX (v := (0 : Int32)) dX4_isPk_29 rfl ?_
        exact g_zret hX rfl ⟨_, rfl, hf⟩ dX4_isPk_30
      · replace hf := hf.2 z
        refine g_iconst hX (v := (1 : Int32)) dX4_isPk_25 rfl ?_
        refine g_goto hX 30 dX4_isPk_26 (by decide) ?_
        exact g_zret hX rfl ⟨_, rfl, hf⟩ dX4_isPk_30

def w_M_looksAt_10 (Q : St → Prop) (K2 : Int32 → Int32 → St → Prop) : Nat → Int32 → Int32 → Int32 → St → Prop
  | 0 => fun _ _ _ _ => False
  | n + 1 => fun x1 x2 x3 χ => (((180 : Int32) ≤ x3 → (vp_in (((6 : Int32) * x1) + x2) 48) ∧ ((vp_in x2 6) ∧ ((∀ χ1 : St, χ1 = (sI χ 53 0 x2.toNatClampNeg (gI χ 47 0 (((6 : Int32) * x1) + x2).toNatClampNeg)) → (K2 x1 (x2 + (1 : Int32)) χ1))))) ∧ (¬ (180 : Int32) ≤ x3 → (w_M_numberOf x1 x2 (x3 / (30 : Int32)) (x3 - x3 / (30 : Int32) * (30 : Int32)) χ (fun r2 χ3 => (vp_in (((180 : Int32) * x2) + x3) 1080) ∧ ((∀ χ4 : St, χ4 = (sI χ3 52 0 (((180 : Int32) * x2) + x3).toNatClampNeg r2) → (w_M_looksAt_10 Q K2 n x1 x2 (x3 + (1 : Int32)) χ4)))))))
def w_M_looksAt_2 (Q : St → Prop) : Nat → Int32 → Int32 → St → Prop
  | 0 => fun _ _ _ => False
  | n + 1 => fun x1 x2 χ => (((6 : Int32) ≤ x2 → (Q χ)) ∧ (¬ (6 : Int32) ≤ x2 → (∃ k10, w_M_looksAt_10 Q (w_M_looksAt_2 Q n) k10 x1 x2 (0 : Int32) χ)))
def w_M_looksAt (x1 : Int32) (χ : St) (Q : St → Prop) : Prop := (∃ k2, w_M_looksAt_2 Q k2 x1 (0 : Int32) χ)
set_option maxHeartbeats 4000000 in
theorem mt_M_looksAt (l : Launch) (Γ : Gh) (ad : Nat → Nat → Nat) (x1 : Int32) (χ : St) (Q : St → Prop) : Mt l yX4_looksAt (ws_ yX4_looksAt cX4_looksAt 4 (none)) (rmO (56) (1285) χ) (Pm Γ ad χ [.ref (ad 40 0), .int x1] (w_M_looksAt x1 χ Q)) (Qm Γ true ad χ (pV Q)) (frB Γ) := by
  refine Mt.start (by decide) RX4 rfl (Nat.le_of_ble_eq_true rfl) ?_
  intro X hX hG _ _ hna _ hf
  have B10 : ∀ (K2 : Int32 → Int32 → St → Prop) (hK2 : ∀ (ad : Nat → Nat → Nat) (x1 : Int32) (x2 : Int32) (χ : St), K2 x1 x2 χ → G X ad χ 2 [(0, .ref (ad 40 0)), (1, .int x1), (2, .int x2)] []) (n : Nat) (ad : Nat → Nat → Nat) (x1 : Int32) (x2 : Int32) (x3 : Int32) (χ : St), w_M_looksAt_10 Q K2 n x1 x2 x3 χ → G X ad χ 10 [(0, .ref (ad 40 0)), (1, .int x1), (2, .int x2), (3, .int x3)] [] := by
    intro K2 hK2 n
    induction n with
    | zero => intro ad x1 x2 x3 χ hf; exact hf.elim
    | succ n hK10 =>
      intro ad x1 x2 x3 χ hf
      unfold w_M_looksAt_10 at hf
      refine g_iload_n hX 3 dX4_looksAt_10 rfl rfl ?_
      refine g_sipush hX (v := (180 : Int32)) dX4_looksAt_11 rfl ?_
      refine g_icmp_ge hX 49 dX4_looksAt_14 (by decide) (fun z => ?_) (fun z => ?_)
      · replace hf := hf.1 z
        refine g_aload_n hX 0 dX4_looksAt_49 rfl rfl ?_
        refine g_getK hX (k := 21) (d := 53) (fc40 _) ff40 rfl (by decide) rfl rfl in_X4 (by decide) q1526 dX4_looksAt_50 ?_
        refine g_iload_n hX 2 dX4_looksAt_53 rfl rfl ?_
        refine g_aload_n hX 0 dX4_looksAt_54 rfl rfl ?_
        refine g_getK hX (k := 9) (d := 47) (fc40 _) ff40 rfl (by decide) rfl rfl in_X4 (by decide) q1514 dX4_looksAt_55 ?_
        refine g_bipush hX (v := (6 : Int32)) dX4_looksAt_58 rfl ?_
        refine g_iload_n hX 1 dX4_looksAt_60 rfl rfl ?_
        refine g_imul hX dX4_looksAt_61 ?_
        refine g_iload_n hX 2 dX4_looksAt_62 rfl rfl ?_
        refine g_iadd hX dX4_looksAt_63 ?_
        refine g_iald hX (fc47 _) ff47 rfl hf.1 dX4_looksAt_64 ?_
        replace hf := hf.2
        refine g_iast hX (fc53 _) ff53 rfl hf.1 dX4_looksAt_65 ?_
        replace hf := hf.2
        replace hf := hf _ rfl
        refine g_iinc hX (v := _) 2 dX4_looksAt_66 rfl rfl (by decide) rfl ?_
        refine g_goto hX 2 dX4_looksAt_69 (by decide) ?_
        refine g_sub [1, 2, 0] rfl ?_
        exact hK2 _ _ _ _ hf
      · replace hf := hf.2 z
        refine g_aload_n hX 0 dX4_looksAt_17 rfl rfl ?_
        refine g_getK hX (k := 20) (d := 52) (fc40 _) ff40 rfl (by decide) rfl rfl in_X4 (by decide) q1525 dX4_looksAt_18 ?_
        refine g_sipush hX (v := (180 : Int32)) dX4_looksAt_21 rfl ?_
        refine g_iload_n hX 2 dX4_looksAt_24 rfl rfl ?_
        refine g_imul hX dX4_looksAt_25 ?_
        refine g_iload_n hX 3 dX4_looksAt_26 rfl rfl ?_
        refine g_iadd hX dX4_looksAt_27 ?_
        refine g_aload_n hX 0 dX4_looksAt_28 rfl rfl ?_
        refine g_iload_n hX 1 dX4_looksAt_29 rfl rfl ?_
        refine g_iload_n hX 2 dX4_looksAt_30 rfl rfl ?_
        refine g_iload_n hX 3 dX4_looksAt_31 rfl rfl ?_
        refine g_bipush hX (v := (30 : Int32)) dX4_looksAt_32 rfl ?_
        refine g_idiv hX dX4_looksAt_34 (by decide) ?_
        refine g_iload_n hX 3 dX4_looksAt_35 rfl rfl ?_
        refine g_bipush hX (v := (30 : Int32)) dX4_looksAt_36 rfl ?_
        refine g_irem hX dX4_looksAt_38 (by decide) ?_
        refine g_callVi hX (n := 4) (mt_M_numberOf X.l X.Γ _ _ _ _ _ _ _) hf q1761 q1763 qs58 q89 q1764 ⟨rfl, hy_M_numberOf⟩ (by decide) (fc40 _) ff40 rfl rfl rfl (Nat.le_of_ble_eq_true rfl) dX4_looksAt_39 (fun r2 χ3 hf hc3 => ?_)
        refine g_iast hX (fc52 _) ff52 rfl hf.1 dX4_looksAt_42 ?_
        replace hf := hf.2
        replace hf := hf _ rfl
        refine g_iinc hX (v := _) 3 dX4_looksAt_43 rfl rfl (by decide) rfl ?_
        refine g_goto hX 10 dX4_looksAt_46 (by decide) ?_
        refine g_sub [1, 2, 3, 0] rfl ?_
        exact hK10 _ _ _ _ _ hf
  have B2 : ∀ (n : Nat) (ad : Nat → Nat → Nat) (x1 : Int32) (x2 : Int32) (χ : St), w_M_looksAt_2 Q n x1 x2 χ → G X ad χ 2 [(0, .ref (ad 40 0)), (1, .int x1), (2, .int x2)] [] := by
    intro n
    induction n with
    | zero => intro ad x1 x2 χ hf; exact hf.elim
    | succ n hK2 =>
      intro ad x1 x2 χ hf
      unfold w_M_looksAt_2 at hf
      refine g_iload_n hX 2 dX4_looksAt_2 rfl rfl ?_
      refine g_bipush hX (v := (6 : Int32)) dX4_looksAt_3 rfl ?_
      refine g_icmp_ge hX 72 dX4_looksAt_5 (by decide) (fun z => ?_) (fun z => ?_)
      · replace hf := hf.1 z
        exact g_vret hX ⟨rfl, hf⟩ dX4_looksAt_72
      · replace hf := hf.2 z
        refine g_iconst hX (v := (0 : Int32)) dX4_looksAt_8 rfl ?_
        refine g_istore_n hX dX4_looksAt_9 rfl (by decide) rfl ?_
        obtain ⟨n0, hf⟩ := hf
        refine g_sub [1, 2, 3, 0] rfl ?_
        exact B10 (w_M_looksAt_2 Q n) hK2 n0 _ _ _ _ _ hf
  unfold w_M_looksAt at hf
  refine g_iconst hX (v := (0 : Int32)) dX4_looksAt_0 rfl ?_
  refine g_istore_n hX dX4_looksAt_1 rfl (by decide) rfl ?_
  obtain ⟨n0, hf⟩ := hf
  refine g_sub [1, 2, 0] rfl ?_
  exact B2 n0 _ _ _ _ hf

def w_M_weighs_110 (Q : St → Prop) (K28 : Int32 → St → Prop) (K49 : Int32 → Int64 → Int32 → St → Prop) (x1 : Int32) (x4 : Int32) (z0 : Int64) (z1 : Int64) (χ : St) : Prop := (K49 x1 (z1 * z0) (x4 + (1 : Int32)) χ)
def w_M_weighs_49 (Q : St → Prop) (K28 : Int32 → St → Prop) : Nat → Int32 → Int64 → Int32 → St → Prop
  | 0 => fun _ _ _ _ => False
  | n + 1 => fun x1 x2 x4 χ => (((6 : Int32) ≤ x4 → (vp_in x1 180) ∧ ((∀ χ3 : St, χ3 = (sL χ 54 0 x1.toNatClampNeg x2) → (vp_in (x1 / (30 : Int32)) 6) ∧ ((vp_in (x1 / (30 : Int32)) 6) ∧ ((∀ χ4 : St, χ4 = (sL χ3 55 0 (x1 / (30 : Int32)).toNatClampNeg ((gL χ3 55 0 (x1 / (30 : Int32)).toNatClampNeg) + x2)) → (∀ χ5 : St, χ5 = (sL χ4 4124 0 0 ((gL χ4 4124 0 0) + x2)) → (K28 (x1 + (1 : Int32)) χ5)))))))) ∧ (¬ (6 : Int32) ≤ x4 → (vp_in (((180 : Int32) * x4) + x1) 1080) ∧ ((∀ v6 : Int32, v6 = (gI χ 52 0 (((180 : Int32) * x4) + x1).toNatClampNeg) → (vp_in x4 6) ∧ (((¬ (gI χ 53 0 x4.toNatClampNeg) = 0 → (vp_in x4 6) ∧ (((¬ (gI χ 53 0 x4.toNatClampNeg) = (1 : Int32) → (w_M_weighs_110 Q K28 (w_M_weighs_49 Q K28 n) x1 x4 ((100 : Int64) - v6.toInt64) x2 χ)) ∧ ((gI χ 53 0 x4.toNatClampNeg) = (1 : Int32) → (w_M_weighs_110 Q K28 (w_M_weighs_49 Q K28 n) x1 x4 v6.toInt64 x2 χ))))) ∧ ((gI χ 53 0 x4.toNatClampNeg) = 0 → (w_M_weighs_110 Q K28 (w_M_weighs_49 Q K28 n) x1 x4 (1 : Int64) x2 χ))))))))
def w_M_weighs_28 (Q : St → Prop) : Nat → Int32 → St → Prop
  | 0 => fun _ _ => False
  | n + 1 => fun x1 χ => (((180 : Int32) ≤ x1 → (Q χ)) ∧ (¬ (180 : Int32) ≤ x1 → (vp_in (x1 / (30 : Int32)) 24) ∧ ((∀ v2 : Int64, v2 = (gI χ 41 0 (x1 / (30 : Int32)).toNatClampNeg).toInt64 → (∃ k49, w_M_weighs_49 Q (w_M_weighs_28 Q n) k49 x1 v2 (0 : Int32) χ)))))
def w_M_weighs_7 (Q : St → Prop) : Nat → Int32 → St → Prop
  | 0 => fun _ _ => False
  | n + 1 => fun x1 χ => (((6 : Int32) ≤ x1 → (∃ k28, w_M_weighs_28 Q k28 (0 : Int32) χ)) ∧ (¬ (6 : Int32) ≤ x1 → (vp_in x1 6) ∧ ((∀ χ7 : St, χ7 = (sL χ 55 0 x1.toNatClampNeg (0 : Int64)) → (w_M_weighs_7 Q n (x1 + (1 : Int32)) χ7)))))
def w_M_weighs (χ : St) (Q : St → Prop) : Prop := (∀ χ1 : St, χ1 = (sL χ 4124 0 0 (0 : Int64)) → (∃ k7, w_M_weighs_7 Q k7 (0 : Int32) χ1))
set_option maxHeartbeats 4000000 in
theorem mt_M_weighs (l : Launch) (Γ : Gh) (ad : Nat → Nat → Nat) (χ : St) (Q : St → Prop) : Mt l yX4_weighs (ws_ yX4_weighs cX4_weighs 6 (none)) (rmO (0) (0) χ) (Pm Γ ad χ [.ref (ad 40 0)] (w_M_weighs χ Q)) (Qm Γ true ad χ (pV Q)) (frB Γ) := by
  refine Mt.start (by decide) RX4 rfl (Nat.le_of_ble_eq_true rfl) ?_
  intro X hX hG _ _ hna _ hf
  have B110 : ∀ (K28 : Int32 → St → Prop) (hK28 : ∀ (ad : Nat → Nat → Nat) (x1 : Int32) (χ : St), K28 x1 χ → G X ad χ 28 [(0, .ref (ad 40 0)), (1, .int x1)] []) (K49 : Int32 → Int64 → Int32 → St → Prop) (hK49 : ∀ (ad : Nat → Nat → Nat) (x1 : Int32) (x2 : Int64) (x4 : Int32) (χ : St), K49 x1 x2 x4 χ → G X ad χ 49 [(0, .ref (ad 40 0)), (1, .int x1), (2, .long x2), (4, .int x4)] []) (ad : Nat → Nat → Nat) (x1 : Int32) (x4 : Int32) (z0 : Int64) (z1 : Int64) (χ : St), w_M_weighs_110 Q K28 K49 x1 x4 z0 z1 χ → G X ad χ 110 [(0, .ref (ad 40 0)), (1, .int x1), (4, .int x4)] [.long z0, .long z1] := by
    intro K28 hK28 K49 hK49 ad x1 x4 z0 z1 χ hf
    unfold w_M_weighs_110 at hf
    refine g_lmul hX dX4_weighs_110 ?_
    refine g_lstore_n hX dX4_weighs_111 rfl (by decide) rfl ?_
    refine g_iinc hX (v := _) 3 dX4_weighs_112 rfl rfl (by decide) rfl ?_
    refine g_goto hX 49 dX4_weighs_115 (by decide) ?_
    refine g_sub [2, 3, 1, 0] rfl ?_
    exact hK49 _ _ _ _ _ hf
  have B49 : ∀ (K28 : Int32 → St → Prop) (hK28 : ∀ (ad : Nat → Nat → Nat) (x1 : Int32) (χ : St), K28 x1 χ → G X ad χ 28 [(0, .ref (ad 40 0)), (1, .int x1)] []) (n : Nat) (ad : Nat → Nat → Nat) (x1 : Int32) (x2 : Int64) (x4 : Int32) (χ : St), w_M_weighs_49 Q K28 n x1 x2 x4 χ → G X ad χ 49 [(0, .ref (ad 40 0)), (1, .int x1), (2, .long x2), (4, .int x4)] [] := by
    intro K28 hK28 n
    induction n with
    | zero => intro ad x1 x2 x4 χ hf; exact hf.elim
    | succ n hK49 =>
      intro ad x1 x2 x4 χ hf
      unfold w_M_weighs_49 at hf
      refine g_iload hX 3 dX4_weighs_49 rfl ?_
      refine g_bipush hX (v := (6 : Int32)) dX4_weighs_51 rfl ?_
      refine g_icmp_ge hX 118 dX4_weighs_53 (by decide) (fun z => ?_) (fun z => ?_)
      · replace hf := hf.1 z
        refine g_aload_n hX 0 dX4_weighs_118 rfl rfl ?_
        refine g_getK hX (k := 22) (d := 54) (fc40 _) ff40 rfl (by decide) rfl rfl in_X4 (by decide) q1527 dX4_weighs_119 ?_
        refine g_iload_n hX 1 dX4_weighs_122 rfl rfl ?_
        refine g_lload_n hX 2 dX4_weighs_123 rfl rfl ?_
        refine g_last hX (fc54 _) ff54 rfl hf.1 dX4_weighs_124 ?_
        replace hf := hf.2
        replace hf := hf _ rfl
        refine g_aload_n hX 0 dX4_weighs_125 rfl rfl ?_
        refine g_getK hX (k := 23) (d := 55) (fc40 _) ff40 rfl (by decide) rfl rfl in_X4 (by decide) q1528 dX4_weighs_126 ?_
        refine g_iload_n hX 1 dX4_weighs_129 rfl rfl ?_
        refine g_bipush hX (v := (30 : Int32)) dX4_weighs_130 rfl ?_
        refine g_idiv hX dX4_weighs_132 (by decide) ?_
        refine g_dup2 hX dX4_weighs_133 rfl rfl ?_
        refine g_lald hX (fc55 _) ff55 rfl hf.1 dX4_weighs_134 ?_
        replace hf := hf.2
        refine g_lload_n hX 2 dX4_weighs_135 rfl rfl ?_
        refine g_ladd hX dX4_weighs_136 ?_
        refine g_last hX (fc55 _) ff55 rfl hf.1 dX4_weighs_137 ?_
        replace hf := hf.2
        replace hf := hf _ rfl
        refine g_aload_n hX 0 dX4_weighs_138 rfl rfl ?_
        refine g_dup hX dX4_weighs_139 rfl ?_
        refine g_getL hX (k := 24) (fc40 _) ff40 rfl rfl in_X4 (by decide) q1529 dX4_weighs_140 ?_
        refine g_lload_n hX 2 dX4_weighs_143 rfl rfl ?_
        refine g_ladd hX dX4_weighs_144 ?_
        refine g_putL hX (k := 24) (fc40 _) ff40 rfl rfl in_X4 tyX4_ok nmX4 (by decide) q1529 rfl rfl rfl rfl dX4_weighs_145 ?_
        replace hf := hf _ rfl
        refine g_iinc hX (v := _) 1 dX4_weighs_148 rfl rfl (by decide) rfl ?_
        refine g_goto hX 28 dX4_weighs_151 (by decide) ?_
        refine g_sub [1, 0] rfl ?_
        exact hK28 _ _ _ hf
      · replace hf := hf.2 z
        refine g_aload_n hX 0 dX4_weighs_56 rfl rfl ?_
        refine g_getK hX (k := 20) (d := 52) (fc40 _) ff40 rfl (by decide) rfl rfl in_X4 (by decide) q1525 dX4_weighs_57 ?_
        refine g_sipush hX (v := (180 : Int32)) dX4_weighs_60 rfl ?_
        refine g_iload hX 3 dX4_weighs_63 rfl ?_
        refine g_imul hX dX4_weighs_65 ?_
        refine g_iload_n hX 1 dX4_weighs_66 rfl rfl ?_
        refine g_iadd hX dX4_weighs_67 ?_
        refine g_iald hX (fc52 _) ff52 rfl hf.1 dX4_weighs_68 ?_
        replace hf := hf.2
        replace hf := hf _ rfl
        refine g_istore hX dX4_weighs_69 (by decide) rfl ?_
        refine g_lload_n hX 3 dX4_weighs_71 rfl rfl ?_
        refine g_aload_n hX 1 dX4_weighs_72 rfl rfl ?_
        refine g_getK hX (k := 21) (d := 53) (fc40 _) ff40 rfl (by decide) rfl rfl in_X4 (by decide) q1526 dX4_weighs_73 ?_
        refine g_iload hX 4 dX4_weighs_76 rfl ?_
        refine g_iald hX (fc53 _) ff53 rfl hf.1 dX4_weighs_78 ?_
        replace hf := hf.2
        refine g_if_ne hX 86 dX4_weighs_79 (by decide) (fun z => ?_) (fun z => ?_)
        · replace hf := hf.1 z
          refine g_aload_n hX 1 dX4_weighs_86 rfl rfl ?_
          refine g_getK hX (k := 21) (d := 53) (fc40 _) ff40 rfl (by decide) rfl rfl in_X4 (by decide) q1526 dX4_weighs_87 ?_
          refine g_iload hX 4 dX4_weighs_90 rfl ?_
          refine g_iald hX (fc53 _) ff53 rfl hf.1 dX4_weighs_92 ?_
          replace hf := hf.2
          refine g_iconst hX (v := (1 : Int32)) dX4_weighs_93 rfl ?_
          refine g_icmp_ne hX 103 dX4_weighs_94 (by decide) (fun z => ?_) (fun z => ?_)
          · replace hf := hf.1 z
            refine g_ldc2 hX q1786 dX4_weighs_103 ?_
            refine g_iload hX 0 dX4_weighs_106 rfl ?_
            refine g_i2l hX dX4_weighs_108 ?_
            refine g_lsub hX dX4_weighs_109 ?_
            refine g_sub [1, 2, 4] rfl ?_
            exact B110 K28 hK28 (w_M_weighs_49 Q K28 n) hK49 _ _ _ _ _ _ hf
          · replace hf := hf.2 z
            refine g_iload hX 0 dX4_weighs_97 rfl ?_
            refine g_i2l hX dX4_weighs_99 ?_
            refine g_goto hX 110 dX4_weighs_100 (by decide) ?_
            refine g_sub [1, 2, 4] rfl ?_
            exact B110 K28 hK28 (w_M_weighs_49 Q K28 n) hK49 _ _ _ _ _ _ hf
        · replace hf := hf.2 z
          refine g_lconst hX (v := (1 : Int64)) dX4_weighs_82 rfl ?_
          refine g_goto hX 110 dX4_weighs_83 (by decide) ?_
          refine g_sub [1, 2, 4] rfl ?_
          exact B110 K28 hK28 (w_M_weighs_49 Q K28 n) hK49 _ _ _ _ _ _ hf
  have B28 : ∀ (n : Nat) (ad : Nat → Nat → Nat) (x1 : Int32) (χ : St), w_M_weighs_28 Q n x1 χ → G X ad χ 28 [(0, .ref (ad 40 0)), (1, .int x1)] [] := by
    intro n
    induction n with
    | zero => intro ad x1 χ hf; exact hf.elim
    | succ n hK28 =>
      intro ad x1 χ hf
      unfold w_M_weighs_28 at hf
      refine g_iload_n hX 1 dX4_weighs_28 rfl rfl ?_
      refine g_sipush hX (v := (180 : Int32)) dX4_weighs_29 rfl ?_
      refine g_icmp_ge hX 154 dX4_weighs_32 (by decide) (fun z => ?_) (fun z => ?_)
      · replace hf := hf.1 z
        exact g_vret hX ⟨rfl, hf⟩ dX4_weighs_154
      · replace hf := hf.2 z
        refine g_aload_n hX 0 dX4_weighs_35 rfl rfl ?_
        refine g_getK hX (k := 0) (d := 41) (fc40 _) ff40 rfl (by decide) rfl rfl in_X4 (by decide) q1505 dX4_weighs_36 ?_
        refine g_iload_n hX 1 dX4_weighs_39 rfl rfl ?_
        refine g_bipush hX (v := (30 : Int32)) dX4_weighs_40 rfl ?_
        refine g_idiv hX dX4_weighs_42 (by decide) ?_
        refine g_iald hX (fc41 _) ff41 rfl hf.1 dX4_weighs_43 ?_
        replace hf := hf.2
        refine g_i2l hX dX4_weighs_44 ?_
        replace hf := hf _ rfl
        refine g_lstore_n hX dX4_weighs_45 rfl (by decide) rfl ?_
        refine g_iconst hX (v := (0 : Int32)) dX4_weighs_46 rfl ?_
        refine g_istore hX dX4_weighs_47 (by decide) rfl ?_
        obtain ⟨n0, hf⟩ := hf
        refine g_sub [2, 3, 1, 0] rfl ?_
        exact B49 (w_M_weighs_28 Q n) hK28 n0 _ _ _ _ _ hf
  have B7 : ∀ (n : Nat) (ad : Nat → Nat → Nat) (x1 : Int32) (χ : St), w_M_weighs_7 Q n x1 χ → G X ad χ 7 [(0, .ref (ad 40 0)), (1, .int x1)] [] := by
    intro n
    induction n with
    | zero => intro ad x1 χ hf; exact hf.elim
    | succ n hK7 =>
      intro ad x1 χ hf
      unfold w_M_weighs_7 at hf
      refine g_iload_n hX 1 dX4_weighs_7 rfl rfl ?_
      refine g_bipush hX (v := (6 : Int32)) dX4_weighs_8 rfl ?_
      refine g_icmp_ge hX 26 dX4_weighs_10 (by decide) (fun z => ?_) (fun z => ?_)
      · replace hf := hf.1 z
        refine g_iconst hX (v := (0 : Int32)) dX4_weighs_26 rfl ?_
        refine g_istore_n hX dX4_weighs_27 rfl (by decide) rfl ?_
        obtain ⟨n0, hf⟩ := hf
        refine g_sub [1, 0] rfl ?_
        exact B28 n0 _ _ _ hf
      · replace hf := hf.2 z
        refine g_aload_n hX 0 dX4_weighs_13 rfl rfl ?_
        refine g_getK hX (k := 23) (d := 55) (fc40 _) ff40 rfl (by decide) rfl rfl in_X4 (by decide) q1528 dX4_weighs_14 ?_
        refine g_iload_n hX 1 dX4_weighs_17 rfl rfl ?_
        refine g_lconst hX (v := (0 : Int64)) dX4_weighs_18 rfl ?_
        refine g_last hX (fc55 _) ff55 rfl hf.1 dX4_weighs_19 ?_
        replace hf := hf.2
        replace hf := hf _ rfl
        refine g_iinc hX (v := _) 1 dX4_weighs_20 rfl rfl (by decide) rfl ?_
        refine g_goto hX 7 dX4_weighs_23 (by decide) ?_
        refine g_sub [1, 0] rfl ?_
        exact hK7 _ _ _ hf
  unfold w_M_weighs at hf
  refine g_aload_n hX 0 dX4_weighs_0 rfl rfl ?_
  refine g_lconst hX (v := (0 : Int64)) dX4_weighs_1 rfl ?_
  refine g_putL hX (k := 24) (fc40 _) ff40 rfl rfl in_X4 tyX4_ok nmX4 (by decide) q1529 rfl rfl rfl rfl dX4_weighs_2 ?_
  replace hf := hf _ rfl
  refine g_iconst hX (v := (0 : Int32)) dX4_weighs_5 rfl ?_
  refine g_istore_n hX dX4_weighs_6 rfl (by decide) rfl ?_
  obtain ⟨n0, hf⟩ := hf
  refine g_sub [1, 0] rfl ?_
  exact B7 n0 _ _ _ hf

def w_M_weighsPart (x1 : Int32) (χ : St) (Q : St → Prop) : Prop := (w_M_looksAt x1 χ (fun χ1 => (w_M_weighs χ1 (fun χ2 => (Q χ2)))))
set_option maxHeartbeats 4000000 in
theorem mt_M_weighsPart (l : Launch) (Γ : Gh) (ad : Nat → Nat → Nat) (x1 : Int32) (χ : St) (Q : St → Prop) : Mt l yX4_weighsPart (ws_ yX4_weighsPart cX4_weighsPart 2 (none)) (rmO (57) (1308) χ) (Pm Γ ad χ [.ref (ad 40 0), .int x1] (w_M_weighsPart x1 χ Q)) (Qm Γ true ad χ (pV Q)) (frB Γ) := by
  refine Mt.start (by decide) RX4 rfl (Nat.le_of_ble_eq_true rfl) ?_
  intro X hX hG _ _ hna _ hf
  unfold w_M_weighsPart at hf
  refine g_aload_n hX 0 dX4_weighsPart_0 rfl rfl ?_
  refine g_iload_n hX 1 dX4_weighsPart_1 rfl rfl ?_
  refine g_callVv hX (n := 1) (mt_M_looksAt X.l X.Γ _ _ _ _) hf q1778 q1780 qs61 q89 q1781 ⟨rfl, hy_M_looksAt⟩ (by decide) (fc40 _) ff40 rfl rfl rfl (Nat.le_of_ble_eq_true rfl) dX4_weighsPart_2 (fun χ1 hf hc1 => ?_)
  refine g_aload_n hX 0 dX4_weighsPart_5 rfl rfl ?_
  refine g_callVv hX (n := 0) (mt_M_weighs X.l X.Γ _ _ _) hf q1782 q1784 qs62 q89 q1785 ⟨rfl, hy_M_weighs⟩ (by decide) (fc40 _) ff40 rfl rfl rfl (Nat.le_of_ble_eq_true rfl) dX4_weighsPart_6 (fun χ2 hf hc2 => ?_)
  exact g_vret hX ⟨rfl, hf⟩ dX4_weighsPart_9

def w_M_common_6 (Q : Int64 → St → Prop) : Nat → Int64 → Int64 → St → Prop
  | 0 => fun _ _ _ => False
  | n + 1 => fun x4 x6 χ => (((lg_cmp x6 (0 : Int64)) = 0 → (Q x4 χ)) ∧ (¬ (lg_cmp x6 (0 : Int64)) = 0 → (¬ x6 = 0) ∧ ((w_M_common_6 Q n x6 (x4 - x4 / x6 * x6) χ))))
def w_M_common (x0 : Int64) (x2 : Int64) (χ : St) (Q : Int64 → St → Prop) : Prop := (∃ k6, w_M_common_6 Q k6 x0 x2 χ)
set_option maxHeartbeats 4000000 in
theorem mt_M_common (l : Launch) (Γ : Gh) (ad : Nat → Nat → Nat) (x0 : Int64) (x2 : Int64) (χ : St) (Q : Int64 → St → Prop) : Mt l yX4_common (ws_ yX4_common cX4_common 10 (some .long)) (rmO (0) (0) χ) (Pm Γ ad χ [.long x0, .long x2] (w_M_common x0 x2 χ Q)) (Qm Γ true ad χ (pL Q)) (frB Γ) := by
  refine Mt.start (by decide) RX4 rfl (Nat.le_of_ble_eq_true rfl) ?_
  intro X hX hG _ _ hna _ hf
  have B6 : ∀ (n : Nat) (ad : Nat → Nat → Nat) (x4 : Int64) (x6 : Int64) (χ : St), w_M_common_6 Q n x4 x6 χ → G X ad χ 6 [(4, .long x4), (6, .long x6)] [] := by
    intro n
    induction n with
    | zero => intro ad x4 x6 χ hf; exact hf.elim
    | succ n hK6 =>
      intro ad x4 x6 χ hf
      unfold w_M_common_6 at hf
      refine g_lload hX 1 dX4_common_6 rfl ?_
      refine g_lconst hX (v := (0 : Int64)) dX4_common_8 rfl ?_
      refine g_lcmp hX dX4_common_9 ?_
      refine g_if_eq hX 31 dX4_common_10 (by decide) (fun z => ?_) (fun z => ?_)
      · replace hf := hf.1 z
        refine g_lload hX 0 dX4_common_31 rfl ?_
        exact g_lret hX ⟨_, rfl, hf⟩ dX4_common_33
      · replace hf := hf.2 z
        refine g_lload hX 0 dX4_common_13 rfl ?_
        refine g_lload hX 1 dX4_common_15 rfl ?_
        refine g_lrem hX dX4_common_17 hf.1 ?_
        replace hf := hf.2
        refine g_lstore hX dX4_common_18 (by decide) rfl ?_
        refine g_lload hX 2 dX4_common_20 rfl ?_
        refine g_lstore hX dX4_common_22 (by decide) rfl ?_
        refine g_lload hX 1 dX4_common_24 rfl ?_
        refine g_lstore hX dX4_common_26 (by decide) rfl ?_
        refine g_goto hX 6 dX4_common_28 (by decide) ?_
        refine g_sub [1, 0] rfl ?_
        exact hK6 _ _ _ _ hf
  unfold w_M_common at hf
  refine g_lload_n hX 0 dX4_common_0 rfl rfl ?_
  refine g_lstore hX dX4_common_1 (by decide) rfl ?_
  refine g_lload_n hX 2 dX4_common_3 rfl rfl ?_
  refine g_lstore hX dX4_common_4 (by decide) rfl ?_
  obtain ⟨n0, hf⟩ := hf
  refine g_sub [1, 0] rfl ?_
  exact B6 n0 _ _ _ _ hf

def w_M_likely (x1 : Int32) (x2 : Int32) (χ : St) (Q : Int64 → St → Prop) : Prop := (w_M_isPk x1 χ (fun r1 χ2 => ((r1 = 0 → (Q (-9223372036854775808 : Int64) χ2)) ∧ (¬ r1 = 0 → (w_M_within x2.toInt64 (0 : Int64) (1 : Int64) χ2 (fun r3 χ4 => ((¬ r3 = 0 → (w_M_weighsPart (x1 / (10 : Int32)) χ4 (fun χ5 => (vp_in (x1 - x1 / (10 : Int32) * (10 : Int32)) 6) ∧ ((∀ v6 : Int64, v6 = (gL χ5 55 0 (x1 - x1 / (10 : Int32) * (10 : Int32)).toNatClampNeg) → ((¬ (lg_cmp v6 (0 : Int64)) = 0 → (w_M_common v6 (gL χ5 4124 0 0) χ5 (fun r7 χ8 => ((¬ x2 = 0 → (¬ r7 = 0) ∧ ((Q ((gL χ8 4124 0 0) / r7) χ8))) ∧ (x2 = 0 → (¬ r7 = 0) ∧ ((Q (v6 / r7) χ8))))))) ∧ ((lg_cmp v6 (0 : Int64)) = 0 → (Q x2.toInt64 χ5)))))))) ∧ (r3 = 0 → (Q (-9223372036854775808 : Int64) χ4)))))))))
set_option maxHeartbeats 4000000 in
theorem mt_M_likely (l : Launch) (Γ : Gh) (ad : Nat → Nat → Nat) (x1 : Int32) (x2 : Int32) (χ : St) (Q : Int64 → St → Prop) : Mt l yX4_likely (ws_ yX4_likely cX4_likely 7 (some .long)) (rmO (58) (1329) χ) (Pm Γ ad χ [.ref (ad 40 0), .int x1, .int x2] (w_M_likely x1 x2 χ Q)) (Qm Γ true ad χ (pL Q)) (frB Γ) := by
  refine Mt.start (by decide) RX4 rfl (Nat.le_of_ble_eq_true rfl) ?_
  intro X hX hG _ _ hna _ hf
  unfold w_M_likely at hf
  refine g_aload_n hX 0 dX4_likely_0 rfl rfl ?_
  refine g_iload_n hX 1 dX4_likely_1 rfl rfl ?_
  refine g_callVi hX (n := 1) (mt_M_isPk X.l X.Γ _ _ _ _) hf q1769 q1771 qs59 q89 q1772 ⟨rfl, hy_M_isPk⟩ (by decide) (fc40 _) ff40 rfl rfl rfl (Nat.le_of_ble_eq_true rfl) dX4_likely_2 (fun r1 χ2 hf hc2 => ?_)
  refine g_if_eq hX 18 dX4_likely_5 (by decide) (fun z => ?_) (fun z => ?_)
  · replace hf := hf.1 z
    refine g_ldc2 hX q1773 dX4_likely_18 ?_
    exact g_lret hX ⟨_, rfl, hf⟩ dX4_likely_21
  · replace hf := hf.2 z
    refine g_iload_n hX 2 dX4_likely_8 rfl rfl ?_
    refine g_i2l hX dX4_likely_9 ?_
    refine g_lconst hX (v := (0 : Int64)) dX4_likely_10 rfl ?_
    refine g_lconst hX (v := (1 : Int64)) dX4_likely_11 rfl ?_
    refine g_callSi hX (n := 3) (mt_M_within X.l X.Γ _ _ _ _ _ _) hf q1651 q1652 q89 q1653 hy_M_within (by decide) rfl rfl (Nat.le_of_ble_eq_true rfl) dX4_likely_12 (fun r3 χ4 hf hc4 => ?_)
    refine g_if_ne hX 22 dX4_likely_15 (by decide) (fun z => ?_) (fun z => ?_)
    · replace hf := hf.1 z
      refine g_aload_n hX 0 dX4_likely_22 rfl rfl ?_
      refine g_iload_n hX 1 dX4_likely_23 rfl rfl ?_
      refine g_bipush hX (v := (10 : Int32)) dX4_likely_24 rfl ?_
      refine g_idiv hX dX4_likely_26 (by decide) ?_
      refine g_callVv hX (n := 1) (mt_M_weighsPart X.l X.Γ _ _ _ _) hf q1774 q1776 qs60 q89 q1777 ⟨rfl, hy_M_weighsPart⟩ (by decide) (fc40 _) ff40 rfl rfl rfl (Nat.le_of_ble_eq_true rfl) dX4_likely_27 (fun χ5 hf hc5 => ?_)
      refine g_aload_n hX 0 dX4_likely_30 rfl rfl ?_
      refine g_getK hX (k := 23) (d := 55) (fc40 _) ff40 rfl (by decide) rfl rfl in_X4 (by decide) q1528 dX4_likely_31 ?_
      refine g_iload_n hX 1 dX4_likely_34 rfl rfl ?_
      refine g_bipush hX (v := (10 : Int32)) dX4_likely_35 rfl ?_
      refine g_irem hX dX4_likely_37 (by decide) ?_
      refine g_lald hX (fc55 _) ff55 rfl hf.1 dX4_likely_38 ?_
      replace hf := hf.2
      replace hf := hf _ rfl
      refine g_lstore_n hX dX4_likely_39 rfl (by decide) rfl ?_
      refine g_lload_n hX 0 dX4_likely_40 rfl rfl ?_
      refine g_lconst hX (v := (0 : Int64)) dX4_likely_41 rfl ?_
      refine g_lcmp hX dX4_likely_42 ?_
      refine g_if_ne hX 49 dX4_likely_43 (by decide) (fun z => ?_) (fun z => ?_)
      · replace hf := hf.1 z
        refine g_lload_n hX 0 dX4_likely_49 rfl rfl ?_
        refine g_aload_n hX 1 dX4_likely_50 rfl rfl ?_
        refine g_getL hX (k := 24) (fc40 _) ff40 rfl rfl in_X4 (by decide) q1529 dX4_likely_51 ?_
        refine g_callSl hX (n := 2) (mt_M_common X.l X.Γ _ _ _ _ _) hf q1787 q1788 q89 q1789 hy_M_common (by decide) rfl rfl (Nat.le_of_ble_eq_true rfl) dX4_likely_54 (fun r7 χ8 hf hc8 => ?_)
        refine g_lstore hX dX4_likely_57 (by decide) rfl ?_
        refine g_iload_n hX 4 dX4_likely_59 rfl rfl ?_
        refine g_if_ne hX 70 dX4_likely_60 (by decide) (fun z => ?_) (fun z => ?_)
        · replace hf := hf.1 z
          refine g_aload_n hX 2 dX4_likely_70 rfl rfl ?_
          refine g_getL hX (k := 24) (fc40 _) ff40 rfl rfl in_X4 (by decide) q1529 dX4_likely_71 ?_
          refine g_lload hX 0 dX4_likely_74 rfl ?_
          refine g_ldiv hX dX4_likely_76 hf.1 ?_
          replace hf := hf.2
          exact g_lret hX ⟨_, rfl, hf⟩ dX4_likely_77
        · replace hf := hf.2 z
          refine g_lload_n hX 1 dX4_likely_63 rfl rfl ?_
          refine g_lload hX 0 dX4_likely_64 rfl ?_
          refine g_ldiv hX dX4_likely_66 hf.1 ?_
          replace hf := hf.2
          refine g_goto hX 77 dX4_likely_67 (by decide) ?_
          exact g_lret hX ⟨_, rfl, hf⟩ dX4_likely_77
      · replace hf := hf.2 z
        refine g_iload_n hX 3 dX4_likely_46 rfl rfl ?_
        refine g_i2l hX dX4_likely_47 ?_
        exact g_lret hX ⟨_, rfl, hf⟩ dX4_likely_48
    · replace hf := hf.2 z
      refine g_ldc2 hX q1773 dX4_likely_18 ?_
      exact g_lret hX ⟨_, rfl, hf⟩ dX4_likely_21

def w_M_percentNow (x1 : Int32) (χ : St) (Q : Int32 → St → Prop) : Prop := ((¬ (lg_cmp (gL χ 4124 0 0) (0 : Int64)) = 0 → (vp_in x1 6) ∧ ((¬ (gL χ 4124 0 0) = 0) ∧ ((Q (((100 : Int64) * (gL χ 55 0 x1.toNatClampNeg)) / (gL χ 4124 0 0)).toInt32 χ)))) ∧ ((lg_cmp (gL χ 4124 0 0) (0 : Int64)) = 0 → (Q (0 : Int32) χ)))
set_option maxHeartbeats 4000000 in
theorem mt_M_percentNow (l : Launch) (Γ : Gh) (ad : Nat → Nat → Nat) (x1 : Int32) (χ : St) (Q : Int32 → St → Prop) : Mt l yX4_percentNow (ws_ yX4_percentNow cX4_percentNow 2 (some .int)) (rmO (0) (0) χ) (Pm Γ ad χ [.ref (ad 40 0), .int x1] (w_M_percentNow x1 χ Q)) (Qm Γ true ad χ (pI Q)) (frB Γ) := by
  refine Mt.start (by decide) RX4 rfl (Nat.le_of_ble_eq_true rfl) ?_
  intro X hX hG _ _ hna _ hf
  unfold w_M_percentNow at hf
  refine g_aload_n hX 0 dX4_percentNow_0 rfl rfl ?_
  refine g_getL hX (k := 24) (fc40 _) ff40 rfl rfl in_X4 (by decide) q1529 dX4_percentNow_1 ?_
  refine g_lconst hX (v := (0 : Int64)) dX4_percentNow_4 rfl ?_
  refine g_lcmp hX dX4_percentNow_5 ?_
  refine g_if_ne hX 13 dX4_percentNow_6 (by decide) (fun z => ?_) (fun z => ?_)
  · replace hf := hf.1 z
    refine g_ldc2 hX q1786 dX4_percentNow_13 ?_
    refine g_aload_n hX 0 dX4_percentNow_16 rfl rfl ?_
    refine g_getK hX (k := 23) (d := 55) (fc40 _) ff40 rfl (by decide) rfl rfl in_X4 (by decide) q1528 dX4_percentNow_17 ?_
    refine g_iload_n hX 1 dX4_percentNow_20 rfl rfl ?_
    refine g_lald hX (fc55 _) ff55 rfl hf.1 dX4_percentNow_21 ?_
    replace hf := hf.2
    refine g_lmul hX dX4_percentNow_22 ?_
    refine g_aload_n hX 0 dX4_percentNow_23 rfl rfl ?_
    refine g_getL hX (k := 24) (fc40 _) ff40 rfl rfl in_X4 (by decide) q1529 dX4_percentNow_24 ?_
    refine g_ldiv hX dX4_percentNow_27 hf.1 ?_
    replace hf := hf.2
    refine g_l2i hX dX4_percentNow_28 ?_
    exact g_iret hX ⟨_, rfl, hf⟩ dX4_percentNow_29
  · replace hf := hf.2 z
    refine g_iconst hX (v := (0 : Int32)) dX4_percentNow_9 rfl ?_
    refine g_goto hX 29 dX4_percentNow_10 (by decide) ?_
    exact g_iret hX ⟨_, rfl, hf⟩ dX4_percentNow_29

def w_M_percent (x1 : Int32) (χ : St) (Q : Int32 → St → Prop) : Prop := (w_M_isPk x1 χ (fun r1 χ2 => ((¬ r1 = 0 → (w_M_weighsPart (x1 / (10 : Int32)) χ2 (fun χ3 => (w_M_percentNow (x1 - x1 / (10 : Int32) * (10 : Int32)) χ3 (fun r4 χ5 => (Q r4 χ5)))))) ∧ (r1 = 0 → (Q (-1 : Int32) χ2)))))
set_option maxHeartbeats 4000000 in
theorem mt_M_percent (l : Launch) (Γ : Gh) (ad : Nat → Nat → Nat) (x1 : Int32) (χ : St) (Q : Int32 → St → Prop) : Mt l yX4_percent (ws_ yX4_percent cX4_percent 2 (some .int)) (rmO (58) (1329) χ) (Pm Γ ad χ [.ref (ad 40 0), .int x1] (w_M_percent x1 χ Q)) (Qm Γ true ad χ (pI Q)) (frB Γ) := by
  refine Mt.start (by decide) RX4 rfl (Nat.le_of_ble_eq_true rfl) ?_
  intro X hX hG _ _ hna _ hf
  unfold w_M_percent at hf
  refine g_aload_n hX 0 dX4_percent_0 rfl rfl ?_
  refine g_iload_n hX 1 dX4_percent_1 rfl rfl ?_
  refine g_callVi hX (n := 1) (mt_M_isPk X.l X.Γ _ _ _ _) hf q1769 q1771 qs59 q89 q1772 ⟨rfl, hy_M_isPk⟩ (by decide) (fc40 _) ff40 rfl rfl rfl (Nat.le_of_ble_eq_true rfl) dX4_percent_2 (fun r1 χ2 hf hc2 => ?_)
  refine g_if_ne hX 10 dX4_percent_5 (by decide) (fun z => ?_) (fun z => ?_)
  · replace hf := hf.1 z
    refine g_aload_n hX 0 dX4_percent_10 rfl rfl ?_
    refine g_iload_n hX 1 dX4_percent_11 rfl rfl ?_
    refine g_bipush hX (v := (10 : Int32)) dX4_percent_12 rfl ?_
    refine g_idiv hX dX4_percent_14 (by decide) ?_
    refine g_callVv hX (n := 1) (mt_M_weighsPart X.l X.Γ _ _ _ _) hf q1774 q1776 qs60 q89 q1777 ⟨rfl, hy_M_weighsPart⟩ (by decide) (fc40 _) ff40 rfl rfl rfl (Nat.le_of_ble_eq_true rfl) dX4_percent_15 (fun χ3 hf hc3 => ?_)
    refine g_aload_n hX 0 dX4_percent_18 rfl rfl ?_
    refine g_iload_n hX 1 dX4_percent_19 rfl rfl ?_
    refine g_bipush hX (v := (10 : Int32)) dX4_percent_20 rfl ?_
    refine g_irem hX dX4_percent_22 (by decide) ?_
    refine g_callVi hX (n := 1) (mt_M_percentNow X.l X.Γ _ _ _ _) hf q1794 q1796 qs63 q89 q1797 ⟨rfl, hy_M_percentNow⟩ (by decide) (fc40 _) ff40 rfl rfl rfl (Nat.le_of_ble_eq_true rfl) dX4_percent_23 (fun r4 χ5 hf hc5 => ?_)
    exact g_iret hX ⟨_, rfl, hf⟩ dX4_percent_26
  · replace hf := hf.2 z
    refine g_iconst hX (v := (-1 : Int32)) dX4_percent_8 rfl ?_
    exact g_iret hX ⟨_, rfl, hf⟩ dX4_percent_9

def w_M_mostOf_31 (Q : Int32 → St → Prop) (K4 : Int32 → Int32 → St → Prop) (x2 : Int32) (z0 : Int32) (χ : St) : Prop := (K4 z0 (x2 + (1 : Int32)) χ)
def w_M_mostOf_4 (Q : Int32 → St → Prop) : Nat → Int32 → Int32 → St → Prop
  | 0 => fun _ _ _ => False
  | n + 1 => fun x1 x2 χ => (((6 : Int32) ≤ x2 → (Q x1 χ)) ∧ (¬ (6 : Int32) ≤ x2 → (vp_in x2 6) ∧ ((vp_in x1 6) ∧ ((((lg_cmp (gL χ 55 0 x2.toNatClampNeg) (gL χ 55 0 x1.toNatClampNeg)) ≤ 0 → (w_M_mostOf_31 Q (w_M_mostOf_4 Q n) x2 x1 χ)) ∧ (¬ (lg_cmp (gL χ 55 0 x2.toNatClampNeg) (gL χ 55 0 x1.toNatClampNeg)) ≤ 0 → (w_M_mostOf_31 Q (w_M_mostOf_4 Q n) x2 x2 χ)))))))
def w_M_mostOf (χ : St) (Q : Int32 → St → Prop) : Prop := (∃ k4, w_M_mostOf_4 Q k4 (0 : Int32) (1 : Int32) χ)
set_option maxHeartbeats 4000000 in
theorem mt_M_mostOf (l : Launch) (Γ : Gh) (ad : Nat → Nat → Nat) (χ : St) (Q : Int32 → St → Prop) : Mt l yX4_mostOf (ws_ yX4_mostOf cX4_mostOf 3 (some .int)) (rmO (0) (0) χ) (Pm Γ ad χ [.ref (ad 40 0)] (w_M_mostOf χ Q)) (Qm Γ true ad χ (pI Q)) (frB Γ) := by
  refine Mt.start (by decide) RX4 rfl (Nat.le_of_ble_eq_true rfl) ?_
  intro X hX hG _ _ hna _ hf
  have B31 : ∀ (K4 : Int32 → Int32 → St → Prop) (hK4 : ∀ (ad : Nat → Nat → Nat) (x1 : Int32) (x2 : Int32) (χ : St), K4 x1 x2 χ → G X ad χ 4 [(0, .ref (ad 40 0)), (1, .int x1), (2, .int x2)] []) (ad : Nat → Nat → Nat) (x2 : Int32) (z0 : Int32) (χ : St), w_M_mostOf_31 Q K4 x2 z0 χ → G X ad χ 31 [(0, .ref (ad 40 0)), (2, .int x2)] [.int z0] := by
    intro K4 hK4 ad x2 z0 χ hf
    unfold w_M_mostOf_31 at hf
    refine g_istore_n hX dX4_mostOf_31 rfl (by decide) rfl ?_
    refine g_iinc hX (v := _) 2 dX4_mostOf_32 rfl rfl (by decide) rfl ?_
    refine g_goto hX 4 dX4_mostOf_35 (by decide) ?_
    refine g_sub [2, 1, 0] rfl ?_
    exact hK4 _ _ _ _ hf
  have B4 : ∀ (n : Nat) (ad : Nat → Nat → Nat) (x1 : Int32) (x2 : Int32) (χ : St), w_M_mostOf_4 Q n x1 x2 χ → G X ad χ 4 [(0, .ref (ad 40 0)), (1, .int x1), (2, .int x2)] [] := by
    intro n
    induction n with
    | zero => intro ad x1 x2 χ hf; exact hf.elim
    | succ n hK4 =>
      intro ad x1 x2 χ hf
      unfold w_M_mostOf_4 at hf
      refine g_iload_n hX 2 dX4_mostOf_4 rfl rfl ?_
      refine g_bipush hX (v := (6 : Int32)) dX4_mostOf_5 rfl ?_
      refine g_icmp_ge hX 38 dX4_mostOf_7 (by decide) (fun z => ?_) (fun z => ?_)
      · replace hf := hf.1 z
        refine g_iload_n hX 1 dX4_mostOf_38 rfl rfl ?_
        exact g_iret hX ⟨_, rfl, hf⟩ dX4_mostOf_39
      · replace hf := hf.2 z
        refine g_aload_n hX 0 dX4_mostOf_10 rfl rfl ?_
        refine g_getK hX (k := 23) (d := 55) (fc40 _) ff40 rfl (by decide) rfl rfl in_X4 (by decide) q1528 dX4_mostOf_11 ?_
        refine g_iload_n hX 2 dX4_mostOf_14 rfl rfl ?_
        refine g_lald hX (fc55 _) ff55 rfl hf.1 dX4_mostOf_15 ?_
        replace hf := hf.2
        refine g_aload_n hX 0 dX4_mostOf_16 rfl rfl ?_
        refine g_getK hX (k := 23) (d := 55) (fc40 _) ff40 rfl (by decide) rfl rfl in_X4 (by decide) q1528 dX4_mostOf_17 ?_
        refine g_iload_n hX 1 dX4_mostOf_20 rfl rfl ?_
        refine g_lald hX (fc55 _) ff55 rfl hf.1 dX4_mostOf_21 ?_
        replace hf := hf.2
        refine g_lcmp hX dX4_mostOf_22 ?_
        refine g_if_le hX 30 dX4_mostOf_23 (by decide) (fun z => ?_) (fun z => ?_)
        · replace hf := hf.1 z
          refine g_iload_n hX 1 dX4_mostOf_30 rfl rfl ?_
          refine g_sub [0, 2] rfl ?_
          exact B31 (w_M_mostOf_4 Q n) hK4 _ _ _ _ hf
        · replace hf := hf.2 z
          refine g_iload_n hX 2 dX4_mostOf_26 rfl rfl ?_
          refine g_goto hX 31 dX4_mostOf_27 (by decide) ?_
          refine g_sub [0, 2] rfl ?_
          exact B31 (w_M_mostOf_4 Q n) hK4 _ _ _ _ hf
  unfold w_M_mostOf at hf
  refine g_iconst hX (v := (0 : Int32)) dX4_mostOf_0 rfl ?_
  refine g_istore_n hX dX4_mostOf_1 rfl (by decide) rfl ?_
  refine g_iconst hX (v := (1 : Int32)) dX4_mostOf_2 rfl ?_
  refine g_istore_n hX dX4_mostOf_3 rfl (by decide) rfl ?_
  obtain ⟨n0, hf⟩ := hf
  refine g_sub [2, 1, 0] rfl ?_
  exact B4 n0 _ _ _ _ hf

def w_M_likeliest (x1 : Int32) (χ : St) (Q : Int32 → St → Prop) : Prop := (w_M_isPart x1 χ (fun r1 χ2 => ((¬ r1 = 0 → (w_M_weighsPart x1 χ2 (fun χ3 => ((¬ (lg_cmp (gL χ3 4124 0 0) (0 : Int64)) = 0 → (w_M_mostOf χ3 (fun r4 χ5 => (Q r4 χ5)))) ∧ ((lg_cmp (gL χ3 4124 0 0) (0 : Int64)) = 0 → (Q (-2 : Int32) χ3)))))) ∧ (r1 = 0 → (Q (-1 : Int32) χ2)))))
set_option maxHeartbeats 4000000 in
theorem mt_M_likeliest (l : Launch) (Γ : Gh) (ad : Nat → Nat → Nat) (x1 : Int32) (χ : St) (Q : Int32 → St → Prop) : Mt l yX4_likeliest (ws_ yX4_likeliest cX4_likeliest 2 (some .int)) (rmO (58) (1329) χ) (Pm Γ ad χ [.ref (ad 40 0), .int x1] (w_M_likeliest x1 χ Q)) (Qm Γ true ad χ (pI Q)) (frB Γ) := by
  refine Mt.start (by decide) RX4 rfl (Nat.le_of_ble_eq_true rfl) ?_
  intro X hX hG _ _ hna _ hf
  unfold w_M_likeliest at hf
  refine g_aload_n hX 0 dX4_likeliest_0 rfl rfl ?_
  refine g_iload_n hX 1 dX4_likeliest_1 rfl rfl ?_
  refine g_callVi hX (n := 1) (mt_M_isPart X.l X.Γ _ _ _ _) hf q1690 q1692 qs47 q89 q1693 ⟨rfl, hy_M_isPart⟩ (by decide) (fc40 _) ff40 rfl rfl rfl (Nat.le_of_ble_eq_true rfl) dX4_likeliest_2 (fun r1 χ2 hf hc2 => ?_)
  refine g_if_ne hX 10 dX4_likeliest_5 (by decide) (fun z => ?_) (fun z => ?_)
  · replace hf := hf.1 z
    refine g_aload_n hX 0 dX4_likeliest_10 rfl rfl ?_
    refine g_iload_n hX 1 dX4_likeliest_11 rfl rfl ?_
    refine g_callVv hX (n := 1) (mt_M_weighsPart X.l X.Γ _ _ _ _) hf q1774 q1776 qs60 q89 q1777 ⟨rfl, hy_M_weighsPart⟩ (by decide) (fc40 _) ff40 rfl rfl rfl (Nat.le_of_ble_eq_true rfl) dX4_likeliest_12 (fun χ3 hf hc3 => ?_)
    refine g_aload_n hX 0 dX4_likeliest_15 rfl rfl ?_
    refine g_getL hX (k := 24) (fc40 _) ff40 rfl rfl in_X4 (by decide) q1529 dX4_likeliest_16 ?_
    refine g_lconst hX (v := (0 : Int64)) dX4_likeliest_19 rfl ?_
    refine g_lcmp hX dX4_likeliest_20 ?_
    refine g_if_ne hX 29 dX4_likeliest_21 (by decide) (fun z => ?_) (fun z => ?_)
    · replace hf := hf.1 z
      refine g_aload_n hX 0 dX4_likeliest_29 rfl rfl ?_
      refine g_callVi hX (n := 0) (mt_M_mostOf X.l X.Γ _ _ _) hf q1802 q1804 qs64 q89 q1805 ⟨rfl, hy_M_mostOf⟩ (by decide) (fc40 _) ff40 rfl rfl rfl (Nat.le_of_ble_eq_true rfl) dX4_likeliest_30 (fun r4 χ5 hf hc5 => ?_)
      exact g_iret hX ⟨_, rfl, hf⟩ dX4_likeliest_33
    · replace hf := hf.2 z
      refine g_bipush hX (v := (-2 : Int32)) dX4_likeliest_24 rfl ?_
      refine g_goto hX 33 dX4_likeliest_26 (by decide) ?_
      exact g_iret hX ⟨_, rfl, hf⟩ dX4_likeliest_33
  · replace hf := hf.2 z
    refine g_iconst hX (v := (-1 : Int32)) dX4_likeliest_8 rfl ?_
    exact g_iret hX ⟨_, rfl, hf⟩ dX4_likeliest_9

def w_M_whenNow_41 (Q : Int32 → St → Prop) (K4 : Int32 → Int32 → Int32 → St → Prop) (x1 : Int32) (x3 : Int32) (z0 : Int32) (χ : St) : Prop := (K4 x1 z0 (x3 + (1 : Int32)) χ)
def w_M_whenNow_4 (Q : Int32 → St → Prop) : Nat → Int32 → Int32 → Int32 → St → Prop
  | 0 => fun _ _ _ _ => False
  | n + 1 => fun x1 x2 x3 χ => (((30 : Int32) ≤ x3 → (Q x2 χ)) ∧ (¬ (30 : Int32) ≤ x3 → (vp_in (((30 : Int32) * x1) + x3) 180) ∧ ((vp_in (((30 : Int32) * x1) + x2) 180) ∧ ((((lg_cmp (gL χ 54 0 (((30 : Int32) * x1) + x3).toNatClampNeg) (gL χ 54 0 (((30 : Int32) * x1) + x2).toNatClampNeg)) ≤ 0 → (w_M_whenNow_41 Q (w_M_whenNow_4 Q n) x1 x3 x2 χ)) ∧ (¬ (lg_cmp (gL χ 54 0 (((30 : Int32) * x1) + x3).toNatClampNeg) (gL χ 54 0 (((30 : Int32) * x1) + x2).toNatClampNeg)) ≤ 0 → (w_M_whenNow_41 Q (w_M_whenNow_4 Q n) x1 x3 x3 χ)))))))
def w_M_whenNow (x1 : Int32) (χ : St) (Q : Int32 → St → Prop) : Prop := (∃ k4, w_M_whenNow_4 Q k4 x1 (0 : Int32) (1 : Int32) χ)
set_option maxHeartbeats 4000000 in
theorem mt_M_whenNow (l : Launch) (Γ : Gh) (ad : Nat → Nat → Nat) (x1 : Int32) (χ : St) (Q : Int32 → St → Prop) : Mt l yX4_whenNow (ws_ yX4_whenNow cX4_whenNow 4 (some .int)) (rmO (0) (0) χ) (Pm Γ ad χ [.ref (ad 40 0), .int x1] (w_M_whenNow x1 χ Q)) (Qm Γ true ad χ (pI Q)) (frB Γ) := by
  refine Mt.start (by decide) RX4 rfl (Nat.le_of_ble_eq_true rfl) ?_
  intro X hX hG _ _ hna _ hf
  have B41 : ∀ (K4 : Int32 → Int32 → Int32 → St → Prop) (hK4 : ∀ (ad : Nat → Nat → Nat) (x1 : Int32) (x2 : Int32) (x3 : Int32) (χ : St), K4 x1 x2 x3 χ → G X ad χ 4 [(0, .ref (ad 40 0)), (1, .int x1), (2, .int x2), (3, .int x3)] []) (ad : Nat → Nat → Nat) (x1 : Int32) (x3 : Int32) (z0 : Int32) (χ : St), w_M_whenNow_41 Q K4 x1 x3 z0 χ → G X ad χ 41 [(0, .ref (ad 40 0)), (1, .int x1), (3, .int x3)] [.int z0] := by
    intro K4 hK4 ad x1 x3 z0 χ hf
    unfold w_M_whenNow_41 at hf
    refine g_istore_n hX dX4_whenNow_41 rfl (by decide) rfl ?_
    refine g_iinc hX (v := _) 3 dX4_whenNow_42 rfl rfl (by decide) rfl ?_
    refine g_goto hX 4 dX4_whenNow_45 (by decide) ?_
    refine g_sub [2, 3, 1, 0] rfl ?_
    exact hK4 _ _ _ _ _ hf
  have B4 : ∀ (n : Nat) (ad : Nat → Nat → Nat) (x1 : Int32) (x2 : Int32) (x3 : Int32) (χ : St), w_M_whenNow_4 Q n x1 x2 x3 χ → G X ad χ 4 [(0, .ref (ad 40 0)), (1, .int x1), (2, .int x2), (3, .int x3)] [] := by
    intro n
    induction n with
    | zero => intro ad x1 x2 x3 χ hf; exact hf.elim
    | succ n hK4 =>
      intro ad x1 x2 x3 χ hf
      unfold w_M_whenNow_4 at hf
      refine g_iload_n hX 3 dX4_whenNow_4 rfl rfl ?_
      refine g_bipush hX (v := (30 : Int32)) dX4_whenNow_5 rfl ?_
      refine g_icmp_ge hX 48 dX4_whenNow_7 (by decide) (fun z => ?_) (fun z => ?_)
      · replace hf := hf.1 z
        refine g_iload_n hX 2 dX4_whenNow_48 rfl rfl ?_
        exact g_iret hX ⟨_, rfl, hf⟩ dX4_whenNow_49
      · replace hf := hf.2 z
        refine g_aload_n hX 0 dX4_whenNow_10 rfl rfl ?_
        refine g_getK hX (k := 22) (d := 54) (fc40 _) ff40 rfl (by decide) rfl rfl in_X4 (by decide) q1527 dX4_whenNow_11 ?_
        refine g_bipush hX (v := (30 : Int32)) dX4_whenNow_14 rfl ?_
        refine g_iload_n hX 1 dX4_whenNow_16 rfl rfl ?_
        refine g_imul hX dX4_whenNow_17 ?_
        refine g_iload_n hX 3 dX4_whenNow_18 rfl rfl ?_
        refine g_iadd hX dX4_whenNow_19 ?_
        refine g_lald hX (fc54 _) ff54 rfl hf.1 dX4_whenNow_20 ?_
        replace hf := hf.2
        refine g_aload_n hX 0 dX4_whenNow_21 rfl rfl ?_
        refine g_getK hX (k := 22) (d := 54) (fc40 _) ff40 rfl (by decide) rfl rfl in_X4 (by decide) q1527 dX4_whenNow_22 ?_
        refine g_bipush hX (v := (30 : Int32)) dX4_whenNow_25 rfl ?_
        refine g_iload_n hX 1 dX4_whenNow_27 rfl rfl ?_
        refine g_imul hX dX4_whenNow_28 ?_
        refine g_iload_n hX 2 dX4_whenNow_29 rfl rfl ?_
        refine g_iadd hX dX4_whenNow_30 ?_
        refine g_lald hX (fc54 _) ff54 rfl hf.1 dX4_whenNow_31 ?_
        replace hf := hf.2
        refine g_lcmp hX dX4_whenNow_32 ?_
        refine g_if_le hX 40 dX4_whenNow_33 (by decide) (fun z => ?_) (fun z => ?_)
        · replace hf := hf.1 z
          refine g_iload_n hX 2 dX4_whenNow_40 rfl rfl ?_
          refine g_sub [0, 1, 3] rfl ?_
          exact B41 (w_M_whenNow_4 Q n) hK4 _ _ _ _ _ hf
        · replace hf := hf.2 z
          refine g_iload_n hX 3 dX4_whenNow_36 rfl rfl ?_
          refine g_goto hX 41 dX4_whenNow_37 (by decide) ?_
          refine g_sub [0, 1, 3] rfl ?_
          exact B41 (w_M_whenNow_4 Q n) hK4 _ _ _ _ _ hf
  unfold w_M_whenNow at hf
  refine g_iconst hX (v := (0 : Int32)) dX4_whenNow_0 rfl ?_
  refine g_istore_n hX dX4_whenNow_1 rfl (by decide) rfl ?_
  refine g_iconst hX (v := (1 : Int32)) dX4_whenNow_2 rfl ?_
  refine g_istore_n hX dX4_whenNow_3 rfl (by decide) rfl ?_
  obtain ⟨n0, hf⟩ := hf
  refine g_sub [2, 3, 1, 0] rfl ?_
  exact B4 n0 _ _ _ _ _ hf

def w_M_when_100 (Q : Int32 → St → Prop) (K58 : Int32 → Int32 → Int32 → Int32 → Int32 → St → Prop) (x2 : Int32) (x3 : Int32) (x4 : Int32) (x5 : Int32) (x6 : Int32) (χ : St) : Prop := (K58 x2 x3 x4 x5 (x6 + (1 : Int32)) χ)
def w_M_when_94 (Q : Int32 → St → Prop) (K58 : Int32 → Int32 → Int32 → Int32 → Int32 → St → Prop) (x2 : Int32) (x3 : Int32) (x6 : Int32) (z0 : Int32) (χ : St) : Prop := (w_M_when_100 Q K58 x2 x3 z0 x6 x6 χ)
def w_M_when_58 (Q : Int32 → St → Prop) : Nat → Int32 → Int32 → Int32 → Int32 → Int32 → St → Prop
  | 0 => fun _ _ _ _ _ _ => False
  | n + 1 => fun x2 x3 x4 x5 x6 χ => (((30 : Int32) ≤ x6 → ((¬ x2 = 0 → ((¬ x2 = (1 : Int32) → (Q x5 χ)) ∧ (x2 = (1 : Int32) → (Q x4 χ)))) ∧ (x2 = 0 → (w_M_whenNow x3 χ (fun r7 χ8 => (Q r7 χ8)))))) ∧ (¬ (30 : Int32) ≤ x6 → (vp_in (((30 : Int32) * x3) + x6) 180) ∧ ((((lg_cmp (gL χ 54 0 (((30 : Int32) * x3) + x6).toNatClampNeg) (0 : Int64)) ≤ 0 → (w_M_when_100 Q (w_M_when_58 Q n) x2 x3 x4 x5 x6 χ)) ∧ (¬ (lg_cmp (gL χ 54 0 (((30 : Int32) * x3) + x6).toNatClampNeg) (0 : Int64)) ≤ 0 → ((0 ≤ x4 → (w_M_when_94 Q (w_M_when_58 Q n) x2 x3 x6 x4 χ)) ∧ (¬ 0 ≤ x4 → (w_M_when_94 Q (w_M_when_58 Q n) x2 x3 x6 x6 χ))))))))
def w_M_when (x1 : Int32) (x2 : Int32) (χ : St) (Q : Int32 → St → Prop) : Prop := (w_M_isPk x1 χ (fun r1 χ2 => ((r1 = 0 → (Q (-1 : Int32) χ2)) ∧ (¬ r1 = 0 → (w_M_within x2.toInt64 (0 : Int64) (2 : Int64) χ2 (fun r3 χ4 => ((¬ r3 = 0 → (w_M_weighsPart (x1 / (10 : Int32)) χ4 (fun χ5 => (∀ v6 : Int32, v6 = (x1 - x1 / (10 : Int32) * (10 : Int32)) → (vp_in v6 6) ∧ (((¬ (lg_cmp (gL χ5 55 0 v6.toNatClampNeg) (0 : Int64)) = 0 → (∃ k58, w_M_when_58 Q k58 x2 v6 (-1 : Int32) (-1 : Int32) (0 : Int32) χ5)) ∧ ((lg_cmp (gL χ5 55 0 v6.toNatClampNeg) (0 : Int64)) = 0 → (Q (-2 : Int32) χ5)))))))) ∧ (r3 = 0 → (Q (-1 : Int32) χ4)))))))))
set_option maxHeartbeats 4000000 in
theorem mt_M_when (l : Launch) (Γ : Gh) (ad : Nat → Nat → Nat) (x1 : Int32) (x2 : Int32) (χ : St) (Q : Int32 → St → Prop) : Mt l yX4_when (ws_ yX4_when cX4_when 7 (some .int)) (rmO (58) (1329) χ) (Pm Γ ad χ [.ref (ad 40 0), .int x1, .int x2] (w_M_when x1 x2 χ Q)) (Qm Γ true ad χ (pI Q)) (frB Γ) := by
  refine Mt.start (by decide) RX4 rfl (Nat.le_of_ble_eq_true rfl) ?_
  intro X hX hG _ _ hna _ hf
  have B100 : ∀ (K58 : Int32 → Int32 → Int32 → Int32 → Int32 → St → Prop) (hK58 : ∀ (ad : Nat → Nat → Nat) (x2 : Int32) (x3 : Int32) (x4 : Int32) (x5 : Int32) (x6 : Int32) (χ : St), K58 x2 x3 x4 x5 x6 χ → G X ad χ 58 [(0, .ref (ad 40 0)), (2, .int x2), (3, .int x3), (4, .int x4), (5, .int x5), (6, .int x6)] []) (ad : Nat → Nat → Nat) (x2 : Int32) (x3 : Int32) (x4 : Int32) (x5 : Int32) (x6 : Int32) (χ : St), w_M_when_100 Q K58 x2 x3 x4 x5 x6 χ → G X ad χ 100 [(0, .ref (ad 40 0)), (2, .int x2), (3, .int x3), (4, .int x4), (5, .int x5), (6, .int x6)] [] := by
    intro K58 hK58 ad x2 x3 x4 x5 x6 χ hf
    unfold w_M_when_100 at hf
    refine g_iinc hX (v := _) 5 dX4_when_100 rfl rfl (by decide) rfl ?_
    refine g_goto hX 58 dX4_when_103 (by decide) ?_
    refine g_sub [1, 2, 3, 4, 5, 0] rfl ?_
    exact hK58 _ _ _ _ _ _ _ hf
  have B94 : ∀ (K58 : Int32 → Int32 → Int32 → Int32 → Int32 → St → Prop) (hK58 : ∀ (ad : Nat → Nat → Nat) (x2 : Int32) (x3 : Int32) (x4 : Int32) (x5 : Int32) (x6 : Int32) (χ : St), K58 x2 x3 x4 x5 x6 χ → G X ad χ 58 [(0, .ref (ad 40 0)), (2, .int x2), (3, .int x3), (4, .int x4), (5, .int x5), (6, .int x6)] []) (ad : Nat → Nat → Nat) (x2 : Int32) (x3 : Int32) (x6 : Int32) (z0 : Int32) (χ : St), w_M_when_94 Q K58 x2 x3 x6 z0 χ → G X ad χ 94 [(0, .ref (ad 40 0)), (2, .int x2), (3, .int x3), (6, .int x6)] [.int z0] := by
    intro K58 hK58 ad x2 x3 x6 z0 χ hf
    unfold w_M_when_94 at hf
    refine g_istore hX dX4_when_94 (by decide) rfl ?_
    refine g_iload hX 4 dX4_when_96 rfl ?_
    refine g_istore hX dX4_when_98 (by decide) rfl ?_
    refine g_sub [2, 3, 4, 1, 0, 5] rfl ?_
    exact B100 K58 hK58 _ _ _ _ _ _ _ hf
  have B58 : ∀ (n : Nat) (ad : Nat → Nat → Nat) (x2 : Int32) (x3 : Int32) (x4 : Int32) (x5 : Int32) (x6 : Int32) (χ : St), w_M_when_58 Q n x2 x3 x4 x5 x6 χ → G X ad χ 58 [(0, .ref (ad 40 0)), (2, .int x2), (3, .int x3), (4, .int x4), (5, .int x5), (6, .int x6)] [] := by
    intro n
    induction n with
    | zero => intro ad x2 x3 x4 x5 x6 χ hf; exact hf.elim
    | succ n hK58 =>
      intro ad x2 x3 x4 x5 x6 χ hf
      unfold w_M_when_58 at hf
      refine g_iload hX 5 dX4_when_58 rfl ?_
      refine g_bipush hX (v := (30 : Int32)) dX4_when_60 rfl ?_
      refine g_icmp_ge hX 106 dX4_when_62 (by decide) (fun z => ?_) (fun z => ?_)
      · replace hf := hf.1 z
        refine g_iload_n hX 1 dX4_when_106 rfl rfl ?_
        refine g_if_ne hX 118 dX4_when_107 (by decide) (fun z => ?_) (fun z => ?_)
        · replace hf := hf.1 z
          refine g_iload_n hX 1 dX4_when_118 rfl rfl ?_
          refine g_iconst hX (v := (1 : Int32)) dX4_when_119 rfl ?_
          refine g_icmp_ne hX 128 dX4_when_120 (by decide) (fun z => ?_) (fun z => ?_)
          · replace hf := hf.1 z
            refine g_iload hX 4 dX4_when_128 rfl ?_
            exact g_iret hX ⟨_, rfl, hf⟩ dX4_when_130
          · replace hf := hf.2 z
            refine g_iload hX 3 dX4_when_123 rfl ?_
            refine g_goto hX 130 dX4_when_125 (by decide) ?_
            exact g_iret hX ⟨_, rfl, hf⟩ dX4_when_130
        · replace hf := hf.2 z
          refine g_aload_n hX 0 dX4_when_110 rfl rfl ?_
          refine g_iload_n hX 2 dX4_when_111 rfl rfl ?_
          refine g_callVi hX (n := 1) (mt_M_whenNow X.l X.Γ _ _ _ _) hf q1810 q1812 qs65 q89 q1813 ⟨rfl, hy_M_whenNow⟩ (by decide) (fc40 _) ff40 rfl rfl rfl (Nat.le_of_ble_eq_true rfl) dX4_when_112 (fun r7 χ8 hf hc8 => ?_)
          refine g_goto hX 130 dX4_when_115 (by decide) ?_
          exact g_iret hX ⟨_, rfl, hf⟩ dX4_when_130
      · replace hf := hf.2 z
        refine g_aload_n hX 0 dX4_when_65 rfl rfl ?_
        refine g_getK hX (k := 22) (d := 54) (fc40 _) ff40 rfl (by decide) rfl rfl in_X4 (by decide) q1527 dX4_when_66 ?_
        refine g_bipush hX (v := (30 : Int32)) dX4_when_69 rfl ?_
        refine g_iload_n hX 2 dX4_when_71 rfl rfl ?_
        refine g_imul hX dX4_when_72 ?_
        refine g_iload hX 5 dX4_when_73 rfl ?_
        refine g_iadd hX dX4_when_75 ?_
        refine g_lald hX (fc54 _) ff54 rfl hf.1 dX4_when_76 ?_
        replace hf := hf.2
        refine g_lconst hX (v := (0 : Int64)) dX4_when_77 rfl ?_
        refine g_lcmp hX dX4_when_78 ?_
        refine g_if_le hX 100 dX4_when_79 (by decide) (fun z => ?_) (fun z => ?_)
        · replace hf := hf.1 z
          exact B100 (w_M_when_58 Q n) hK58 _ _ _ _ _ _ _ hf
        · replace hf := hf.2 z
          refine g_iload hX 3 dX4_when_82 rfl ?_
          refine g_if_ge hX 92 dX4_when_84 (by decide) (fun z => ?_) (fun z => ?_)
          · replace hf := hf.1 z
            refine g_iload hX 3 dX4_when_92 rfl ?_
            refine g_sub [0, 1, 2, 5] rfl ?_
            exact B94 (w_M_when_58 Q n) hK58 _ _ _ _ _ _ hf
          · replace hf := hf.2 z
            refine g_iload hX 5 dX4_when_87 rfl ?_
            refine g_goto hX 94 dX4_when_89 (by decide) ?_
            refine g_sub [0, 1, 2, 5] rfl ?_
            exact B94 (w_M_when_58 Q n) hK58 _ _ _ _ _ _ hf
  unfold w_M_when at hf
  refine g_aload_n hX 0 dX4_when_0 rfl rfl ?_
  refine g_iload_n hX 1 dX4_when_1 rfl rfl ?_
  refine g_callVi hX (n := 1) (mt_M_isPk X.l X.Γ _ _ _ _) hf q1769 q1771 qs59 q89 q1772 ⟨rfl, hy_M_isPk⟩ (by decide) (fc40 _) ff40 rfl rfl rfl (Nat.le_of_ble_eq_true rfl) dX4_when_2 (fun r1 χ2 hf hc2 => ?_)
  refine g_if_eq hX 20 dX4_when_5 (by decide) (fun z => ?_) (fun z => ?_)
  · replace hf := hf.1 z
    refine g_iconst hX (v := (-1 : Int32)) dX4_when_20 rfl ?_
    exact g_iret hX ⟨_, rfl, hf⟩ dX4_when_21
  · replace hf := hf.2 z
    refine g_iload_n hX 2 dX4_when_8 rfl rfl ?_
    refine g_i2l hX dX4_when_9 ?_
    refine g_lconst hX (v := (0 : Int64)) dX4_when_10 rfl ?_
    refine g_ldc2 hX q1694 dX4_when_11 ?_
    refine g_callSi hX (n := 3) (mt_M_within X.l X.Γ _ _ _ _ _ _) hf q1651 q1652 q89 q1653 hy_M_within (by decide) rfl rfl (Nat.le_of_ble_eq_true rfl) dX4_when_14 (fun r3 χ4 hf hc4 => ?_)
    refine g_if_ne hX 22 dX4_when_17 (by decide) (fun z => ?_) (fun z => ?_)
    · replace hf := hf.1 z
      refine g_aload_n hX 0 dX4_when_22 rfl rfl ?_
      refine g_iload_n hX 1 dX4_when_23 rfl rfl ?_
      refine g_bipush hX (v := (10 : Int32)) dX4_when_24 rfl ?_
      refine g_idiv hX dX4_when_26 (by decide) ?_
      refine g_callVv hX (n := 1) (mt_M_weighsPart X.l X.Γ _ _ _ _) hf q1774 q1776 qs60 q89 q1777 ⟨rfl, hy_M_weighsPart⟩ (by decide) (fc40 _) ff40 rfl rfl rfl (Nat.le_of_ble_eq_true rfl) dX4_when_27 (fun χ5 hf hc5 => ?_)
      refine g_iload_n hX 1 dX4_when_30 rfl rfl ?_
      refine g_bipush hX (v := (10 : Int32)) dX4_when_31 rfl ?_
      refine g_irem hX dX4_when_33 (by decide) ?_
      replace hf := hf _ rfl
      refine g_istore_n hX dX4_when_34 rfl (by decide) rfl ?_
      refine g_aload_n hX 1 dX4_when_35 rfl rfl ?_
      refine g_getK hX (k := 23) (d := 55) (fc40 _) ff40 rfl (by decide) rfl rfl in_X4 (by decide) q1528 dX4_when_36 ?_
      refine g_iload_n hX 0 dX4_when_39 rfl rfl ?_
      refine g_lald hX (fc55 _) ff55 rfl hf.1 dX4_when_40 ?_
      replace hf := hf.2
      refine g_lconst hX (v := (0 : Int64)) dX4_when_41 rfl ?_
      refine g_lcmp hX dX4_when_42 ?_
      refine g_if_ne hX 49 dX4_when_43 (by decide) (fun z => ?_) (fun z => ?_)
      · replace hf := hf.1 z
        refine g_iconst hX (v := (-1 : Int32)) dX4_when_49 rfl ?_
        refine g_istore hX dX4_when_50 (by decide) rfl ?_
        refine g_iconst hX (v := (-1 : Int32)) dX4_when_52 rfl ?_
        refine g_istore hX dX4_when_53 (by decide) rfl ?_
        refine g_iconst hX (v := (0 : Int32)) dX4_when_55 rfl ?_
        refine g_istore hX dX4_when_56 (by decide) rfl ?_
        obtain ⟨n0, hf⟩ := hf
        refine g_sub [4, 6, 3, 2, 1, 0] rfl ?_
        exact B58 n0 _ _ _ _ _ _ _ hf
      · replace hf := hf.2 z
        refine g_bipush hX (v := (-2 : Int32)) dX4_when_46 rfl ?_
        exact g_iret hX ⟨_, rfl, hf⟩ dX4_when_48
    · replace hf := hf.2 z
      refine g_iconst hX (v := (-1 : Int32)) dX4_when_20 rfl ?_
      exact g_iret hX ⟨_, rfl, hf⟩ dX4_when_21

def w_M_whole_26 (Q : Int32 → St → Prop) : Nat → Int32 → Int32 → Int64 → Int64 → Int64 → Int32 → St → Prop
  | 0 => fun _ _ _ _ _ _ _ => False
  | n + 1 => fun x1 x2 x3 x5 x7 x9 χ => (((gI χ 4106 0 0) ≤ x9 → ((¬ x1 = 0 → (((2 : Int32) ≤ (gI χ 4106 0 0) → (¬ (x7 / (10000 : Int64)) = 0) ∧ ((Q (((x7 - x3) - x5) / (x7 / (10000 : Int64))).toInt32 χ))) ∧ (¬ (2 : Int32) ≤ (gI χ 4106 0 0) → (Q (0 : Int32) χ)))) ∧ (x1 = 0 → (Q x2 χ)))) ∧ (¬ (gI χ 4106 0 0) ≤ x9 → (w_M_weighsPart x9 χ (fun χ3 => (w_M_percentNow (0 : Int32) χ3 (fun r4 χ5 => (∀ v6 : Int32, v6 = ((x2 * r4) / (100 : Int32)) → (∀ v7 : Int64, v7 = ((x5 * r4.toInt64) + (x3 * ((100 : Int32) - r4).toInt64)) → (w_M_whole_26 Q n x1 v6 (x3 * r4.toInt64) v7 (x7 * (100 : Int64)) (x9 + (1 : Int32)) χ5)))))))))
def w_M_whole (x1 : Int32) (χ : St) (Q : Int32 → St → Prop) : Prop := (w_M_within x1.toInt64 (0 : Int64) (1 : Int64) χ (fun r1 χ2 => ((¬ r1 = 0 → (∃ k26, w_M_whole_26 Q k26 x1 (100 : Int32) (1 : Int64) (0 : Int64) (1 : Int64) (0 : Int32) χ2)) ∧ (r1 = 0 → (Q (-1 : Int32) χ2)))))
set_option maxHeartbeats 4000000 in
theorem mt_M_whole (l : Launch) (Γ : Gh) (ad : Nat → Nat → Nat) (x1 : Int32) (χ : St) (Q : Int32 → St → Prop) : Mt l yX4_whole (ws_ yX4_whole cX4_whole 11 (some .int)) (rmO (58) (1329) χ) (Pm Γ ad χ [.ref (ad 40 0), .int x1] (w_M_whole x1 χ Q)) (Qm Γ true ad χ (pI Q)) (frB Γ) := by
  refine Mt.start (by decide) RX4 rfl (Nat.le_of_ble_eq_true rfl) ?_
  intro X hX hG _ _ hna _ hf
  have B26 : ∀ (n : Nat) (ad : Nat → Nat → Nat) (x1 : Int32) (x2 : Int32) (x3 : Int64) (x5 : Int64) (x7 : Int64) (x9 : Int32) (χ : St), w_M_whole_26 Q n x1 x2 x3 x5 x7 x9 χ → G X ad χ 26 [(0, .ref (ad 40 0)), (1, .int x1), (2, .int x2), (3, .long x3), (5, .long x5), (7, .long x7), (9, .int x9)] [] := by
    intro n
    induction n with
    | zero => intro ad x1 x2 x3 x5 x7 x9 χ hf; exact hf.elim
    | succ n hK26 =>
      intro ad x1 x2 x3 x5 x7 x9 χ hf
      unfold w_M_whole_26 at hf
      refine g_iload hX 6 dX4_whole_26 rfl ?_
      refine g_aload_n hX 0 dX4_whole_28 rfl rfl ?_
      refine g_getI hX (k := 6) (fc40 _) ff40 rfl rfl in_X4 (by decide) q1511 dX4_whole_29 ?_
      refine g_icmp_ge hX 93 dX4_whole_32 (by decide) (fun z => ?_) (fun z => ?_)
      · replace hf := hf.1 z
        refine g_iload_n hX 1 dX4_whole_93 rfl rfl ?_
        refine g_if_ne hX 99 dX4_whole_94 (by decide) (fun z => ?_) (fun z => ?_)
        · replace hf := hf.1 z
          refine g_aload_n hX 0 dX4_whole_99 rfl rfl ?_
          refine g_getI hX (k := 6) (fc40 _) ff40 rfl rfl in_X4 (by decide) q1511 dX4_whole_100 ?_
          refine g_iconst hX (v := (2 : Int32)) dX4_whole_103 rfl ?_
          refine g_icmp_ge hX 111 dX4_whole_104 (by decide) (fun z => ?_) (fun z => ?_)
          · replace hf := hf.1 z
            refine g_lload hX 5 dX4_whole_111 rfl ?_
            refine g_lload_n hX 3 dX4_whole_113 rfl rfl ?_
            refine g_lsub hX dX4_whole_114 ?_
            refine g_lload hX 4 dX4_whole_115 rfl ?_
            refine g_lsub hX dX4_whole_117 ?_
            refine g_lload hX 5 dX4_whole_118 rfl ?_
            refine g_ldc2 hX q1818 dX4_whole_120 ?_
            refine g_ldiv hX dX4_whole_123 (by decide) ?_
            refine g_ldiv hX dX4_whole_124 hf.1 ?_
            replace hf := hf.2
            refine g_l2i hX dX4_whole_125 ?_
            exact g_iret hX ⟨_, rfl, hf⟩ dX4_whole_126
          · replace hf := hf.2 z
            refine g_iconst hX (v := (0 : Int32)) dX4_whole_107 rfl ?_
            refine g_goto hX 126 dX4_whole_108 (by decide) ?_
            exact g_iret hX ⟨_, rfl, hf⟩ dX4_whole_126
        · replace hf := hf.2 z
          refine g_iload_n hX 2 dX4_whole_97 rfl rfl ?_
          exact g_iret hX ⟨_, rfl, hf⟩ dX4_whole_98
      · replace hf := hf.2 z
        refine g_aload_n hX 0 dX4_whole_35 rfl rfl ?_
        refine g_iload hX 6 dX4_whole_36 rfl ?_
        refine g_callVv hX (n := 1) (mt_M_weighsPart X.l X.Γ _ _ _ _) hf q1774 q1776 qs60 q89 q1777 ⟨rfl, hy_M_weighsPart⟩ (by decide) (fc40 _) ff40 rfl rfl rfl (Nat.le_of_ble_eq_true rfl) dX4_whole_38 (fun χ3 hf hc3 => ?_)
        refine g_aload_n hX 0 dX4_whole_41 rfl rfl ?_
        refine g_iconst hX (v := (0 : Int32)) dX4_whole_42 rfl ?_
        refine g_callVi hX (n := 1) (mt_M_percentNow X.l X.Γ _ _ _ _) hf q1794 q1796 qs63 q89 q1797 ⟨rfl, hy_M_percentNow⟩ (by decide) (fc40 _) ff40 rfl rfl rfl (Nat.le_of_ble_eq_true rfl) dX4_whole_43 (fun r4 χ5 hf hc5 => ?_)
        refine g_istore hX dX4_whole_46 (by decide) rfl ?_
        refine g_iload_n hX 3 dX4_whole_48 rfl rfl ?_
        refine g_iload hX 0 dX4_whole_49 rfl ?_
        refine g_imul hX dX4_whole_51 ?_
        refine g_bipush hX (v := (100 : Int32)) dX4_whole_52 rfl ?_
        refine g_idiv hX dX4_whole_54 (by decide) ?_
        replace hf := hf _ rfl
        refine g_istore_n hX dX4_whole_55 rfl (by decide) rfl ?_
        refine g_lload hX 5 dX4_whole_56 rfl ?_
        refine g_iload hX 1 dX4_whole_58 rfl ?_
        refine g_i2l hX dX4_whole_60 ?_
        refine g_lmul hX dX4_whole_61 ?_
        refine g_lload_n hX 4 dX4_whole_62 rfl rfl ?_
        refine g_bipush hX (v := (100 : Int32)) dX4_whole_63 rfl ?_
        refine g_iload hX 1 dX4_whole_65 rfl ?_
        refine g_isub hX dX4_whole_67 ?_
        refine g_i2l hX dX4_whole_68 ?_
        refine g_lmul hX dX4_whole_69 ?_
        refine g_ladd hX dX4_whole_70 ?_
        replace hf := hf _ rfl
        refine g_lstore hX dX4_whole_71 (by decide) rfl ?_
        refine g_lload_n hX 5 dX4_whole_73 rfl rfl ?_
        refine g_iload hX 2 dX4_whole_74 rfl ?_
        refine g_i2l hX dX4_whole_76 ?_
        refine g_lmul hX dX4_whole_77 ?_
        refine g_lstore_n hX dX4_whole_78 rfl (by decide) rfl ?_
        refine g_lload hX 6 dX4_whole_79 rfl ?_
        refine g_ldc2 hX q1786 dX4_whole_81 ?_
        refine g_lmul hX dX4_whole_84 ?_
        refine g_lstore hX dX4_whole_85 (by decide) rfl ?_
        refine g_iinc hX (v := _) 7 dX4_whole_87 rfl rfl (by decide) rfl ?_
        refine g_goto hX 26 dX4_whole_90 (by decide) ?_
        refine g_sub [6, 7, 4, 2, 3, 1, 0] rfl ?_
        exact hK26 _ _ _ _ _ _ _ _ hf
  unfold w_M_whole at hf
  refine g_iload_n hX 1 dX4_whole_0 rfl rfl ?_
  refine g_i2l hX dX4_whole_1 ?_
  refine g_lconst hX (v := (0 : Int64)) dX4_whole_2 rfl ?_
  refine g_lconst hX (v := (1 : Int64)) dX4_whole_3 rfl ?_
  refine g_callSi hX (n := 3) (mt_M_within X.l X.Γ _ _ _ _ _ _) hf q1651 q1652 q89 q1653 hy_M_within (by decide) rfl rfl (Nat.le_of_ble_eq_true rfl) dX4_whole_4 (fun r1 χ2 hf hc2 => ?_)
  refine g_if_ne hX 12 dX4_whole_7 (by decide) (fun z => ?_) (fun z => ?_)
  · replace hf := hf.1 z
    refine g_bipush hX (v := (100 : Int32)) dX4_whole_12 rfl ?_
    refine g_istore_n hX dX4_whole_14 rfl (by decide) rfl ?_
    refine g_lconst hX (v := (1 : Int64)) dX4_whole_15 rfl ?_
    refine g_lstore_n hX dX4_whole_16 rfl (by decide) rfl ?_
    refine g_lconst hX (v := (0 : Int64)) dX4_whole_17 rfl ?_
    refine g_lstore hX dX4_whole_18 (by decide) rfl ?_
    refine g_lconst hX (v := (1 : Int64)) dX4_whole_20 rfl ?_
    refine g_lstore hX dX4_whole_21 (by decide) rfl ?_
    refine g_iconst hX (v := (0 : Int32)) dX4_whole_23 rfl ?_
    refine g_istore hX dX4_whole_24 (by decide) rfl ?_
    obtain ⟨n0, hf⟩ := hf
    refine g_sub [5, 6, 4, 3, 2, 1, 0] rfl ?_
    exact B26 n0 _ _ _ _ _ _ _ _ hf
  · replace hf := hf.2 z
    refine g_iconst hX (v := (-1 : Int32)) dX4_whole_10 rfl ?_
    exact g_iret hX ⟨_, rfl, hf⟩ dX4_whole_11

def w_M_odd_189 (Q : Int32 → St → Prop) (K128 : Int32 → Int32 → Int32 → St → Prop) (x1 : Int32) (x3 : Int32) (z0 : Int32) (z1 : Int32) (χ : St) : Prop := (K128 x1 (z1 ||| z0) (x3 + (1 : Int32)) χ)
def w_M_odd_182 (Q : Int32 → St → Prop) (K128 : Int32 → Int32 → Int32 → St → Prop) (x1 : Int32) (x3 : Int32) (z0 : Int32) (χ : St) : Prop := (w_M_odd_189 Q K128 x1 x3 ((1 : Int32) <<< (x3 &&& 31)) z0 χ)
def w_M_odd_166 (Q : Int32 → St → Prop) (K128 : Int32 → Int32 → Int32 → St → Prop) (x1 : Int32) (x2 : Int32) (x3 : Int32) (z0 : Int32) (χ : St) : Prop := (((2 : Int32) < z0 → (w_M_odd_182 Q K128 x1 x3 x2 χ)) ∧ (¬ (2 : Int32) < z0 → (((-2 : Int32) ≤ z0 → (w_M_odd_189 Q K128 x1 x3 (0 : Int32) x2 χ)) ∧ (¬ (-2 : Int32) ≤ z0 → (w_M_odd_182 Q K128 x1 x3 x2 χ)))))
def w_M_odd_128 (Q : Int32 → St → Prop) : Nat → Int32 → Int32 → Int32 → St → Prop
  | 0 => fun _ _ _ _ => False
  | n + 1 => fun x1 x2 x3 χ => (((gI χ 4106 0 0) ≤ x3 → (Q x2 χ)) ∧ (¬ (gI χ 4106 0 0) ≤ x3 → (vp_in x3 8) ∧ (((0 ≤ (gI χ 56 0 x3.toNatClampNeg) → (vp_in x3 8) ∧ ((vp_in ((x1 - (1 : Int32)) / (2 : Int32)) 8) ∧ ((w_M_odd_166 Q (w_M_odd_128 Q n) x1 x2 x3 ((gI χ 56 0 x3.toNatClampNeg) - (gI χ 57 0 ((x1 - (1 : Int32)) / (2 : Int32)).toNatClampNeg)) χ)))) ∧ (¬ 0 ≤ (gI χ 56 0 x3.toNatClampNeg) → (w_M_odd_166 Q (w_M_odd_128 Q n) x1 x2 x3 (0 : Int32) χ))))))
def w_M_odd_118 (Q : Int32 → St → Prop) (K4 : Int32 → Int32 → St → Prop) (x1 : Int32) (x2 : Int32) (χ : St) : Prop := (K4 x1 (x2 + (1 : Int32)) χ)
def w_M_odd_103 (Q : Int32 → St → Prop) (K4 : Int32 → Int32 → St → Prop) (x1 : Int32) (x2 : Int32) (x3 : Int32) (χ : St) : Prop := (vp_in x2 8) ∧ ((vp_in x3 8) ∧ ((∀ χ3 : St, χ3 = (sI χ 57 0 x3.toNatClampNeg (gI χ 56 0 x2.toNatClampNeg)) → (w_M_odd_118 Q K4 (x1 + (1 : Int32)) x2 χ3))))
def w_M_odd_62 (Q : Int32 → St → Prop) (K4 : Int32 → Int32 → St → Prop) : Nat → Int32 → Int32 → Int32 → St → Prop
  | 0 => fun _ _ _ _ => False
  | n + 1 => fun x1 x2 x3 χ => ((x3 ≤ 0 → (w_M_odd_103 Q K4 x1 x2 x3 χ)) ∧ (¬ x3 ≤ 0 → (vp_in (x3 - (1 : Int32)) 8) ∧ ((vp_in x2 8) ∧ ((((gI χ 57 0 (x3 - (1 : Int32)).toNatClampNeg) ≤ (gI χ 56 0 x2.toNatClampNeg) → (w_M_odd_103 Q K4 x1 x2 x3 χ)) ∧ (¬ (gI χ 57 0 (x3 - (1 : Int32)).toNatClampNeg) ≤ (gI χ 56 0 x2.toNatClampNeg) → (vp_in (x3 - (1 : Int32)) 8) ∧ ((vp_in x3 8) ∧ ((∀ χ4 : St, χ4 = (sI χ 57 0 x3.toNatClampNeg (gI χ 57 0 (x3 - (1 : Int32)).toNatClampNeg)) → (w_M_odd_62 Q K4 n x1 x2 (x3 + (-1 : Int32)) χ4))))))))))
def w_M_odd_47 (Q : Int32 → St → Prop) (K4 : Int32 → Int32 → St → Prop) (x1 : Int32) (x2 : Int32) (z0 : Int32) (z1 : Int32) (χ : St) : Prop := (vp_in z1 8) ∧ ((∀ χ2 : St, χ2 = (sI χ 56 0 z1.toNatClampNeg z0) → (vp_in x2 8) ∧ (((0 ≤ (gI χ2 56 0 x2.toNatClampNeg) → (∃ k62, w_M_odd_62 Q K4 k62 x1 x2 x1 χ2)) ∧ (¬ 0 ≤ (gI χ2 56 0 x2.toNatClampNeg) → (w_M_odd_118 Q K4 x1 x2 χ2))))))
def w_M_odd_46 (Q : Int32 → St → Prop) (K4 : Int32 → Int32 → St → Prop) (x1 : Int32) (x2 : Int32) (z0 : Int32) (χ : St) : Prop := (w_M_odd_47 Q K4 x1 x2 (-1 : Int32) z0 χ)
def w_M_odd_4 (Q : Int32 → St → Prop) : Nat → Int32 → Int32 → St → Prop
  | 0 => fun _ _ _ => False
  | n + 1 => fun x1 x2 χ => (((gI χ 4106 0 0) ≤ x2 → (∃ k128, w_M_odd_128 Q k128 x1 (0 : Int32) (0 : Int32) χ)) ∧ (¬ (gI χ 4106 0 0) ≤ x2 → (w_M_weighsPart x2 χ (fun χ1 => (((lg_cmp (gL χ1 4124 0 0) (0 : Int64)) ≤ 0 → (w_M_odd_46 Q (w_M_odd_4 Q n) x1 x2 x2 χ1)) ∧ (¬ (lg_cmp (gL χ1 4124 0 0) (0 : Int64)) ≤ 0 → (w_M_mostOf χ1 (fun r5 χ6 => ((¬ r5 = 0 → (w_M_odd_46 Q (w_M_odd_4 Q n) x1 x2 x2 χ6)) ∧ (r5 = 0 → (w_M_whenNow (0 : Int32) χ6 (fun r7 χ8 => (w_M_odd_47 Q (w_M_odd_4 Q n) x1 x2 r7 x2 χ8)))))))))))))
def w_M_odd (χ : St) (Q : Int32 → St → Prop) : Prop := (∃ k4, w_M_odd_4 Q k4 (0 : Int32) (0 : Int32) χ)
set_option maxHeartbeats 4000000 in
theorem mt_M_odd (l : Launch) (Γ : Gh) (ad : Nat → Nat → Nat) (χ : St) (Q : Int32 → St → Prop) : Mt l yX4_odd (ws_ yX4_odd cX4_odd 5 (some .int)) (rmO (58) (1329) χ) (Pm Γ ad χ [.ref (ad 40 0)] (w_M_odd χ Q)) (Qm Γ true ad χ (pI Q)) (frB Γ) := by
  refine Mt.start (by decide) RX4 rfl (Nat.le_of_ble_eq_true rfl) ?_
  intro X hX hG _ _ hna _ hf
  have B189 : ∀ (K128 : Int32 → Int32 → Int32 → St → Prop) (hK128 : ∀ (ad : Nat → Nat → Nat) (x1 : Int32) (x2 : Int32) (x3 : Int32) (χ : St), K128 x1 x2 x3 χ → G X ad χ 128 [(0, .ref (ad 40 0)), (1, .int x1), (2, .int x2), (3, .int x3)] []) (ad : Nat → Nat → Nat) (x1 : Int32) (x3 : Int32) (z0 : Int32) (z1 : Int32) (χ : St), w_M_odd_189 Q K128 x1 x3 z0 z1 χ → G X ad χ 189 [(0, .ref (ad 40 0)), (1, .int x1), (3, .int x3)] [.int z0, .int z1] := by
    intro K128 hK128 ad x1 x3 z0 z1 χ hf
    unfold w_M_odd_189 at hf
    refine g_ior hX dX4_odd_189 ?_
    refine g_istore_n hX dX4_odd_190 rfl (by decide) rfl ?_
    refine g_iinc hX (v := _) 3 dX4_odd_191 rfl rfl (by decide) rfl ?_
    refine g_goto hX 128 dX4_odd_194 (by decide) ?_
    refine g_sub [2, 3, 1, 0] rfl ?_
    exact hK128 _ _ _ _ _ hf
  have B182 : ∀ (K128 : Int32 → Int32 → Int32 → St → Prop) (hK128 : ∀ (ad : Nat → Nat → Nat) (x1 : Int32) (x2 : Int32) (x3 : Int32) (χ : St), K128 x1 x2 x3 χ → G X ad χ 128 [(0, .ref (ad 40 0)), (1, .int x1), (2, .int x2), (3, .int x3)] []) (ad : Nat → Nat → Nat) (x1 : Int32) (x3 : Int32) (z0 : Int32) (χ : St), w_M_odd_182 Q K128 x1 x3 z0 χ → G X ad χ 182 [(0, .ref (ad 40 0)), (1, .int x1), (3, .int x3)] [.int z0] := by
    intro K128 hK128 ad x1 x3 z0 χ hf
    unfold w_M_odd_182 at hf
    refine g_iconst hX (v := (1 : Int32)) dX4_odd_182 rfl ?_
    refine g_iload_n hX 2 dX4_odd_183 rfl rfl ?_
    refine g_ishl hX dX4_odd_184 ?_
    refine g_goto hX 189 dX4_odd_185 (by decide) ?_
    exact B189 K128 hK128 _ _ _ _ _ _ hf
  have B166 : ∀ (K128 : Int32 → Int32 → Int32 → St → Prop) (hK128 : ∀ (ad : Nat → Nat → Nat) (x1 : Int32) (x2 : Int32) (x3 : Int32) (χ : St), K128 x1 x2 x3 χ → G X ad χ 128 [(0, .ref (ad 40 0)), (1, .int x1), (2, .int x2), (3, .int x3)] []) (ad : Nat → Nat → Nat) (x1 : Int32) (x2 : Int32) (x3 : Int32) (z0 : Int32) (χ : St), w_M_odd_166 Q K128 x1 x2 x3 z0 χ → G X ad χ 166 [(0, .ref (ad 40 0)), (1, .int x1), (2, .int x2), (3, .int x3)] [.int z0] := by
    intro K128 hK128 ad x1 x2 x3 z0 χ hf
    unfold w_M_odd_166 at hf
    refine g_istore hX dX4_odd_166 (by decide) rfl ?_
    refine g_iload_n hX 3 dX4_odd_168 rfl rfl ?_
    refine g_iload hX 0 dX4_odd_169 rfl ?_
    refine g_iconst hX (v := (2 : Int32)) dX4_odd_171 rfl ?_
    refine g_icmp_gt hX 182 dX4_odd_172 (by decide) (fun z => ?_) (fun z => ?_)
    · replace hf := hf.1 z
      refine g_sub [1, 2, 4] rfl ?_
      exact B182 K128 hK128 _ _ _ _ _ hf
    · replace hf := hf.2 z
      refine g_iload hX 0 dX4_odd_175 rfl ?_
      refine g_bipush hX (v := (-2 : Int32)) dX4_odd_177 rfl ?_
      refine g_icmp_ge hX 188 dX4_odd_179 (by decide) (fun z => ?_) (fun z => ?_)
      · replace hf := hf.1 z
        refine g_iconst hX (v := (0 : Int32)) dX4_odd_188 rfl ?_
        refine g_sub [1, 2, 4] rfl ?_
        exact B189 K128 hK128 _ _ _ _ _ _ hf
      · replace hf := hf.2 z
        refine g_sub [1, 2, 4] rfl ?_
        exact B182 K128 hK128 _ _ _ _ _ hf
  have B128 : ∀ (n : Nat) (ad : Nat → Nat → Nat) (x1 : Int32) (x2 : Int32) (x3 : Int32) (χ : St), w_M_odd_128 Q n x1 x2 x3 χ → G X ad χ 128 [(0, .ref (ad 40 0)), (1, .int x1), (2, .int x2), (3, .int x3)] [] := by
    intro n
    induction n with
    | zero => intro ad x1 x2 x3 χ hf; exact hf.elim
    | succ n hK128 =>
      intro ad x1 x2 x3 χ hf
      unfold w_M_odd_128 at hf
      refine g_iload_n hX 3 dX4_odd_128 rfl rfl ?_
      refine g_aload_n hX 0 dX4_odd_129 rfl rfl ?_
      refine g_getI hX (k := 6) (fc40 _) ff40 rfl rfl in_X4 (by decide) q1511 dX4_odd_130 ?_
      refine g_icmp_ge hX 197 dX4_odd_133 (by decide) (fun z => ?_) (fun z => ?_)
      · replace hf := hf.1 z
        refine g_iload_n hX 2 dX4_odd_197 rfl rfl ?_
        exact g_iret hX ⟨_, rfl, hf⟩ dX4_odd_198
      · replace hf := hf.2 z
        refine g_aload_n hX 0 dX4_odd_136 rfl rfl ?_
        refine g_getK hX (k := 25) (d := 56) (fc40 _) ff40 rfl (by decide) rfl rfl in_X4 (by decide) q1530 dX4_odd_137 ?_
        refine g_iload_n hX 3 dX4_odd_140 rfl rfl ?_
        refine g_iald hX (fc56 _) ff56 rfl hf.1 dX4_odd_141 ?_
        replace hf := hf.2
        refine g_if_ge hX 149 dX4_odd_142 (by decide) (fun z => ?_) (fun z => ?_)
        · replace hf := hf.1 z
          refine g_aload_n hX 0 dX4_odd_149 rfl rfl ?_
          refine g_getK hX (k := 25) (d := 56) (fc40 _) ff40 rfl (by decide) rfl rfl in_X4 (by decide) q1530 dX4_odd_150 ?_
          refine g_iload_n hX 3 dX4_odd_153 rfl rfl ?_
          refine g_iald hX (fc56 _) ff56 rfl hf.1 dX4_odd_154 ?_
          replace hf := hf.2
          refine g_aload_n hX 0 dX4_odd_155 rfl rfl ?_
          refine g_getK hX (k := 26) (d := 57) (fc40 _) ff40 rfl (by decide) rfl rfl in_X4 (by decide) q1531 dX4_odd_156 ?_
          refine g_iload_n hX 1 dX4_odd_159 rfl rfl ?_
          refine g_iconst hX (v := (1 : Int32)) dX4_odd_160 rfl ?_
          refine g_isub hX dX4_odd_161 ?_
          refine g_iconst hX (v := (2 : Int32)) dX4_odd_162 rfl ?_
          refine g_idiv hX dX4_odd_163 (by decide) ?_
          refine g_iald hX (fc57 _) ff57 rfl hf.1 dX4_odd_164 ?_
          replace hf := hf.2
          refine g_isub hX dX4_odd_165 ?_
          exact B166 (w_M_odd_128 Q n) hK128 _ _ _ _ _ _ hf
        · replace hf := hf.2 z
          refine g_iconst hX (v := (0 : Int32)) dX4_odd_145 rfl ?_
          refine g_goto hX 166 dX4_odd_146 (by decide) ?_
          exact B166 (w_M_odd_128 Q n) hK128 _ _ _ _ _ _ hf
  have B118 : ∀ (K4 : Int32 → Int32 → St → Prop) (hK4 : ∀ (ad : Nat → Nat → Nat) (x1 : Int32) (x2 : Int32) (χ : St), K4 x1 x2 χ → G X ad χ 4 [(0, .ref (ad 40 0)), (1, .int x1), (2, .int x2)] []) (ad : Nat → Nat → Nat) (x1 : Int32) (x2 : Int32) (χ : St), w_M_odd_118 Q K4 x1 x2 χ → G X ad χ 118 [(0, .ref (ad 40 0)), (1, .int x1), (2, .int x2)] [] := by
    intro K4 hK4 ad x1 x2 χ hf
    unfold w_M_odd_118 at hf
    refine g_iinc hX (v := _) 2 dX4_odd_118 rfl rfl (by decide) rfl ?_
    refine g_goto hX 4 dX4_odd_121 (by decide) ?_
    refine g_sub [1, 2, 0] rfl ?_
    exact hK4 _ _ _ _ hf
  have B103 : ∀ (K4 : Int32 → Int32 → St → Prop) (hK4 : ∀ (ad : Nat → Nat → Nat) (x1 : Int32) (x2 : Int32) (χ : St), K4 x1 x2 χ → G X ad χ 4 [(0, .ref (ad 40 0)), (1, .int x1), (2, .int x2)] []) (ad : Nat → Nat → Nat) (x1 : Int32) (x2 : Int32) (x3 : Int32) (χ : St), w_M_odd_103 Q K4 x1 x2 x3 χ → G X ad χ 103 [(0, .ref (ad 40 0)), (1, .int x1), (2, .int x2), (3, .int x3)] [] := by
    intro K4 hK4 ad x1 x2 x3 χ hf
    unfold w_M_odd_103 at hf
    refine g_aload_n hX 0 dX4_odd_103 rfl rfl ?_
    refine g_getK hX (k := 26) (d := 57) (fc40 _) ff40 rfl (by decide) rfl rfl in_X4 (by decide) q1531 dX4_odd_104 ?_
    refine g_iload_n hX 3 dX4_odd_107 rfl rfl ?_
    refine g_aload_n hX 0 dX4_odd_108 rfl rfl ?_
    refine g_getK hX (k := 25) (d := 56) (fc40 _) ff40 rfl (by decide) rfl rfl in_X4 (by decide) q1530 dX4_odd_109 ?_
    refine g_iload_n hX 2 dX4_odd_112 rfl rfl ?_
    refine g_iald hX (fc56 _) ff56 rfl hf.1 dX4_odd_113 ?_
    replace hf := hf.2
    refine g_iast hX (fc57 _) ff57 rfl hf.1 dX4_odd_114 ?_
    replace hf := hf.2
    replace hf := hf _ rfl
    refine g_iinc hX (v := _) 1 dX4_odd_115 rfl rfl (by decide) rfl ?_
    refine g_sub [1, 0, 2] rfl ?_
    exact B118 K4 hK4 _ _ _ _ hf
  have B62 : ∀ (K4 : Int32 → Int32 → St → Prop) (hK4 : ∀ (ad : Nat → Nat → Nat) (x1 : Int32) (x2 : Int32) (χ : St), K4 x1 x2 χ → G X ad χ 4 [(0, .ref (ad 40 0)), (1, .int x1), (2, .int x2)] []) (n : Nat) (ad : Nat → Nat → Nat) (x1 : Int32) (x2 : Int32) (x3 : Int32) (χ : St), w_M_odd_62 Q K4 n x1 x2 x3 χ → G X ad χ 62 [(0, .ref (ad 40 0)), (1, .int x1), (2, .int x2), (3, .int x3)] [] := by
    intro K4 hK4 n
    induction n with
    | zero => intro ad x1 x2 x3 χ hf; exact hf.elim
    | succ n hK62 =>
      intro ad x1 x2 x3 χ hf
      unfold w_M_odd_62 at hf
      refine g_iload_n hX 3 dX4_odd_62 rfl rfl ?_
      refine g_if_le hX 103 dX4_odd_63 (by decide) (fun z => ?_) (fun z => ?_)
      · replace hf := hf.1 z
        exact B103 K4 hK4 _ _ _ _ _ hf
      · replace hf := hf.2 z
        refine g_aload_n hX 0 dX4_odd_66 rfl rfl ?_
        refine g_getK hX (k := 26) (d := 57) (fc40 _) ff40 rfl (by decide) rfl rfl in_X4 (by decide) q1531 dX4_odd_67 ?_
        refine g_iload_n hX 3 dX4_odd_70 rfl rfl ?_
        refine g_iconst hX (v := (1 : Int32)) dX4_odd_71 rfl ?_
        refine g_isub hX dX4_odd_72 ?_
        refine g_iald hX (fc57 _) ff57 rfl hf.1 dX4_odd_73 ?_
        replace hf := hf.2
        refine g_aload_n hX 0 dX4_odd_74 rfl rfl ?_
        refine g_getK hX (k := 25) (d := 56) (fc40 _) ff40 rfl (by decide) rfl rfl in_X4 (by decide) q1530 dX4_odd_75 ?_
        refine g_iload_n hX 2 dX4_odd_78 rfl rfl ?_
        refine g_iald hX (fc56 _) ff56 rfl hf.1 dX4_odd_79 ?_
        replace hf := hf.2
        refine g_icmp_le hX 103 dX4_odd_80 (by decide) (fun z => ?_) (fun z => ?_)
        · replace hf := hf.1 z
          exact B103 K4 hK4 _ _ _ _ _ hf
        · replace hf := hf.2 z
          refine g_aload_n hX 0 dX4_odd_83 rfl rfl ?_
          refine g_getK hX (k := 26) (d := 57) (fc40 _) ff40 rfl (by decide) rfl rfl in_X4 (by decide) q1531 dX4_odd_84 ?_
          refine g_iload_n hX 3 dX4_odd_87 rfl rfl ?_
          refine g_aload_n hX 0 dX4_odd_88 rfl rfl ?_
          refine g_getK hX (k := 26) (d := 57) (fc40 _) ff40 rfl (by decide) rfl rfl in_X4 (by decide) q1531 dX4_odd_89 ?_
          refine g_iload_n hX 3 dX4_odd_92 rfl rfl ?_
          refine g_iconst hX (v := (1 : Int32)) dX4_odd_93 rfl ?_
          refine g_isub hX dX4_odd_94 ?_
          refine g_iald hX (fc57 _) ff57 rfl hf.1 dX4_odd_95 ?_
          replace hf := hf.2
          refine g_iast hX (fc57 _) ff57 rfl hf.1 dX4_odd_96 ?_
          replace hf := hf.2
          replace hf := hf _ rfl
          refine g_iinc hX (v := _) 3 dX4_odd_97 rfl rfl (by decide) rfl ?_
          refine g_goto hX 62 dX4_odd_100 (by decide) ?_
          refine g_sub [1, 2, 3, 0] rfl ?_
          exact hK62 _ _ _ _ _ hf
  have B47 : ∀ (K4 : Int32 → Int32 → St → Prop) (hK4 : ∀ (ad : Nat → Nat → Nat) (x1 : Int32) (x2 : Int32) (χ : St), K4 x1 x2 χ → G X ad χ 4 [(0, .ref (ad 40 0)), (1, .int x1), (2, .int x2)] []) (ad : Nat → Nat → Nat) (x1 : Int32) (x2 : Int32) (z0 : Int32) (z1 : Int32) (χ : St), w_M_odd_47 Q K4 x1 x2 z0 z1 χ → G X ad χ 47 [(0, .ref (ad 40 0)), (1, .int x1), (2, .int x2)] [.int z0, .int z1, .ref (ad 56 0)] := by
    intro K4 hK4 ad x1 x2 z0 z1 χ hf
    unfold w_M_odd_47 at hf
    refine g_iast hX (fc56 _) ff56 rfl hf.1 dX4_odd_47 ?_
    replace hf := hf.2
    replace hf := hf _ rfl
    refine g_aload_n hX 0 dX4_odd_48 rfl rfl ?_
    refine g_getK hX (k := 25) (d := 56) (fc40 _) ff40 rfl (by decide) rfl rfl in_X4 (by decide) q1530 dX4_odd_49 ?_
    refine g_iload_n hX 2 dX4_odd_52 rfl rfl ?_
    refine g_iald hX (fc56 _) ff56 rfl hf.1 dX4_odd_53 ?_
    replace hf := hf.2
    refine g_if_ge hX 60 dX4_odd_54 (by decide) (fun z => ?_) (fun z => ?_)
    · replace hf := hf.1 z
      refine g_iload_n hX 1 dX4_odd_60 rfl rfl ?_
      refine g_istore_n hX dX4_odd_61 rfl (by decide) rfl ?_
      obtain ⟨n0, hf⟩ := hf
      refine g_sub [1, 2, 3, 0] rfl ?_
      exact B62 K4 hK4 n0 _ _ _ _ _ hf
    · replace hf := hf.2 z
      refine g_goto hX 118 dX4_odd_57 (by decide) ?_
      exact B118 K4 hK4 _ _ _ _ hf
  have B46 : ∀ (K4 : Int32 → Int32 → St → Prop) (hK4 : ∀ (ad : Nat → Nat → Nat) (x1 : Int32) (x2 : Int32) (χ : St), K4 x1 x2 χ → G X ad χ 4 [(0, .ref (ad 40 0)), (1, .int x1), (2, .int x2)] []) (ad : Nat → Nat → Nat) (x1 : Int32) (x2 : Int32) (z0 : Int32) (χ : St), w_M_odd_46 Q K4 x1 x2 z0 χ → G X ad χ 46 [(0, .ref (ad 40 0)), (1, .int x1), (2, .int x2)] [.int z0, .ref (ad 56 0)] := by
    intro K4 hK4 ad x1 x2 z0 χ hf
    unfold w_M_odd_46 at hf
    refine g_iconst hX (v := (-1 : Int32)) dX4_odd_46 rfl ?_
    exact B47 K4 hK4 _ _ _ _ _ _ hf
  have B4 : ∀ (n : Nat) (ad : Nat → Nat → Nat) (x1 : Int32) (x2 : Int32) (χ : St), w_M_odd_4 Q n x1 x2 χ → G X ad χ 4 [(0, .ref (ad 40 0)), (1, .int x1), (2, .int x2)] [] := by
    intro n
    induction n with
    | zero => intro ad x1 x2 χ hf; exact hf.elim
    | succ n hK4 =>
      intro ad x1 x2 χ hf
      unfold w_M_odd_4 at hf
      refine g_iload_n hX 2 dX4_odd_4 rfl rfl ?_
      refine g_aload_n hX 0 dX4_odd_5 rfl rfl ?_
      refine g_getI hX (k := 6) (fc40 _) ff40 rfl rfl in_X4 (by decide) q1511 dX4_odd_6 ?_
      refine g_icmp_ge hX 124 dX4_odd_9 (by decide) (fun z => ?_) (fun z => ?_)
      · replace hf := hf.1 z
        refine g_iconst hX (v := (0 : Int32)) dX4_odd_124 rfl ?_
        refine g_istore_n hX dX4_odd_125 rfl (by decide) rfl ?_
        refine g_iconst hX (v := (0 : Int32)) dX4_odd_126 rfl ?_
        refine g_istore_n hX dX4_odd_127 rfl (by decide) rfl ?_
        obtain ⟨n0, hf⟩ := hf
        refine g_sub [2, 3, 1, 0] rfl ?_
        exact B128 n0 _ _ _ _ _ hf
      · replace hf := hf.2 z
        refine g_aload_n hX 0 dX4_odd_12 rfl rfl ?_
        refine g_iload_n hX 2 dX4_odd_13 rfl rfl ?_
        refine g_callVv hX (n := 1) (mt_M_weighsPart X.l X.Γ _ _ _ _) hf q1774 q1776 qs60 q89 q1777 ⟨rfl, hy_M_weighsPart⟩ (by decide) (fc40 _) ff40 rfl rfl rfl (Nat.le_of_ble_eq_true rfl) dX4_odd_14 (fun χ1 hf hc1 => ?_)
        refine g_aload_n hX 0 dX4_odd_17 rfl rfl ?_
        refine g_getK hX (k := 25) (d := 56) (fc40 _) ff40 rfl (by decide) rfl rfl in_X4 (by decide) q1530 dX4_odd_18 ?_
        refine g_iload_n hX 2 dX4_odd_21 rfl rfl ?_
        refine g_aload_n hX 0 dX4_odd_22 rfl rfl ?_
        refine g_getL hX (k := 24) (fc40 _) ff40 rfl rfl in_X4 (by decide) q1529 dX4_odd_23 ?_
        refine g_lconst hX (v := (0 : Int64)) dX4_odd_26 rfl ?_
        refine g_lcmp hX dX4_odd_27 ?_
        refine g_if_le hX 46 dX4_odd_28 (by decide) (fun z => ?_) (fun z => ?_)
        · replace hf := hf.1 z
          exact B46 (w_M_odd_4 Q n) hK4 _ _ _ _ _ hf
        · replace hf := hf.2 z
          refine g_aload_n hX 0 dX4_odd_31 rfl rfl ?_
          refine g_callVi hX (n := 0) (mt_M_mostOf X.l X.Γ _ _ _) hf q1802 q1804 qs64 q89 q1805 ⟨rfl, hy_M_mostOf⟩ (by decide) (fc40 _) ff40 rfl rfl rfl (Nat.le_of_ble_eq_true rfl) dX4_odd_32 (fun r5 χ6 hf hc6 => ?_)
          refine g_if_ne hX 46 dX4_odd_35 (by decide) (fun z => ?_) (fun z => ?_)
          · replace hf := hf.1 z
            exact B46 (w_M_odd_4 Q n) hK4 _ _ _ _ _ hf
          · replace hf := hf.2 z
            refine g_aload_n hX 0 dX4_odd_38 rfl rfl ?_
            refine g_iconst hX (v := (0 : Int32)) dX4_odd_39 rfl ?_
            refine g_callVi hX (n := 1) (mt_M_whenNow X.l X.Γ _ _ _ _) hf q1810 q1812 qs65 q89 q1813 ⟨rfl, hy_M_whenNow⟩ (by decide) (fc40 _) ff40 rfl rfl rfl (Nat.le_of_ble_eq_true rfl) dX4_odd_40 (fun r7 χ8 hf hc8 => ?_)
            refine g_goto hX 47 dX4_odd_43 (by decide) ?_
            exact B47 (w_M_odd_4 Q n) hK4 _ _ _ _ _ _ hf
  unfold w_M_odd at hf
  refine g_iconst hX (v := (0 : Int32)) dX4_odd_0 rfl ?_
  refine g_istore_n hX dX4_odd_1 rfl (by decide) rfl ?_
  refine g_iconst hX (v := (0 : Int32)) dX4_odd_2 rfl ?_
  refine g_istore_n hX dX4_odd_3 rfl (by decide) rfl ?_
  obtain ⟨n0, hf⟩ := hf
  refine g_sub [2, 1, 0] rfl ?_
  exact B4 n0 _ _ _ _ hf

def w_M_next_163 (Q : Int32 → St → Prop) (K23 : Int32 → Int64 → Int32 → St → Prop) (x2 : Int32) (x3 : Int64) (x5 : Int32) (χ : St) : Prop := (K23 x2 x3 (x5 + (1 : Int32)) χ)
def w_M_next_157 (Q : Int32 → St → Prop) (K23 : Int32 → Int64 → Int32 → St → Prop) (x5 : Int32) (x10 : Int64) (χ : St) : Prop := (w_M_next_163 Q K23 x5 x10 x5 χ)
def w_M_next_132 (Q : Int32 → St → Prop) (K23 : Int32 → Int64 → Int32 → St → Prop) (x2 : Int32) (x3 : Int64) (x5 : Int32) (z0 : Int64) (χ : St) : Prop := (vp_in ((12 : Int32) + x5) 24) ∧ ((∀ v4 : Int64, v4 = (z0 * (gI χ 41 0 ((12 : Int32) + x5).toNatClampNeg).toInt64) → ((x2 < 0 → (w_M_next_157 Q K23 x5 v4 χ)) ∧ (¬ x2 < 0 → ((0 ≤ (lg_cmp v4 x3) → (w_M_next_163 Q K23 x2 x3 x5 χ)) ∧ (¬ 0 ≤ (lg_cmp v4 x3) → (w_M_next_157 Q K23 x5 v4 χ)))))))
def w_M_next_52 (Q : Int32 → St → Prop) (K23 : Int32 → Int64 → Int32 → St → Prop) : Nat → Int32 → Int64 → Int32 → Int64 → Int64 → Int32 → St → Prop
  | 0 => fun _ _ _ _ _ _ _ => False
  | n + 1 => fun x2 x3 x5 x6 x8 x10 χ => (((180 : Int32) ≤ x10 → (((lg_cmp x6 x8) ≤ 0 → (w_M_next_132 Q K23 x2 x3 x5 x8 χ)) ∧ (¬ (lg_cmp x6 x8) ≤ 0 → (w_M_next_132 Q K23 x2 x3 x5 x6 χ)))) ∧ (¬ (180 : Int32) ≤ x10 → (vp_in (((180 : Int32) * x5) + x10) 1080) ∧ ((∀ v5 : Int32, v5 = (gI χ 52 0 (((180 : Int32) * x5) + x10).toNatClampNeg) → (vp_in x10 180) ∧ ((∀ v6 : Int64, v6 = (x6 + ((gL χ 54 0 x10.toNatClampNeg) * v5.toInt64)) → (vp_in x10 180) ∧ ((∀ v7 : Int64, v7 = (x8 + ((gL χ 54 0 x10.toNatClampNeg) * ((100 : Int32) - v5).toInt64)) → (w_M_next_52 Q K23 n x2 x3 x5 v6 v7 (x10 + (1 : Int32)) χ)))))))))
def w_M_next_23 (Q : Int32 → St → Prop) : Nat → Int32 → Int64 → Int32 → St → Prop
  | 0 => fun _ _ _ _ => False
  | n + 1 => fun x2 x3 x5 χ => (((6 : Int32) ≤ x5 → (Q x2 χ)) ∧ (¬ (6 : Int32) ≤ x5 → (vp_in x5 6) ∧ ((((gI χ 53 0 x5.toNatClampNeg) = 0 → (∃ k52, w_M_next_52 Q (w_M_next_23 Q n) k52 x2 x3 x5 (0 : Int64) (0 : Int64) (0 : Int32) χ)) ∧ (¬ (gI χ 53 0 x5.toNatClampNeg) = 0 → (w_M_next_163 Q (w_M_next_23 Q n) x2 x3 x5 χ))))))
def w_M_next (x1 : Int32) (χ : St) (Q : Int32 → St → Prop) : Prop := (w_M_isPart x1 χ (fun r1 χ2 => ((¬ r1 = 0 → (w_M_weighsPart x1 χ2 (fun χ3 => (∃ k23, w_M_next_23 Q k23 (-2 : Int32) (0 : Int64) (0 : Int32) χ3)))) ∧ (r1 = 0 → (Q (-1 : Int32) χ2)))))
set_option maxHeartbeats 4000000 in
theorem mt_M_next (l : Launch) (Γ : Gh) (ad : Nat → Nat → Nat) (x1 : Int32) (χ : St) (Q : Int32 → St → Prop) : Mt l yX4_next (ws_ yX4_next cX4_next 12 (some .int)) (rmO (58) (1329) χ) (Pm Γ ad χ [.ref (ad 40 0), .int x1] (w_M_next x1 χ Q)) (Qm Γ true ad χ (pI Q)) (frB Γ) := by
  refine Mt.start (by decide) RX4 rfl (Nat.le_of_ble_eq_true rfl) ?_
  intro X hX hG _ _ hna _ hf
  have B163 : ∀ (K23 : Int32 → Int64 → Int32 → St → Prop) (hK23 : ∀ (ad : Nat → Nat → Nat) (x2 : Int32) (x3 : Int64) (x5 : Int32) (χ : St), K23 x2 x3 x5 χ → G X ad χ 23 [(0, .ref (ad 40 0)), (2, .int x2), (3, .long x3), (5, .int x5)] []) (ad : Nat → Nat → Nat) (x2 : Int32) (x3 : Int64) (x5 : Int32) (χ : St), w_M_next_163 Q K23 x2 x3 x5 χ → G X ad χ 163 [(0, .ref (ad 40 0)), (2, .int x2), (3, .long x3), (5, .int x5)] [] := by
    intro K23 hK23 ad x2 x3 x5 χ hf
    unfold w_M_next_163 at hf
    refine g_iinc hX (v := _) 3 dX4_next_163 rfl rfl (by decide) rfl ?_
    refine g_goto hX 23 dX4_next_166 (by decide) ?_
    refine g_sub [1, 2, 3, 0] rfl ?_
    exact hK23 _ _ _ _ _ hf
  have B157 : ∀ (K23 : Int32 → Int64 → Int32 → St → Prop) (hK23 : ∀ (ad : Nat → Nat → Nat) (x2 : Int32) (x3 : Int64) (x5 : Int32) (χ : St), K23 x2 x3 x5 χ → G X ad χ 23 [(0, .ref (ad 40 0)), (2, .int x2), (3, .long x3), (5, .int x5)] []) (ad : Nat → Nat → Nat) (x5 : Int32) (x10 : Int64) (χ : St), w_M_next_157 Q K23 x5 x10 χ → G X ad χ 157 [(0, .ref (ad 40 0)), (5, .int x5), (10, .long x10)] [] := by
    intro K23 hK23 ad x5 x10 χ hf
    unfold w_M_next_157 at hf
    refine g_iload hX 1 dX4_next_157 rfl ?_
    refine g_istore_n hX dX4_next_159 rfl (by decide) rfl ?_
    refine g_lload hX 3 dX4_next_160 rfl ?_
    refine g_lstore_n hX dX4_next_162 rfl (by decide) rfl ?_
    refine g_sub [2, 1, 0, 3] rfl ?_
    exact B163 K23 hK23 _ _ _ _ _ hf
  have B132 : ∀ (K23 : Int32 → Int64 → Int32 → St → Prop) (hK23 : ∀ (ad : Nat → Nat → Nat) (x2 : Int32) (x3 : Int64) (x5 : Int32) (χ : St), K23 x2 x3 x5 χ → G X ad χ 23 [(0, .ref (ad 40 0)), (2, .int x2), (3, .long x3), (5, .int x5)] []) (ad : Nat → Nat → Nat) (x2 : Int32) (x3 : Int64) (x5 : Int32) (z0 : Int64) (χ : St), w_M_next_132 Q K23 x2 x3 x5 z0 χ → G X ad χ 132 [(0, .ref (ad 40 0)), (2, .int x2), (3, .long x3), (5, .int x5)] [.long z0] := by
    intro K23 hK23 ad x2 x3 x5 z0 χ hf
    unfold w_M_next_132 at hf
    refine g_aload_n hX 0 dX4_next_132 rfl rfl ?_
    refine g_getK hX (k := 0) (d := 41) (fc40 _) ff40 rfl (by decide) rfl rfl in_X4 (by decide) q1505 dX4_next_133 ?_
    refine g_bipush hX (v := (12 : Int32)) dX4_next_136 rfl ?_
    refine g_iload hX 3 dX4_next_138 rfl ?_
    refine g_iadd hX dX4_next_140 ?_
    refine g_iald hX (fc41 _) ff41 rfl hf.1 dX4_next_141 ?_
    replace hf := hf.2
    refine g_i2l hX dX4_next_142 ?_
    refine g_lmul hX dX4_next_143 ?_
    replace hf := hf _ rfl
    refine g_lstore hX dX4_next_144 (by decide) rfl ?_
    refine g_iload_n hX 2 dX4_next_146 rfl rfl ?_
    refine g_if_lt hX 157 dX4_next_147 (by decide) (fun z => ?_) (fun z => ?_)
    · replace hf := hf.1 z
      refine g_sub [1, 4, 0] rfl ?_
      exact B157 K23 hK23 _ _ _ _ hf
    · replace hf := hf.2 z
      refine g_lload hX 0 dX4_next_150 rfl ?_
      refine g_lload_n hX 3 dX4_next_152 rfl rfl ?_
      refine g_lcmp hX dX4_next_153 ?_
      refine g_if_ge hX 163 dX4_next_154 (by decide) (fun z => ?_) (fun z => ?_)
      · replace hf := hf.1 z
        refine g_sub [1, 2, 3, 4] rfl ?_
        exact B163 K23 hK23 _ _ _ _ _ hf
      · replace hf := hf.2 z
        refine g_sub [1, 4, 0] rfl ?_
        exact B157 K23 hK23 _ _ _ _ hf
  have B52 : ∀ (K23 : Int32 → Int64 → Int32 → St → Prop) (hK23 : ∀ (ad : Nat → Nat → Nat) (x2 : Int32) (x3 : Int64) (x5 : Int32) (χ : St), K23 x2 x3 x5 χ → G X ad χ 23 [(0, .ref (ad 40 0)), (2, .int x2), (3, .long x3), (5, .int x5)] []) (n : Nat) (ad : Nat → Nat → Nat) (x2 : Int32) (x3 : Int64) (x5 : Int32) (x6 : Int64) (x8 : Int64) (x10 : Int32) (χ : St), w_M_next_52 Q K23 n x2 x3 x5 x6 x8 x10 χ → G X ad χ 52 [(0, .ref (ad 40 0)), (2, .int x2), (3, .long x3), (5, .int x5), (6, .long x6), (8, .long x8), (10, .int x10)] [] := by
    intro K23 hK23 n
    induction n with
    | zero => intro ad x2 x3 x5 x6 x8 x10 χ hf; exact hf.elim
    | succ n hK52 =>
      intro ad x2 x3 x5 x6 x8 x10 χ hf
      unfold w_M_next_52 at hf
      refine g_iload hX 6 dX4_next_52 rfl ?_
      refine g_sipush hX (v := (180 : Int32)) dX4_next_54 rfl ?_
      refine g_icmp_ge hX 117 dX4_next_57 (by decide) (fun z => ?_) (fun z => ?_)
      · replace hf := hf.1 z
        refine g_lload hX 4 dX4_next_117 rfl ?_
        refine g_lload hX 5 dX4_next_119 rfl ?_
        refine g_lcmp hX dX4_next_121 ?_
        refine g_if_le hX 130 dX4_next_122 (by decide) (fun z => ?_) (fun z => ?_)
        · replace hf := hf.1 z
          refine g_lload hX 5 dX4_next_130 rfl ?_
          refine g_sub [0, 1, 2, 3] rfl ?_
          exact B132 K23 hK23 _ _ _ _ _ _ hf
        · replace hf := hf.2 z
          refine g_lload hX 4 dX4_next_125 rfl ?_
          refine g_goto hX 132 dX4_next_127 (by decide) ?_
          refine g_sub [0, 1, 2, 3] rfl ?_
          exact B132 K23 hK23 _ _ _ _ _ _ hf
      · replace hf := hf.2 z
        refine g_aload_n hX 0 dX4_next_60 rfl rfl ?_
        refine g_getK hX (k := 20) (d := 52) (fc40 _) ff40 rfl (by decide) rfl rfl in_X4 (by decide) q1525 dX4_next_61 ?_
        refine g_sipush hX (v := (180 : Int32)) dX4_next_64 rfl ?_
        refine g_iload hX 3 dX4_next_67 rfl ?_
        refine g_imul hX dX4_next_69 ?_
        refine g_iload hX 6 dX4_next_70 rfl ?_
        refine g_iadd hX dX4_next_72 ?_
        refine g_iald hX (fc52 _) ff52 rfl hf.1 dX4_next_73 ?_
        replace hf := hf.2
        replace hf := hf _ rfl
        refine g_istore hX dX4_next_74 (by decide) rfl ?_
        refine g_lload hX 5 dX4_next_76 rfl ?_
        refine g_aload_n hX 1 dX4_next_78 rfl rfl ?_
        refine g_getK hX (k := 22) (d := 54) (fc40 _) ff40 rfl (by decide) rfl rfl in_X4 (by decide) q1527 dX4_next_79 ?_
        refine g_iload hX 7 dX4_next_82 rfl ?_
        refine g_lald hX (fc54 _) ff54 rfl hf.1 dX4_next_84 ?_
        replace hf := hf.2
        refine g_iload hX 0 dX4_next_85 rfl ?_
        refine g_i2l hX dX4_next_87 ?_
        refine g_lmul hX dX4_next_88 ?_
        refine g_ladd hX dX4_next_89 ?_
        replace hf := hf _ rfl
        refine g_lstore hX dX4_next_90 (by decide) rfl ?_
        refine g_lload hX 6 dX4_next_92 rfl ?_
        refine g_aload_n hX 2 dX4_next_94 rfl rfl ?_
        refine g_getK hX (k := 22) (d := 54) (fc40 _) ff40 rfl (by decide) rfl rfl in_X4 (by decide) q1527 dX4_next_95 ?_
        refine g_iload hX 7 dX4_next_98 rfl ?_
        refine g_lald hX (fc54 _) ff54 rfl hf.1 dX4_next_100 ?_
        replace hf := hf.2
        refine g_bipush hX (v := (100 : Int32)) dX4_next_101 rfl ?_
        refine g_iload hX 1 dX4_next_103 rfl ?_
        refine g_isub hX dX4_next_105 ?_
        refine g_i2l hX dX4_next_106 ?_
        refine g_lmul hX dX4_next_107 ?_
        refine g_ladd hX dX4_next_108 ?_
        replace hf := hf _ rfl
        refine g_lstore hX dX4_next_109 (by decide) rfl ?_
        refine g_iinc hX (v := _) 7 dX4_next_111 rfl rfl (by decide) rfl ?_
        refine g_goto hX 52 dX4_next_114 (by decide) ?_
        refine g_sub [4, 5, 6, 7, 2, 1, 0] rfl ?_
        exact hK52 _ _ _ _ _ _ _ _ hf
  have B23 : ∀ (n : Nat) (ad : Nat → Nat → Nat) (x2 : Int32) (x3 : Int64) (x5 : Int32) (χ : St), w_M_next_23 Q n x2 x3 x5 χ → G X ad χ 23 [(0, .ref (ad 40 0)), (2, .int x2), (3, .long x3), (5, .int x5)] [] := by
    intro n
    induction n with
    | zero => intro ad x2 x3 x5 χ hf; exact hf.elim
    | succ n hK23 =>
      intro ad x2 x3 x5 χ hf
      unfold w_M_next_23 at hf
      refine g_iload hX 3 dX4_next_23 rfl ?_
      refine g_bipush hX (v := (6 : Int32)) dX4_next_25 rfl ?_
      refine g_icmp_ge hX 169 dX4_next_27 (by decide) (fun z => ?_) (fun z => ?_)
      · replace hf := hf.1 z
        refine g_iload_n hX 1 dX4_next_169 rfl rfl ?_
        exact g_iret hX ⟨_, rfl, hf⟩ dX4_next_170
      · replace hf := hf.2 z
        refine g_aload_n hX 0 dX4_next_30 rfl rfl ?_
        refine g_getK hX (k := 21) (d := 53) (fc40 _) ff40 rfl (by decide) rfl rfl in_X4 (by decide) q1526 dX4_next_31 ?_
        refine g_iload hX 3 dX4_next_34 rfl ?_
        refine g_iald hX (fc53 _) ff53 rfl hf.1 dX4_next_36 ?_
        replace hf := hf.2
        refine g_if_eq hX 43 dX4_next_37 (by decide) (fun z => ?_) (fun z => ?_)
        · replace hf := hf.1 z
          refine g_lconst hX (v := (0 : Int64)) dX4_next_43 rfl ?_
          refine g_lstore hX dX4_next_44 (by decide) rfl ?_
          refine g_lconst hX (v := (0 : Int64)) dX4_next_46 rfl ?_
          refine g_lstore hX dX4_next_47 (by decide) rfl ?_
          refine g_iconst hX (v := (0 : Int32)) dX4_next_49 rfl ?_
          refine g_istore hX dX4_next_50 (by decide) rfl ?_
          obtain ⟨n0, hf⟩ := hf
          refine g_sub [3, 4, 5, 6, 2, 1, 0] rfl ?_
          exact B52 (w_M_next_23 Q n) hK23 n0 _ _ _ _ _ _ _ _ hf
        · replace hf := hf.2 z
          refine g_goto hX 163 dX4_next_40 (by decide) ?_
          exact B163 (w_M_next_23 Q n) hK23 _ _ _ _ _ hf
  unfold w_M_next at hf
  refine g_aload_n hX 0 dX4_next_0 rfl rfl ?_
  refine g_iload_n hX 1 dX4_next_1 rfl rfl ?_
  refine g_callVi hX (n := 1) (mt_M_isPart X.l X.Γ _ _ _ _) hf q1690 q1692 qs47 q89 q1693 ⟨rfl, hy_M_isPart⟩ (by decide) (fc40 _) ff40 rfl rfl rfl (Nat.le_of_ble_eq_true rfl) dX4_next_2 (fun r1 χ2 hf hc2 => ?_)
  refine g_if_ne hX 10 dX4_next_5 (by decide) (fun z => ?_) (fun z => ?_)
  · replace hf := hf.1 z
    refine g_aload_n hX 0 dX4_next_10 rfl rfl ?_
    refine g_iload_n hX 1 dX4_next_11 rfl rfl ?_
    refine g_callVv hX (n := 1) (mt_M_weighsPart X.l X.Γ _ _ _ _) hf q1774 q1776 qs60 q89 q1777 ⟨rfl, hy_M_weighsPart⟩ (by decide) (fc40 _) ff40 rfl rfl rfl (Nat.le_of_ble_eq_true rfl) dX4_next_12 (fun χ3 hf hc3 => ?_)
    refine g_bipush hX (v := (-2 : Int32)) dX4_next_15 rfl ?_
    refine g_istore_n hX dX4_next_17 rfl (by decide) rfl ?_
    refine g_lconst hX (v := (0 : Int64)) dX4_next_18 rfl ?_
    refine g_lstore_n hX dX4_next_19 rfl (by decide) rfl ?_
    refine g_iconst hX (v := (0 : Int32)) dX4_next_20 rfl ?_
    refine g_istore hX dX4_next_21 (by decide) rfl ?_
    obtain ⟨n0, hf⟩ := hf
    refine g_sub [3, 2, 1, 0] rfl ?_
    exact B23 n0 _ _ _ _ _ hf
  · replace hf := hf.2 z
    refine g_iconst hX (v := (-1 : Int32)) dX4_next_8 rfl ?_
    exact g_iret hX ⟨_, rfl, hf⟩ dX4_next_9

def w_M_unlooked_32 (Q : Int32 → St → Prop) (K4 : Int32 → Int32 → Int32 → St → Prop) (x1 : Int32) (x3 : Int32) (z0 : Int32) (z1 : Int32) (χ : St) : Prop := (K4 x1 (z1 ||| z0) (x3 + (1 : Int32)) χ)
def w_M_unlooked_4 (Q : Int32 → St → Prop) : Nat → Int32 → Int32 → Int32 → St → Prop
  | 0 => fun _ _ _ _ => False
  | n + 1 => fun x1 x2 x3 χ => (((6 : Int32) ≤ x3 → (Q x2 χ)) ∧ (¬ (6 : Int32) ≤ x3 → (vp_in (((6 : Int32) * x1) + x3) 48) ∧ (((¬ (gI χ 47 0 (((6 : Int32) * x1) + x3).toNatClampNeg) = 0 → (w_M_unlooked_32 Q (w_M_unlooked_4 Q n) x1 x3 (0 : Int32) x2 χ)) ∧ ((gI χ 47 0 (((6 : Int32) * x1) + x3).toNatClampNeg) = 0 → (w_M_unlooked_32 Q (w_M_unlooked_4 Q n) x1 x3 ((1 : Int32) <<< (x3 &&& 31)) x2 χ))))))
def w_M_unlooked (x1 : Int32) (χ : St) (Q : Int32 → St → Prop) : Prop := (∃ k4, w_M_unlooked_4 Q k4 x1 (0 : Int32) (0 : Int32) χ)
set_option maxHeartbeats 4000000 in
theorem mt_M_unlooked (l : Launch) (Γ : Gh) (ad : Nat → Nat → Nat) (x1 : Int32) (χ : St) (Q : Int32 → St → Prop) : Mt l yX4_unlooked (ws_ yX4_unlooked cX4_unlooked 4 (some .int)) (rmO (0) (0) χ) (Pm Γ ad χ [.ref (ad 40 0), .int x1] (w_M_unlooked x1 χ Q)) (Qm Γ true ad χ (pI Q)) (frB Γ) := by
  refine Mt.start (by decide) RX4 rfl (Nat.le_of_ble_eq_true rfl) ?_
  intro X hX hG _ _ hna _ hf
  have B32 : ∀ (K4 : Int32 → Int32 → Int32 → St → Prop) (hK4 : ∀ (ad : Nat → Nat → Nat) (x1 : Int32) (x2 : Int32) (x3 : Int32) (χ : St), K4 x1 x2 x3 χ → G X ad χ 4 [(0, .ref (ad 40 0)), (1, .int x1), (2, .int x2), (3, .int x3)] []) (ad : Nat → Nat → Nat) (x1 : Int32) (x3 : Int32) (z0 : Int32) (z1 : Int32) (χ : St), w_M_unlooked_32 Q K4 x1 x3 z0 z1 χ → G X ad χ 32 [(0, .ref (ad 40 0)), (1, .int x1), (3, .int x3)] [.int z0, .int z1] := by
    intro K4 hK4 ad x1 x3 z0 z1 χ hf
    unfold w_M_unlooked_32 at hf
    refine g_ior hX dX4_unlooked_32 ?_
    refine g_istore_n hX dX4_unlooked_33 rfl (by decide) rfl ?_
    refine g_iinc hX (v := _) 3 dX4_unlooked_34 rfl rfl (by decide) rfl ?_
    refine g_goto hX 4 dX4_unlooked_37 (by decide) ?_
    refine g_sub [2, 3, 1, 0] rfl ?_
    exact hK4 _ _ _ _ _ hf
  have B4 : ∀ (n : Nat) (ad : Nat → Nat → Nat) (x1 : Int32) (x2 : Int32) (x3 : Int32) (χ : St), w_M_unlooked_4 Q n x1 x2 x3 χ → G X ad χ 4 [(0, .ref (ad 40 0)), (1, .int x1), (2, .int x2), (3, .int x3)] [] := by
    intro n
    induction n with
    | zero => intro ad x1 x2 x3 χ hf; exact hf.elim
    | succ n hK4 =>
      intro ad x1 x2 x3 χ hf
      unfold w_M_unlooked_4 at hf
      refine g_iload_n hX 3 dX4_unlooked_4 rfl rfl ?_
      refine g_bipush hX (v := (6 : Int32)) dX4_unlooked_5 rfl ?_
      refine g_icmp_ge hX 40 dX4_unlooked_7 (by decide) (fun z => ?_) (fun z => ?_)
      · replace hf := hf.1 z
        refine g_iload_n hX 2 dX4_unlooked_40 rfl rfl ?_
        exact g_iret hX ⟨_, rfl, hf⟩ dX4_unlooked_41
      · replace hf := hf.2 z
        refine g_iload_n hX 2 dX4_unlooked_10 rfl rfl ?_
        refine g_aload_n hX 0 dX4_unlooked_11 rfl rfl ?_
        refine g_getK hX (k := 9) (d := 47) (fc40 _) ff40 rfl (by decide) rfl rfl in_X4 (by decide) q1514 dX4_unlooked_12 ?_
        refine g_bipush hX (v := (6 : Int32)) dX4_unlooked_15 rfl ?_
        refine g_iload_n hX 1 dX4_unlooked_17 rfl rfl ?_
        refine g_imul hX dX4_unlooked_18 ?_
        refine g_iload_n hX 3 dX4_unlooked_19 rfl rfl ?_
        refine g_iadd hX dX4_unlooked_20 ?_
        refine g_iald hX (fc47 _) ff47 rfl hf.1 dX4_unlooked_21 ?_
        replace hf := hf.2
        refine g_if_ne hX 31 dX4_unlooked_22 (by decide) (fun z => ?_) (fun z => ?_)
        · replace hf := hf.1 z
          refine g_iconst hX (v := (0 : Int32)) dX4_unlooked_31 rfl ?_
          refine g_sub [0, 1, 3] rfl ?_
          exact B32 (w_M_unlooked_4 Q n) hK4 _ _ _ _ _ _ hf
        · replace hf := hf.2 z
          refine g_iconst hX (v := (1 : Int32)) dX4_unlooked_25 rfl ?_
          refine g_iload_n hX 3 dX4_unlooked_26 rfl rfl ?_
          refine g_ishl hX dX4_unlooked_27 ?_
          refine g_goto hX 32 dX4_unlooked_28 (by decide) ?_
          refine g_sub [0, 1, 3] rfl ?_
          exact B32 (w_M_unlooked_4 Q n) hK4 _ _ _ _ _ _ hf
  unfold w_M_unlooked at hf
  refine g_iconst hX (v := (0 : Int32)) dX4_unlooked_0 rfl ?_
  refine g_istore_n hX dX4_unlooked_1 rfl (by decide) rfl ?_
  refine g_iconst hX (v := (0 : Int32)) dX4_unlooked_2 rfl ?_
  refine g_istore_n hX dX4_unlooked_3 rfl (by decide) rfl ?_
  obtain ⟨n0, hf⟩ := hf
  refine g_sub [2, 3, 1, 0] rfl ?_
  exact B4 n0 _ _ _ _ _ hf

def w_M_namedBy_146 (Q : Int32 → St → Prop) (K50 : Int32 → Int32 → Int64 → Int64 → Int32 → Int32 → St → Prop) (x1 : Int32) (x2 : Int32) (x5 : Int64) (x7 : Int64) (x9 : Int32) (z0 : Int32) (χ : St) : Prop := (∀ v5 : Int32, v5 = ((x9 - (1 : Int32)) &&& x2) → (K50 x1 x2 x5 x7 v5 z0 χ))
def w_M_namedBy_111 (Q : Int32 → St → Prop) (K50 : Int32 → Int32 → Int64 → Int64 → Int32 → Int32 → St → Prop) (K58 : Int32 → Int32 → Int64 → Int64 → Int32 → Int32 → St → Prop) (x1 : Int32) (x2 : Int32) (x5 : Int64) (x7 : Int64) (x9 : Int32) (x11 : Int32) (z0 : Int32) (z1 : Int32) (χ : St) : Prop := (vp_in z1 6) ∧ ((∀ χ6 : St, χ6 = (sI χ 53 0 z1.toNatClampNeg z0) → (K58 x1 x2 x5 x7 x9 (x11 + (1 : Int32)) χ6)))
def w_M_namedBy_58 (Q : Int32 → St → Prop) (K50 : Int32 → Int32 → Int64 → Int64 → Int32 → Int32 → St → Prop) : Nat → Int32 → Int32 → Int64 → Int64 → Int32 → Int32 → St → Prop
  | 0 => fun _ _ _ _ _ _ _ => False
  | n + 1 => fun x1 x2 x5 x7 x9 x11 χ => (((6 : Int32) ≤ x11 → (w_M_weighs χ (fun χ1 => (w_M_mostOf χ1 (fun r2 χ3 => (vp_in r2 6) ∧ ((∀ v4 : Int64, v4 = (x5 + (gL χ3 55 0 r2.toNatClampNeg)) → ((x9 = 0 → (w_M_namedBy_146 Q K50 x1 x2 v4 x7 x9 (0 : Int32) χ3)) ∧ (¬ x9 = 0 → (w_M_namedBy_146 Q K50 x1 x2 v4 x7 x9 (1 : Int32) χ3)))))))))) ∧ (¬ (6 : Int32) ≤ x11 → ((¬ ((x2 >>> (x11 &&& 31)) &&& (1 : Int32)) = 0 → ((¬ ((x9 >>> (x11 &&& 31)) &&& (1 : Int32)) = (1 : Int32) → (w_M_namedBy_111 Q K50 (w_M_namedBy_58 Q K50 n) x1 x2 x5 x7 x9 x11 (2 : Int32) x11 χ)) ∧ (((x9 >>> (x11 &&& 31)) &&& (1 : Int32)) = (1 : Int32) → (w_M_namedBy_111 Q K50 (w_M_namedBy_58 Q K50 n) x1 x2 x5 x7 x9 x11 (1 : Int32) x11 χ)))) ∧ (((x2 >>> (x11 &&& 31)) &&& (1 : Int32)) = 0 → (vp_in (((6 : Int32) * x1) + x11) 48) ∧ ((w_M_namedBy_111 Q K50 (w_M_namedBy_58 Q K50 n) x1 x2 x5 x7 x9 x11 (gI χ 47 0 (((6 : Int32) * x1) + x11).toNatClampNeg) x11 χ))))))
def w_M_namedBy_50 (Q : Int32 → St → Prop) : Nat → Int32 → Int32 → Int64 → Int64 → Int32 → Int32 → St → Prop
  | 0 => fun _ _ _ _ _ _ _ => False
  | n + 1 => fun x1 x2 x5 x7 x9 x10 χ => ((x10 = 0 → (¬ x7 = 0) ∧ ((Q (((1000 : Int64) * x5) / x7).toInt32 χ))) ∧ (¬ x10 = 0 → (∃ k58, w_M_namedBy_58 Q (w_M_namedBy_50 Q n) k58 x1 x2 x5 x7 x9 (0 : Int32) χ)))
def w_M_namedBy_35 (Q : Int32 → St → Prop) (K9 : Int32 → Int32 → Int64 → Int64 → Int32 → St → Prop) (x1 : Int32) (x2 : Int32) (x5 : Int64) (x9 : Int32) (z0 : Int64) (z1 : Int64) (χ : St) : Prop := (K9 x1 x2 x5 (z1 * z0) (x9 + (1 : Int32)) χ)
def w_M_namedBy_9 (Q : Int32 → St → Prop) : Nat → Int32 → Int32 → Int64 → Int64 → Int32 → St → Prop
  | 0 => fun _ _ _ _ _ _ => False
  | n + 1 => fun x1 x2 x5 x7 x9 χ => (((6 : Int32) ≤ x9 → (∃ k50, w_M_namedBy_50 Q k50 x1 x2 x5 x7 x2 (1 : Int32) χ)) ∧ (¬ (6 : Int32) ≤ x9 → ((¬ ((x2 >>> (x9 &&& 31)) &&& (1 : Int32)) = (1 : Int32) → (w_M_namedBy_35 Q (w_M_namedBy_9 Q n) x1 x2 x5 x9 (1 : Int64) x7 χ)) ∧ (((x2 >>> (x9 &&& 31)) &&& (1 : Int32)) = (1 : Int32) → (w_M_namedBy_35 Q (w_M_namedBy_9 Q n) x1 x2 x5 x9 (100 : Int64) x7 χ)))))
def w_M_namedBy (x1 : Int32) (x2 : Int32) (x3 : Int64) (χ : St) (Q : Int32 → St → Prop) : Prop := (∃ k9, w_M_namedBy_9 Q k9 x1 x2 (0 : Int64) x3 (0 : Int32) χ)
set_option maxHeartbeats 4000000 in
theorem mt_M_namedBy (l : Launch) (Γ : Gh) (ad : Nat → Nat → Nat) (x1 : Int32) (x2 : Int32) (x3 : Int64) (χ : St) (Q : Int32 → St → Prop) : Mt l yX4_namedBy (ws_ yX4_namedBy cX4_namedBy 12 (some .int)) (rmO (1) (25) χ) (Pm Γ ad χ [.ref (ad 40 0), .int x1, .int x2, .long x3] (w_M_namedBy x1 x2 x3 χ Q)) (Qm Γ true ad χ (pI Q)) (frB Γ) := by
  refine Mt.start (by decide) RX4 rfl (Nat.le_of_ble_eq_true rfl) ?_
  intro X hX hG _ _ hna _ hf
  have B146 : ∀ (K50 : Int32 → Int32 → Int64 → Int64 → Int32 → Int32 → St → Prop) (hK50 : ∀ (ad : Nat → Nat → Nat) (x1 : Int32) (x2 : Int32) (x5 : Int64) (x7 : Int64) (x9 : Int32) (x10 : Int32) (χ : St), K50 x1 x2 x5 x7 x9 x10 χ → G X ad χ 50 [(0, .ref (ad 40 0)), (1, .int x1), (2, .int x2), (5, .long x5), (7, .long x7), (9, .int x9), (10, .int x10)] []) (ad : Nat → Nat → Nat) (x1 : Int32) (x2 : Int32) (x5 : Int64) (x7 : Int64) (x9 : Int32) (z0 : Int32) (χ : St), w_M_namedBy_146 Q K50 x1 x2 x5 x7 x9 z0 χ → G X ad χ 146 [(0, .ref (ad 40 0)), (1, .int x1), (2, .int x2), (5, .long x5), (7, .long x7), (9, .int x9)] [.int z0] := by
    intro K50 hK50 ad x1 x2 x5 x7 x9 z0 χ hf
    unfold w_M_namedBy_146 at hf
    refine g_istore hX dX4_namedBy_146 (by decide) rfl ?_
    refine g_iload hX 6 dX4_namedBy_148 rfl ?_
    refine g_iconst hX (v := (1 : Int32)) dX4_namedBy_150 rfl ?_
    refine g_isub hX dX4_namedBy_151 ?_
    refine g_iload_n hX 3 dX4_namedBy_152 rfl rfl ?_
    refine g_iand hX dX4_namedBy_153 ?_
    replace hf := hf _ rfl
    refine g_istore hX dX4_namedBy_154 (by decide) rfl ?_
    refine g_goto hX 50 dX4_namedBy_156 (by decide) ?_
    refine g_sub [2, 3, 4, 5, 6, 0, 1] rfl ?_
    exact hK50 _ _ _ _ _ _ _ _ hf
  have B111 : ∀ (K50 : Int32 → Int32 → Int64 → Int64 → Int32 → Int32 → St → Prop) (hK50 : ∀ (ad : Nat → Nat → Nat) (x1 : Int32) (x2 : Int32) (x5 : Int64) (x7 : Int64) (x9 : Int32) (x10 : Int32) (χ : St), K50 x1 x2 x5 x7 x9 x10 χ → G X ad χ 50 [(0, .ref (ad 40 0)), (1, .int x1), (2, .int x2), (5, .long x5), (7, .long x7), (9, .int x9), (10, .int x10)] []) (K58 : Int32 → Int32 → Int64 → Int64 → Int32 → Int32 → St → Prop) (hK58 : ∀ (ad : Nat → Nat → Nat) (x1 : Int32) (x2 : Int32) (x5 : Int64) (x7 : Int64) (x9 : Int32) (x11 : Int32) (χ : St), K58 x1 x2 x5 x7 x9 x11 χ → G X ad χ 58 [(0, .ref (ad 40 0)), (1, .int x1), (2, .int x2), (5, .long x5), (7, .long x7), (9, .int x9), (11, .int x11)] []) (ad : Nat → Nat → Nat) (x1 : Int32) (x2 : Int32) (x5 : Int64) (x7 : Int64) (x9 : Int32) (x11 : Int32) (z0 : Int32) (z1 : Int32) (χ : St), w_M_namedBy_111 Q K50 K58 x1 x2 x5 x7 x9 x11 z0 z1 χ → G X ad χ 111 [(0, .ref (ad 40 0)), (1, .int x1), (2, .int x2), (5, .long x5), (7, .long x7), (9, .int x9), (11, .int x11)] [.int z0, .int z1, .ref (ad 53 0)] := by
    intro K50 hK50 K58 hK58 ad x1 x2 x5 x7 x9 x11 z0 z1 χ hf
    unfold w_M_namedBy_111 at hf
    refine g_iast hX (fc53 _) ff53 rfl hf.1 dX4_namedBy_111 ?_
    replace hf := hf.2
    replace hf := hf _ rfl
    refine g_iinc hX (v := _) 6 dX4_namedBy_112 rfl rfl (by decide) rfl ?_
    refine g_goto hX 58 dX4_namedBy_115 (by decide) ?_
    refine g_sub [1, 2, 3, 4, 5, 6, 0] rfl ?_
    exact hK58 _ _ _ _ _ _ _ _ hf
  have B58 : ∀ (K50 : Int32 → Int32 → Int64 → Int64 → Int32 → Int32 → St → Prop) (hK50 : ∀ (ad : Nat → Nat → Nat) (x1 : Int32) (x2 : Int32) (x5 : Int64) (x7 : Int64) (x9 : Int32) (x10 : Int32) (χ : St), K50 x1 x2 x5 x7 x9 x10 χ → G X ad χ 50 [(0, .ref (ad 40 0)), (1, .int x1), (2, .int x2), (5, .long x5), (7, .long x7), (9, .int x9), (10, .int x10)] []) (n : Nat) (ad : Nat → Nat → Nat) (x1 : Int32) (x2 : Int32) (x5 : Int64) (x7 : Int64) (x9 : Int32) (x11 : Int32) (χ : St), w_M_namedBy_58 Q K50 n x1 x2 x5 x7 x9 x11 χ → G X ad χ 58 [(0, .ref (ad 40 0)), (1, .int x1), (2, .int x2), (5, .long x5), (7, .long x7), (9, .int x9), (11, .int x11)] [] := by
    intro K50 hK50 n
    induction n with
    | zero => intro ad x1 x2 x5 x7 x9 x11 χ hf; exact hf.elim
    | succ n hK58 =>
      intro ad x1 x2 x5 x7 x9 x11 χ hf
      unfold w_M_namedBy_58 at hf
      refine g_iload hX 6 dX4_namedBy_58 rfl ?_
      refine g_bipush hX (v := (6 : Int32)) dX4_namedBy_60 rfl ?_
      refine g_icmp_ge hX 118 dX4_namedBy_62 (by decide) (fun z => ?_) (fun z => ?_)
      · replace hf := hf.1 z
        refine g_aload_n hX 0 dX4_namedBy_118 rfl rfl ?_
        refine g_callVv hX (n := 0) (mt_M_weighs X.l X.Γ _ _ _) hf q1782 q1784 qs62 q89 q1785 ⟨rfl, hy_M_weighs⟩ (by decide) (fc40 _) ff40 rfl rfl rfl (Nat.le_of_ble_eq_true rfl) dX4_namedBy_119 (fun χ1 hf hc1 => ?_)
        refine g_lload hX 3 dX4_namedBy_122 rfl ?_
        refine g_aload_n hX 0 dX4_namedBy_124 rfl rfl ?_
        refine g_getK hX (k := 23) (d := 55) (fc40 _) ff40 rfl (by decide) rfl rfl in_X4 (by decide) q1528 dX4_namedBy_125 ?_
        refine g_aload_n hX 0 dX4_namedBy_128 rfl rfl ?_
        refine g_callVi hX (n := 0) (mt_M_mostOf X.l X.Γ _ _ _) hf q1802 q1804 qs64 q89 q1805 ⟨rfl, hy_M_mostOf⟩ (by decide) (fc40 _) ff40 rfl rfl rfl (Nat.le_of_ble_eq_true rfl) dX4_namedBy_129 (fun r2 χ3 hf hc3 => ?_)
        refine g_lald hX (fc55 _) ff55 rfl hf.1 dX4_namedBy_132 ?_
        replace hf := hf.2
        refine g_ladd hX dX4_namedBy_133 ?_
        replace hf := hf _ rfl
        refine g_lstore hX dX4_namedBy_134 (by decide) rfl ?_
        refine g_iload hX 5 dX4_namedBy_136 rfl ?_
        refine g_if_eq hX 145 dX4_namedBy_138 (by decide) (fun z => ?_) (fun z => ?_)
        · replace hf := hf.1 z
          refine g_iconst hX (v := (0 : Int32)) dX4_namedBy_145 rfl ?_
          refine g_sub [1, 2, 3, 0, 4, 5] rfl ?_
          exact B146 K50 hK50 _ _ _ _ _ _ _ _ hf
        · replace hf := hf.2 z
          refine g_iconst hX (v := (1 : Int32)) dX4_namedBy_141 rfl ?_
          refine g_goto hX 146 dX4_namedBy_142 (by decide) ?_
          refine g_sub [1, 2, 3, 0, 4, 5] rfl ?_
          exact B146 K50 hK50 _ _ _ _ _ _ _ _ hf
      · replace hf := hf.2 z
        refine g_aload_n hX 0 dX4_namedBy_65 rfl rfl ?_
        refine g_getK hX (k := 21) (d := 53) (fc40 _) ff40 rfl (by decide) rfl rfl in_X4 (by decide) q1526 dX4_namedBy_66 ?_
        refine g_iload hX 6 dX4_namedBy_69 rfl ?_
        refine g_iload_n hX 2 dX4_namedBy_71 rfl rfl ?_
        refine g_iload hX 6 dX4_namedBy_72 rfl ?_
        refine g_ishr hX dX4_namedBy_74 ?_
        refine g_iconst hX (v := (1 : Int32)) dX4_namedBy_75 rfl ?_
        refine g_iand hX dX4_namedBy_76 ?_
        refine g_if_ne hX 95 dX4_namedBy_77 (by decide) (fun z => ?_) (fun z => ?_)
        · replace hf := hf.1 z
          refine g_iload hX 5 dX4_namedBy_95 rfl ?_
          refine g_iload hX 6 dX4_namedBy_97 rfl ?_
          refine g_ishr hX dX4_namedBy_99 ?_
          refine g_iconst hX (v := (1 : Int32)) dX4_namedBy_100 rfl ?_
          refine g_iand hX dX4_namedBy_101 ?_
          refine g_iconst hX (v := (1 : Int32)) dX4_namedBy_102 rfl ?_
          refine g_icmp_ne hX 110 dX4_namedBy_103 (by decide) (fun z => ?_) (fun z => ?_)
          · replace hf := hf.1 z
            refine g_iconst hX (v := (2 : Int32)) dX4_namedBy_110 rfl ?_
            exact B111 K50 hK50 (w_M_namedBy_58 Q K50 n) hK58 _ _ _ _ _ _ _ _ _ _ hf
          · replace hf := hf.2 z
            refine g_iconst hX (v := (1 : Int32)) dX4_namedBy_106 rfl ?_
            refine g_goto hX 111 dX4_namedBy_107 (by decide) ?_
            exact B111 K50 hK50 (w_M_namedBy_58 Q K50 n) hK58 _ _ _ _ _ _ _ _ _ _ hf
        · replace hf := hf.2 z
          refine g_aload_n hX 0 dX4_namedBy_80 rfl rfl ?_
          refine g_getK hX (k := 9) (d := 47) (fc40 _) ff40 rfl (by decide) rfl rfl in_X4 (by decide) q1514 dX4_namedBy_81 ?_
          refine g_bipush hX (v := (6 : Int32)) dX4_namedBy_84 rfl ?_
          refine g_iload_n hX 1 dX4_namedBy_86 rfl rfl ?_
          refine g_imul hX dX4_namedBy_87 ?_
          refine g_iload hX 6 dX4_namedBy_88 rfl ?_
          refine g_iadd hX dX4_namedBy_90 ?_
          refine g_iald hX (fc47 _) ff47 rfl hf.1 dX4_namedBy_91 ?_
          replace hf := hf.2
          refine g_goto hX 111 dX4_namedBy_92 (by decide) ?_
          exact B111 K50 hK50 (w_M_namedBy_58 Q K50 n) hK58 _ _ _ _ _ _ _ _ _ _ hf
  have B50 : ∀ (n : Nat) (ad : Nat → Nat → Nat) (x1 : Int32) (x2 : Int32) (x5 : Int64) (x7 : Int64) (x9 : Int32) (x10 : Int32) (χ : St), w_M_namedBy_50 Q n x1 x2 x5 x7 x9 x10 χ → G X ad χ 50 [(0, .ref (ad 40 0)), (1, .int x1), (2, .int x2), (5, .long x5), (7, .long x7), (9, .int x9), (10, .int x10)] [] := by
    intro n
    induction n with
    | zero => intro ad x1 x2 x5 x7 x9 x10 χ hf; exact hf.elim
    | succ n hK50 =>
      intro ad x1 x2 x5 x7 x9 x10 χ hf
      unfold w_M_namedBy_50 at hf
      refine g_iload hX 6 dX4_namedBy_50 rfl ?_
      refine g_if_eq hX 159 dX4_namedBy_52 (by decide) (fun z => ?_) (fun z => ?_)
      · replace hf := hf.1 z
        refine g_ldc2 hX q1840 dX4_namedBy_159 ?_
        refine g_lload hX 3 dX4_namedBy_162 rfl ?_
        refine g_lmul hX dX4_namedBy_164 ?_
        refine g_lload hX 4 dX4_namedBy_165 rfl ?_
        refine g_ldiv hX dX4_namedBy_167 hf.1 ?_
        replace hf := hf.2
        refine g_l2i hX dX4_namedBy_168 ?_
        exact g_iret hX ⟨_, rfl, hf⟩ dX4_namedBy_169
      · replace hf := hf.2 z
        refine g_iconst hX (v := (0 : Int32)) dX4_namedBy_55 rfl ?_
        refine g_istore hX dX4_namedBy_56 (by decide) rfl ?_
        obtain ⟨n0, hf⟩ := hf
        refine g_sub [1, 2, 3, 4, 5, 6, 0] rfl ?_
        exact B58 (w_M_namedBy_50 Q n) hK50 n0 _ _ _ _ _ _ _ _ hf
  have B35 : ∀ (K9 : Int32 → Int32 → Int64 → Int64 → Int32 → St → Prop) (hK9 : ∀ (ad : Nat → Nat → Nat) (x1 : Int32) (x2 : Int32) (x5 : Int64) (x7 : Int64) (x9 : Int32) (χ : St), K9 x1 x2 x5 x7 x9 χ → G X ad χ 9 [(0, .ref (ad 40 0)), (1, .int x1), (2, .int x2), (5, .long x5), (7, .long x7), (9, .int x9)] []) (ad : Nat → Nat → Nat) (x1 : Int32) (x2 : Int32) (x5 : Int64) (x9 : Int32) (z0 : Int64) (z1 : Int64) (χ : St), w_M_namedBy_35 Q K9 x1 x2 x5 x9 z0 z1 χ → G X ad χ 35 [(0, .ref (ad 40 0)), (1, .int x1), (2, .int x2), (5, .long x5), (9, .int x9)] [.long z0, .long z1] := by
    intro K9 hK9 ad x1 x2 x5 x9 z0 z1 χ hf
    unfold w_M_namedBy_35 at hf
    refine g_lmul hX dX4_namedBy_35 ?_
    refine g_lstore hX dX4_namedBy_36 (by decide) rfl ?_
    refine g_iinc hX (v := _) 5 dX4_namedBy_38 rfl rfl (by decide) rfl ?_
    refine g_goto hX 9 dX4_namedBy_41 (by decide) ?_
    refine g_sub [2, 3, 4, 5, 1, 0] rfl ?_
    exact hK9 _ _ _ _ _ _ _ hf
  have B9 : ∀ (n : Nat) (ad : Nat → Nat → Nat) (x1 : Int32) (x2 : Int32) (x5 : Int64) (x7 : Int64) (x9 : Int32) (χ : St), w_M_namedBy_9 Q n x1 x2 x5 x7 x9 χ → G X ad χ 9 [(0, .ref (ad 40 0)), (1, .int x1), (2, .int x2), (5, .long x5), (7, .long x7), (9, .int x9)] [] := by
    intro n
    induction n with
    | zero => intro ad x1 x2 x5 x7 x9 χ hf; exact hf.elim
    | succ n hK9 =>
      intro ad x1 x2 x5 x7 x9 χ hf
      unfold w_M_namedBy_9 at hf
      refine g_iload hX 5 dX4_namedBy_9 rfl ?_
      refine g_bipush hX (v := (6 : Int32)) dX4_namedBy_11 rfl ?_
      refine g_icmp_ge hX 44 dX4_namedBy_13 (by decide) (fun z => ?_) (fun z => ?_)
      · replace hf := hf.1 z
        refine g_iload_n hX 2 dX4_namedBy_44 rfl rfl ?_
        refine g_istore hX dX4_namedBy_45 (by decide) rfl ?_
        refine g_iconst hX (v := (1 : Int32)) dX4_namedBy_47 rfl ?_
        refine g_istore hX dX4_namedBy_48 (by decide) rfl ?_
        obtain ⟨n0, hf⟩ := hf
        refine g_sub [2, 3, 4, 5, 6, 1, 0] rfl ?_
        exact B50 n0 _ _ _ _ _ _ _ _ hf
      · replace hf := hf.2 z
        refine g_lload hX 4 dX4_namedBy_16 rfl ?_
        refine g_iload_n hX 2 dX4_namedBy_18 rfl rfl ?_
        refine g_iload hX 5 dX4_namedBy_19 rfl ?_
        refine g_ishr hX dX4_namedBy_21 ?_
        refine g_iconst hX (v := (1 : Int32)) dX4_namedBy_22 rfl ?_
        refine g_iand hX dX4_namedBy_23 ?_
        refine g_iconst hX (v := (1 : Int32)) dX4_namedBy_24 rfl ?_
        refine g_icmp_ne hX 34 dX4_namedBy_25 (by decide) (fun z => ?_) (fun z => ?_)
        · replace hf := hf.1 z
          refine g_lconst hX (v := (1 : Int64)) dX4_namedBy_34 rfl ?_
          refine g_sub [0, 1, 2, 3, 5] rfl ?_
          exact B35 (w_M_namedBy_9 Q n) hK9 _ _ _ _ _ _ _ _ hf
        · replace hf := hf.2 z
          refine g_ldc2 hX q1786 dX4_namedBy_28 ?_
          refine g_goto hX 35 dX4_namedBy_31 (by decide) ?_
          refine g_sub [0, 1, 2, 3, 5] rfl ?_
          exact B35 (w_M_namedBy_9 Q n) hK9 _ _ _ _ _ _ _ _ hf
  unfold w_M_namedBy at hf
  refine g_lconst hX (v := (0 : Int64)) dX4_namedBy_0 rfl ?_
  refine g_lstore hX dX4_namedBy_1 (by decide) rfl ?_
  refine g_lload_n hX 4 dX4_namedBy_3 rfl rfl ?_
  refine g_lstore hX dX4_namedBy_4 (by decide) rfl ?_
  refine g_iconst hX (v := (0 : Int32)) dX4_namedBy_6 rfl ?_
  refine g_istore hX dX4_namedBy_7 (by decide) rfl ?_
  obtain ⟨n0, hf⟩ := hf
  refine g_sub [3, 4, 5, 2, 1, 0] rfl ?_
  exact B9 n0 _ _ _ _ _ _ _ hf

def w_M_named (x1 : Int32) (x2 : Int32) (χ : St) (Q : Int32 → St → Prop) : Prop := (w_M_isPart x1 χ (fun r1 χ2 => ((r1 = 0 → (Q (-1 : Int32) χ2)) ∧ (¬ r1 = 0 → (w_M_within x2.toInt64 (0 : Int64) (63 : Int64) χ2 (fun r3 χ4 => ((¬ r3 = 0 → (w_M_weighsPart x1 χ4 (fun χ5 => ((¬ (lg_cmp (gL χ5 4124 0 0) (0 : Int64)) = 0 → (w_M_unlooked x1 χ5 (fun r6 χ7 => (w_M_namedBy x1 (x2 &&& r6) (gL χ7 4124 0 0) χ7 (fun r8 χ9 => (Q r8 χ9)))))) ∧ ((lg_cmp (gL χ5 4124 0 0) (0 : Int64)) = 0 → (Q (-2 : Int32) χ5)))))) ∧ (r3 = 0 → (Q (-1 : Int32) χ4)))))))))
set_option maxHeartbeats 4000000 in
theorem mt_M_named (l : Launch) (Γ : Gh) (ad : Nat → Nat → Nat) (x1 : Int32) (x2 : Int32) (χ : St) (Q : Int32 → St → Prop) : Mt l yX4_named (ws_ yX4_named cX4_named 3 (some .int)) (rmO (58) (1329) χ) (Pm Γ ad χ [.ref (ad 40 0), .int x1, .int x2] (w_M_named x1 x2 χ Q)) (Qm Γ true ad χ (pI Q)) (frB Γ) := by
  refine Mt.start (by decide) RX4 rfl (Nat.le_of_ble_eq_true rfl) ?_
  intro X hX hG _ _ hna _ hf
  unfold w_M_named at hf
  refine g_aload_n hX 0 dX4_named_0 rfl rfl ?_
  refine g_iload_n hX 1 dX4_named_1 rfl rfl ?_
  refine g_callVi hX (n := 1) (mt_M_isPart X.l X.Γ _ _ _ _) hf q1690 q1692 qs47 q89 q1693 ⟨rfl, hy_M_isPart⟩ (by decide) (fc40 _) ff40 rfl rfl rfl (Nat.le_of_ble_eq_true rfl) dX4_named_2 (fun r1 χ2 hf hc2 => ?_)
  refine g_if_eq hX 20 dX4_named_5 (by decide) (fun z => ?_) (fun z => ?_)
  · replace hf := hf.1 z
    refine g_iconst hX (v := (-1 : Int32)) dX4_named_20 rfl ?_
    exact g_iret hX ⟨_, rfl, hf⟩ dX4_named_21
  · replace hf := hf.2 z
    refine g_iload_n hX 2 dX4_named_8 rfl rfl ?_
    refine g_i2l hX dX4_named_9 ?_
    refine g_lconst hX (v := (0 : Int64)) dX4_named_10 rfl ?_
    refine g_ldc2 hX q1831 dX4_named_11 ?_
    refine g_callSi hX (n := 3) (mt_M_within X.l X.Γ _ _ _ _ _ _) hf q1651 q1652 q89 q1653 hy_M_within (by decide) rfl rfl (Nat.le_of_ble_eq_true rfl) dX4_named_14 (fun r3 χ4 hf hc4 => ?_)
    refine g_if_ne hX 22 dX4_named_17 (by decide) (fun z => ?_) (fun z => ?_)
    · replace hf := hf.1 z
      refine g_aload_n hX 0 dX4_named_22 rfl rfl ?_
      refine g_iload_n hX 1 dX4_named_23 rfl rfl ?_
      refine g_callVv hX (n := 1) (mt_M_weighsPart X.l X.Γ _ _ _ _) hf q1774 q1776 qs60 q89 q1777 ⟨rfl, hy_M_weighsPart⟩ (by decide) (fc40 _) ff40 rfl rfl rfl (Nat.le_of_ble_eq_true rfl) dX4_named_24 (fun χ5 hf hc5 => ?_)
      refine g_aload_n hX 0 dX4_named_27 rfl rfl ?_
      refine g_getL hX (k := 24) (fc40 _) ff40 rfl rfl in_X4 (by decide) q1529 dX4_named_28 ?_
      refine g_lconst hX (v := (0 : Int64)) dX4_named_31 rfl ?_
      refine g_lcmp hX dX4_named_32 ?_
      refine g_if_ne hX 41 dX4_named_33 (by decide) (fun z => ?_) (fun z => ?_)
      · replace hf := hf.1 z
        refine g_aload_n hX 0 dX4_named_41 rfl rfl ?_
        refine g_iload_n hX 1 dX4_named_42 rfl rfl ?_
        refine g_iload_n hX 2 dX4_named_43 rfl rfl ?_
        refine g_aload_n hX 0 dX4_named_44 rfl rfl ?_
        refine g_iload_n hX 1 dX4_named_45 rfl rfl ?_
        refine g_callVi hX (n := 1) (mt_M_unlooked X.l X.Γ _ _ _ _) hf q1832 q1834 qs66 q89 q1835 ⟨rfl, hy_M_unlooked⟩ (by decide) (fc40 _) ff40 rfl rfl rfl (Nat.le_of_ble_eq_true rfl) dX4_named_46 (fun r6 χ7 hf hc7 => ?_)
        refine g_iand hX dX4_named_49 ?_
        refine g_aload_n hX 0 dX4_named_50 rfl rfl ?_
        refine g_getL hX (k := 24) (fc40 _) ff40 rfl rfl in_X4 (by decide) q1529 dX4_named_51 ?_
        refine g_callVi hX (n := 3) (mt_M_namedBy X.l X.Γ _ _ _ _ _ _) hf q1836 q1838 qs67 q89 q1839 ⟨rfl, hy_M_namedBy⟩ (by decide) (fc40 _) ff40 rfl rfl rfl (Nat.le_of_ble_eq_true rfl) dX4_named_54 (fun r8 χ9 hf hc9 => ?_)
        exact g_iret hX ⟨_, rfl, hf⟩ dX4_named_57
      · replace hf := hf.2 z
        refine g_bipush hX (v := (-2 : Int32)) dX4_named_36 rfl ?_
        refine g_goto hX 57 dX4_named_38 (by decide) ?_
        exact g_iret hX ⟨_, rfl, hf⟩ dX4_named_57
    · replace hf := hf.2 z
      refine g_iconst hX (v := (-1 : Int32)) dX4_named_20 rfl ?_
      exact g_iret hX ⟨_, rfl, hf⟩ dX4_named_21

def w_M_minutesOf_33 (Q : Int32 → St → Prop) (K4 : Int32 → Int32 → Int32 → St → Prop) (x1 : Int32) (x3 : Int32) (z0 : Int32) (z1 : Int32) (χ : St) : Prop := (K4 x1 (z1 + z0) (x3 + (1 : Int32)) χ)
def w_M_minutesOf_4 (Q : Int32 → St → Prop) : Nat → Int32 → Int32 → Int32 → St → Prop
  | 0 => fun _ _ _ _ => False
  | n + 1 => fun x1 x2 x3 χ => (((6 : Int32) ≤ x3 → (Q x2 χ)) ∧ (¬ (6 : Int32) ≤ x3 → ((¬ ((x1 >>> (x3 &&& 31)) &&& (1 : Int32)) = (1 : Int32) → (w_M_minutesOf_33 Q (w_M_minutesOf_4 Q n) x1 x3 (0 : Int32) x2 χ)) ∧ (((x1 >>> (x3 &&& 31)) &&& (1 : Int32)) = (1 : Int32) → (vp_in ((12 : Int32) + x3) 24) ∧ ((w_M_minutesOf_33 Q (w_M_minutesOf_4 Q n) x1 x3 (gI χ 41 0 ((12 : Int32) + x3).toNatClampNeg) x2 χ))))))
def w_M_minutesOf (x1 : Int32) (χ : St) (Q : Int32 → St → Prop) : Prop := (∃ k4, w_M_minutesOf_4 Q k4 x1 (0 : Int32) (0 : Int32) χ)
set_option maxHeartbeats 4000000 in
theorem mt_M_minutesOf (l : Launch) (Γ : Gh) (ad : Nat → Nat → Nat) (x1 : Int32) (χ : St) (Q : Int32 → St → Prop) : Mt l yX4_minutesOf (ws_ yX4_minutesOf cX4_minutesOf 4 (some .int)) (rmO (0) (0) χ) (Pm Γ ad χ [.ref (ad 40 0), .int x1] (w_M_minutesOf x1 χ Q)) (Qm Γ true ad χ (pI Q)) (frB Γ) := by
  refine Mt.start (by decide) RX4 rfl (Nat.le_of_ble_eq_true rfl) ?_
  intro X hX hG _ _ hna _ hf
  have B33 : ∀ (K4 : Int32 → Int32 → Int32 → St → Prop) (hK4 : ∀ (ad : Nat → Nat → Nat) (x1 : Int32) (x2 : Int32) (x3 : Int32) (χ : St), K4 x1 x2 x3 χ → G X ad χ 4 [(0, .ref (ad 40 0)), (1, .int x1), (2, .int x2), (3, .int x3)] []) (ad : Nat → Nat → Nat) (x1 : Int32) (x3 : Int32) (z0 : Int32) (z1 : Int32) (χ : St), w_M_minutesOf_33 Q K4 x1 x3 z0 z1 χ → G X ad χ 33 [(0, .ref (ad 40 0)), (1, .int x1), (3, .int x3)] [.int z0, .int z1] := by
    intro K4 hK4 ad x1 x3 z0 z1 χ hf
    unfold w_M_minutesOf_33 at hf
    refine g_iadd hX dX4_minutesOf_33 ?_
    refine g_istore_n hX dX4_minutesOf_34 rfl (by decide) rfl ?_
    refine g_iinc hX (v := _) 3 dX4_minutesOf_35 rfl rfl (by decide) rfl ?_
    refine g_goto hX 4 dX4_minutesOf_38 (by decide) ?_
    refine g_sub [2, 3, 1, 0] rfl ?_
    exact hK4 _ _ _ _ _ hf
  have B4 : ∀ (n : Nat) (ad : Nat → Nat → Nat) (x1 : Int32) (x2 : Int32) (x3 : Int32) (χ : St), w_M_minutesOf_4 Q n x1 x2 x3 χ → G X ad χ 4 [(0, .ref (ad 40 0)), (1, .int x1), (2, .int x2), (3, .int x3)] [] := by
    intro n
    induction n with
    | zero => intro ad x1 x2 x3 χ hf; exact hf.elim
    | succ n hK4 =>
      intro ad x1 x2 x3 χ hf
      unfold w_M_minutesOf_4 at hf
      refine g_iload_n hX 3 dX4_minutesOf_4 rfl rfl ?_
      refine g_bipush hX (v := (6 : Int32)) dX4_minutesOf_5 rfl ?_
      refine g_icmp_ge hX 41 dX4_minutesOf_7 (by decide) (fun z => ?_) (fun z => ?_)
      · replace hf := hf.1 z
        refine g_iload_n hX 2 dX4_minutesOf_41 rfl rfl ?_
        exact g_iret hX ⟨_, rfl, hf⟩ dX4_minutesOf_42
      · replace hf := hf.2 z
        refine g_iload_n hX 2 dX4_minutesOf_10 rfl rfl ?_
        refine g_iload_n hX 1 dX4_minutesOf_11 rfl rfl ?_
        refine g_iload_n hX 3 dX4_minutesOf_12 rfl rfl ?_
        refine g_ishr hX dX4_minutesOf_13 ?_
        refine g_iconst hX (v := (1 : Int32)) dX4_minutesOf_14 rfl ?_
        refine g_iand hX dX4_minutesOf_15 ?_
        refine g_iconst hX (v := (1 : Int32)) dX4_minutesOf_16 rfl ?_
        refine g_icmp_ne hX 32 dX4_minutesOf_17 (by decide) (fun z => ?_) (fun z => ?_)
        · replace hf := hf.1 z
          refine g_iconst hX (v := (0 : Int32)) dX4_minutesOf_32 rfl ?_
          refine g_sub [0, 1, 3] rfl ?_
          exact B33 (w_M_minutesOf_4 Q n) hK4 _ _ _ _ _ _ hf
        · replace hf := hf.2 z
          refine g_aload_n hX 0 dX4_minutesOf_20 rfl rfl ?_
          refine g_getK hX (k := 0) (d := 41) (fc40 _) ff40 rfl (by decide) rfl rfl in_X4 (by decide) q1505 dX4_minutesOf_21 ?_
          refine g_bipush hX (v := (12 : Int32)) dX4_minutesOf_24 rfl ?_
          refine g_iload_n hX 3 dX4_minutesOf_26 rfl rfl ?_
          refine g_iadd hX dX4_minutesOf_27 ?_
          refine g_iald hX (fc41 _) ff41 rfl hf.1 dX4_minutesOf_28 ?_
          replace hf := hf.2
          refine g_goto hX 33 dX4_minutesOf_29 (by decide) ?_
          refine g_sub [0, 1, 3] rfl ?_
          exact B33 (w_M_minutesOf_4 Q n) hK4 _ _ _ _ _ _ hf
  unfold w_M_minutesOf at hf
  refine g_iconst hX (v := (0 : Int32)) dX4_minutesOf_0 rfl ?_
  refine g_istore_n hX dX4_minutesOf_1 rfl (by decide) rfl ?_
  refine g_iconst hX (v := (0 : Int32)) dX4_minutesOf_2 rfl ?_
  refine g_istore_n hX dX4_minutesOf_3 rfl (by decide) rfl ?_
  obtain ⟨n0, hf⟩ := hf
  refine g_sub [2, 3, 1, 0] rfl ?_
  exact B4 n0 _ _ _ _ _ hf

def w_M_plan_142 (Q : Int32 → St → Prop) (K60 : Int32 → Int32 → Int64 → Int32 → Int32 → Int32 → Int32 → St → Prop) (x1 : Int32) (x2 : Int32) (x3 : Int64) (x5 : Int32) (x6 : Int32) (x7 : Int32) (x8 : Int32) (χ : St) : Prop := (K60 x1 x2 x3 x5 x6 x7 (x8 + (1 : Int32)) χ)
def w_M_plan_134 (Q : Int32 → St → Prop) (K60 : Int32 → Int32 → Int64 → Int32 → Int32 → Int32 → Int32 → St → Prop) (x1 : Int32) (x2 : Int32) (x3 : Int64) (x5 : Int32) (x8 : Int32) (x9 : Int32) (χ : St) : Prop := (w_M_plan_142 Q K60 x1 x2 x3 x5 x8 x9 x8 χ)
def w_M_plan_60 (Q : Int32 → St → Prop) : Nat → Int32 → Int32 → Int64 → Int32 → Int32 → Int32 → Int32 → St → Prop
  | 0 => fun _ _ _ _ _ _ _ _ => False
  | n + 1 => fun x1 x2 x3 x5 x6 x7 x8 χ => (((64 : Int32) ≤ x8 → (Q x6 χ)) ∧ (¬ (64 : Int32) ≤ x8 → ((¬ (x8 &&& (x5 ^^^ (-1 : Int32))) = 0 → (w_M_plan_142 Q (w_M_plan_60 Q n) x1 x2 x3 x5 x6 x7 x8 χ)) ∧ ((x8 &&& (x5 ^^^ (-1 : Int32))) = 0 → (w_M_minutesOf x8 χ (fun r8 χ9 => ((r8 ≤ x2 → (w_M_namedBy x1 x8 x3 χ9 (fun r10 χ11 => ((x6 < 0 → (w_M_plan_134 Q (w_M_plan_60 Q n) x1 x2 x3 x5 x8 r10 χ11)) ∧ (¬ x6 < 0 → ((x7 < r10 → (w_M_plan_134 Q (w_M_plan_60 Q n) x1 x2 x3 x5 x8 r10 χ11)) ∧ (¬ x7 < r10 → ((¬ r10 = x7 → (w_M_plan_142 Q (w_M_plan_60 Q n) x1 x2 x3 x5 x6 x7 x8 χ11)) ∧ (r10 = x7 → (w_M_minutesOf x8 χ11 (fun r12 χ13 => (w_M_minutesOf x6 χ13 (fun r14 χ15 => ((r14 ≤ r12 → (w_M_plan_142 Q (w_M_plan_60 Q n) x1 x2 x3 x5 x6 x7 x8 χ15)) ∧ (¬ r14 ≤ r12 → (w_M_plan_134 Q (w_M_plan_60 Q n) x1 x2 x3 x5 x8 r10 χ15)))))))))))))))) ∧ (¬ r8 ≤ x2 → (w_M_plan_142 Q (w_M_plan_60 Q n) x1 x2 x3 x5 x6 x7 x8 χ9)))))))))
def w_M_plan (x1 : Int32) (x2 : Int32) (χ : St) (Q : Int32 → St → Prop) : Prop := (w_M_isPart x1 χ (fun r1 χ2 => ((r1 = 0 → (Q (-1 : Int32) χ2)) ∧ (¬ r1 = 0 → (w_M_within x2.toInt64 (0 : Int64) (54 : Int64) χ2 (fun r3 χ4 => ((¬ r3 = 0 → (w_M_weighsPart x1 χ4 (fun χ5 => ((¬ (lg_cmp (gL χ5 4124 0 0) (0 : Int64)) = 0 → (w_M_unlooked x1 χ5 (fun r6 χ7 => (∃ k60, w_M_plan_60 Q k60 x1 x2 (gL χ5 4124 0 0) r6 (-1 : Int32) (0 : Int32) (0 : Int32) χ7)))) ∧ ((lg_cmp (gL χ5 4124 0 0) (0 : Int64)) = 0 → (Q (-2 : Int32) χ5)))))) ∧ (r3 = 0 → (Q (-1 : Int32) χ4)))))))))
set_option maxHeartbeats 4000000 in
theorem mt_M_plan (l : Launch) (Γ : Gh) (ad : Nat → Nat → Nat) (x1 : Int32) (x2 : Int32) (χ : St) (Q : Int32 → St → Prop) : Mt l yX4_plan (ws_ yX4_plan cX4_plan 10 (some .int)) (rmO (58) (1329) χ) (Pm Γ ad χ [.ref (ad 40 0), .int x1, .int x2] (w_M_plan x1 x2 χ Q)) (Qm Γ true ad χ (pI Q)) (frB Γ) := by
  refine Mt.start (by decide) RX4 rfl (Nat.le_of_ble_eq_true rfl) ?_
  intro X hX hG _ _ hna _ hf
  have B142 : ∀ (K60 : Int32 → Int32 → Int64 → Int32 → Int32 → Int32 → Int32 → St → Prop) (hK60 : ∀ (ad : Nat → Nat → Nat) (x1 : Int32) (x2 : Int32) (x3 : Int64) (x5 : Int32) (x6 : Int32) (x7 : Int32) (x8 : Int32) (χ : St), K60 x1 x2 x3 x5 x6 x7 x8 χ → G X ad χ 60 [(0, .ref (ad 40 0)), (1, .int x1), (2, .int x2), (3, .long x3), (5, .int x5), (6, .int x6), (7, .int x7), (8, .int x8)] []) (ad : Nat → Nat → Nat) (x1 : Int32) (x2 : Int32) (x3 : Int64) (x5 : Int32) (x6 : Int32) (x7 : Int32) (x8 : Int32) (χ : St), w_M_plan_142 Q K60 x1 x2 x3 x5 x6 x7 x8 χ → G X ad χ 142 [(0, .ref (ad 40 0)), (1, .int x1), (2, .int x2), (3, .long x3), (5, .int x5), (6, .int x6), (7, .int x7), (8, .int x8)] [] := by
    intro K60 hK60 ad x1 x2 x3 x5 x6 x7 x8 χ hf
    unfold w_M_plan_142 at hf
    refine g_iinc hX (v := _) 7 dX4_plan_142 rfl rfl (by decide) rfl ?_
    refine g_goto hX 60 dX4_plan_145 (by decide) ?_
    refine g_sub [1, 2, 3, 4, 5, 6, 7, 0] rfl ?_
    exact hK60 _ _ _ _ _ _ _ _ _ hf
  have B134 : ∀ (K60 : Int32 → Int32 → Int64 → Int32 → Int32 → Int32 → Int32 → St → Prop) (hK60 : ∀ (ad : Nat → Nat → Nat) (x1 : Int32) (x2 : Int32) (x3 : Int64) (x5 : Int32) (x6 : Int32) (x7 : Int32) (x8 : Int32) (χ : St), K60 x1 x2 x3 x5 x6 x7 x8 χ → G X ad χ 60 [(0, .ref (ad 40 0)), (1, .int x1), (2, .int x2), (3, .long x3), (5, .int x5), (6, .int x6), (7, .int x7), (8, .int x8)] []) (ad : Nat → Nat → Nat) (x1 : Int32) (x2 : Int32) (x3 : Int64) (x5 : Int32) (x8 : Int32) (x9 : Int32) (χ : St), w_M_plan_134 Q K60 x1 x2 x3 x5 x8 x9 χ → G X ad χ 134 [(0, .ref (ad 40 0)), (1, .int x1), (2, .int x2), (3, .long x3), (5, .int x5), (8, .int x8), (9, .int x9)] [] := by
    intro K60 hK60 ad x1 x2 x3 x5 x8 x9 χ hf
    unfold w_M_plan_134 at hf
    refine g_iload hX 5 dX4_plan_134 rfl ?_
    refine g_istore hX dX4_plan_136 (by decide) rfl ?_
    refine g_iload hX 7 dX4_plan_138 rfl ?_
    refine g_istore hX dX4_plan_140 (by decide) rfl ?_
    refine g_sub [2, 3, 4, 5, 6, 1, 0, 7] rfl ?_
    exact B142 K60 hK60 _ _ _ _ _ _ _ _ _ hf
  have B60 : ∀ (n : Nat) (ad : Nat → Nat → Nat) (x1 : Int32) (x2 : Int32) (x3 : Int64) (x5 : Int32) (x6 : Int32) (x7 : Int32) (x8 : Int32) (χ : St), w_M_plan_60 Q n x1 x2 x3 x5 x6 x7 x8 χ → G X ad χ 60 [(0, .ref (ad 40 0)), (1, .int x1), (2, .int x2), (3, .long x3), (5, .int x5), (6, .int x6), (7, .int x7), (8, .int x8)] [] := by
    intro n
    induction n with
    | zero => intro ad x1 x2 x3 x5 x6 x7 x8 χ hf; exact hf.elim
    | succ n hK60 =>
      intro ad x1 x2 x3 x5 x6 x7 x8 χ hf
      unfold w_M_plan_60 at hf
      refine g_iload hX 7 dX4_plan_60 rfl ?_
      refine g_bipush hX (v := (64 : Int32)) dX4_plan_62 rfl ?_
      refine g_icmp_ge hX 148 dX4_plan_64 (by decide) (fun z => ?_) (fun z => ?_)
      · replace hf := hf.1 z
        refine g_iload hX 5 dX4_plan_148 rfl ?_
        exact g_iret hX ⟨_, rfl, hf⟩ dX4_plan_150
      · replace hf := hf.2 z
        refine g_iload hX 7 dX4_plan_67 rfl ?_
        refine g_iload hX 4 dX4_plan_69 rfl ?_
        refine g_iconst hX (v := (-1 : Int32)) dX4_plan_71 rfl ?_
        refine g_ixor hX dX4_plan_72 ?_
        refine g_iand hX dX4_plan_73 ?_
        refine g_if_ne hX 142 dX4_plan_74 (by decide) (fun z => ?_) (fun z => ?_)
        · replace hf := hf.1 z
          exact B142 (w_M_plan_60 Q n) hK60 _ _ _ _ _ _ _ _ _ hf
        · replace hf := hf.2 z
          refine g_aload_n hX 0 dX4_plan_77 rfl rfl ?_
          refine g_iload hX 7 dX4_plan_78 rfl ?_
          refine g_callVi hX (n := 1) (mt_M_minutesOf X.l X.Γ _ _ _ _) hf q1846 q1848 qs68 q89 q1849 ⟨rfl, hy_M_minutesOf⟩ (by decide) (fc40 _) ff40 rfl rfl rfl (Nat.le_of_ble_eq_true rfl) dX4_plan_80 (fun r8 χ9 hf hc9 => ?_)
          refine g_iload_n hX 2 dX4_plan_83 rfl rfl ?_
          refine g_icmp_le hX 90 dX4_plan_84 (by decide) (fun z => ?_) (fun z => ?_)
          · replace hf := hf.1 z
            refine g_aload_n hX 0 dX4_plan_90 rfl rfl ?_
            refine g_iload_n hX 1 dX4_plan_91 rfl rfl ?_
            refine g_iload hX 7 dX4_plan_92 rfl ?_
            refine g_lload_n hX 3 dX4_plan_94 rfl rfl ?_
            refine g_callVi hX (n := 3) (mt_M_namedBy X.l X.Γ _ _ _ _ _ _) hf q1836 q1838 qs67 q89 q1839 ⟨rfl, hy_M_namedBy⟩ (by decide) (fc40 _) ff40 rfl rfl rfl (Nat.le_of_ble_eq_true rfl) dX4_plan_95 (fun r10 χ11 hf hc11 => ?_)
            refine g_istore hX dX4_plan_98 (by decide) rfl ?_
            refine g_iload hX 6 dX4_plan_100 rfl ?_
            refine g_if_lt hX 134 dX4_plan_102 (by decide) (fun z => ?_) (fun z => ?_)
            · replace hf := hf.1 z
              refine g_sub [1, 2, 3, 4, 5, 8, 0] rfl ?_
              exact B134 (w_M_plan_60 Q n) hK60 _ _ _ _ _ _ _ _ hf
            · replace hf := hf.2 z
              refine g_iload hX 0 dX4_plan_105 rfl ?_
              refine g_iload hX 7 dX4_plan_107 rfl ?_
              refine g_icmp_gt hX 134 dX4_plan_109 (by decide) (fun z => ?_) (fun z => ?_)
              · replace hf := hf.1 z
                refine g_sub [1, 2, 3, 4, 5, 8, 0] rfl ?_
                exact B134 (w_M_plan_60 Q n) hK60 _ _ _ _ _ _ _ _ hf
              · replace hf := hf.2 z
                refine g_iload hX 0 dX4_plan_112 rfl ?_
                refine g_iload hX 7 dX4_plan_114 rfl ?_
                refine g_icmp_ne hX 142 dX4_plan_116 (by decide) (fun z => ?_) (fun z => ?_)
                · replace hf := hf.1 z
                  refine g_sub [1, 2, 3, 4, 5, 6, 7, 8] rfl ?_
                  exact B142 (w_M_plan_60 Q n) hK60 _ _ _ _ _ _ _ _ _ hf
                · replace hf := hf.2 z
                  refine g_aload_n hX 1 dX4_plan_119 rfl rfl ?_
                  refine g_iload hX 8 dX4_plan_120 rfl ?_
                  refine g_callVi hX (n := 1) (mt_M_minutesOf X.l X.Γ _ _ _ _) hf q1846 q1848 qs68 q89 q1849 ⟨rfl, hy_M_minutesOf⟩ (by decide) (fc40 _) ff40 rfl rfl rfl (Nat.le_of_ble_eq_true rfl) dX4_plan_122 (fun r12 χ13 hf hc13 => ?_)
                  refine g_aload_n hX 1 dX4_plan_125 rfl rfl ?_
                  refine g_iload hX 6 dX4_plan_126 rfl ?_
                  refine g_callVi hX (n := 1) (mt_M_minutesOf X.l X.Γ _ _ _ _) hf q1846 q1848 qs68 q89 q1849 ⟨rfl, hy_M_minutesOf⟩ (by decide) (fc40 _) ff40 rfl rfl rfl (Nat.le_of_ble_eq_true rfl) dX4_plan_128 (fun r14 χ15 hf hc15 => ?_)
                  refine g_icmp_ge hX 142 dX4_plan_131 (by decide) (fun z => ?_) (fun z => ?_)
                  · replace hf := hf.1 z
                    refine g_sub [1, 2, 3, 4, 5, 6, 7, 8] rfl ?_
                    exact B142 (w_M_plan_60 Q n) hK60 _ _ _ _ _ _ _ _ _ hf
                  · replace hf := hf.2 z
                    refine g_sub [1, 2, 3, 4, 5, 8, 0] rfl ?_
                    exact B134 (w_M_plan_60 Q n) hK60 _ _ _ _ _ _ _ _ hf
          · replace hf := hf.2 z
            refine g_goto hX 142 dX4_plan_87 (by decide) ?_
            exact B142 (w_M_plan_60 Q n) hK60 _ _ _ _ _ _ _ _ _ hf
  unfold w_M_plan at hf
  refine g_aload_n hX 0 dX4_plan_0 rfl rfl ?_
  refine g_iload_n hX 1 dX4_plan_1 rfl rfl ?_
  refine g_callVi hX (n := 1) (mt_M_isPart X.l X.Γ _ _ _ _) hf q1690 q1692 qs47 q89 q1693 ⟨rfl, hy_M_isPart⟩ (by decide) (fc40 _) ff40 rfl rfl rfl (Nat.le_of_ble_eq_true rfl) dX4_plan_2 (fun r1 χ2 hf hc2 => ?_)
  refine g_if_eq hX 20 dX4_plan_5 (by decide) (fun z => ?_) (fun z => ?_)
  · replace hf := hf.1 z
    refine g_iconst hX (v := (-1 : Int32)) dX4_plan_20 rfl ?_
    exact g_iret hX ⟨_, rfl, hf⟩ dX4_plan_21
  · replace hf := hf.2 z
    refine g_iload_n hX 2 dX4_plan_8 rfl rfl ?_
    refine g_i2l hX dX4_plan_9 ?_
    refine g_lconst hX (v := (0 : Int64)) dX4_plan_10 rfl ?_
    refine g_ldc2 hX q1845 dX4_plan_11 ?_
    refine g_callSi hX (n := 3) (mt_M_within X.l X.Γ _ _ _ _ _ _) hf q1651 q1652 q89 q1653 hy_M_within (by decide) rfl rfl (Nat.le_of_ble_eq_true rfl) dX4_plan_14 (fun r3 χ4 hf hc4 => ?_)
    refine g_if_ne hX 22 dX4_plan_17 (by decide) (fun z => ?_) (fun z => ?_)
    · replace hf := hf.1 z
      refine g_aload_n hX 0 dX4_plan_22 rfl rfl ?_
      refine g_iload_n hX 1 dX4_plan_23 rfl rfl ?_
      refine g_callVv hX (n := 1) (mt_M_weighsPart X.l X.Γ _ _ _ _) hf q1774 q1776 qs60 q89 q1777 ⟨rfl, hy_M_weighsPart⟩ (by decide) (fc40 _) ff40 rfl rfl rfl (Nat.le_of_ble_eq_true rfl) dX4_plan_24 (fun χ5 hf hc5 => ?_)
      refine g_aload_n hX 0 dX4_plan_27 rfl rfl ?_
      refine g_getL hX (k := 24) (fc40 _) ff40 rfl rfl in_X4 (by decide) q1529 dX4_plan_28 ?_
      refine g_lconst hX (v := (0 : Int64)) dX4_plan_31 rfl ?_
      refine g_lcmp hX dX4_plan_32 ?_
      refine g_if_ne hX 39 dX4_plan_33 (by decide) (fun z => ?_) (fun z => ?_)
      · replace hf := hf.1 z
        refine g_aload_n hX 0 dX4_plan_39 rfl rfl ?_
        refine g_getL hX (k := 24) (fc40 _) ff40 rfl rfl in_X4 (by decide) q1529 dX4_plan_40 ?_
        refine g_lstore_n hX dX4_plan_43 rfl (by decide) rfl ?_
        refine g_aload_n hX 1 dX4_plan_44 rfl rfl ?_
        refine g_iload_n hX 2 dX4_plan_45 rfl rfl ?_
        refine g_callVi hX (n := 1) (mt_M_unlooked X.l X.Γ _ _ _ _) hf q1832 q1834 qs66 q89 q1835 ⟨rfl, hy_M_unlooked⟩ (by decide) (fc40 _) ff40 rfl rfl rfl (Nat.le_of_ble_eq_true rfl) dX4_plan_46 (fun r6 χ7 hf hc7 => ?_)
        refine g_istore hX dX4_plan_49 (by decide) rfl ?_
        refine g_iconst hX (v := (-1 : Int32)) dX4_plan_51 rfl ?_
        refine g_istore hX dX4_plan_52 (by decide) rfl ?_
        refine g_iconst hX (v := (0 : Int32)) dX4_plan_54 rfl ?_
        refine g_istore hX dX4_plan_55 (by decide) rfl ?_
        refine g_iconst hX (v := (0 : Int32)) dX4_plan_57 rfl ?_
        refine g_istore hX dX4_plan_58 (by decide) rfl ?_
        obtain ⟨n0, hf⟩ := hf
        refine g_sub [5, 6, 7, 4, 3, 2, 1, 0] rfl ?_
        exact B60 n0 _ _ _ _ _ _ _ _ _ hf
      · replace hf := hf.2 z
        refine g_bipush hX (v := (-2 : Int32)) dX4_plan_36 rfl ?_
        exact g_iret hX ⟨_, rfl, hf⟩ dX4_plan_38
    · replace hf := hf.2 z
      refine g_iconst hX (v := (-1 : Int32)) dX4_plan_20 rfl ?_
      exact g_iret hX ⟨_, rfl, hf⟩ dX4_plan_21

def w_M_believedBy_27 (Q : Int32 → St → Prop) (K2 : Int32 → Int32 → St → Prop) (x1 : Int32) (x2 : Int32) (z0 : Int32) (z1 : Int32) (χ : St) : Prop := (vp_in z1 6) ∧ ((∀ χ4 : St, χ4 = (sI χ 53 0 z1.toNatClampNeg z0) → (K2 x1 (x2 + (1 : Int32)) χ4)))
def w_M_believedBy_2 (Q : Int32 → St → Prop) : Nat → Int32 → Int32 → St → Prop
  | 0 => fun _ _ _ => False
  | n + 1 => fun x1 x2 χ => (((6 : Int32) ≤ x2 → (w_M_weighs χ (fun χ1 => (w_M_percentNow (0 : Int32) χ1 (fun r2 χ3 => (Q r2 χ3)))))) ∧ (¬ (6 : Int32) ≤ x2 → ((¬ ((x1 >>> (x2 &&& 31)) &&& (1 : Int32)) = (1 : Int32) → (w_M_believedBy_27 Q (w_M_believedBy_2 Q n) x1 x2 (2 : Int32) x2 χ)) ∧ (((x1 >>> (x2 &&& 31)) &&& (1 : Int32)) = (1 : Int32) → (w_M_believedBy_27 Q (w_M_believedBy_2 Q n) x1 x2 (1 : Int32) x2 χ)))))
def w_M_believedBy (x1 : Int32) (χ : St) (Q : Int32 → St → Prop) : Prop := (∃ k2, w_M_believedBy_2 Q k2 x1 (0 : Int32) χ)
set_option maxHeartbeats 4000000 in
theorem mt_M_believedBy (l : Launch) (Γ : Gh) (ad : Nat → Nat → Nat) (x1 : Int32) (χ : St) (Q : Int32 → St → Prop) : Mt l yX4_believedBy (ws_ yX4_believedBy cX4_believedBy 3 (some .int)) (rmO (1) (25) χ) (Pm Γ ad χ [.ref (ad 40 0), .int x1] (w_M_believedBy x1 χ Q)) (Qm Γ true ad χ (pI Q)) (frB Γ) := by
  refine Mt.start (by decide) RX4 rfl (Nat.le_of_ble_eq_true rfl) ?_
  intro X hX hG _ _ hna _ hf
  have B27 : ∀ (K2 : Int32 → Int32 → St → Prop) (hK2 : ∀ (ad : Nat → Nat → Nat) (x1 : Int32) (x2 : Int32) (χ : St), K2 x1 x2 χ → G X ad χ 2 [(0, .ref (ad 40 0)), (1, .int x1), (2, .int x2)] []) (ad : Nat → Nat → Nat) (x1 : Int32) (x2 : Int32) (z0 : Int32) (z1 : Int32) (χ : St), w_M_believedBy_27 Q K2 x1 x2 z0 z1 χ → G X ad χ 27 [(0, .ref (ad 40 0)), (1, .int x1), (2, .int x2)] [.int z0, .int z1, .ref (ad 53 0)] := by
    intro K2 hK2 ad x1 x2 z0 z1 χ hf
    unfold w_M_believedBy_27 at hf
    refine g_iast hX (fc53 _) ff53 rfl hf.1 dX4_believedBy_27 ?_
    replace hf := hf.2
    replace hf := hf _ rfl
    refine g_iinc hX (v := _) 2 dX4_believedBy_28 rfl rfl (by decide) rfl ?_
    refine g_goto hX 2 dX4_believedBy_31 (by decide) ?_
    refine g_sub [1, 2, 0] rfl ?_
    exact hK2 _ _ _ _ hf
  have B2 : ∀ (n : Nat) (ad : Nat → Nat → Nat) (x1 : Int32) (x2 : Int32) (χ : St), w_M_believedBy_2 Q n x1 x2 χ → G X ad χ 2 [(0, .ref (ad 40 0)), (1, .int x1), (2, .int x2)] [] := by
    intro n
    induction n with
    | zero => intro ad x1 x2 χ hf; exact hf.elim
    | succ n hK2 =>
      intro ad x1 x2 χ hf
      unfold w_M_believedBy_2 at hf
      refine g_iload_n hX 2 dX4_believedBy_2 rfl rfl ?_
      refine g_bipush hX (v := (6 : Int32)) dX4_believedBy_3 rfl ?_
      refine g_icmp_ge hX 34 dX4_believedBy_5 (by decide) (fun z => ?_) (fun z => ?_)
      · replace hf := hf.1 z
        refine g_aload_n hX 0 dX4_believedBy_34 rfl rfl ?_
        refine g_callVv hX (n := 0) (mt_M_weighs X.l X.Γ _ _ _) hf q1782 q1784 qs62 q89 q1785 ⟨rfl, hy_M_weighs⟩ (by decide) (fc40 _) ff40 rfl rfl rfl (Nat.le_of_ble_eq_true rfl) dX4_believedBy_35 (fun χ1 hf hc1 => ?_)
        refine g_aload_n hX 0 dX4_believedBy_38 rfl rfl ?_
        refine g_iconst hX (v := (0 : Int32)) dX4_believedBy_39 rfl ?_
        refine g_callVi hX (n := 1) (mt_M_percentNow X.l X.Γ _ _ _ _) hf q1794 q1796 qs63 q89 q1797 ⟨rfl, hy_M_percentNow⟩ (by decide) (fc40 _) ff40 rfl rfl rfl (Nat.le_of_ble_eq_true rfl) dX4_believedBy_40 (fun r2 χ3 hf hc3 => ?_)
        exact g_iret hX ⟨_, rfl, hf⟩ dX4_believedBy_43
      · replace hf := hf.2 z
        refine g_aload_n hX 0 dX4_believedBy_8 rfl rfl ?_
        refine g_getK hX (k := 21) (d := 53) (fc40 _) ff40 rfl (by decide) rfl rfl in_X4 (by decide) q1526 dX4_believedBy_9 ?_
        refine g_iload_n hX 2 dX4_believedBy_12 rfl rfl ?_
        refine g_iload_n hX 1 dX4_believedBy_13 rfl rfl ?_
        refine g_iload_n hX 2 dX4_believedBy_14 rfl rfl ?_
        refine g_ishr hX dX4_believedBy_15 ?_
        refine g_iconst hX (v := (1 : Int32)) dX4_believedBy_16 rfl ?_
        refine g_iand hX dX4_believedBy_17 ?_
        refine g_iconst hX (v := (1 : Int32)) dX4_believedBy_18 rfl ?_
        refine g_icmp_ne hX 26 dX4_believedBy_19 (by decide) (fun z => ?_) (fun z => ?_)
        · replace hf := hf.1 z
          refine g_iconst hX (v := (2 : Int32)) dX4_believedBy_26 rfl ?_
          exact B27 (w_M_believedBy_2 Q n) hK2 _ _ _ _ _ _ hf
        · replace hf := hf.2 z
          refine g_iconst hX (v := (1 : Int32)) dX4_believedBy_22 rfl ?_
          refine g_goto hX 27 dX4_believedBy_23 (by decide) ?_
          exact B27 (w_M_believedBy_2 Q n) hK2 _ _ _ _ _ _ hf
  unfold w_M_believedBy at hf
  refine g_iconst hX (v := (0 : Int32)) dX4_believedBy_0 rfl ?_
  refine g_istore_n hX dX4_believedBy_1 rfl (by decide) rfl ?_
  obtain ⟨n0, hf⟩ := hf
  refine g_sub [1, 2, 0] rfl ?_
  exact B2 n0 _ _ _ _ hf

def w_M_believed (x1 : Int32) (x2 : Int32) (χ : St) (Q : Int32 → St → Prop) : Prop := (w_M_isPart x1 χ (fun r1 χ2 => ((r1 = 0 → (Q (-1 : Int32) χ2)) ∧ (¬ r1 = 0 → (w_M_within x2.toInt64 (0 : Int64) (63 : Int64) χ2 (fun r3 χ4 => ((¬ r3 = 0 → (w_M_looksAt x1 χ4 (fun χ5 => (w_M_believedBy x2 χ5 (fun r6 χ7 => (Q r6 χ7)))))) ∧ (r3 = 0 → (Q (-1 : Int32) χ4)))))))))
set_option maxHeartbeats 4000000 in
theorem mt_M_believed (l : Launch) (Γ : Gh) (ad : Nat → Nat → Nat) (x1 : Int32) (x2 : Int32) (χ : St) (Q : Int32 → St → Prop) : Mt l yX4_believed (ws_ yX4_believed cX4_believed 3 (some .int)) (rmO (57) (1308) χ) (Pm Γ ad χ [.ref (ad 40 0), .int x1, .int x2] (w_M_believed x1 x2 χ Q)) (Qm Γ true ad χ (pI Q)) (frB Γ) := by
  refine Mt.start (by decide) RX4 rfl (Nat.le_of_ble_eq_true rfl) ?_
  intro X hX hG _ _ hna _ hf
  unfold w_M_believed at hf
  refine g_aload_n hX 0 dX4_believed_0 rfl rfl ?_
  refine g_iload_n hX 1 dX4_believed_1 rfl rfl ?_
  refine g_callVi hX (n := 1) (mt_M_isPart X.l X.Γ _ _ _ _) hf q1690 q1692 qs47 q89 q1693 ⟨rfl, hy_M_isPart⟩ (by decide) (fc40 _) ff40 rfl rfl rfl (Nat.le_of_ble_eq_true rfl) dX4_believed_2 (fun r1 χ2 hf hc2 => ?_)
  refine g_if_eq hX 20 dX4_believed_5 (by decide) (fun z => ?_) (fun z => ?_)
  · replace hf := hf.1 z
    refine g_iconst hX (v := (-1 : Int32)) dX4_believed_20 rfl ?_
    exact g_iret hX ⟨_, rfl, hf⟩ dX4_believed_21
  · replace hf := hf.2 z
    refine g_iload_n hX 2 dX4_believed_8 rfl rfl ?_
    refine g_i2l hX dX4_believed_9 ?_
    refine g_lconst hX (v := (0 : Int64)) dX4_believed_10 rfl ?_
    refine g_ldc2 hX q1831 dX4_believed_11 ?_
    refine g_callSi hX (n := 3) (mt_M_within X.l X.Γ _ _ _ _ _ _) hf q1651 q1652 q89 q1653 hy_M_within (by decide) rfl rfl (Nat.le_of_ble_eq_true rfl) dX4_believed_14 (fun r3 χ4 hf hc4 => ?_)
    refine g_if_ne hX 22 dX4_believed_17 (by decide) (fun z => ?_) (fun z => ?_)
    · replace hf := hf.1 z
      refine g_aload_n hX 0 dX4_believed_22 rfl rfl ?_
      refine g_iload_n hX 1 dX4_believed_23 rfl rfl ?_
      refine g_callVv hX (n := 1) (mt_M_looksAt X.l X.Γ _ _ _ _) hf q1778 q1780 qs61 q89 q1781 ⟨rfl, hy_M_looksAt⟩ (by decide) (fc40 _) ff40 rfl rfl rfl (Nat.le_of_ble_eq_true rfl) dX4_believed_24 (fun χ5 hf hc5 => ?_)
      refine g_aload_n hX 0 dX4_believed_27 rfl rfl ?_
      refine g_iload_n hX 2 dX4_believed_28 rfl rfl ?_
      refine g_callVi hX (n := 1) (mt_M_believedBy X.l X.Γ _ _ _ _) hf q1854 q1856 qs69 q89 q1857 ⟨rfl, hy_M_believedBy⟩ (by decide) (fc40 _) ff40 rfl rfl rfl (Nat.le_of_ble_eq_true rfl) dX4_believed_29 (fun r6 χ7 hf hc7 => ?_)
      exact g_iret hX ⟨_, rfl, hf⟩ dX4_believed_32
    · replace hf := hf.2 z
      refine g_iconst hX (v := (-1 : Int32)) dX4_believed_20 rfl ?_
      exact g_iret hX ⟨_, rfl, hf⟩ dX4_believed_21

def w_M_costOf_33 (Q : Int32 → St → Prop) (K4 : Int32 → Int32 → Int32 → St → Prop) (x1 : Int32) (x3 : Int32) (z0 : Int32) (z1 : Int32) (χ : St) : Prop := (K4 x1 (z1 + z0) (x3 + (1 : Int32)) χ)
def w_M_costOf_4 (Q : Int32 → St → Prop) : Nat → Int32 → Int32 → Int32 → St → Prop
  | 0 => fun _ _ _ _ => False
  | n + 1 => fun x1 x2 x3 χ => (((6 : Int32) ≤ x3 → (Q x2 χ)) ∧ (¬ (6 : Int32) ≤ x3 → ((¬ ((x1 >>> (x3 &&& 31)) &&& (1 : Int32)) = (1 : Int32) → (w_M_costOf_33 Q (w_M_costOf_4 Q n) x1 x3 (0 : Int32) x2 χ)) ∧ (((x1 >>> (x3 &&& 31)) &&& (1 : Int32)) = (1 : Int32) → (vp_in ((18 : Int32) + x3) 24) ∧ ((w_M_costOf_33 Q (w_M_costOf_4 Q n) x1 x3 (gI χ 41 0 ((18 : Int32) + x3).toNatClampNeg) x2 χ))))))
def w_M_costOf (x1 : Int32) (χ : St) (Q : Int32 → St → Prop) : Prop := (∃ k4, w_M_costOf_4 Q k4 x1 (0 : Int32) (0 : Int32) χ)
set_option maxHeartbeats 4000000 in
theorem mt_M_costOf (l : Launch) (Γ : Gh) (ad : Nat → Nat → Nat) (x1 : Int32) (χ : St) (Q : Int32 → St → Prop) : Mt l yX4_costOf (ws_ yX4_costOf cX4_costOf 4 (some .int)) (rmO (0) (0) χ) (Pm Γ ad χ [.ref (ad 40 0), .int x1] (w_M_costOf x1 χ Q)) (Qm Γ true ad χ (pI Q)) (frB Γ) := by
  refine Mt.start (by decide) RX4 rfl (Nat.le_of_ble_eq_true rfl) ?_
  intro X hX hG _ _ hna _ hf
  have B33 : ∀ (K4 : Int32 → Int32 → Int32 → St → Prop) (hK4 : ∀ (ad : Nat → Nat → Nat) (x1 : Int32) (x2 : Int32) (x3 : Int32) (χ : St), K4 x1 x2 x3 χ → G X ad χ 4 [(0, .ref (ad 40 0)), (1, .int x1), (2, .int x2), (3, .int x3)] []) (ad : Nat → Nat → Nat) (x1 : Int32) (x3 : Int32) (z0 : Int32) (z1 : Int32) (χ : St), w_M_costOf_33 Q K4 x1 x3 z0 z1 χ → G X ad χ 33 [(0, .ref (ad 40 0)), (1, .int x1), (3, .int x3)] [.int z0, .int z1] := by
    intro K4 hK4 ad x1 x3 z0 z1 χ hf
    unfold w_M_costOf_33 at hf
    refine g_iadd hX dX4_costOf_33 ?_
    refine g_istore_n hX dX4_costOf_34 rfl (by decide) rfl ?_
    refine g_iinc hX (v := _) 3 dX4_costOf_35 rfl rfl (by decide) rfl ?_
    refine g_goto hX 4 dX4_costOf_38 (by decide) ?_
    refine g_sub [2, 3, 1, 0] rfl ?_
    exact hK4 _ _ _ _ _ hf
  have B4 : ∀ (n : Nat) (ad : Nat → Nat → Nat) (x1 : Int32) (x2 : Int32) (x3 : Int32) (χ : St), w_M_costOf_4 Q n x1 x2 x3 χ → G X ad χ 4 [(0, .ref (ad 40 0)), (1, .int x1), (2, .int x2), (3, .int x3)] [] := by
    intro n
    induction n with
    | zero => intro ad x1 x2 x3 χ hf; exact hf.elim
    | succ n hK4 =>
      intro ad x1 x2 x3 χ hf
      unfold w_M_costOf_4 at hf
      refine g_iload_n hX 3 dX4_costOf_4 rfl rfl ?_
      refine g_bipush hX (v := (6 : Int32)) dX4_costOf_5 rfl ?_
      refine g_icmp_ge hX 41 dX4_costOf_7 (by decide) (fun z => ?_) (fun z => ?_)
      · replace hf := hf.1 z
        refine g_iload_n hX 2 dX4_costOf_41 rfl rfl ?_
        exact g_iret hX ⟨_, rfl, hf⟩ dX4_costOf_42
      · replace hf := hf.2 z
        refine g_iload_n hX 2 dX4_costOf_10 rfl rfl ?_
        refine g_iload_n hX 1 dX4_costOf_11 rfl rfl ?_
        refine g_iload_n hX 3 dX4_costOf_12 rfl rfl ?_
        refine g_ishr hX dX4_costOf_13 ?_
        refine g_iconst hX (v := (1 : Int32)) dX4_costOf_14 rfl ?_
        refine g_iand hX dX4_costOf_15 ?_
        refine g_iconst hX (v := (1 : Int32)) dX4_costOf_16 rfl ?_
        refine g_icmp_ne hX 32 dX4_costOf_17 (by decide) (fun z => ?_) (fun z => ?_)
        · replace hf := hf.1 z
          refine g_iconst hX (v := (0 : Int32)) dX4_costOf_32 rfl ?_
          refine g_sub [0, 1, 3] rfl ?_
          exact B33 (w_M_costOf_4 Q n) hK4 _ _ _ _ _ _ hf
        · replace hf := hf.2 z
          refine g_aload_n hX 0 dX4_costOf_20 rfl rfl ?_
          refine g_getK hX (k := 0) (d := 41) (fc40 _) ff40 rfl (by decide) rfl rfl in_X4 (by decide) q1505 dX4_costOf_21 ?_
          refine g_bipush hX (v := (18 : Int32)) dX4_costOf_24 rfl ?_
          refine g_iload_n hX 3 dX4_costOf_26 rfl rfl ?_
          refine g_iadd hX dX4_costOf_27 ?_
          refine g_iald hX (fc41 _) ff41 rfl hf.1 dX4_costOf_28 ?_
          replace hf := hf.2
          refine g_goto hX 33 dX4_costOf_29 (by decide) ?_
          refine g_sub [0, 1, 3] rfl ?_
          exact B33 (w_M_costOf_4 Q n) hK4 _ _ _ _ _ _ hf
  unfold w_M_costOf at hf
  refine g_iconst hX (v := (0 : Int32)) dX4_costOf_0 rfl ?_
  refine g_istore_n hX dX4_costOf_1 rfl (by decide) rfl ?_
  refine g_iconst hX (v := (0 : Int32)) dX4_costOf_2 rfl ?_
  refine g_istore_n hX dX4_costOf_3 rfl (by decide) rfl ?_
  obtain ⟨n0, hf⟩ := hf
  refine g_sub [2, 3, 1, 0] rfl ?_
  exact B4 n0 _ _ _ _ _ hf

def w_M_cheapest_85 (Q : Int32 → St → Prop) (K44 : Int32 → Int32 → Int32 → Int32 → St → Prop) (x2 : Int32) (x3 : Int32) (x4 : Int32) (x5 : Int32) (χ : St) : Prop := (K44 x2 x3 x4 (x5 + (1 : Int32)) χ)
def w_M_cheapest_81 (Q : Int32 → St → Prop) (K44 : Int32 → Int32 → Int32 → Int32 → St → Prop) (x2 : Int32) (x3 : Int32) (x5 : Int32) (χ : St) : Prop := (w_M_cheapest_85 Q K44 x2 x3 x5 x5 χ)
def w_M_cheapest_44 (Q : Int32 → St → Prop) : Nat → Int32 → Int32 → Int32 → Int32 → St → Prop
  | 0 => fun _ _ _ _ _ => False
  | n + 1 => fun x2 x3 x4 x5 χ => (((64 : Int32) ≤ x5 → ((x4 < 0 → (Q x4 χ)) ∧ (¬ x4 < 0 → ((¬ x3 = 0 → (w_M_costOf x4 χ (fun r8 χ9 => (Q r8 χ9)))) ∧ (x3 = 0 → (Q x4 χ)))))) ∧ (¬ (64 : Int32) ≤ x5 → (w_M_believedBy x5 χ (fun r10 χ11 => ((r10 < x2 → (w_M_cheapest_85 Q (w_M_cheapest_44 Q n) x2 x3 x4 x5 χ11)) ∧ (¬ r10 < x2 → ((x4 < 0 → (w_M_cheapest_81 Q (w_M_cheapest_44 Q n) x2 x3 x5 χ11)) ∧ (¬ x4 < 0 → (w_M_costOf x5 χ11 (fun r12 χ13 => (w_M_costOf x4 χ13 (fun r14 χ15 => ((r14 ≤ r12 → (w_M_cheapest_85 Q (w_M_cheapest_44 Q n) x2 x3 x4 x5 χ15)) ∧ (¬ r14 ≤ r12 → (w_M_cheapest_81 Q (w_M_cheapest_44 Q n) x2 x3 x5 χ15)))))))))))))))
def w_M_cheapest (x1 : Int32) (x2 : Int32) (x3 : Int32) (χ : St) (Q : Int32 → St → Prop) : Prop := (w_M_isPart x1 χ (fun r1 χ2 => ((r1 = 0 → (Q (-1 : Int32) χ2)) ∧ (¬ r1 = 0 → (w_M_within x2.toInt64 (0 : Int64) (100 : Int64) χ2 (fun r3 χ4 => ((r3 = 0 → (Q (-1 : Int32) χ4)) ∧ (¬ r3 = 0 → (w_M_within x3.toInt64 (0 : Int64) (1 : Int64) χ4 (fun r5 χ6 => ((¬ r5 = 0 → (w_M_looksAt x1 χ6 (fun χ7 => (∃ k44, w_M_cheapest_44 Q k44 x2 x3 (-2 : Int32) (0 : Int32) χ7)))) ∧ (r5 = 0 → (Q (-1 : Int32) χ6)))))))))))))
set_option maxHeartbeats 4000000 in
theorem mt_M_cheapest (l : Launch) (Γ : Gh) (ad : Nat → Nat → Nat) (x1 : Int32) (x2 : Int32) (x3 : Int32) (χ : St) (Q : Int32 → St → Prop) : Mt l yX4_cheapest (ws_ yX4_cheapest cX4_cheapest 6 (some .int)) (rmO (57) (1308) χ) (Pm Γ ad χ [.ref (ad 40 0), .int x1, .int x2, .int x3] (w_M_cheapest x1 x2 x3 χ Q)) (Qm Γ true ad χ (pI Q)) (frB Γ) := by
  refine Mt.start (by decide) RX4 rfl (Nat.le_of_ble_eq_true rfl) ?_
  intro X hX hG _ _ hna _ hf
  have B85 : ∀ (K44 : Int32 → Int32 → Int32 → Int32 → St → Prop) (hK44 : ∀ (ad : Nat → Nat → Nat) (x2 : Int32) (x3 : Int32) (x4 : Int32) (x5 : Int32) (χ : St), K44 x2 x3 x4 x5 χ → G X ad χ 44 [(0, .ref (ad 40 0)), (2, .int x2), (3, .int x3), (4, .int x4), (5, .int x5)] []) (ad : Nat → Nat → Nat) (x2 : Int32) (x3 : Int32) (x4 : Int32) (x5 : Int32) (χ : St), w_M_cheapest_85 Q K44 x2 x3 x4 x5 χ → G X ad χ 85 [(0, .ref (ad 40 0)), (2, .int x2), (3, .int x3), (4, .int x4), (5, .int x5)] [] := by
    intro K44 hK44 ad x2 x3 x4 x5 χ hf
    unfold w_M_cheapest_85 at hf
    refine g_iinc hX (v := _) 4 dX4_cheapest_85 rfl rfl (by decide) rfl ?_
    refine g_goto hX 44 dX4_cheapest_88 (by decide) ?_
    refine g_sub [1, 2, 3, 4, 0] rfl ?_
    exact hK44 _ _ _ _ _ _ hf
  have B81 : ∀ (K44 : Int32 → Int32 → Int32 → Int32 → St → Prop) (hK44 : ∀ (ad : Nat → Nat → Nat) (x2 : Int32) (x3 : Int32) (x4 : Int32) (x5 : Int32) (χ : St), K44 x2 x3 x4 x5 χ → G X ad χ 44 [(0, .ref (ad 40 0)), (2, .int x2), (3, .int x3), (4, .int x4), (5, .int x5)] []) (ad : Nat → Nat → Nat) (x2 : Int32) (x3 : Int32) (x5 : Int32) (χ : St), w_M_cheapest_81 Q K44 x2 x3 x5 χ → G X ad χ 81 [(0, .ref (ad 40 0)), (2, .int x2), (3, .int x3), (5, .int x5)] [] := by
    intro K44 hK44 ad x2 x3 x5 χ hf
    unfold w_M_cheapest_81 at hf
    refine g_iload hX 3 dX4_cheapest_81 rfl ?_
    refine g_istore hX dX4_cheapest_83 (by decide) rfl ?_
    refine g_sub [1, 2, 3, 0, 4] rfl ?_
    exact B85 K44 hK44 _ _ _ _ _ _ hf
  have B44 : ∀ (n : Nat) (ad : Nat → Nat → Nat) (x2 : Int32) (x3 : Int32) (x4 : Int32) (x5 : Int32) (χ : St), w_M_cheapest_44 Q n x2 x3 x4 x5 χ → G X ad χ 44 [(0, .ref (ad 40 0)), (2, .int x2), (3, .int x3), (4, .int x4), (5, .int x5)] [] := by
    intro n
    induction n with
    | zero => intro ad x2 x3 x4 x5 χ hf; exact hf.elim
    | succ n hK44 =>
      intro ad x2 x3 x4 x5 χ hf
      unfold w_M_cheapest_44 at hf
      refine g_iload hX 4 dX4_cheapest_44 rfl ?_
      refine g_bipush hX (v := (64 : Int32)) dX4_cheapest_46 rfl ?_
      refine g_icmp_ge hX 91 dX4_cheapest_48 (by decide) (fun z => ?_) (fun z => ?_)
      · replace hf := hf.1 z
        refine g_iload hX 3 dX4_cheapest_91 rfl ?_
        refine g_if_lt hX 100 dX4_cheapest_93 (by decide) (fun z => ?_) (fun z => ?_)
        · replace hf := hf.1 z
          refine g_iload hX 3 dX4_cheapest_100 rfl ?_
          refine g_goto hX 111 dX4_cheapest_102 (by decide) ?_
          exact g_iret hX ⟨_, rfl, hf⟩ dX4_cheapest_111
        · replace hf := hf.2 z
          refine g_iload_n hX 2 dX4_cheapest_96 rfl rfl ?_
          refine g_if_ne hX 105 dX4_cheapest_97 (by decide) (fun z => ?_) (fun z => ?_)
          · replace hf := hf.1 z
            refine g_aload_n hX 0 dX4_cheapest_105 rfl rfl ?_
            refine g_iload hX 3 dX4_cheapest_106 rfl ?_
            refine g_callVi hX (n := 1) (mt_M_costOf X.l X.Γ _ _ _ _) hf q1862 q1864 qs70 q89 q1865 ⟨rfl, hy_M_costOf⟩ (by decide) (fc40 _) ff40 rfl rfl rfl (Nat.le_of_ble_eq_true rfl) dX4_cheapest_108 (fun r8 χ9 hf hc9 => ?_)
            exact g_iret hX ⟨_, rfl, hf⟩ dX4_cheapest_111
          · replace hf := hf.2 z
            refine g_iload hX 3 dX4_cheapest_100 rfl ?_
            refine g_goto hX 111 dX4_cheapest_102 (by decide) ?_
            exact g_iret hX ⟨_, rfl, hf⟩ dX4_cheapest_111
      · replace hf := hf.2 z
        refine g_aload_n hX 0 dX4_cheapest_51 rfl rfl ?_
        refine g_iload hX 4 dX4_cheapest_52 rfl ?_
        refine g_callVi hX (n := 1) (mt_M_believedBy X.l X.Γ _ _ _ _) hf q1854 q1856 qs69 q89 q1857 ⟨rfl, hy_M_believedBy⟩ (by decide) (fc40 _) ff40 rfl rfl rfl (Nat.le_of_ble_eq_true rfl) dX4_cheapest_54 (fun r10 χ11 hf hc11 => ?_)
        refine g_iload_n hX 1 dX4_cheapest_57 rfl rfl ?_
        refine g_icmp_lt hX 85 dX4_cheapest_58 (by decide) (fun z => ?_) (fun z => ?_)
        · replace hf := hf.1 z
          exact B85 (w_M_cheapest_44 Q n) hK44 _ _ _ _ _ _ hf
        · replace hf := hf.2 z
          refine g_iload hX 3 dX4_cheapest_61 rfl ?_
          refine g_if_lt hX 81 dX4_cheapest_63 (by decide) (fun z => ?_) (fun z => ?_)
          · replace hf := hf.1 z
            refine g_sub [0, 1, 2, 4] rfl ?_
            exact B81 (w_M_cheapest_44 Q n) hK44 _ _ _ _ _ hf
          · replace hf := hf.2 z
            refine g_aload_n hX 0 dX4_cheapest_66 rfl rfl ?_
            refine g_iload hX 4 dX4_cheapest_67 rfl ?_
            refine g_callVi hX (n := 1) (mt_M_costOf X.l X.Γ _ _ _ _) hf q1862 q1864 qs70 q89 q1865 ⟨rfl, hy_M_costOf⟩ (by decide) (fc40 _) ff40 rfl rfl rfl (Nat.le_of_ble_eq_true rfl) dX4_cheapest_69 (fun r12 χ13 hf hc13 => ?_)
            refine g_aload_n hX 0 dX4_cheapest_72 rfl rfl ?_
            refine g_iload hX 3 dX4_cheapest_73 rfl ?_
            refine g_callVi hX (n := 1) (mt_M_costOf X.l X.Γ _ _ _ _) hf q1862 q1864 qs70 q89 q1865 ⟨rfl, hy_M_costOf⟩ (by decide) (fc40 _) ff40 rfl rfl rfl (Nat.le_of_ble_eq_true rfl) dX4_cheapest_75 (fun r14 χ15 hf hc15 => ?_)
            refine g_icmp_ge hX 85 dX4_cheapest_78 (by decide) (fun z => ?_) (fun z => ?_)
            · replace hf := hf.1 z
              exact B85 (w_M_cheapest_44 Q n) hK44 _ _ _ _ _ _ hf
            · replace hf := hf.2 z
              refine g_sub [0, 1, 2, 4] rfl ?_
              exact B81 (w_M_cheapest_44 Q n) hK44 _ _ _ _ _ hf
  unfold w_M_cheapest at hf
  refine g_aload_n hX 0 dX4_cheapest_0 rfl rfl ?_
  refine g_iload_n hX 1 dX4_cheapest_1 rfl rfl ?_
  refine g_callVi hX (n := 1) (mt_M_isPart X.l X.Γ _ _ _ _) hf q1690 q1692 qs47 q89 q1693 ⟨rfl, hy_M_isPart⟩ (by decide) (fc40 _) ff40 rfl rfl rfl (Nat.le_of_ble_eq_true rfl) dX4_cheapest_2 (fun r1 χ2 hf hc2 => ?_)
  refine g_if_eq hX 30 dX4_cheapest_5 (by decide) (fun z => ?_) (fun z => ?_)
  · replace hf := hf.1 z
    refine g_iconst hX (v := (-1 : Int32)) dX4_cheapest_30 rfl ?_
    exact g_iret hX ⟨_, rfl, hf⟩ dX4_cheapest_31
  · replace hf := hf.2 z
    refine g_iload_n hX 2 dX4_cheapest_8 rfl rfl ?_
    refine g_i2l hX dX4_cheapest_9 ?_
    refine g_lconst hX (v := (0 : Int64)) dX4_cheapest_10 rfl ?_
    refine g_ldc2 hX q1786 dX4_cheapest_11 ?_
    refine g_callSi hX (n := 3) (mt_M_within X.l X.Γ _ _ _ _ _ _) hf q1651 q1652 q89 q1653 hy_M_within (by decide) rfl rfl (Nat.le_of_ble_eq_true rfl) dX4_cheapest_14 (fun r3 χ4 hf hc4 => ?_)
    refine g_if_eq hX 30 dX4_cheapest_17 (by decide) (fun z => ?_) (fun z => ?_)
    · replace hf := hf.1 z
      refine g_iconst hX (v := (-1 : Int32)) dX4_cheapest_30 rfl ?_
      exact g_iret hX ⟨_, rfl, hf⟩ dX4_cheapest_31
    · replace hf := hf.2 z
      refine g_iload_n hX 3 dX4_cheapest_20 rfl rfl ?_
      refine g_i2l hX dX4_cheapest_21 ?_
      refine g_lconst hX (v := (0 : Int64)) dX4_cheapest_22 rfl ?_
      refine g_lconst hX (v := (1 : Int64)) dX4_cheapest_23 rfl ?_
      refine g_callSi hX (n := 3) (mt_M_within X.l X.Γ _ _ _ _ _ _) hf q1651 q1652 q89 q1653 hy_M_within (by decide) rfl rfl (Nat.le_of_ble_eq_true rfl) dX4_cheapest_24 (fun r5 χ6 hf hc6 => ?_)
      refine g_if_ne hX 32 dX4_cheapest_27 (by decide) (fun z => ?_) (fun z => ?_)
      · replace hf := hf.1 z
        refine g_aload_n hX 0 dX4_cheapest_32 rfl rfl ?_
        refine g_iload_n hX 1 dX4_cheapest_33 rfl rfl ?_
        refine g_callVv hX (n := 1) (mt_M_looksAt X.l X.Γ _ _ _ _) hf q1778 q1780 qs61 q89 q1781 ⟨rfl, hy_M_looksAt⟩ (by decide) (fc40 _) ff40 rfl rfl rfl (Nat.le_of_ble_eq_true rfl) dX4_cheapest_34 (fun χ7 hf hc7 => ?_)
        refine g_bipush hX (v := (-2 : Int32)) dX4_cheapest_37 rfl ?_
        refine g_istore hX dX4_cheapest_39 (by decide) rfl ?_
        refine g_iconst hX (v := (0 : Int32)) dX4_cheapest_41 rfl ?_
        refine g_istore hX dX4_cheapest_42 (by decide) rfl ?_
        obtain ⟨n0, hf⟩ := hf
        refine g_sub [2, 4, 5, 1, 0] rfl ?_
        exact B44 n0 _ _ _ _ _ _ hf
      · replace hf := hf.2 z
        refine g_iconst hX (v := (-1 : Int32)) dX4_cheapest_30 rfl ?_
        exact g_iret hX ⟨_, rfl, hf⟩ dX4_cheapest_31

def w_M_spoils_94 (Q : Int32 → St → Prop) (K36 : Int32 → Int32 → Int32 → Int32 → St → Prop) (x2 : Int32) (x3 : Int32) (x4 : Int32) (x5 : Int32) (χ : St) : Prop := (K36 x2 x3 x4 (x5 + (1 : Int32)) χ)
def w_M_spoils_87 (Q : Int32 → St → Prop) (K36 : Int32 → Int32 → Int32 → Int32 → St → Prop) (x2 : Int32) (x5 : Int32) (x6 : Int32) (χ : St) : Prop := (w_M_spoils_94 Q K36 x2 x5 x6 x5 χ)
def w_M_spoils_69 (Q : Int32 → St → Prop) (K36 : Int32 → Int32 → Int32 → Int32 → St → Prop) (x2 : Int32) (x3 : Int32) (x4 : Int32) (x5 : Int32) (z0 : Int32) (χ : St) : Prop := ((z0 < 0 → (w_M_spoils_94 Q K36 x2 x3 x4 x5 χ)) ∧ (¬ z0 < 0 → ((x3 < 0 → (w_M_spoils_87 Q K36 x2 x5 z0 χ)) ∧ (¬ x3 < 0 → ((x4 ≤ z0 → (w_M_spoils_94 Q K36 x2 x3 x4 x5 χ)) ∧ (¬ x4 ≤ z0 → (w_M_spoils_87 Q K36 x2 x5 z0 χ)))))))
def w_M_spoils_36 (Q : Int32 → St → Prop) : Nat → Int32 → Int32 → Int32 → Int32 → St → Prop
  | 0 => fun _ _ _ _ _ => False
  | n + 1 => fun x2 x3 x4 x5 χ => (((6 : Int32) ≤ x5 → (Q x3 χ)) ∧ (¬ (6 : Int32) ≤ x5 → ((¬ ((x2 >>> (x5 &&& 31)) &&& (1 : Int32)) = (1 : Int32) → (w_M_spoils_69 Q (w_M_spoils_36 Q n) x2 x3 x4 x5 (-1 : Int32) χ)) ∧ (((x2 >>> (x5 &&& 31)) &&& (1 : Int32)) = (1 : Int32) → (w_M_believedBy (x2 &&& (((1 : Int32) <<< (x5 &&& 31)) ^^^ (-1 : Int32))) χ (fun r6 χ7 => (w_M_spoils_69 Q (w_M_spoils_36 Q n) x2 x3 x4 x5 r6 χ7)))))))
def w_M_spoils (x1 : Int32) (x2 : Int32) (χ : St) (Q : Int32 → St → Prop) : Prop := (w_M_isPart x1 χ (fun r1 χ2 => ((r1 = 0 → (Q (-1 : Int32) χ2)) ∧ (¬ r1 = 0 → (w_M_within x2.toInt64 (0 : Int64) (63 : Int64) χ2 (fun r3 χ4 => ((¬ r3 = 0 → (w_M_looksAt x1 χ4 (fun χ5 => (∃ k36, w_M_spoils_36 Q k36 x2 (-2 : Int32) (0 : Int32) (0 : Int32) χ5)))) ∧ (r3 = 0 → (Q (-1 : Int32) χ4)))))))))
set_option maxHeartbeats 4000000 in
theorem mt_M_spoils (l : Launch) (Γ : Gh) (ad : Nat → Nat → Nat) (x1 : Int32) (x2 : Int32) (χ : St) (Q : Int32 → St → Prop) : Mt l yX4_spoils (ws_ yX4_spoils cX4_spoils 7 (some .int)) (rmO (57) (1308) χ) (Pm Γ ad χ [.ref (ad 40 0), .int x1, .int x2] (w_M_spoils x1 x2 χ Q)) (Qm Γ true ad χ (pI Q)) (frB Γ) := by
  refine Mt.start (by decide) RX4 rfl (Nat.le_of_ble_eq_true rfl) ?_
  intro X hX hG _ _ hna _ hf
  have B94 : ∀ (K36 : Int32 → Int32 → Int32 → Int32 → St → Prop) (hK36 : ∀ (ad : Nat → Nat → Nat) (x2 : Int32) (x3 : Int32) (x4 : Int32) (x5 : Int32) (χ : St), K36 x2 x3 x4 x5 χ → G X ad χ 36 [(0, .ref (ad 40 0)), (2, .int x2), (3, .int x3), (4, .int x4), (5, .int x5)] []) (ad : Nat → Nat → Nat) (x2 : Int32) (x3 : Int32) (x4 : Int32) (x5 : Int32) (χ : St), w_M_spoils_94 Q K36 x2 x3 x4 x5 χ → G X ad χ 94 [(0, .ref (ad 40 0)), (2, .int x2), (3, .int x3), (4, .int x4), (5, .int x5)] [] := by
    intro K36 hK36 ad x2 x3 x4 x5 χ hf
    unfold w_M_spoils_94 at hf
    refine g_iinc hX (v := _) 4 dX4_spoils_94 rfl rfl (by decide) rfl ?_
    refine g_goto hX 36 dX4_spoils_97 (by decide) ?_
    refine g_sub [1, 2, 3, 4, 0] rfl ?_
    exact hK36 _ _ _ _ _ _ hf
  have B87 : ∀ (K36 : Int32 → Int32 → Int32 → Int32 → St → Prop) (hK36 : ∀ (ad : Nat → Nat → Nat) (x2 : Int32) (x3 : Int32) (x4 : Int32) (x5 : Int32) (χ : St), K36 x2 x3 x4 x5 χ → G X ad χ 36 [(0, .ref (ad 40 0)), (2, .int x2), (3, .int x3), (4, .int x4), (5, .int x5)] []) (ad : Nat → Nat → Nat) (x2 : Int32) (x5 : Int32) (x6 : Int32) (χ : St), w_M_spoils_87 Q K36 x2 x5 x6 χ → G X ad χ 87 [(0, .ref (ad 40 0)), (2, .int x2), (5, .int x5), (6, .int x6)] [] := by
    intro K36 hK36 ad x2 x5 x6 χ hf
    unfold w_M_spoils_87 at hf
    refine g_iload hX 2 dX4_spoils_87 rfl ?_
    refine g_istore_n hX dX4_spoils_89 rfl (by decide) rfl ?_
    refine g_iload hX 4 dX4_spoils_90 rfl ?_
    refine g_istore hX dX4_spoils_92 (by decide) rfl ?_
    refine g_sub [2, 3, 1, 0, 4] rfl ?_
    exact B94 K36 hK36 _ _ _ _ _ _ hf
  have B69 : ∀ (K36 : Int32 → Int32 → Int32 → Int32 → St → Prop) (hK36 : ∀ (ad : Nat → Nat → Nat) (x2 : Int32) (x3 : Int32) (x4 : Int32) (x5 : Int32) (χ : St), K36 x2 x3 x4 x5 χ → G X ad χ 36 [(0, .ref (ad 40 0)), (2, .int x2), (3, .int x3), (4, .int x4), (5, .int x5)] []) (ad : Nat → Nat → Nat) (x2 : Int32) (x3 : Int32) (x4 : Int32) (x5 : Int32) (z0 : Int32) (χ : St), w_M_spoils_69 Q K36 x2 x3 x4 x5 z0 χ → G X ad χ 69 [(0, .ref (ad 40 0)), (2, .int x2), (3, .int x3), (4, .int x4), (5, .int x5)] [.int z0] := by
    intro K36 hK36 ad x2 x3 x4 x5 z0 χ hf
    unfold w_M_spoils_69 at hf
    refine g_istore hX dX4_spoils_69 (by decide) rfl ?_
    refine g_iload hX 0 dX4_spoils_71 rfl ?_
    refine g_if_lt hX 94 dX4_spoils_73 (by decide) (fun z => ?_) (fun z => ?_)
    · replace hf := hf.1 z
      refine g_sub [1, 2, 3, 4, 5] rfl ?_
      exact B94 K36 hK36 _ _ _ _ _ _ hf
    · replace hf := hf.2 z
      refine g_iload_n hX 3 dX4_spoils_76 rfl rfl ?_
      refine g_if_lt hX 87 dX4_spoils_77 (by decide) (fun z => ?_) (fun z => ?_)
      · replace hf := hf.1 z
        refine g_sub [1, 2, 5, 0] rfl ?_
        exact B87 K36 hK36 _ _ _ _ _ hf
      · replace hf := hf.2 z
        refine g_iload hX 0 dX4_spoils_80 rfl ?_
        refine g_iload hX 4 dX4_spoils_82 rfl ?_
        refine g_icmp_ge hX 94 dX4_spoils_84 (by decide) (fun z => ?_) (fun z => ?_)
        · replace hf := hf.1 z
          refine g_sub [1, 2, 3, 4, 5] rfl ?_
          exact B94 K36 hK36 _ _ _ _ _ _ hf
        · replace hf := hf.2 z
          refine g_sub [1, 2, 5, 0] rfl ?_
          exact B87 K36 hK36 _ _ _ _ _ hf
  have B36 : ∀ (n : Nat) (ad : Nat → Nat → Nat) (x2 : Int32) (x3 : Int32) (x4 : Int32) (x5 : Int32) (χ : St), w_M_spoils_36 Q n x2 x3 x4 x5 χ → G X ad χ 36 [(0, .ref (ad 40 0)), (2, .int x2), (3, .int x3), (4, .int x4), (5, .int x5)] [] := by
    intro n
    induction n with
    | zero => intro ad x2 x3 x4 x5 χ hf; exact hf.elim
    | succ n hK36 =>
      intro ad x2 x3 x4 x5 χ hf
      unfold w_M_spoils_36 at hf
      refine g_iload hX 4 dX4_spoils_36 rfl ?_
      refine g_bipush hX (v := (6 : Int32)) dX4_spoils_38 rfl ?_
      refine g_icmp_ge hX 100 dX4_spoils_40 (by decide) (fun z => ?_) (fun z => ?_)
      · replace hf := hf.1 z
        refine g_iload_n hX 2 dX4_spoils_100 rfl rfl ?_
        exact g_iret hX ⟨_, rfl, hf⟩ dX4_spoils_101
      · replace hf := hf.2 z
        refine g_iload_n hX 1 dX4_spoils_43 rfl rfl ?_
        refine g_iload hX 4 dX4_spoils_44 rfl ?_
        refine g_ishr hX dX4_spoils_46 ?_
        refine g_iconst hX (v := (1 : Int32)) dX4_spoils_47 rfl ?_
        refine g_iand hX dX4_spoils_48 ?_
        refine g_iconst hX (v := (1 : Int32)) dX4_spoils_49 rfl ?_
        refine g_icmp_ne hX 68 dX4_spoils_50 (by decide) (fun z => ?_) (fun z => ?_)
        · replace hf := hf.1 z
          refine g_iconst hX (v := (-1 : Int32)) dX4_spoils_68 rfl ?_
          exact B69 (w_M_spoils_36 Q n) hK36 _ _ _ _ _ _ _ hf
        · replace hf := hf.2 z
          refine g_aload_n hX 0 dX4_spoils_53 rfl rfl ?_
          refine g_iload_n hX 1 dX4_spoils_54 rfl rfl ?_
          refine g_iconst hX (v := (1 : Int32)) dX4_spoils_55 rfl ?_
          refine g_iload hX 4 dX4_spoils_56 rfl ?_
          refine g_ishl hX dX4_spoils_58 ?_
          refine g_iconst hX (v := (-1 : Int32)) dX4_spoils_59 rfl ?_
          refine g_ixor hX dX4_spoils_60 ?_
          refine g_iand hX dX4_spoils_61 ?_
          refine g_callVi hX (n := 1) (mt_M_believedBy X.l X.Γ _ _ _ _) hf q1854 q1856 qs69 q89 q1857 ⟨rfl, hy_M_believedBy⟩ (by decide) (fc40 _) ff40 rfl rfl rfl (Nat.le_of_ble_eq_true rfl) dX4_spoils_62 (fun r6 χ7 hf hc7 => ?_)
          refine g_goto hX 69 dX4_spoils_65 (by decide) ?_
          exact B69 (w_M_spoils_36 Q n) hK36 _ _ _ _ _ _ _ hf
  unfold w_M_spoils at hf
  refine g_aload_n hX 0 dX4_spoils_0 rfl rfl ?_
  refine g_iload_n hX 1 dX4_spoils_1 rfl rfl ?_
  refine g_callVi hX (n := 1) (mt_M_isPart X.l X.Γ _ _ _ _) hf q1690 q1692 qs47 q89 q1693 ⟨rfl, hy_M_isPart⟩ (by decide) (fc40 _) ff40 rfl rfl rfl (Nat.le_of_ble_eq_true rfl) dX4_spoils_2 (fun r1 χ2 hf hc2 => ?_)
  refine g_if_eq hX 20 dX4_spoils_5 (by decide) (fun z => ?_) (fun z => ?_)
  · replace hf := hf.1 z
    refine g_iconst hX (v := (-1 : Int32)) dX4_spoils_20 rfl ?_
    exact g_iret hX ⟨_, rfl, hf⟩ dX4_spoils_21
  · replace hf := hf.2 z
    refine g_iload_n hX 2 dX4_spoils_8 rfl rfl ?_
    refine g_i2l hX dX4_spoils_9 ?_
    refine g_lconst hX (v := (0 : Int64)) dX4_spoils_10 rfl ?_
    refine g_ldc2 hX q1831 dX4_spoils_11 ?_
    refine g_callSi hX (n := 3) (mt_M_within X.l X.Γ _ _ _ _ _ _) hf q1651 q1652 q89 q1653 hy_M_within (by decide) rfl rfl (Nat.le_of_ble_eq_true rfl) dX4_spoils_14 (fun r3 χ4 hf hc4 => ?_)
    refine g_if_ne hX 22 dX4_spoils_17 (by decide) (fun z => ?_) (fun z => ?_)
    · replace hf := hf.1 z
      refine g_aload_n hX 0 dX4_spoils_22 rfl rfl ?_
      refine g_iload_n hX 1 dX4_spoils_23 rfl rfl ?_
      refine g_callVv hX (n := 1) (mt_M_looksAt X.l X.Γ _ _ _ _) hf q1778 q1780 qs61 q89 q1781 ⟨rfl, hy_M_looksAt⟩ (by decide) (fc40 _) ff40 rfl rfl rfl (Nat.le_of_ble_eq_true rfl) dX4_spoils_24 (fun χ5 hf hc5 => ?_)
      refine g_bipush hX (v := (-2 : Int32)) dX4_spoils_27 rfl ?_
      refine g_istore_n hX dX4_spoils_29 rfl (by decide) rfl ?_
      refine g_iconst hX (v := (0 : Int32)) dX4_spoils_30 rfl ?_
      refine g_istore hX dX4_spoils_31 (by decide) rfl ?_
      refine g_iconst hX (v := (0 : Int32)) dX4_spoils_33 rfl ?_
      refine g_istore hX dX4_spoils_34 (by decide) rfl ?_
      obtain ⟨n0, hf⟩ := hf
      refine g_sub [3, 5, 2, 1, 0] rfl ?_
      exact B36 n0 _ _ _ _ _ _ hf
    · replace hf := hf.2 z
      refine g_iconst hX (v := (-1 : Int32)) dX4_spoils_20 rfl ?_
      exact g_iret hX ⟨_, rfl, hf⟩ dX4_spoils_21

def w_M_priceOf_9 (Q : Int32 → St → Prop) : Nat → Int32 → Int32 → St → Prop
  | 0 => fun _ _ _ => False
  | n + 1 => fun x2 x3 χ => (((6 : Int32) ≤ x3 → (Q (x2 / (100 : Int32)) χ)) ∧ (¬ (6 : Int32) ≤ x3 → (vp_in ((6 : Int32) + x3) 24) ∧ ((w_M_percentNow x3 χ (fun r2 χ3 => (∀ v4 : Int32, v4 = (x2 + ((gI χ 41 0 ((6 : Int32) + x3).toNatClampNeg) * r2)) → (w_M_priceOf_9 Q n v4 (x3 + (1 : Int32)) χ3)))))))
def w_M_priceOf (x1 : Int32) (χ : St) (Q : Int32 → St → Prop) : Prop := (w_M_weighsPart x1 χ (fun χ1 => (∃ k9, w_M_priceOf_9 Q k9 (0 : Int32) (0 : Int32) χ1)))
set_option maxHeartbeats 4000000 in
theorem mt_M_priceOf (l : Launch) (Γ : Gh) (ad : Nat → Nat → Nat) (x1 : Int32) (χ : St) (Q : Int32 → St → Prop) : Mt l yX4_priceOf (ws_ yX4_priceOf cX4_priceOf 4 (some .int)) (rmO (58) (1329) χ) (Pm Γ ad χ [.ref (ad 40 0), .int x1] (w_M_priceOf x1 χ Q)) (Qm Γ true ad χ (pI Q)) (frB Γ) := by
  refine Mt.start (by decide) RX4 rfl (Nat.le_of_ble_eq_true rfl) ?_
  intro X hX hG _ _ hna _ hf
  have B9 : ∀ (n : Nat) (ad : Nat → Nat → Nat) (x2 : Int32) (x3 : Int32) (χ : St), w_M_priceOf_9 Q n x2 x3 χ → G X ad χ 9 [(0, .ref (ad 40 0)), (2, .int x2), (3, .int x3)] [] := by
    intro n
    induction n with
    | zero => intro ad x2 x3 χ hf; exact hf.elim
    | succ n hK9 =>
      intro ad x2 x3 χ hf
      unfold w_M_priceOf_9 at hf
      refine g_iload_n hX 2 dX4_priceOf_9 rfl rfl ?_
      refine g_bipush hX (v := (6 : Int32)) dX4_priceOf_10 rfl ?_
      refine g_icmp_ge hX 39 dX4_priceOf_12 (by decide) (fun z => ?_) (fun z => ?_)
      · replace hf := hf.1 z
        refine g_iload_n hX 1 dX4_priceOf_39 rfl rfl ?_
        refine g_bipush hX (v := (100 : Int32)) dX4_priceOf_40 rfl ?_
        refine g_idiv hX dX4_priceOf_42 (by decide) ?_
        exact g_iret hX ⟨_, rfl, hf⟩ dX4_priceOf_43
      · replace hf := hf.2 z
        refine g_iload_n hX 1 dX4_priceOf_15 rfl rfl ?_
        refine g_aload_n hX 0 dX4_priceOf_16 rfl rfl ?_
        refine g_getK hX (k := 0) (d := 41) (fc40 _) ff40 rfl (by decide) rfl rfl in_X4 (by decide) q1505 dX4_priceOf_17 ?_
        refine g_bipush hX (v := (6 : Int32)) dX4_priceOf_20 rfl ?_
        refine g_iload_n hX 2 dX4_priceOf_22 rfl rfl ?_
        refine g_iadd hX dX4_priceOf_23 ?_
        refine g_iald hX (fc41 _) ff41 rfl hf.1 dX4_priceOf_24 ?_
        replace hf := hf.2
        refine g_aload_n hX 0 dX4_priceOf_25 rfl rfl ?_
        refine g_iload_n hX 2 dX4_priceOf_26 rfl rfl ?_
        refine g_callVi hX (n := 1) (mt_M_percentNow X.l X.Γ _ _ _ _) hf q1794 q1796 qs63 q89 q1797 ⟨rfl, hy_M_percentNow⟩ (by decide) (fc40 _) ff40 rfl rfl rfl (Nat.le_of_ble_eq_true rfl) dX4_priceOf_27 (fun r2 χ3 hf hc3 => ?_)
        refine g_imul hX dX4_priceOf_30 ?_
        refine g_iadd hX dX4_priceOf_31 ?_
        replace hf := hf _ rfl
        refine g_istore_n hX dX4_priceOf_32 rfl (by decide) rfl ?_
        refine g_iinc hX (v := _) 2 dX4_priceOf_33 rfl rfl (by decide) rfl ?_
        refine g_goto hX 9 dX4_priceOf_36 (by decide) ?_
        refine g_sub [2, 1, 0] rfl ?_
        exact hK9 _ _ _ _ hf
  unfold w_M_priceOf at hf
  refine g_aload_n hX 0 dX4_priceOf_0 rfl rfl ?_
  refine g_iload_n hX 1 dX4_priceOf_1 rfl rfl ?_
  refine g_callVv hX (n := 1) (mt_M_weighsPart X.l X.Γ _ _ _ _) hf q1774 q1776 qs60 q89 q1777 ⟨rfl, hy_M_weighsPart⟩ (by decide) (fc40 _) ff40 rfl rfl rfl (Nat.le_of_ble_eq_true rfl) dX4_priceOf_2 (fun χ1 hf hc1 => ?_)
  refine g_iconst hX (v := (0 : Int32)) dX4_priceOf_5 rfl ?_
  refine g_istore_n hX dX4_priceOf_6 rfl (by decide) rfl ?_
  refine g_iconst hX (v := (0 : Int32)) dX4_priceOf_7 rfl ?_
  refine g_istore_n hX dX4_priceOf_8 rfl (by decide) rfl ?_
  obtain ⟨n0, hf⟩ := hf
  refine g_sub [2, 1, 0] rfl ?_
  exact B9 n0 _ _ _ _ hf

def w_M_price_9 (Q : Int32 → St → Prop) : Nat → Int32 → Int32 → St → Prop
  | 0 => fun _ _ _ => False
  | n + 1 => fun x2 x3 χ => (((gI χ 4106 0 0) ≤ x3 → (Q x2 χ)) ∧ (¬ (gI χ 4106 0 0) ≤ x3 → (w_M_priceOf x3 χ (fun r5 χ6 => (w_M_price_9 Q n (x2 + r5) (x3 + (1 : Int32)) χ6)))))
def w_M_price (x1 : Int32) (χ : St) (Q : Int32 → St → Prop) : Prop := ((¬ x1 = (-1 : Int32) → (w_M_isPart x1 χ (fun r1 χ2 => ((r1 = 0 → (Q (-1 : Int32) χ2)) ∧ (¬ r1 = 0 → (w_M_priceOf x1 χ2 (fun r3 χ4 => (Q r3 χ4)))))))) ∧ (x1 = (-1 : Int32) → (∃ k9, w_M_price_9 Q k9 (0 : Int32) (0 : Int32) χ)))
set_option maxHeartbeats 4000000 in
theorem mt_M_price (l : Launch) (Γ : Gh) (ad : Nat → Nat → Nat) (x1 : Int32) (χ : St) (Q : Int32 → St → Prop) : Mt l yX4_price (ws_ yX4_price cX4_price 4 (some .int)) (rmO (59) (1352) χ) (Pm Γ ad χ [.ref (ad 40 0), .int x1] (w_M_price x1 χ Q)) (Qm Γ true ad χ (pI Q)) (frB Γ) := by
  refine Mt.start (by decide) RX4 rfl (Nat.le_of_ble_eq_true rfl) ?_
  intro X hX hG _ _ hna _ hf
  have B9 : ∀ (n : Nat) (ad : Nat → Nat → Nat) (x2 : Int32) (x3 : Int32) (χ : St), w_M_price_9 Q n x2 x3 χ → G X ad χ 9 [(0, .ref (ad 40 0)), (2, .int x2), (3, .int x3)] [] := by
    intro n
    induction n with
    | zero => intro ad x2 x3 χ hf; exact hf.elim
    | succ n hK9 =>
      intro ad x2 x3 χ hf
      unfold w_M_price_9 at hf
      refine g_iload_n hX 2 dX4_price_9 rfl rfl ?_
      refine g_aload_n hX 0 dX4_price_10 rfl rfl ?_
      refine g_getI hX (k := 6) (fc40 _) ff40 rfl rfl in_X4 (by decide) q1511 dX4_price_11 ?_
      refine g_icmp_ge hX 31 dX4_price_14 (by decide) (fun z => ?_) (fun z => ?_)
      · replace hf := hf.1 z
        refine g_iload_n hX 1 dX4_price_31 rfl rfl ?_
        exact g_iret hX ⟨_, rfl, hf⟩ dX4_price_32
      · replace hf := hf.2 z
        refine g_iload_n hX 1 dX4_price_17 rfl rfl ?_
        refine g_aload_n hX 0 dX4_price_18 rfl rfl ?_
        refine g_iload_n hX 2 dX4_price_19 rfl rfl ?_
        refine g_callVi hX (n := 1) (mt_M_priceOf X.l X.Γ _ _ _ _) hf q1874 q1876 qs71 q89 q1877 ⟨rfl, hy_M_priceOf⟩ (by decide) (fc40 _) ff40 rfl rfl rfl (Nat.le_of_ble_eq_true rfl) dX4_price_20 (fun r5 χ6 hf hc6 => ?_)
        refine g_iadd hX dX4_price_23 ?_
        refine g_istore_n hX dX4_price_24 rfl (by decide) rfl ?_
        refine g_iinc hX (v := _) 2 dX4_price_25 rfl rfl (by decide) rfl ?_
        refine g_goto hX 9 dX4_price_28 (by decide) ?_
        refine g_sub [2, 1, 0] rfl ?_
        exact hK9 _ _ _ _ hf
  unfold w_M_price at hf
  refine g_iload_n hX 1 dX4_price_0 rfl rfl ?_
  refine g_iconst hX (v := (-1 : Int32)) dX4_price_1 rfl ?_
  refine g_icmp_ne hX 33 dX4_price_2 (by decide) (fun z => ?_) (fun z => ?_)
  · replace hf := hf.1 z
    refine g_aload_n hX 0 dX4_price_33 rfl rfl ?_
    refine g_iload_n hX 1 dX4_price_34 rfl rfl ?_
    refine g_callVi hX (n := 1) (mt_M_isPart X.l X.Γ _ _ _ _) hf q1690 q1692 qs47 q89 q1693 ⟨rfl, hy_M_isPart⟩ (by decide) (fc40 _) ff40 rfl rfl rfl (Nat.le_of_ble_eq_true rfl) dX4_price_35 (fun r1 χ2 hf hc2 => ?_)
    refine g_if_eq hX 49 dX4_price_38 (by decide) (fun z => ?_) (fun z => ?_)
    · replace hf := hf.1 z
      refine g_iconst hX (v := (-1 : Int32)) dX4_price_49 rfl ?_
      exact g_iret hX ⟨_, rfl, hf⟩ dX4_price_50
    · replace hf := hf.2 z
      refine g_aload_n hX 0 dX4_price_41 rfl rfl ?_
      refine g_iload_n hX 1 dX4_price_42 rfl rfl ?_
      refine g_callVi hX (n := 1) (mt_M_priceOf X.l X.Γ _ _ _ _) hf q1874 q1876 qs71 q89 q1877 ⟨rfl, hy_M_priceOf⟩ (by decide) (fc40 _) ff40 rfl rfl rfl (Nat.le_of_ble_eq_true rfl) dX4_price_43 (fun r3 χ4 hf hc4 => ?_)
      refine g_goto hX 50 dX4_price_46 (by decide) ?_
      exact g_iret hX ⟨_, rfl, hf⟩ dX4_price_50
  · replace hf := hf.2 z
    refine g_iconst hX (v := (0 : Int32)) dX4_price_5 rfl ?_
    refine g_istore_n hX dX4_price_6 rfl (by decide) rfl ?_
    refine g_iconst hX (v := (0 : Int32)) dX4_price_7 rfl ?_
    refine g_istore_n hX dX4_price_8 rfl (by decide) rfl ?_
    obtain ⟨n0, hf⟩ := hf
    refine g_sub [2, 1, 0] rfl ?_
    exact B9 n0 _ _ _ _ hf

def w_M_paper (x1 : Int32) (x2 : Int32) (χ : St) (Q : Int32 → St → Prop) : Prop := ((x1 < 0 → (Q (-1 : Int32) χ)) ∧ (¬ x1 < 0 → (((30 : Int32) ≤ (x1 / (100 : Int32)) → (Q (-1 : Int32) χ)) ∧ (¬ (30 : Int32) ≤ (x1 / (100 : Int32)) → (((30 : Int32) ≤ (x1 - x1 / (100 : Int32) * (100 : Int32)) → (Q (-1 : Int32) χ)) ∧ (¬ (30 : Int32) ≤ (x1 - x1 / (100 : Int32) * (100 : Int32)) → (((x1 - x1 / (100 : Int32) * (100 : Int32)) < (x1 / (100 : Int32)) → (Q (-1 : Int32) χ)) ∧ (¬ (x1 - x1 / (100 : Int32) * (100 : Int32)) < (x1 / (100 : Int32)) → (w_M_within x2.toInt64 (0 : Int64) (9 : Int64) χ (fun r1 χ2 => ((¬ r1 = 0 → ((¬ (gI χ2 4127 0 0) = (10 : Int32) → (vp_in (gI χ2 4127 0 0) 10) ∧ ((∀ χ3 : St, χ3 = (sI χ2 58 0 (gI χ2 4127 0 0).toNatClampNeg (x1 / (100 : Int32))) → (vp_in (gI χ3 4127 0 0) 10) ∧ ((∀ χ4 : St, χ4 = (sI χ3 59 0 (gI χ3 4127 0 0).toNatClampNeg (x1 - x1 / (100 : Int32) * (100 : Int32))) → (vp_in (gI χ4 4127 0 0) 10) ∧ ((∀ χ5 : St, χ5 = (sI χ4 60 0 (gI χ4 4127 0 0).toNatClampNeg x2) → (∀ χ6 : St, χ6 = (sI χ5 4127 0 0 ((gI χ5 4127 0 0) + (1 : Int32))) → (Q ((gI χ6 4127 0 0) - (1 : Int32)) χ6))))))))) ∧ ((gI χ2 4127 0 0) = (10 : Int32) → (Q (-3 : Int32) χ2)))) ∧ (r1 = 0 → (Q (-1 : Int32) χ2)))))))))))))
set_option maxHeartbeats 4000000 in
theorem mt_M_paper (l : Launch) (Γ : Gh) (ad : Nat → Nat → Nat) (x1 : Int32) (x2 : Int32) (χ : St) (Q : Int32 → St → Prop) : Mt l yX4_paper (ws_ yX4_paper cX4_paper 3 (some .int)) (rmO (1) (25) χ) (Pm Γ ad χ [.ref (ad 40 0), .int x1, .int x2] (w_M_paper x1 x2 χ Q)) (Qm Γ true ad χ (pI Q)) (frB Γ) := by
  refine Mt.start (by decide) RX4 rfl (Nat.le_of_ble_eq_true rfl) ?_
  intro X hX hG _ _ hna _ hf
  unfold w_M_paper at hf
  refine g_iload_n hX 1 dX4_paper_0 rfl rfl ?_
  refine g_if_lt hX 45 dX4_paper_1 (by decide) (fun z => ?_) (fun z => ?_)
  · replace hf := hf.1 z
    refine g_iconst hX (v := (-1 : Int32)) dX4_paper_45 rfl ?_
    exact g_iret hX ⟨_, rfl, hf⟩ dX4_paper_46
  · replace hf := hf.2 z
    refine g_iload_n hX 1 dX4_paper_4 rfl rfl ?_
    refine g_bipush hX (v := (100 : Int32)) dX4_paper_5 rfl ?_
    refine g_idiv hX dX4_paper_7 (by decide) ?_
    refine g_bipush hX (v := (30 : Int32)) dX4_paper_8 rfl ?_
    refine g_icmp_ge hX 45 dX4_paper_10 (by decide) (fun z => ?_) (fun z => ?_)
    · replace hf := hf.1 z
      refine g_iconst hX (v := (-1 : Int32)) dX4_paper_45 rfl ?_
      exact g_iret hX ⟨_, rfl, hf⟩ dX4_paper_46
    · replace hf := hf.2 z
      refine g_iload_n hX 1 dX4_paper_13 rfl rfl ?_
      refine g_bipush hX (v := (100 : Int32)) dX4_paper_14 rfl ?_
      refine g_irem hX dX4_paper_16 (by decide) ?_
      refine g_bipush hX (v := (30 : Int32)) dX4_paper_17 rfl ?_
      refine g_icmp_ge hX 45 dX4_paper_19 (by decide) (fun z => ?_) (fun z => ?_)
      · replace hf := hf.1 z
        refine g_iconst hX (v := (-1 : Int32)) dX4_paper_45 rfl ?_
        exact g_iret hX ⟨_, rfl, hf⟩ dX4_paper_46
      · replace hf := hf.2 z
        refine g_iload_n hX 1 dX4_paper_22 rfl rfl ?_
        refine g_bipush hX (v := (100 : Int32)) dX4_paper_23 rfl ?_
        refine g_idiv hX dX4_paper_25 (by decide) ?_
        refine g_iload_n hX 1 dX4_paper_26 rfl rfl ?_
        refine g_bipush hX (v := (100 : Int32)) dX4_paper_27 rfl ?_
        refine g_irem hX dX4_paper_29 (by decide) ?_
        refine g_icmp_gt hX 45 dX4_paper_30 (by decide) (fun z => ?_) (fun z => ?_)
        · replace hf := hf.1 z
          refine g_iconst hX (v := (-1 : Int32)) dX4_paper_45 rfl ?_
          exact g_iret hX ⟨_, rfl, hf⟩ dX4_paper_46
        · replace hf := hf.2 z
          refine g_iload_n hX 2 dX4_paper_33 rfl rfl ?_
          refine g_i2l hX dX4_paper_34 ?_
          refine g_lconst hX (v := (0 : Int64)) dX4_paper_35 rfl ?_
          refine g_ldc2 hX q1667 dX4_paper_36 ?_
          refine g_callSi hX (n := 3) (mt_M_within X.l X.Γ _ _ _ _ _ _) hf q1651 q1652 q89 q1653 hy_M_within (by decide) rfl rfl (Nat.le_of_ble_eq_true rfl) dX4_paper_39 (fun r1 χ2 hf hc2 => ?_)
          refine g_if_ne hX 47 dX4_paper_42 (by decide) (fun z => ?_) (fun z => ?_)
          · replace hf := hf.1 z
            refine g_aload_n hX 0 dX4_paper_47 rfl rfl ?_
            refine g_getI hX (k := 27) (fc40 _) ff40 rfl rfl in_X4 (by decide) q1532 dX4_paper_48 ?_
            refine g_bipush hX (v := (10 : Int32)) dX4_paper_51 rfl ?_
            refine g_icmp_ne hX 59 dX4_paper_53 (by decide) (fun z => ?_) (fun z => ?_)
            · replace hf := hf.1 z
              refine g_aload_n hX 0 dX4_paper_59 rfl rfl ?_
              refine g_getK hX (k := 28) (d := 58) (fc40 _) ff40 rfl (by decide) rfl rfl in_X4 (by decide) q1533 dX4_paper_60 ?_
              refine g_aload_n hX 0 dX4_paper_63 rfl rfl ?_
              refine g_getI hX (k := 27) (fc40 _) ff40 rfl rfl in_X4 (by decide) q1532 dX4_paper_64 ?_
              refine g_iload_n hX 1 dX4_paper_67 rfl rfl ?_
              refine g_bipush hX (v := (100 : Int32)) dX4_paper_68 rfl ?_
              refine g_idiv hX dX4_paper_70 (by decide) ?_
              refine g_iast hX (fc58 _) ff58 rfl hf.1 dX4_paper_71 ?_
              replace hf := hf.2
              replace hf := hf _ rfl
              refine g_aload_n hX 0 dX4_paper_72 rfl rfl ?_
              refine g_getK hX (k := 29) (d := 59) (fc40 _) ff40 rfl (by decide) rfl rfl in_X4 (by decide) q1534 dX4_paper_73 ?_
              refine g_aload_n hX 0 dX4_paper_76 rfl rfl ?_
              refine g_getI hX (k := 27) (fc40 _) ff40 rfl rfl in_X4 (by decide) q1532 dX4_paper_77 ?_
              refine g_iload_n hX 1 dX4_paper_80 rfl rfl ?_
              refine g_bipush hX (v := (100 : Int32)) dX4_paper_81 rfl ?_
              refine g_irem hX dX4_paper_83 (by decide) ?_
              refine g_iast hX (fc59 _) ff59 rfl hf.1 dX4_paper_84 ?_
              replace hf := hf.2
              replace hf := hf _ rfl
              refine g_aload_n hX 0 dX4_paper_85 rfl rfl ?_
              refine g_getK hX (k := 30) (d := 60) (fc40 _) ff40 rfl (by decide) rfl rfl in_X4 (by decide) q1535 dX4_paper_86 ?_
              refine g_aload_n hX 0 dX4_paper_89 rfl rfl ?_
              refine g_getI hX (k := 27) (fc40 _) ff40 rfl rfl in_X4 (by decide) q1532 dX4_paper_90 ?_
              refine g_iload_n hX 2 dX4_paper_93 rfl rfl ?_
              refine g_iast hX (fc60 _) ff60 rfl hf.1 dX4_paper_94 ?_
              replace hf := hf.2
              replace hf := hf _ rfl
              refine g_aload_n hX 0 dX4_paper_95 rfl rfl ?_
              refine g_dup hX dX4_paper_96 rfl ?_
              refine g_getI hX (k := 27) (fc40 _) ff40 rfl rfl in_X4 (by decide) q1532 dX4_paper_97 ?_
              refine g_iconst hX (v := (1 : Int32)) dX4_paper_100 rfl ?_
              refine g_iadd hX dX4_paper_101 ?_
              refine g_putI hX (k := 27) (fc40 _) ff40 rfl rfl in_X4 tyX4_ok nmX4 (by decide) q1532 rfl rfl rfl rfl dX4_paper_102 ?_
              replace hf := hf _ rfl
              refine g_aload_n hX 0 dX4_paper_105 rfl rfl ?_
              refine g_getI hX (k := 27) (fc40 _) ff40 rfl rfl in_X4 (by decide) q1532 dX4_paper_106 ?_
              refine g_iconst hX (v := (1 : Int32)) dX4_paper_109 rfl ?_
              refine g_isub hX dX4_paper_110 ?_
              exact g_iret hX ⟨_, rfl, hf⟩ dX4_paper_111
            · replace hf := hf.2 z
              refine g_bipush hX (v := (-3 : Int32)) dX4_paper_56 rfl ?_
              exact g_iret hX ⟨_, rfl, hf⟩ dX4_paper_58
          · replace hf := hf.2 z
            refine g_iconst hX (v := (-1 : Int32)) dX4_paper_45 rfl ?_
            exact g_iret hX ⟨_, rfl, hf⟩ dX4_paper_46

def w_M_clash_64 (Q : Int32 → St → Prop) (K2 : Int32 → St → Prop) (K12 : Int32 → Int32 → St → Prop) (x1 : Int32) (x2 : Int32) (χ : St) : Prop := (K12 x1 (x2 + (1 : Int32)) χ)
def w_M_clash_12 (Q : Int32 → St → Prop) (K2 : Int32 → St → Prop) : Nat → Int32 → Int32 → St → Prop
  | 0 => fun _ _ _ => False
  | n + 1 => fun x1 x2 χ => ((x1 ≤ x2 → (K2 (x1 + (1 : Int32)) χ)) ∧ (¬ x1 ≤ x2 → (vp_in x2 10) ∧ ((vp_in x1 10) ∧ ((((gI χ 60 0 x2.toNatClampNeg) = (gI χ 60 0 x1.toNatClampNeg) → (w_M_clash_64 Q K2 (w_M_clash_12 Q K2 n) x1 x2 χ)) ∧ (¬ (gI χ 60 0 x2.toNatClampNeg) = (gI χ 60 0 x1.toNatClampNeg) → (vp_in x2 10) ∧ ((vp_in x1 10) ∧ ((((gI χ 59 0 x1.toNatClampNeg) < (gI χ 58 0 x2.toNatClampNeg) → (w_M_clash_64 Q K2 (w_M_clash_12 Q K2 n) x1 x2 χ)) ∧ (¬ (gI χ 59 0 x1.toNatClampNeg) < (gI χ 58 0 x2.toNatClampNeg) → (vp_in x1 10) ∧ ((vp_in x2 10) ∧ ((((gI χ 59 0 x2.toNatClampNeg) < (gI χ 58 0 x1.toNatClampNeg) → (w_M_clash_64 Q K2 (w_M_clash_12 Q K2 n) x1 x2 χ)) ∧ (¬ (gI χ 59 0 x2.toNatClampNeg) < (gI χ 58 0 x1.toNatClampNeg) → (Q x1 χ)))))))))))))))
def w_M_clash_2 (Q : Int32 → St → Prop) : Nat → Int32 → St → Prop
  | 0 => fun _ _ => False
  | n + 1 => fun x1 χ => (((gI χ 4127 0 0) ≤ x1 → (Q (-2 : Int32) χ)) ∧ (¬ (gI χ 4127 0 0) ≤ x1 → (∃ k12, w_M_clash_12 Q (w_M_clash_2 Q n) k12 x1 (0 : Int32) χ)))
def w_M_clash (χ : St) (Q : Int32 → St → Prop) : Prop := (∃ k2, w_M_clash_2 Q k2 (0 : Int32) χ)
set_option maxHeartbeats 4000000 in
theorem mt_M_clash (l : Launch) (Γ : Gh) (ad : Nat → Nat → Nat) (χ : St) (Q : Int32 → St → Prop) : Mt l yX4_clash (ws_ yX4_clash cX4_clash 3 (some .int)) (rmO (0) (0) χ) (Pm Γ ad χ [.ref (ad 40 0)] (w_M_clash χ Q)) (Qm Γ true ad χ (pI Q)) (frB Γ) := by
  refine Mt.start (by decide) RX4 rfl (Nat.le_of_ble_eq_true rfl) ?_
  intro X hX hG _ _ hna _ hf
  have B64 : ∀ (K2 : Int32 → St → Prop) (hK2 : ∀ (ad : Nat → Nat → Nat) (x1 : Int32) (χ : St), K2 x1 χ → G X ad χ 2 [(0, .ref (ad 40 0)), (1, .int x1)] []) (K12 : Int32 → Int32 → St → Prop) (hK12 : ∀ (ad : Nat → Nat → Nat) (x1 : Int32) (x2 : Int32) (χ : St), K12 x1 x2 χ → G X ad χ 12 [(0, .ref (ad 40 0)), (1, .int x1), (2, .int x2)] []) (ad : Nat → Nat → Nat) (x1 : Int32) (x2 : Int32) (χ : St), w_M_clash_64 Q K2 K12 x1 x2 χ → G X ad χ 64 [(0, .ref (ad 40 0)), (1, .int x1), (2, .int x2)] [] := by
    intro K2 hK2 K12 hK12 ad x1 x2 χ hf
    unfold w_M_clash_64 at hf
    refine g_iinc hX (v := _) 2 dX4_clash_64 rfl rfl (by decide) rfl ?_
    refine g_goto hX 12 dX4_clash_67 (by decide) ?_
    refine g_sub [1, 2, 0] rfl ?_
    exact hK12 _ _ _ _ hf
  have B12 : ∀ (K2 : Int32 → St → Prop) (hK2 : ∀ (ad : Nat → Nat → Nat) (x1 : Int32) (χ : St), K2 x1 χ → G X ad χ 2 [(0, .ref (ad 40 0)), (1, .int x1)] []) (n : Nat) (ad : Nat → Nat → Nat) (x1 : Int32) (x2 : Int32) (χ : St), w_M_clash_12 Q K2 n x1 x2 χ → G X ad χ 12 [(0, .ref (ad 40 0)), (1, .int x1), (2, .int x2)] [] := by
    intro K2 hK2 n
    induction n with
    | zero => intro ad x1 x2 χ hf; exact hf.elim
    | succ n hK12 =>
      intro ad x1 x2 χ hf
      unfold w_M_clash_12 at hf
      refine g_iload_n hX 2 dX4_clash_12 rfl rfl ?_
      refine g_iload_n hX 1 dX4_clash_13 rfl rfl ?_
      refine g_icmp_ge hX 70 dX4_clash_14 (by decide) (fun z => ?_) (fun z => ?_)
      · replace hf := hf.1 z
        refine g_iinc hX (v := _) 1 dX4_clash_70 rfl rfl (by decide) rfl ?_
        refine g_goto hX 2 dX4_clash_73 (by decide) ?_
        refine g_sub [1, 0] rfl ?_
        exact hK2 _ _ _ hf
      · replace hf := hf.2 z
        refine g_aload_n hX 0 dX4_clash_17 rfl rfl ?_
        refine g_getK hX (k := 30) (d := 60) (fc40 _) ff40 rfl (by decide) rfl rfl in_X4 (by decide) q1535 dX4_clash_18 ?_
        refine g_iload_n hX 2 dX4_clash_21 rfl rfl ?_
        refine g_iald hX (fc60 _) ff60 rfl hf.1 dX4_clash_22 ?_
        replace hf := hf.2
        refine g_aload_n hX 0 dX4_clash_23 rfl rfl ?_
        refine g_getK hX (k := 30) (d := 60) (fc40 _) ff40 rfl (by decide) rfl rfl in_X4 (by decide) q1535 dX4_clash_24 ?_
        refine g_iload_n hX 1 dX4_clash_27 rfl rfl ?_
        refine g_iald hX (fc60 _) ff60 rfl hf.1 dX4_clash_28 ?_
        replace hf := hf.2
        refine g_icmp_eq hX 64 dX4_clash_29 (by decide) (fun z => ?_) (fun z => ?_)
        · replace hf := hf.1 z
          exact B64 K2 hK2 (w_M_clash_12 Q K2 n) hK12 _ _ _ _ hf
        · replace hf := hf.2 z
          refine g_aload_n hX 0 dX4_clash_32 rfl rfl ?_
          refine g_getK hX (k := 28) (d := 58) (fc40 _) ff40 rfl (by decide) rfl rfl in_X4 (by decide) q1533 dX4_clash_33 ?_
          refine g_iload_n hX 2 dX4_clash_36 rfl rfl ?_
          refine g_iald hX (fc58 _) ff58 rfl hf.1 dX4_clash_37 ?_
          replace hf := hf.2
          refine g_aload_n hX 0 dX4_clash_38 rfl rfl ?_
          refine g_getK hX (k := 29) (d := 59) (fc40 _) ff40 rfl (by decide) rfl rfl in_X4 (by decide) q1534 dX4_clash_39 ?_
          refine g_iload_n hX 1 dX4_clash_42 rfl rfl ?_
          refine g_iald hX (fc59 _) ff59 rfl hf.1 dX4_clash_43 ?_
          replace hf := hf.2
          refine g_icmp_gt hX 64 dX4_clash_44 (by decide) (fun z => ?_) (fun z => ?_)
          · replace hf := hf.1 z
            exact B64 K2 hK2 (w_M_clash_12 Q K2 n) hK12 _ _ _ _ hf
          · replace hf := hf.2 z
            refine g_aload_n hX 0 dX4_clash_47 rfl rfl ?_
            refine g_getK hX (k := 28) (d := 58) (fc40 _) ff40 rfl (by decide) rfl rfl in_X4 (by decide) q1533 dX4_clash_48 ?_
            refine g_iload_n hX 1 dX4_clash_51 rfl rfl ?_
            refine g_iald hX (fc58 _) ff58 rfl hf.1 dX4_clash_52 ?_
            replace hf := hf.2
            refine g_aload_n hX 0 dX4_clash_53 rfl rfl ?_
            refine g_getK hX (k := 29) (d := 59) (fc40 _) ff40 rfl (by decide) rfl rfl in_X4 (by decide) q1534 dX4_clash_54 ?_
            refine g_iload_n hX 2 dX4_clash_57 rfl rfl ?_
            refine g_iald hX (fc59 _) ff59 rfl hf.1 dX4_clash_58 ?_
            replace hf := hf.2
            refine g_icmp_gt hX 64 dX4_clash_59 (by decide) (fun z => ?_) (fun z => ?_)
            · replace hf := hf.1 z
              exact B64 K2 hK2 (w_M_clash_12 Q K2 n) hK12 _ _ _ _ hf
            · replace hf := hf.2 z
              refine g_iload_n hX 1 dX4_clash_62 rfl rfl ?_
              exact g_iret hX ⟨_, rfl, hf⟩ dX4_clash_63
  have B2 : ∀ (n : Nat) (ad : Nat → Nat → Nat) (x1 : Int32) (χ : St), w_M_clash_2 Q n x1 χ → G X ad χ 2 [(0, .ref (ad 40 0)), (1, .int x1)] [] := by
    intro n
    induction n with
    | zero => intro ad x1 χ hf; exact hf.elim
    | succ n hK2 =>
      intro ad x1 χ hf
      unfold w_M_clash_2 at hf
      refine g_iload_n hX 1 dX4_clash_2 rfl rfl ?_
      refine g_aload_n hX 0 dX4_clash_3 rfl rfl ?_
      refine g_getI hX (k := 27) (fc40 _) ff40 rfl rfl in_X4 (by decide) q1532 dX4_clash_4 ?_
      refine g_icmp_ge hX 76 dX4_clash_7 (by decide) (fun z => ?_) (fun z => ?_)
      · replace hf := hf.1 z
        refine g_bipush hX (v := (-2 : Int32)) dX4_clash_76 rfl ?_
        exact g_iret hX ⟨_, rfl, hf⟩ dX4_clash_78
      · replace hf := hf.2 z
        refine g_iconst hX (v := (0 : Int32)) dX4_clash_10 rfl ?_
        refine g_istore_n hX dX4_clash_11 rfl (by decide) rfl ?_
        obtain ⟨n0, hf⟩ := hf
        refine g_sub [1, 2, 0] rfl ?_
        exact B12 (w_M_clash_2 Q n) hK2 n0 _ _ _ _ hf
  unfold w_M_clash at hf
  refine g_iconst hX (v := (0 : Int32)) dX4_clash_0 rfl ?_
  refine g_istore_n hX dX4_clash_1 rfl (by decide) rfl ?_
  obtain ⟨n0, hf⟩ := hf
  refine g_sub [1, 0] rfl ?_
  exact B2 n0 _ _ _ hf

def w_M_houseOf_2 (Q : Int32 → St → Prop) : Nat → Int32 → Int32 → St → Prop
  | 0 => fun _ _ _ => False
  | n + 1 => fun x1 x2 χ => (((gI χ 4127 0 0) ≤ x2 → (Q (-2 : Int32) χ)) ∧ (¬ (gI χ 4127 0 0) ≤ x2 → (vp_in x2 10) ∧ ((vp_in x2 10) ∧ ((w_M_within x1.toInt64 (gI χ 58 0 x2.toNatClampNeg).toInt64 (gI χ 59 0 x2.toNatClampNeg).toInt64 χ (fun r1 χ2 => ((r1 = 0 → (w_M_houseOf_2 Q n x1 (x2 + (1 : Int32)) χ2)) ∧ (¬ r1 = 0 → (vp_in x2 10) ∧ ((Q (gI χ2 60 0 x2.toNatClampNeg) χ2))))))))))
def w_M_houseOf (x1 : Int32) (χ : St) (Q : Int32 → St → Prop) : Prop := (∃ k2, w_M_houseOf_2 Q k2 x1 (0 : Int32) χ)
set_option maxHeartbeats 4000000 in
theorem mt_M_houseOf (l : Launch) (Γ : Gh) (ad : Nat → Nat → Nat) (x1 : Int32) (χ : St) (Q : Int32 → St → Prop) : Mt l yX4_houseOf (ws_ yX4_houseOf cX4_houseOf 3 (some .int)) (rmO (1) (25) χ) (Pm Γ ad χ [.ref (ad 40 0), .int x1] (w_M_houseOf x1 χ Q)) (Qm Γ true ad χ (pI Q)) (frB Γ) := by
  refine Mt.start (by decide) RX4 rfl (Nat.le_of_ble_eq_true rfl) ?_
  intro X hX hG _ _ hna _ hf
  have B2 : ∀ (n : Nat) (ad : Nat → Nat → Nat) (x1 : Int32) (x2 : Int32) (χ : St), w_M_houseOf_2 Q n x1 x2 χ → G X ad χ 2 [(0, .ref (ad 40 0)), (1, .int x1), (2, .int x2)] [] := by
    intro n
    induction n with
    | zero => intro ad x1 x2 χ hf; exact hf.elim
    | succ n hK2 =>
      intro ad x1 x2 χ hf
      unfold w_M_houseOf_2 at hf
      refine g_iload_n hX 2 dX4_houseOf_2 rfl rfl ?_
      refine g_aload_n hX 0 dX4_houseOf_3 rfl rfl ?_
      refine g_getI hX (k := 27) (fc40 _) ff40 rfl rfl in_X4 (by decide) q1532 dX4_houseOf_4 ?_
      refine g_icmp_ge hX 45 dX4_houseOf_7 (by decide) (fun z => ?_) (fun z => ?_)
      · replace hf := hf.1 z
        refine g_bipush hX (v := (-2 : Int32)) dX4_houseOf_45 rfl ?_
        exact g_iret hX ⟨_, rfl, hf⟩ dX4_houseOf_47
      · replace hf := hf.2 z
        refine g_iload_n hX 1 dX4_houseOf_10 rfl rfl ?_
        refine g_i2l hX dX4_houseOf_11 ?_
        refine g_aload_n hX 0 dX4_houseOf_12 rfl rfl ?_
        refine g_getK hX (k := 28) (d := 58) (fc40 _) ff40 rfl (by decide) rfl rfl in_X4 (by decide) q1533 dX4_houseOf_13 ?_
        refine g_iload_n hX 2 dX4_houseOf_16 rfl rfl ?_
        refine g_iald hX (fc58 _) ff58 rfl hf.1 dX4_houseOf_17 ?_
        replace hf := hf.2
        refine g_i2l hX dX4_houseOf_18 ?_
        refine g_aload_n hX 0 dX4_houseOf_19 rfl rfl ?_
        refine g_getK hX (k := 29) (d := 59) (fc40 _) ff40 rfl (by decide) rfl rfl in_X4 (by decide) q1534 dX4_houseOf_20 ?_
        refine g_iload_n hX 2 dX4_houseOf_23 rfl rfl ?_
        refine g_iald hX (fc59 _) ff59 rfl hf.1 dX4_houseOf_24 ?_
        replace hf := hf.2
        refine g_i2l hX dX4_houseOf_25 ?_
        refine g_callSi hX (n := 3) (mt_M_within X.l X.Γ _ _ _ _ _ _) hf q1651 q1652 q89 q1653 hy_M_within (by decide) rfl rfl (Nat.le_of_ble_eq_true rfl) dX4_houseOf_26 (fun r1 χ2 hf hc2 => ?_)
        refine g_if_eq hX 39 dX4_houseOf_29 (by decide) (fun z => ?_) (fun z => ?_)
        · replace hf := hf.1 z
          refine g_iinc hX (v := _) 2 dX4_houseOf_39 rfl rfl (by decide) rfl ?_
          refine g_goto hX 2 dX4_houseOf_42 (by decide) ?_
          refine g_sub [1, 2, 0] rfl ?_
          exact hK2 _ _ _ _ hf
        · replace hf := hf.2 z
          refine g_aload_n hX 0 dX4_houseOf_32 rfl rfl ?_
          refine g_getK hX (k := 30) (d := 60) (fc40 _) ff40 rfl (by decide) rfl rfl in_X4 (by decide) q1535 dX4_houseOf_33 ?_
          refine g_iload_n hX 2 dX4_houseOf_36 rfl rfl ?_
          refine g_iald hX (fc60 _) ff60 rfl hf.1 dX4_houseOf_37 ?_
          replace hf := hf.2
          exact g_iret hX ⟨_, rfl, hf⟩ dX4_houseOf_38
  unfold w_M_houseOf at hf
  refine g_iconst hX (v := (0 : Int32)) dX4_houseOf_0 rfl ?_
  refine g_istore_n hX dX4_houseOf_1 rfl (by decide) rfl ?_
  obtain ⟨n0, hf⟩ := hf
  refine g_sub [1, 2, 0] rfl ?_
  exact B2 n0 _ _ _ _ hf

def w_M_gaps_89 (Q : Int32 → St → Prop) (K68 : Int32 → Int32 → Int32 → St → Prop) (x2 : Int32) (x4 : Int32) (z0 : Int32) (z1 : Int32) (χ : St) : Prop := (K68 x2 (z1 + z0) (x4 + (1 : Int32)) χ)
def w_M_gaps_68 (Q : Int32 → St → Prop) : Nat → Int32 → Int32 → Int32 → St → Prop
  | 0 => fun _ _ _ _ => False
  | n + 1 => fun x2 x3 x4 χ => ((x2 < x4 → (Q x3 χ)) ∧ (¬ x2 < x4 → (w_M_houseOf x4 χ (fun r1 χ2 => ((0 ≤ r1 → (w_M_gaps_89 Q (w_M_gaps_68 Q n) x2 x4 (0 : Int32) x3 χ2)) ∧ (¬ 0 ≤ r1 → (w_M_gaps_89 Q (w_M_gaps_68 Q n) x2 x4 (1 : Int32) x3 χ2)))))))
def w_M_gaps_56 (Q : Int32 → St → Prop) (K7 : Int32 → Int32 → Int32 → St → Prop) (x1 : Int32) (x3 : Int32) (z0 : Int32) (χ : St) : Prop := (K7 x1 z0 (x3 + (1 : Int32)) χ)
def w_M_gaps_35 (Q : Int32 → St → Prop) (K7 : Int32 → Int32 → Int32 → St → Prop) (x2 : Int32) (x3 : Int32) (z0 : Int32) (χ : St) : Prop := (vp_in x3 10) ∧ ((((gI χ 59 0 x3.toNatClampNeg) ≤ x2 → (w_M_gaps_56 Q K7 z0 x3 x2 χ)) ∧ (¬ (gI χ 59 0 x3.toNatClampNeg) ≤ x2 → (vp_in x3 10) ∧ ((w_M_gaps_56 Q K7 z0 x3 (gI χ 59 0 x3.toNatClampNeg) χ)))))
def w_M_gaps_7 (Q : Int32 → St → Prop) : Nat → Int32 → Int32 → Int32 → St → Prop
  | 0 => fun _ _ _ _ => False
  | n + 1 => fun x1 x2 x3 χ => (((gI χ 4127 0 0) ≤ x3 → (∃ k68, w_M_gaps_68 Q k68 x2 (0 : Int32) x1 χ)) ∧ (¬ (gI χ 4127 0 0) ≤ x3 → (vp_in x3 10) ∧ (((x1 ≤ (gI χ 58 0 x3.toNatClampNeg) → (w_M_gaps_35 Q (w_M_gaps_7 Q n) x2 x3 x1 χ)) ∧ (¬ x1 ≤ (gI χ 58 0 x3.toNatClampNeg) → (vp_in x3 10) ∧ ((w_M_gaps_35 Q (w_M_gaps_7 Q n) x2 x3 (gI χ 58 0 x3.toNatClampNeg) χ)))))))
def w_M_gaps (χ : St) (Q : Int32 → St → Prop) : Prop := (∃ k7, w_M_gaps_7 Q k7 (30 : Int32) (-1 : Int32) (0 : Int32) χ)
set_option maxHeartbeats 4000000 in
theorem mt_M_gaps (l : Launch) (Γ : Gh) (ad : Nat → Nat → Nat) (χ : St) (Q : Int32 → St → Prop) : Mt l yX4_gaps (ws_ yX4_gaps cX4_gaps 5 (some .int)) (rmO (2) (47) χ) (Pm Γ ad χ [.ref (ad 40 0)] (w_M_gaps χ Q)) (Qm Γ true ad χ (pI Q)) (frB Γ) := by
  refine Mt.start (by decide) RX4 rfl (Nat.le_of_ble_eq_true rfl) ?_
  intro X hX hG _ _ hna _ hf
  have B89 : ∀ (K68 : Int32 → Int32 → Int32 → St → Prop) (hK68 : ∀ (ad : Nat → Nat → Nat) (x2 : Int32) (x3 : Int32) (x4 : Int32) (χ : St), K68 x2 x3 x4 χ → G X ad χ 68 [(0, .ref (ad 40 0)), (2, .int x2), (3, .int x3), (4, .int x4)] []) (ad : Nat → Nat → Nat) (x2 : Int32) (x4 : Int32) (z0 : Int32) (z1 : Int32) (χ : St), w_M_gaps_89 Q K68 x2 x4 z0 z1 χ → G X ad χ 89 [(0, .ref (ad 40 0)), (2, .int x2), (4, .int x4)] [.int z0, .int z1] := by
    intro K68 hK68 ad x2 x4 z0 z1 χ hf
    unfold w_M_gaps_89 at hf
    refine g_iadd hX dX4_gaps_89 ?_
    refine g_istore_n hX dX4_gaps_90 rfl (by decide) rfl ?_
    refine g_iinc hX (v := _) 3 dX4_gaps_91 rfl rfl (by decide) rfl ?_
    refine g_goto hX 68 dX4_gaps_94 (by decide) ?_
    refine g_sub [2, 3, 1, 0] rfl ?_
    exact hK68 _ _ _ _ _ hf
  have B68 : ∀ (n : Nat) (ad : Nat → Nat → Nat) (x2 : Int32) (x3 : Int32) (x4 : Int32) (χ : St), w_M_gaps_68 Q n x2 x3 x4 χ → G X ad χ 68 [(0, .ref (ad 40 0)), (2, .int x2), (3, .int x3), (4, .int x4)] [] := by
    intro n
    induction n with
    | zero => intro ad x2 x3 x4 χ hf; exact hf.elim
    | succ n hK68 =>
      intro ad x2 x3 x4 χ hf
      unfold w_M_gaps_68 at hf
      refine g_iload hX 3 dX4_gaps_68 rfl ?_
      refine g_iload_n hX 1 dX4_gaps_70 rfl rfl ?_
      refine g_icmp_gt hX 97 dX4_gaps_71 (by decide) (fun z => ?_) (fun z => ?_)
      · replace hf := hf.1 z
        refine g_iload_n hX 2 dX4_gaps_97 rfl rfl ?_
        exact g_iret hX ⟨_, rfl, hf⟩ dX4_gaps_98
      · replace hf := hf.2 z
        refine g_iload_n hX 2 dX4_gaps_74 rfl rfl ?_
        refine g_aload_n hX 0 dX4_gaps_75 rfl rfl ?_
        refine g_iload hX 3 dX4_gaps_76 rfl ?_
        refine g_callVi hX (n := 1) (mt_M_houseOf X.l X.Γ _ _ _ _) hf q1894 q1896 qs74 q89 q1897 ⟨rfl, hy_M_houseOf⟩ (by decide) (fc40 _) ff40 rfl rfl rfl (Nat.le_of_ble_eq_true rfl) dX4_gaps_78 (fun r1 χ2 hf hc2 => ?_)
        refine g_if_ge hX 88 dX4_gaps_81 (by decide) (fun z => ?_) (fun z => ?_)
        · replace hf := hf.1 z
          refine g_iconst hX (v := (0 : Int32)) dX4_gaps_88 rfl ?_
          refine g_sub [0, 1, 3] rfl ?_
          exact B89 (w_M_gaps_68 Q n) hK68 _ _ _ _ _ _ hf
        · replace hf := hf.2 z
          refine g_iconst hX (v := (1 : Int32)) dX4_gaps_84 rfl ?_
          refine g_goto hX 89 dX4_gaps_85 (by decide) ?_
          refine g_sub [0, 1, 3] rfl ?_
          exact B89 (w_M_gaps_68 Q n) hK68 _ _ _ _ _ _ hf
  have B56 : ∀ (K7 : Int32 → Int32 → Int32 → St → Prop) (hK7 : ∀ (ad : Nat → Nat → Nat) (x1 : Int32) (x2 : Int32) (x3 : Int32) (χ : St), K7 x1 x2 x3 χ → G X ad χ 7 [(0, .ref (ad 40 0)), (1, .int x1), (2, .int x2), (3, .int x3)] []) (ad : Nat → Nat → Nat) (x1 : Int32) (x3 : Int32) (z0 : Int32) (χ : St), w_M_gaps_56 Q K7 x1 x3 z0 χ → G X ad χ 56 [(0, .ref (ad 40 0)), (1, .int x1), (3, .int x3)] [.int z0] := by
    intro K7 hK7 ad x1 x3 z0 χ hf
    unfold w_M_gaps_56 at hf
    refine g_istore_n hX dX4_gaps_56 rfl (by decide) rfl ?_
    refine g_iinc hX (v := _) 3 dX4_gaps_57 rfl rfl (by decide) rfl ?_
    refine g_goto hX 7 dX4_gaps_60 (by decide) ?_
    refine g_sub [2, 3, 1, 0] rfl ?_
    exact hK7 _ _ _ _ _ hf
  have B35 : ∀ (K7 : Int32 → Int32 → Int32 → St → Prop) (hK7 : ∀ (ad : Nat → Nat → Nat) (x1 : Int32) (x2 : Int32) (x3 : Int32) (χ : St), K7 x1 x2 x3 χ → G X ad χ 7 [(0, .ref (ad 40 0)), (1, .int x1), (2, .int x2), (3, .int x3)] []) (ad : Nat → Nat → Nat) (x2 : Int32) (x3 : Int32) (z0 : Int32) (χ : St), w_M_gaps_35 Q K7 x2 x3 z0 χ → G X ad χ 35 [(0, .ref (ad 40 0)), (2, .int x2), (3, .int x3)] [.int z0] := by
    intro K7 hK7 ad x2 x3 z0 χ hf
    unfold w_M_gaps_35 at hf
    refine g_istore_n hX dX4_gaps_35 rfl (by decide) rfl ?_
    refine g_aload_n hX 1 dX4_gaps_36 rfl rfl ?_
    refine g_getK hX (k := 29) (d := 59) (fc40 _) ff40 rfl (by decide) rfl rfl in_X4 (by decide) q1534 dX4_gaps_37 ?_
    refine g_iload_n hX 3 dX4_gaps_40 rfl rfl ?_
    refine g_iald hX (fc59 _) ff59 rfl hf.1 dX4_gaps_41 ?_
    replace hf := hf.2
    refine g_iload_n hX 2 dX4_gaps_42 rfl rfl ?_
    refine g_icmp_le hX 55 dX4_gaps_43 (by decide) (fun z => ?_) (fun z => ?_)
    · replace hf := hf.1 z
      refine g_iload_n hX 2 dX4_gaps_55 rfl rfl ?_
      refine g_sub [1, 0, 3] rfl ?_
      exact B56 K7 hK7 _ _ _ _ _ hf
    · replace hf := hf.2 z
      refine g_aload_n hX 1 dX4_gaps_46 rfl rfl ?_
      refine g_getK hX (k := 29) (d := 59) (fc40 _) ff40 rfl (by decide) rfl rfl in_X4 (by decide) q1534 dX4_gaps_47 ?_
      refine g_iload_n hX 3 dX4_gaps_50 rfl rfl ?_
      refine g_iald hX (fc59 _) ff59 rfl hf.1 dX4_gaps_51 ?_
      replace hf := hf.2
      refine g_goto hX 56 dX4_gaps_52 (by decide) ?_
      refine g_sub [1, 0, 3] rfl ?_
      exact B56 K7 hK7 _ _ _ _ _ hf
  have B7 : ∀ (n : Nat) (ad : Nat → Nat → Nat) (x1 : Int32) (x2 : Int32) (x3 : Int32) (χ : St), w_M_gaps_7 Q n x1 x2 x3 χ → G X ad χ 7 [(0, .ref (ad 40 0)), (1, .int x1), (2, .int x2), (3, .int x3)] [] := by
    intro n
    induction n with
    | zero => intro ad x1 x2 x3 χ hf; exact hf.elim
    | succ n hK7 =>
      intro ad x1 x2 x3 χ hf
      unfold w_M_gaps_7 at hf
      refine g_iload_n hX 3 dX4_gaps_7 rfl rfl ?_
      refine g_aload_n hX 0 dX4_gaps_8 rfl rfl ?_
      refine g_getI hX (k := 27) (fc40 _) ff40 rfl rfl in_X4 (by decide) q1532 dX4_gaps_9 ?_
      refine g_icmp_ge hX 63 dX4_gaps_12 (by decide) (fun z => ?_) (fun z => ?_)
      · replace hf := hf.1 z
        refine g_iconst hX (v := (0 : Int32)) dX4_gaps_63 rfl ?_
        refine g_istore_n hX dX4_gaps_64 rfl (by decide) rfl ?_
        refine g_iload_n hX 2 dX4_gaps_65 rfl rfl ?_
        refine g_istore hX dX4_gaps_66 (by decide) rfl ?_
        obtain ⟨n0, hf⟩ := hf
        refine g_sub [2, 4, 1, 0] rfl ?_
        exact B68 n0 _ _ _ _ _ hf
      · replace hf := hf.2 z
        refine g_aload_n hX 0 dX4_gaps_15 rfl rfl ?_
        refine g_getK hX (k := 28) (d := 58) (fc40 _) ff40 rfl (by decide) rfl rfl in_X4 (by decide) q1533 dX4_gaps_16 ?_
        refine g_iload_n hX 3 dX4_gaps_19 rfl rfl ?_
        refine g_iald hX (fc58 _) ff58 rfl hf.1 dX4_gaps_20 ?_
        replace hf := hf.2
        refine g_iload_n hX 1 dX4_gaps_21 rfl rfl ?_
        refine g_icmp_ge hX 34 dX4_gaps_22 (by decide) (fun z => ?_) (fun z => ?_)
        · replace hf := hf.1 z
          refine g_iload_n hX 1 dX4_gaps_34 rfl rfl ?_
          refine g_sub [0, 2, 3] rfl ?_
          exact B35 (w_M_gaps_7 Q n) hK7 _ _ _ _ _ hf
        · replace hf := hf.2 z
          refine g_aload_n hX 0 dX4_gaps_25 rfl rfl ?_
          refine g_getK hX (k := 28) (d := 58) (fc40 _) ff40 rfl (by decide) rfl rfl in_X4 (by decide) q1533 dX4_gaps_26 ?_
          refine g_iload_n hX 3 dX4_gaps_29 rfl rfl ?_
          refine g_iald hX (fc58 _) ff58 rfl hf.1 dX4_gaps_30 ?_
          replace hf := hf.2
          refine g_goto hX 35 dX4_gaps_31 (by decide) ?_
          refine g_sub [0, 2, 3] rfl ?_
          exact B35 (w_M_gaps_7 Q n) hK7 _ _ _ _ _ hf
  unfold w_M_gaps at hf
  refine g_bipush hX (v := (30 : Int32)) dX4_gaps_0 rfl ?_
  refine g_istore_n hX dX4_gaps_2 rfl (by decide) rfl ?_
  refine g_iconst hX (v := (-1 : Int32)) dX4_gaps_3 rfl ?_
  refine g_istore_n hX dX4_gaps_4 rfl (by decide) rfl ?_
  refine g_iconst hX (v := (0 : Int32)) dX4_gaps_5 rfl ?_
  refine g_istore_n hX dX4_gaps_6 rfl (by decide) rfl ?_
  obtain ⟨n0, hf⟩ := hf
  refine g_sub [3, 2, 1, 0] rfl ?_
  exact B7 n0 _ _ _ _ _ hf

def w_M_papers (x1 : Int32) (χ : St) (Q : Int32 → St → Prop) : Prop := ((¬ x1 = 0 → ((¬ x1 = (1 : Int32) → (Q (-1 : Int32) χ)) ∧ (x1 = (1 : Int32) → (w_M_gaps χ (fun r1 χ2 => (Q r1 χ2)))))) ∧ (x1 = 0 → (w_M_clash χ (fun r3 χ4 => (Q r3 χ4)))))
set_option maxHeartbeats 4000000 in
theorem mt_M_papers (l : Launch) (Γ : Gh) (ad : Nat → Nat → Nat) (x1 : Int32) (χ : St) (Q : Int32 → St → Prop) : Mt l yX4_papers (ws_ yX4_papers cX4_papers 2 (some .int)) (rmO (3) (71) χ) (Pm Γ ad χ [.ref (ad 40 0), .int x1] (w_M_papers x1 χ Q)) (Qm Γ true ad χ (pI Q)) (frB Γ) := by
  refine Mt.start (by decide) RX4 rfl (Nat.le_of_ble_eq_true rfl) ?_
  intro X hX hG _ _ hna _ hf
  unfold w_M_papers at hf
  refine g_iload_n hX 1 dX4_papers_0 rfl rfl ?_
  refine g_if_ne hX 11 dX4_papers_1 (by decide) (fun z => ?_) (fun z => ?_)
  · replace hf := hf.1 z
    refine g_iload_n hX 1 dX4_papers_11 rfl rfl ?_
    refine g_iconst hX (v := (1 : Int32)) dX4_papers_12 rfl ?_
    refine g_icmp_ne hX 23 dX4_papers_13 (by decide) (fun z => ?_) (fun z => ?_)
    · replace hf := hf.1 z
      refine g_iconst hX (v := (-1 : Int32)) dX4_papers_23 rfl ?_
      exact g_iret hX ⟨_, rfl, hf⟩ dX4_papers_24
    · replace hf := hf.2 z
      refine g_aload_n hX 0 dX4_papers_16 rfl rfl ?_
      refine g_callVi hX (n := 0) (mt_M_gaps X.l X.Γ _ _ _) hf q1890 q1892 qs73 q89 q1893 ⟨rfl, hy_M_gaps⟩ (by decide) (fc40 _) ff40 rfl rfl rfl (Nat.le_of_ble_eq_true rfl) dX4_papers_17 (fun r1 χ2 hf hc2 => ?_)
      refine g_goto hX 24 dX4_papers_20 (by decide) ?_
      exact g_iret hX ⟨_, rfl, hf⟩ dX4_papers_24
  · replace hf := hf.2 z
    refine g_aload_n hX 0 dX4_papers_4 rfl rfl ?_
    refine g_callVi hX (n := 0) (mt_M_clash X.l X.Γ _ _ _) hf q1886 q1888 qs72 q89 q1889 ⟨rfl, hy_M_clash⟩ (by decide) (fc40 _) ff40 rfl rfl rfl (Nat.le_of_ble_eq_true rfl) dX4_papers_5 (fun r3 χ4 hf hc4 => ?_)
    refine g_goto hX 24 dX4_papers_8 (by decide) ?_
    exact g_iret hX ⟨_, rfl, hf⟩ dX4_papers_24

def w_M_house (x1 : Int32) (χ : St) (Q : Int32 → St → Prop) : Prop := (w_M_within x1.toInt64 (0 : Int64) (29 : Int64) χ (fun r1 χ2 => ((r1 = 0 → (Q (-1 : Int32) χ2)) ∧ (¬ r1 = 0 → (w_M_houseOf x1 χ2 (fun r3 χ4 => (Q r3 χ4)))))))
set_option maxHeartbeats 4000000 in
theorem mt_M_house (l : Launch) (Γ : Gh) (ad : Nat → Nat → Nat) (x1 : Int32) (χ : St) (Q : Int32 → St → Prop) : Mt l yX4_house (ws_ yX4_house cX4_house 2 (some .int)) (rmO (2) (47) χ) (Pm Γ ad χ [.ref (ad 40 0), .int x1] (w_M_house x1 χ Q)) (Qm Γ true ad χ (pI Q)) (frB Γ) := by
  refine Mt.start (by decide) RX4 rfl (Nat.le_of_ble_eq_true rfl) ?_
  intro X hX hG _ _ hna _ hf
  unfold w_M_house at hf
  refine g_iload_n hX 1 dX4_house_0 rfl rfl ?_
  refine g_i2l hX dX4_house_1 ?_
  refine g_lconst hX (v := (0 : Int64)) dX4_house_2 rfl ?_
  refine g_ldc2 hX q1902 dX4_house_3 ?_
  refine g_callSi hX (n := 3) (mt_M_within X.l X.Γ _ _ _ _ _ _) hf q1651 q1652 q89 q1653 hy_M_within (by decide) rfl rfl (Nat.le_of_ble_eq_true rfl) dX4_house_6 (fun r1 χ2 hf hc2 => ?_)
  refine g_if_eq hX 20 dX4_house_9 (by decide) (fun z => ?_) (fun z => ?_)
  · replace hf := hf.1 z
    refine g_iconst hX (v := (-1 : Int32)) dX4_house_20 rfl ?_
    exact g_iret hX ⟨_, rfl, hf⟩ dX4_house_21
  · replace hf := hf.2 z
    refine g_aload_n hX 0 dX4_house_12 rfl rfl ?_
    refine g_iload_n hX 1 dX4_house_13 rfl rfl ?_
    refine g_callVi hX (n := 1) (mt_M_houseOf X.l X.Γ _ _ _ _) hf q1894 q1896 qs74 q89 q1897 ⟨rfl, hy_M_houseOf⟩ (by decide) (fc40 _) ff40 rfl rfl rfl (Nat.le_of_ble_eq_true rfl) dX4_house_14 (fun r3 χ4 hf hc4 => ?_)
    refine g_goto hX 21 dX4_house_17 (by decide) ?_
    exact g_iret hX ⟨_, rfl, hf⟩ dX4_house_21

def w_M_drawn_187 (Q : Int32 → St → Prop) (K79 : Int32 → Int32 → Int32 → Int32 → Int32 → Int32 → St → Prop) (x2 : Int32) (x3 : Int32) (x4 : Int32) (x5 : Int32) (x7 : Int32) (z0 : Int32) (z1 : Int32) (χ : St) : Prop := (K79 x2 x3 x4 x5 (z1 + z0) (x7 + (1 : Int32)) χ)
def w_M_drawn_186 (Q : Int32 → St → Prop) (K79 : Int32 → Int32 → Int32 → Int32 → Int32 → Int32 → St → Prop) (x2 : Int32) (x3 : Int32) (x4 : Int32) (x5 : Int32) (x7 : Int32) (z0 : Int32) (χ : St) : Prop := (w_M_drawn_187 Q K79 x2 x3 x4 x5 x7 (0 : Int32) z0 χ)
def w_M_drawn_151 (Q : Int32 → St → Prop) (K79 : Int32 → Int32 → Int32 → Int32 → Int32 → Int32 → St → Prop) (K88 : Int32 → Int32 → Int32 → Int32 → Int32 → Int32 → Int32 → St → Prop) (x2 : Int32) (x3 : Int32) (x4 : Int32) (x5 : Int32) (x6 : Int32) (x7 : Int32) (x8 : Int32) (z0 : Int32) (z1 : Int32) (χ : St) : Prop := (vp_in z1 6) ∧ ((∀ χ13 : St, χ13 = (sI χ 53 0 z1.toNatClampNeg z0) → (K88 x2 x3 x4 x5 x6 x7 (x8 + (1 : Int32)) χ13)))
def w_M_drawn_88 (Q : Int32 → St → Prop) (K79 : Int32 → Int32 → Int32 → Int32 → Int32 → Int32 → St → Prop) : Nat → Int32 → Int32 → Int32 → Int32 → Int32 → Int32 → Int32 → St → Prop
  | 0 => fun _ _ _ _ _ _ _ _ => False
  | n + 1 => fun x2 x3 x4 x5 x6 x7 x8 χ => (((6 : Int32) ≤ x8 → (w_M_weighs χ (fun χ9 => (((lg_cmp (gL χ9 4124 0 0) (0 : Int64)) ≤ 0 → (w_M_drawn_186 Q K79 x2 x3 x4 x5 x7 x6 χ9)) ∧ (¬ (lg_cmp (gL χ9 4124 0 0) (0 : Int64)) ≤ 0 → (w_M_mostOf χ9 (fun r10 χ11 => ((¬ r10 = x4 → (w_M_drawn_186 Q K79 x2 x3 x4 x5 x7 x6 χ11)) ∧ (r10 = x4 → (w_M_drawn_187 Q K79 x2 x3 x4 x5 x7 (1 : Int32) x6 χ11)))))))))) ∧ (¬ (6 : Int32) ≤ x8 → (∀ v12 : Int32, v12 = ((x5 * (1103515245 : Int32)) + (12345 : Int32)) → (vp_in ((((180 : Int32) * x8) + ((30 : Int32) * x4)) + (x3 - x3 / (100 : Int32) * (100 : Int32))) 1080) ∧ ((((gI χ 52 0 ((((180 : Int32) * x8) + ((30 : Int32) * x4)) + (x3 - x3 / (100 : Int32) * (100 : Int32))).toNatClampNeg) ≤ ((v12.toUInt32 >>> ((8 : Int32).toUInt32 &&& Int32.toUInt32 31)).toInt32 - (v12.toUInt32 >>> ((8 : Int32).toUInt32 &&& Int32.toUInt32 31)).toInt32 / (100 : Int32) * (100 : Int32)) → (w_M_drawn_151 Q K79 (w_M_drawn_88 Q K79 n) x2 x3 x4 v12 x6 x7 x8 (2 : Int32) x8 χ)) ∧ (¬ (gI χ 52 0 ((((180 : Int32) * x8) + ((30 : Int32) * x4)) + (x3 - x3 / (100 : Int32) * (100 : Int32))).toNatClampNeg) ≤ ((v12.toUInt32 >>> ((8 : Int32).toUInt32 &&& Int32.toUInt32 31)).toInt32 - (v12.toUInt32 >>> ((8 : Int32).toUInt32 &&& Int32.toUInt32 31)).toInt32 / (100 : Int32) * (100 : Int32)) → (w_M_drawn_151 Q K79 (w_M_drawn_88 Q K79 n) x2 x3 x4 v12 x6 x7 x8 (1 : Int32) x8 χ)))))))
def w_M_drawn_79 (Q : Int32 → St → Prop) : Nat → Int32 → Int32 → Int32 → Int32 → Int32 → Int32 → St → Prop
  | 0 => fun _ _ _ _ _ _ _ => False
  | n + 1 => fun x2 x3 x4 x5 x6 x7 χ => ((x2 ≤ x7 → (Q x6 χ)) ∧ (¬ x2 ≤ x7 → (∃ k88, w_M_drawn_88 Q (w_M_drawn_79 Q n) k88 x2 x3 x4 x5 x6 x7 (0 : Int32) χ)))
def w_M_drawn (x1 : Int32) (x2 : Int32) (x3 : Int32) (χ : St) (Q : Int32 → St → Prop) : Prop := (w_M_within x2.toInt64 (1 : Int64) (30 : Int64) χ (fun r1 χ2 => ((r1 = 0 → (Q (-1 : Int32) χ2)) ∧ (¬ r1 = 0 → ((x3 < 0 → (Q (-1 : Int32) χ2)) ∧ (¬ x3 < 0 → (w_M_isPart (x3 / (1000 : Int32)) χ2 (fun r3 χ4 => ((r3 = 0 → (Q (-1 : Int32) χ4)) ∧ (¬ r3 = 0 → (w_M_isKind ((x3 / (100 : Int32)) - (x3 / (100 : Int32)) / (10 : Int32) * (10 : Int32)) χ4 (fun r5 χ6 => ((r5 = 0 → (Q (-1 : Int32) χ6)) ∧ (¬ r5 = 0 → (((x3 - x3 / (100 : Int32) * (100 : Int32)) < (30 : Int32) → (∀ v7 : Int32, v7 = ((x3 / (100 : Int32)) - (x3 / (100 : Int32)) / (10 : Int32) * (10 : Int32)) → (w_M_looksAt (x3 / (1000 : Int32)) χ6 (fun χ8 => (∃ k79, w_M_drawn_79 Q k79 x2 x3 v7 x1 (0 : Int32) (0 : Int32) χ8))))) ∧ (¬ (x3 - x3 / (100 : Int32) * (100 : Int32)) < (30 : Int32) → (Q (-1 : Int32) χ6)))))))))))))))))
set_option maxHeartbeats 4000000 in
theorem mt_M_drawn (l : Launch) (Γ : Gh) (ad : Nat → Nat → Nat) (x1 : Int32) (x2 : Int32) (x3 : Int32) (χ : St) (Q : Int32 → St → Prop) : Mt l yX4_drawn (ws_ yX4_drawn cX4_drawn 9 (some .int)) (rmO (57) (1308) χ) (Pm Γ ad χ [.ref (ad 40 0), .int x1, .int x2, .int x3] (w_M_drawn x1 x2 x3 χ Q)) (Qm Γ true ad χ (pI Q)) (frB Γ) := by
  refine Mt.start (by decide) RX4 rfl (Nat.le_of_ble_eq_true rfl) ?_
  intro X hX hG _ _ hna _ hf
  have B187 : ∀ (K79 : Int32 → Int32 → Int32 → Int32 → Int32 → Int32 → St → Prop) (hK79 : ∀ (ad : Nat → Nat → Nat) (x2 : Int32) (x3 : Int32) (x4 : Int32) (x5 : Int32) (x6 : Int32) (x7 : Int32) (χ : St), K79 x2 x3 x4 x5 x6 x7 χ → G X ad χ 79 [(0, .ref (ad 40 0)), (2, .int x2), (3, .int x3), (4, .int x4), (5, .int x5), (6, .int x6), (7, .int x7)] []) (ad : Nat → Nat → Nat) (x2 : Int32) (x3 : Int32) (x4 : Int32) (x5 : Int32) (x7 : Int32) (z0 : Int32) (z1 : Int32) (χ : St), w_M_drawn_187 Q K79 x2 x3 x4 x5 x7 z0 z1 χ → G X ad χ 187 [(0, .ref (ad 40 0)), (2, .int x2), (3, .int x3), (4, .int x4), (5, .int x5), (7, .int x7)] [.int z0, .int z1] := by
    intro K79 hK79 ad x2 x3 x4 x5 x7 z0 z1 χ hf
    unfold w_M_drawn_187 at hf
    refine g_iadd hX dX4_drawn_187 ?_
    refine g_istore hX dX4_drawn_188 (by decide) rfl ?_
    refine g_iinc hX (v := _) 6 dX4_drawn_190 rfl rfl (by decide) rfl ?_
    refine g_goto hX 79 dX4_drawn_193 (by decide) ?_
    refine g_sub [2, 3, 4, 5, 6, 1, 0] rfl ?_
    exact hK79 _ _ _ _ _ _ _ _ hf
  have B186 : ∀ (K79 : Int32 → Int32 → Int32 → Int32 → Int32 → Int32 → St → Prop) (hK79 : ∀ (ad : Nat → Nat → Nat) (x2 : Int32) (x3 : Int32) (x4 : Int32) (x5 : Int32) (x6 : Int32) (x7 : Int32) (χ : St), K79 x2 x3 x4 x5 x6 x7 χ → G X ad χ 79 [(0, .ref (ad 40 0)), (2, .int x2), (3, .int x3), (4, .int x4), (5, .int x5), (6, .int x6), (7, .int x7)] []) (ad : Nat → Nat → Nat) (x2 : Int32) (x3 : Int32) (x4 : Int32) (x5 : Int32) (x7 : Int32) (z0 : Int32) (χ : St), w_M_drawn_186 Q K79 x2 x3 x4 x5 x7 z0 χ → G X ad χ 186 [(0, .ref (ad 40 0)), (2, .int x2), (3, .int x3), (4, .int x4), (5, .int x5), (7, .int x7)] [.int z0] := by
    intro K79 hK79 ad x2 x3 x4 x5 x7 z0 χ hf
    unfold w_M_drawn_186 at hf
    refine g_iconst hX (v := (0 : Int32)) dX4_drawn_186 rfl ?_
    exact B187 K79 hK79 _ _ _ _ _ _ _ _ _ hf
  have B151 : ∀ (K79 : Int32 → Int32 → Int32 → Int32 → Int32 → Int32 → St → Prop) (hK79 : ∀ (ad : Nat → Nat → Nat) (x2 : Int32) (x3 : Int32) (x4 : Int32) (x5 : Int32) (x6 : Int32) (x7 : Int32) (χ : St), K79 x2 x3 x4 x5 x6 x7 χ → G X ad χ 79 [(0, .ref (ad 40 0)), (2, .int x2), (3, .int x3), (4, .int x4), (5, .int x5), (6, .int x6), (7, .int x7)] []) (K88 : Int32 → Int32 → Int32 → Int32 → Int32 → Int32 → Int32 → St → Prop) (hK88 : ∀ (ad : Nat → Nat → Nat) (x2 : Int32) (x3 : Int32) (x4 : Int32) (x5 : Int32) (x6 : Int32) (x7 : Int32) (x8 : Int32) (χ : St), K88 x2 x3 x4 x5 x6 x7 x8 χ → G X ad χ 88 [(0, .ref (ad 40 0)), (2, .int x2), (3, .int x3), (4, .int x4), (5, .int x5), (6, .int x6), (7, .int x7), (8, .int x8)] []) (ad : Nat → Nat → Nat) (x2 : Int32) (x3 : Int32) (x4 : Int32) (x5 : Int32) (x6 : Int32) (x7 : Int32) (x8 : Int32) (z0 : Int32) (z1 : Int32) (χ : St), w_M_drawn_151 Q K79 K88 x2 x3 x4 x5 x6 x7 x8 z0 z1 χ → G X ad χ 151 [(0, .ref (ad 40 0)), (2, .int x2), (3, .int x3), (4, .int x4), (5, .int x5), (6, .int x6), (7, .int x7), (8, .int x8)] [.int z0, .int z1, .ref (ad 53 0)] := by
    intro K79 hK79 K88 hK88 ad x2 x3 x4 x5 x6 x7 x8 z0 z1 χ hf
    unfold w_M_drawn_151 at hf
    refine g_iast hX (fc53 _) ff53 rfl hf.1 dX4_drawn_151 ?_
    replace hf := hf.2
    replace hf := hf _ rfl
    refine g_iinc hX (v := _) 7 dX4_drawn_152 rfl rfl (by decide) rfl ?_
    refine g_goto hX 88 dX4_drawn_155 (by decide) ?_
    refine g_sub [1, 2, 3, 4, 5, 6, 7, 0] rfl ?_
    exact hK88 _ _ _ _ _ _ _ _ _ hf
  have B88 : ∀ (K79 : Int32 → Int32 → Int32 → Int32 → Int32 → Int32 → St → Prop) (hK79 : ∀ (ad : Nat → Nat → Nat) (x2 : Int32) (x3 : Int32) (x4 : Int32) (x5 : Int32) (x6 : Int32) (x7 : Int32) (χ : St), K79 x2 x3 x4 x5 x6 x7 χ → G X ad χ 79 [(0, .ref (ad 40 0)), (2, .int x2), (3, .int x3), (4, .int x4), (5, .int x5), (6, .int x6), (7, .int x7)] []) (n : Nat) (ad : Nat → Nat → Nat) (x2 : Int32) (x3 : Int32) (x4 : Int32) (x5 : Int32) (x6 : Int32) (x7 : Int32) (x8 : Int32) (χ : St), w_M_drawn_88 Q K79 n x2 x3 x4 x5 x6 x7 x8 χ → G X ad χ 88 [(0, .ref (ad 40 0)), (2, .int x2), (3, .int x3), (4, .int x4), (5, .int x5), (6, .int x6), (7, .int x7), (8, .int x8)] [] := by
    intro K79 hK79 n
    induction n with
    | zero => intro ad x2 x3 x4 x5 x6 x7 x8 χ hf; exact hf.elim
    | succ n hK88 =>
      intro ad x2 x3 x4 x5 x6 x7 x8 χ hf
      unfold w_M_drawn_88 at hf
      refine g_iload hX 7 dX4_drawn_88 rfl ?_
      refine g_bipush hX (v := (6 : Int32)) dX4_drawn_90 rfl ?_
      refine g_icmp_ge hX 158 dX4_drawn_92 (by decide) (fun z => ?_) (fun z => ?_)
      · replace hf := hf.1 z
        refine g_aload_n hX 0 dX4_drawn_158 rfl rfl ?_
        refine g_callVv hX (n := 0) (mt_M_weighs X.l X.Γ _ _ _) hf q1782 q1784 qs62 q89 q1785 ⟨rfl, hy_M_weighs⟩ (by decide) (fc40 _) ff40 rfl rfl rfl (Nat.le_of_ble_eq_true rfl) dX4_drawn_159 (fun χ9 hf hc9 => ?_)
        refine g_iload hX 5 dX4_drawn_162 rfl ?_
        refine g_aload_n hX 0 dX4_drawn_164 rfl rfl ?_
        refine g_getL hX (k := 24) (fc40 _) ff40 rfl rfl in_X4 (by decide) q1529 dX4_drawn_165 ?_
        refine g_lconst hX (v := (0 : Int64)) dX4_drawn_168 rfl ?_
        refine g_lcmp hX dX4_drawn_169 ?_
        refine g_if_le hX 186 dX4_drawn_170 (by decide) (fun z => ?_) (fun z => ?_)
        · replace hf := hf.1 z
          refine g_sub [0, 1, 2, 3, 4, 6] rfl ?_
          exact B186 K79 hK79 _ _ _ _ _ _ _ _ hf
        · replace hf := hf.2 z
          refine g_aload_n hX 0 dX4_drawn_173 rfl rfl ?_
          refine g_callVi hX (n := 0) (mt_M_mostOf X.l X.Γ _ _ _) hf q1802 q1804 qs64 q89 q1805 ⟨rfl, hy_M_mostOf⟩ (by decide) (fc40 _) ff40 rfl rfl rfl (Nat.le_of_ble_eq_true rfl) dX4_drawn_174 (fun r10 χ11 hf hc11 => ?_)
          refine g_iload hX 3 dX4_drawn_177 rfl ?_
          refine g_icmp_ne hX 186 dX4_drawn_179 (by decide) (fun z => ?_) (fun z => ?_)
          · replace hf := hf.1 z
            refine g_sub [0, 1, 2, 3, 4, 6] rfl ?_
            exact B186 K79 hK79 _ _ _ _ _ _ _ _ hf
          · replace hf := hf.2 z
            refine g_iconst hX (v := (1 : Int32)) dX4_drawn_182 rfl ?_
            refine g_goto hX 187 dX4_drawn_183 (by decide) ?_
            refine g_sub [0, 1, 2, 3, 4, 6] rfl ?_
            exact B187 K79 hK79 _ _ _ _ _ _ _ _ _ hf
      · replace hf := hf.2 z
        refine g_iload hX 4 dX4_drawn_95 rfl ?_
        refine g_ldcw hX q1907 dX4_drawn_97 ?_
        refine g_imul hX dX4_drawn_100 ?_
        refine g_sipush hX (v := (12345 : Int32)) dX4_drawn_101 rfl ?_
        refine g_iadd hX dX4_drawn_104 ?_
        replace hf := hf _ rfl
        refine g_istore hX dX4_drawn_105 (by decide) rfl ?_
        refine g_aload_n hX 1 dX4_drawn_107 rfl rfl ?_
        refine g_getK hX (k := 21) (d := 53) (fc40 _) ff40 rfl (by decide) rfl rfl in_X4 (by decide) q1526 dX4_drawn_108 ?_
        refine g_iload hX 7 dX4_drawn_111 rfl ?_
        refine g_iload hX 0 dX4_drawn_113 rfl ?_
        refine g_bipush hX (v := (8 : Int32)) dX4_drawn_115 rfl ?_
        refine g_iushr hX dX4_drawn_117 ?_
        refine g_bipush hX (v := (100 : Int32)) dX4_drawn_118 rfl ?_
        refine g_irem hX dX4_drawn_120 (by decide) ?_
        refine g_aload_n hX 1 dX4_drawn_121 rfl rfl ?_
        refine g_getK hX (k := 20) (d := 52) (fc40 _) ff40 rfl (by decide) rfl rfl in_X4 (by decide) q1525 dX4_drawn_122 ?_
        refine g_sipush hX (v := (180 : Int32)) dX4_drawn_125 rfl ?_
        refine g_iload hX 7 dX4_drawn_128 rfl ?_
        refine g_imul hX dX4_drawn_130 ?_
        refine g_bipush hX (v := (30 : Int32)) dX4_drawn_131 rfl ?_
        refine g_iload hX 4 dX4_drawn_133 rfl ?_
        refine g_imul hX dX4_drawn_135 ?_
        refine g_iadd hX dX4_drawn_136 ?_
        refine g_iload_n hX 3 dX4_drawn_137 rfl rfl ?_
        refine g_bipush hX (v := (100 : Int32)) dX4_drawn_138 rfl ?_
        refine g_irem hX dX4_drawn_140 (by decide) ?_
        refine g_iadd hX dX4_drawn_141 ?_
        refine g_iald hX (fc52 _) ff52 rfl hf.1 dX4_drawn_142 ?_
        replace hf := hf.2
        refine g_icmp_ge hX 150 dX4_drawn_143 (by decide) (fun z => ?_) (fun z => ?_)
        · replace hf := hf.1 z
          refine g_iconst hX (v := (2 : Int32)) dX4_drawn_150 rfl ?_
          refine g_sub [1, 2, 3, 4, 0, 5, 6, 7] rfl ?_
          exact B151 K79 hK79 (w_M_drawn_88 Q K79 n) hK88 _ _ _ _ _ _ _ _ _ _ _ hf
        · replace hf := hf.2 z
          refine g_iconst hX (v := (1 : Int32)) dX4_drawn_146 rfl ?_
          refine g_goto hX 151 dX4_drawn_147 (by decide) ?_
          refine g_sub [1, 2, 3, 4, 0, 5, 6, 7] rfl ?_
          exact B151 K79 hK79 (w_M_drawn_88 Q K79 n) hK88 _ _ _ _ _ _ _ _ _ _ _ hf
  have B79 : ∀ (n : Nat) (ad : Nat → Nat → Nat) (x2 : Int32) (x3 : Int32) (x4 : Int32) (x5 : Int32) (x6 : Int32) (x7 : Int32) (χ : St), w_M_drawn_79 Q n x2 x3 x4 x5 x6 x7 χ → G X ad χ 79 [(0, .ref (ad 40 0)), (2, .int x2), (3, .int x3), (4, .int x4), (5, .int x5), (6, .int x6), (7, .int x7)] [] := by
    intro n
    induction n with
    | zero => intro ad x2 x3 x4 x5 x6 x7 χ hf; exact hf.elim
    | succ n hK79 =>
      intro ad x2 x3 x4 x5 x6 x7 χ hf
      unfold w_M_drawn_79 at hf
      refine g_iload hX 6 dX4_drawn_79 rfl ?_
      refine g_iload_n hX 1 dX4_drawn_81 rfl rfl ?_
      refine g_icmp_ge hX 196 dX4_drawn_82 (by decide) (fun z => ?_) (fun z => ?_)
      · replace hf := hf.1 z
        refine g_iload hX 5 dX4_drawn_196 rfl ?_
        exact g_iret hX ⟨_, rfl, hf⟩ dX4_drawn_198
      · replace hf := hf.2 z
        refine g_iconst hX (v := (0 : Int32)) dX4_drawn_85 rfl ?_
        refine g_istore hX dX4_drawn_86 (by decide) rfl ?_
        obtain ⟨n0, hf⟩ := hf
        refine g_sub [1, 2, 3, 4, 5, 6, 7, 0] rfl ?_
        exact B88 (w_M_drawn_79 Q n) hK79 n0 _ _ _ _ _ _ _ _ _ hf
  unfold w_M_drawn at hf
  refine g_iload_n hX 2 dX4_drawn_0 rfl rfl ?_
  refine g_i2l hX dX4_drawn_1 ?_
  refine g_lconst hX (v := (1 : Int64)) dX4_drawn_2 rfl ?_
  refine g_ldc2 hX q1703 dX4_drawn_3 ?_
  refine g_callSi hX (n := 3) (mt_M_within X.l X.Γ _ _ _ _ _ _) hf q1651 q1652 q89 q1653 hy_M_within (by decide) rfl rfl (Nat.le_of_ble_eq_true rfl) dX4_drawn_6 (fun r1 χ2 hf hc2 => ?_)
  refine g_if_eq hX 50 dX4_drawn_9 (by decide) (fun z => ?_) (fun z => ?_)
  · replace hf := hf.1 z
    refine g_iconst hX (v := (-1 : Int32)) dX4_drawn_50 rfl ?_
    exact g_iret hX ⟨_, rfl, hf⟩ dX4_drawn_51
  · replace hf := hf.2 z
    refine g_iload_n hX 3 dX4_drawn_12 rfl rfl ?_
    refine g_if_lt hX 50 dX4_drawn_13 (by decide) (fun z => ?_) (fun z => ?_)
    · replace hf := hf.1 z
      refine g_iconst hX (v := (-1 : Int32)) dX4_drawn_50 rfl ?_
      exact g_iret hX ⟨_, rfl, hf⟩ dX4_drawn_51
    · replace hf := hf.2 z
      refine g_aload_n hX 0 dX4_drawn_16 rfl rfl ?_
      refine g_iload_n hX 3 dX4_drawn_17 rfl rfl ?_
      refine g_sipush hX (v := (1000 : Int32)) dX4_drawn_18 rfl ?_
      refine g_idiv hX dX4_drawn_21 (by decide) ?_
      refine g_callVi hX (n := 1) (mt_M_isPart X.l X.Γ _ _ _ _) hf q1690 q1692 qs47 q89 q1693 ⟨rfl, hy_M_isPart⟩ (by decide) (fc40 _) ff40 rfl rfl rfl (Nat.le_of_ble_eq_true rfl) dX4_drawn_22 (fun r3 χ4 hf hc4 => ?_)
      refine g_if_eq hX 50 dX4_drawn_25 (by decide) (fun z => ?_) (fun z => ?_)
      · replace hf := hf.1 z
        refine g_iconst hX (v := (-1 : Int32)) dX4_drawn_50 rfl ?_
        exact g_iret hX ⟨_, rfl, hf⟩ dX4_drawn_51
      · replace hf := hf.2 z
        refine g_iload_n hX 3 dX4_drawn_28 rfl rfl ?_
        refine g_bipush hX (v := (100 : Int32)) dX4_drawn_29 rfl ?_
        refine g_idiv hX dX4_drawn_31 (by decide) ?_
        refine g_bipush hX (v := (10 : Int32)) dX4_drawn_32 rfl ?_
        refine g_irem hX dX4_drawn_34 (by decide) ?_
        refine g_callSi hX (n := 1) (mt_M_isKind X.l X.Γ _ _ _ _) hf q1672 q1673 q89 q1674 hy_M_isKind (by decide) rfl rfl (Nat.le_of_ble_eq_true rfl) dX4_drawn_35 (fun r5 χ6 hf hc6 => ?_)
        refine g_if_eq hX 50 dX4_drawn_38 (by decide) (fun z => ?_) (fun z => ?_)
        · replace hf := hf.1 z
          refine g_iconst hX (v := (-1 : Int32)) dX4_drawn_50 rfl ?_
          exact g_iret hX ⟨_, rfl, hf⟩ dX4_drawn_51
        · replace hf := hf.2 z
          refine g_iload_n hX 3 dX4_drawn_41 rfl rfl ?_
          refine g_bipush hX (v := (100 : Int32)) dX4_drawn_42 rfl ?_
          refine g_irem hX dX4_drawn_44 (by decide) ?_
          refine g_bipush hX (v := (30 : Int32)) dX4_drawn_45 rfl ?_
          refine g_icmp_lt hX 52 dX4_drawn_47 (by decide) (fun z => ?_) (fun z => ?_)
          · replace hf := hf.1 z
            refine g_iload_n hX 3 dX4_drawn_52 rfl rfl ?_
            refine g_bipush hX (v := (100 : Int32)) dX4_drawn_53 rfl ?_
            refine g_idiv hX dX4_drawn_55 (by decide) ?_
            refine g_bipush hX (v := (10 : Int32)) dX4_drawn_56 rfl ?_
            refine g_irem hX dX4_drawn_58 (by decide) ?_
            replace hf := hf _ rfl
            refine g_istore hX dX4_drawn_59 (by decide) rfl ?_
            refine g_aload_n hX 1 dX4_drawn_61 rfl rfl ?_
            refine g_iload_n hX 4 dX4_drawn_62 rfl rfl ?_
            refine g_sipush hX (v := (1000 : Int32)) dX4_drawn_63 rfl ?_
            refine g_idiv hX dX4_drawn_66 (by decide) ?_
            refine g_callVv hX (n := 1) (mt_M_looksAt X.l X.Γ _ _ _ _) hf q1778 q1780 qs61 q89 q1781 ⟨rfl, hy_M_looksAt⟩ (by decide) (fc40 _) ff40 rfl rfl rfl (Nat.le_of_ble_eq_true rfl) dX4_drawn_67 (fun χ8 hf hc8 => ?_)
            refine g_iload_n hX 2 dX4_drawn_70 rfl rfl ?_
            refine g_istore hX dX4_drawn_71 (by decide) rfl ?_
            refine g_iconst hX (v := (0 : Int32)) dX4_drawn_73 rfl ?_
            refine g_istore hX dX4_drawn_74 (by decide) rfl ?_
            refine g_iconst hX (v := (0 : Int32)) dX4_drawn_76 rfl ?_
            refine g_istore hX dX4_drawn_77 (by decide) rfl ?_
            obtain ⟨n0, hf⟩ := hf
            refine g_sub [4, 6, 7, 3, 2, 1, 0] rfl ?_
            exact B79 n0 _ _ _ _ _ _ _ _ hf
          · replace hf := hf.2 z
            refine g_iconst hX (v := (-1 : Int32)) dX4_drawn_50 rfl ?_
            exact g_iret hX ⟨_, rfl, hf⟩ dX4_drawn_51

def w_M_image_15 (Q : Int32 → St → Prop) : Nat → Int32 → St → Prop
  | 0 => fun _ _ => False
  | n + 1 => fun x1 χ => (((48 : Int32) ≤ x1 → (Q (gI χ 4106 0 0) χ)) ∧ (¬ (48 : Int32) ≤ x1 → (vp_in x1 48) ∧ ((vp_in x1 48) ∧ ((∀ χ3 : St, χ3 = (sI χ 61 0 x1.toNatClampNeg (gI χ 47 0 x1.toNatClampNeg)) → (w_M_image_15 Q n (x1 + (1 : Int32)) χ3))))))
def w_M_image (χ : St) (Q : Int32 → St → Prop) : Prop := (∀ χ1 : St, χ1 = (sI χ 4133 0 0 (1 : Int32)) → (∀ χ2 : St, χ2 = (sI χ1 4132 0 0 (gI χ1 4106 0 0)) → (∃ k15, w_M_image_15 Q k15 (0 : Int32) χ2)))
set_option maxHeartbeats 4000000 in
theorem mt_M_image (l : Launch) (Γ : Gh) (ad : Nat → Nat → Nat) (χ : St) (Q : Int32 → St → Prop) : Mt l yX4_image (ws_ yX4_image cX4_image 2 (some .int)) (rmO (0) (0) χ) (Pm Γ ad χ [.ref (ad 40 0)] (w_M_image χ Q)) (Qm Γ true ad χ (pI Q)) (frB Γ) := by
  refine Mt.start (by decide) RX4 rfl (Nat.le_of_ble_eq_true rfl) ?_
  intro X hX hG _ _ hna _ hf
  have B15 : ∀ (n : Nat) (ad : Nat → Nat → Nat) (x1 : Int32) (χ : St), w_M_image_15 Q n x1 χ → G X ad χ 15 [(0, .ref (ad 40 0)), (1, .int x1)] [] := by
    intro n
    induction n with
    | zero => intro ad x1 χ hf; exact hf.elim
    | succ n hK15 =>
      intro ad x1 χ hf
      unfold w_M_image_15 at hf
      refine g_iload_n hX 1 dX4_image_15 rfl rfl ?_
      refine g_bipush hX (v := (48 : Int32)) dX4_image_16 rfl ?_
      refine g_icmp_ge hX 39 dX4_image_18 (by decide) (fun z => ?_) (fun z => ?_)
      · replace hf := hf.1 z
        refine g_aload_n hX 0 dX4_image_39 rfl rfl ?_
        refine g_getI hX (k := 6) (fc40 _) ff40 rfl rfl in_X4 (by decide) q1511 dX4_image_40 ?_
        exact g_iret hX ⟨_, rfl, hf⟩ dX4_image_43
      · replace hf := hf.2 z
        refine g_aload_n hX 0 dX4_image_21 rfl rfl ?_
        refine g_getK hX (k := 31) (d := 61) (fc40 _) ff40 rfl (by decide) rfl rfl in_X4 (by decide) q1536 dX4_image_22 ?_
        refine g_iload_n hX 1 dX4_image_25 rfl rfl ?_
        refine g_aload_n hX 0 dX4_image_26 rfl rfl ?_
        refine g_getK hX (k := 9) (d := 47) (fc40 _) ff40 rfl (by decide) rfl rfl in_X4 (by decide) q1514 dX4_image_27 ?_
        refine g_iload_n hX 1 dX4_image_30 rfl rfl ?_
        refine g_iald hX (fc47 _) ff47 rfl hf.1 dX4_image_31 ?_
        replace hf := hf.2
        refine g_iast hX (fc61 _) ff61 rfl hf.1 dX4_image_32 ?_
        replace hf := hf.2
        replace hf := hf _ rfl
        refine g_iinc hX (v := _) 1 dX4_image_33 rfl rfl (by decide) rfl ?_
        refine g_goto hX 15 dX4_image_36 (by decide) ?_
        refine g_sub [1, 0] rfl ?_
        exact hK15 _ _ _ hf
  unfold w_M_image at hf
  refine g_aload_n hX 0 dX4_image_0 rfl rfl ?_
  refine g_iconst hX (v := (1 : Int32)) dX4_image_1 rfl ?_
  refine g_putI hX (k := 33) (fc40 _) ff40 rfl rfl in_X4 tyX4_ok nmX4 (by decide) q1538 rfl rfl rfl rfl dX4_image_2 ?_
  replace hf := hf _ rfl
  refine g_aload_n hX 0 dX4_image_5 rfl rfl ?_
  refine g_aload_n hX 0 dX4_image_6 rfl rfl ?_
  refine g_getI hX (k := 6) (fc40 _) ff40 rfl rfl in_X4 (by decide) q1511 dX4_image_7 ?_
  refine g_putI hX (k := 32) (fc40 _) ff40 rfl rfl in_X4 tyX4_ok nmX4 (by decide) q1537 rfl rfl rfl rfl dX4_image_10 ?_
  replace hf := hf _ rfl
  refine g_iconst hX (v := (0 : Int32)) dX4_image_13 rfl ?_
  refine g_istore_n hX dX4_image_14 rfl (by decide) rfl ?_
  obtain ⟨n0, hf⟩ := hf
  refine g_sub [1, 0] rfl ?_
  exact B15 n0 _ _ _ hf

def w_M_back_44 (Q : Int32 → St → Prop) (K12 : Int32 → St → Prop) (x1 : Int32) (z0 : Int32) (z1 : Int32) (χ : St) : Prop := (vp_in z1 48) ∧ ((∀ χ1 : St, χ1 = (sI χ 47 0 z1.toNatClampNeg z0) → (K12 (x1 + (1 : Int32)) χ1)))
def w_M_back_12 (Q : Int32 → St → Prop) : Nat → Int32 → St → Prop
  | 0 => fun _ _ => False
  | n + 1 => fun x1 χ => (((48 : Int32) ≤ x1 → (Q (gI χ 4106 0 0) χ)) ∧ (¬ (48 : Int32) ≤ x1 → ((((6 : Int32) * (gI χ 4132 0 0)) ≤ x1 → (w_M_back_44 Q (w_M_back_12 Q n) x1 (0 : Int32) x1 χ)) ∧ (¬ ((6 : Int32) * (gI χ 4132 0 0)) ≤ x1 → (vp_in x1 48) ∧ ((w_M_back_44 Q (w_M_back_12 Q n) x1 (gI χ 61 0 x1.toNatClampNeg) x1 χ))))))
def w_M_back (χ : St) (Q : Int32 → St → Prop) : Prop := ((¬ (gI χ 4133 0 0) = 0 → (∃ k12, w_M_back_12 Q k12 (0 : Int32) χ)) ∧ ((gI χ 4133 0 0) = 0 → (Q (-5 : Int32) χ)))
set_option maxHeartbeats 4000000 in
theorem mt_M_back (l : Launch) (Γ : Gh) (ad : Nat → Nat → Nat) (χ : St) (Q : Int32 → St → Prop) : Mt l yX4_back (ws_ yX4_back cX4_back 2 (some .int)) (rmO (0) (0) χ) (Pm Γ ad χ [.ref (ad 40 0)] (w_M_back χ Q)) (Qm Γ true ad χ (pI Q)) (frB Γ) := by
  refine Mt.start (by decide) RX4 rfl (Nat.le_of_ble_eq_true rfl) ?_
  intro X hX hG _ _ hna _ hf
  have B44 : ∀ (K12 : Int32 → St → Prop) (hK12 : ∀ (ad : Nat → Nat → Nat) (x1 : Int32) (χ : St), K12 x1 χ → G X ad χ 12 [(0, .ref (ad 40 0)), (1, .int x1)] []) (ad : Nat → Nat → Nat) (x1 : Int32) (z0 : Int32) (z1 : Int32) (χ : St), w_M_back_44 Q K12 x1 z0 z1 χ → G X ad χ 44 [(0, .ref (ad 40 0)), (1, .int x1)] [.int z0, .int z1, .ref (ad 47 0)] := by
    intro K12 hK12 ad x1 z0 z1 χ hf
    unfold w_M_back_44 at hf
    refine g_iast hX (fc47 _) ff47 rfl hf.1 dX4_back_44 ?_
    replace hf := hf.2
    replace hf := hf _ rfl
    refine g_iinc hX (v := _) 1 dX4_back_45 rfl rfl (by decide) rfl ?_
    refine g_goto hX 12 dX4_back_48 (by decide) ?_
    refine g_sub [1, 0] rfl ?_
    exact hK12 _ _ _ hf
  have B12 : ∀ (n : Nat) (ad : Nat → Nat → Nat) (x1 : Int32) (χ : St), w_M_back_12 Q n x1 χ → G X ad χ 12 [(0, .ref (ad 40 0)), (1, .int x1)] [] := by
    intro n
    induction n with
    | zero => intro ad x1 χ hf; exact hf.elim
    | succ n hK12 =>
      intro ad x1 χ hf
      unfold w_M_back_12 at hf
      refine g_iload_n hX 1 dX4_back_12 rfl rfl ?_
      refine g_bipush hX (v := (48 : Int32)) dX4_back_13 rfl ?_
      refine g_icmp_ge hX 51 dX4_back_15 (by decide) (fun z => ?_) (fun z => ?_)
      · replace hf := hf.1 z
        refine g_aload_n hX 0 dX4_back_51 rfl rfl ?_
        refine g_getI hX (k := 6) (fc40 _) ff40 rfl rfl in_X4 (by decide) q1511 dX4_back_52 ?_
        exact g_iret hX ⟨_, rfl, hf⟩ dX4_back_55
      · replace hf := hf.2 z
        refine g_aload_n hX 0 dX4_back_18 rfl rfl ?_
        refine g_getK hX (k := 9) (d := 47) (fc40 _) ff40 rfl (by decide) rfl rfl in_X4 (by decide) q1514 dX4_back_19 ?_
        refine g_iload_n hX 1 dX4_back_22 rfl rfl ?_
        refine g_iload_n hX 1 dX4_back_23 rfl rfl ?_
        refine g_bipush hX (v := (6 : Int32)) dX4_back_24 rfl ?_
        refine g_aload_n hX 0 dX4_back_26 rfl rfl ?_
        refine g_getI hX (k := 32) (fc40 _) ff40 rfl rfl in_X4 (by decide) q1537 dX4_back_27 ?_
        refine g_imul hX dX4_back_30 ?_
        refine g_icmp_ge hX 43 dX4_back_31 (by decide) (fun z => ?_) (fun z => ?_)
        · replace hf := hf.1 z
          refine g_iconst hX (v := (0 : Int32)) dX4_back_43 rfl ?_
          exact B44 (w_M_back_12 Q n) hK12 _ _ _ _ _ hf
        · replace hf := hf.2 z
          refine g_aload_n hX 0 dX4_back_34 rfl rfl ?_
          refine g_getK hX (k := 31) (d := 61) (fc40 _) ff40 rfl (by decide) rfl rfl in_X4 (by decide) q1536 dX4_back_35 ?_
          refine g_iload_n hX 1 dX4_back_38 rfl rfl ?_
          refine g_iald hX (fc61 _) ff61 rfl hf.1 dX4_back_39 ?_
          replace hf := hf.2
          refine g_goto hX 44 dX4_back_40 (by decide) ?_
          exact B44 (w_M_back_12 Q n) hK12 _ _ _ _ _ hf
  unfold w_M_back at hf
  refine g_aload_n hX 0 dX4_back_0 rfl rfl ?_
  refine g_getI hX (k := 33) (fc40 _) ff40 rfl rfl in_X4 (by decide) q1538 dX4_back_1 ?_
  refine g_if_ne hX 10 dX4_back_4 (by decide) (fun z => ?_) (fun z => ?_)
  · replace hf := hf.1 z
    refine g_iconst hX (v := (0 : Int32)) dX4_back_10 rfl ?_
    refine g_istore_n hX dX4_back_11 rfl (by decide) rfl ?_
    obtain ⟨n0, hf⟩ := hf
    refine g_sub [1, 0] rfl ?_
    exact B12 n0 _ _ _ hf
  · replace hf := hf.2 z
    refine g_bipush hX (v := (-5 : Int32)) dX4_back_7 rfl ?_
    exact g_iret hX ⟨_, rfl, hf⟩ dX4_back_9

def w_M_body (x1 : Int32) (χ : St) (Q : Int32 → St → Prop) : Prop := (w_M_within x1.toInt64 (0 : Int64) (7 : Int64) χ (fun r1 χ2 => ((¬ r1 = 0 → ((¬ (gI χ2 4134 0 0) = (50 : Int32) → (vp_in (gI χ2 4134 0 0) 50) ∧ ((∀ χ3 : St, χ3 = (sI χ2 62 0 (gI χ2 4134 0 0).toNatClampNeg x1) → (∀ χ4 : St, χ4 = (sI χ3 4134 0 0 ((gI χ3 4134 0 0) + (1 : Int32))) → (Q ((gI χ4 4134 0 0) - (1 : Int32)) χ4))))) ∧ ((gI χ2 4134 0 0) = (50 : Int32) → (Q (-3 : Int32) χ2)))) ∧ (r1 = 0 → (Q (-1 : Int32) χ2)))))
set_option maxHeartbeats 4000000 in
theorem mt_M_body (l : Launch) (Γ : Gh) (ad : Nat → Nat → Nat) (x1 : Int32) (χ : St) (Q : Int32 → St → Prop) : Mt l yX4_body (ws_ yX4_body cX4_body 2 (some .int)) (rmO (1) (25) χ) (Pm Γ ad χ [.ref (ad 40 0), .int x1] (w_M_body x1 χ Q)) (Qm Γ true ad χ (pI Q)) (frB Γ) := by
  refine Mt.start (by decide) RX4 rfl (Nat.le_of_ble_eq_true rfl) ?_
  intro X hX hG _ _ hna _ hf
  unfold w_M_body at hf
  refine g_iload_n hX 1 dX4_body_0 rfl rfl ?_
  refine g_i2l hX dX4_body_1 ?_
  refine g_lconst hX (v := (0 : Int64)) dX4_body_2 rfl ?_
  refine g_ldc2 hX q1920 dX4_body_3 ?_
  refine g_callSi hX (n := 3) (mt_M_within X.l X.Γ _ _ _ _ _ _) hf q1651 q1652 q89 q1653 hy_M_within (by decide) rfl rfl (Nat.le_of_ble_eq_true rfl) dX4_body_6 (fun r1 χ2 hf hc2 => ?_)
  refine g_if_ne hX 14 dX4_body_9 (by decide) (fun z => ?_) (fun z => ?_)
  · replace hf := hf.1 z
    refine g_aload_n hX 0 dX4_body_14 rfl rfl ?_
    refine g_getI hX (k := 34) (fc40 _) ff40 rfl rfl in_X4 (by decide) q1539 dX4_body_15 ?_
    refine g_bipush hX (v := (50 : Int32)) dX4_body_18 rfl ?_
    refine g_icmp_ne hX 26 dX4_body_20 (by decide) (fun z => ?_) (fun z => ?_)
    · replace hf := hf.1 z
      refine g_aload_n hX 0 dX4_body_26 rfl rfl ?_
      refine g_getK hX (k := 35) (d := 62) (fc40 _) ff40 rfl (by decide) rfl rfl in_X4 (by decide) q1540 dX4_body_27 ?_
      refine g_aload_n hX 0 dX4_body_30 rfl rfl ?_
      refine g_getI hX (k := 34) (fc40 _) ff40 rfl rfl in_X4 (by decide) q1539 dX4_body_31 ?_
      refine g_iload_n hX 1 dX4_body_34 rfl rfl ?_
      refine g_iast hX (fc62 _) ff62 rfl hf.1 dX4_body_35 ?_
      replace hf := hf.2
      replace hf := hf _ rfl
      refine g_aload_n hX 0 dX4_body_36 rfl rfl ?_
      refine g_dup hX dX4_body_37 rfl ?_
      refine g_getI hX (k := 34) (fc40 _) ff40 rfl rfl in_X4 (by decide) q1539 dX4_body_38 ?_
      refine g_iconst hX (v := (1 : Int32)) dX4_body_41 rfl ?_
      refine g_iadd hX dX4_body_42 ?_
      refine g_putI hX (k := 34) (fc40 _) ff40 rfl rfl in_X4 tyX4_ok nmX4 (by decide) q1539 rfl rfl rfl rfl dX4_body_43 ?_
      replace hf := hf _ rfl
      refine g_aload_n hX 0 dX4_body_46 rfl rfl ?_
      refine g_getI hX (k := 34) (fc40 _) ff40 rfl rfl in_X4 (by decide) q1539 dX4_body_47 ?_
      refine g_iconst hX (v := (1 : Int32)) dX4_body_50 rfl ?_
      refine g_isub hX dX4_body_51 ?_
      exact g_iret hX ⟨_, rfl, hf⟩ dX4_body_52
    · replace hf := hf.2 z
      refine g_bipush hX (v := (-3 : Int32)) dX4_body_23 rfl ?_
      exact g_iret hX ⟨_, rfl, hf⟩ dX4_body_25
  · replace hf := hf.2 z
    refine g_iconst hX (v := (-1 : Int32)) dX4_body_12 rfl ?_
    exact g_iret hX ⟨_, rfl, hf⟩ dX4_body_13

def w_M_isBody (x1 : Int32) (χ : St) (Q : Int32 → St → Prop) : Prop := (w_M_within x1.toInt64 (0 : Int64) ((gI χ 4134 0 0) - (1 : Int32)).toInt64 χ (fun r1 χ2 => (narrow .boolean (.int r1) = .int r1) ∧ ((Q r1 χ2))))
set_option maxHeartbeats 4000000 in
theorem mt_M_isBody (l : Launch) (Γ : Gh) (ad : Nat → Nat → Nat) (x1 : Int32) (χ : St) (Q : Int32 → St → Prop) : Mt l yX4_isBody (ws_ yX4_isBody cX4_isBody 2 (some .boolean)) (rmO (1) (25) χ) (Pm Γ ad χ [.ref (ad 40 0), .int x1] (w_M_isBody x1 χ Q)) (Qm Γ true ad χ (pI Q)) (frB Γ) := by
  refine Mt.start (by decide) RX4 rfl (Nat.le_of_ble_eq_true rfl) ?_
  intro X hX hG _ _ hna _ hf
  unfold w_M_isBody at hf
  refine g_iload_n hX 1 dX4_isBody_0 rfl rfl ?_
  refine g_i2l hX dX4_isBody_1 ?_
  refine g_lconst hX (v := (0 : Int64)) dX4_isBody_2 rfl ?_
  refine g_aload_n hX 0 dX4_isBody_3 rfl rfl ?_
  refine g_getI hX (k := 34) (fc40 _) ff40 rfl rfl in_X4 (by decide) q1539 dX4_isBody_4 ?_
  refine g_iconst hX (v := (1 : Int32)) dX4_isBody_7 rfl ?_
  refine g_isub hX dX4_isBody_8 ?_
  refine g_i2l hX dX4_isBody_9 ?_
  refine g_callSi hX (n := 3) (mt_M_within X.l X.Γ _ _ _ _ _ _) hf q1651 q1652 q89 q1653 hy_M_within (by decide) rfl rfl (Nat.le_of_ble_eq_true rfl) dX4_isBody_10 (fun r1 χ2 hf hc2 => ?_)
  exact g_zret hX hf.1 ⟨_, rfl, hf.2⟩ dX4_isBody_13

def w_M_begins_19 (Q : St → Prop) (χ : St) : Prop := (∀ χ1 : St, χ1 = (sI χ 4137 0 0 ((gI χ 4137 0 0) + (1 : Int32))) → (Q χ1))
def w_M_begins (x1 : Int32) (χ : St) (Q : St → Prop) : Prop := (((24 : Int32) ≤ (gI χ 4137 0 0) → (w_M_begins_19 Q χ)) ∧ (¬ (24 : Int32) ≤ (gI χ 4137 0 0) → (vp_in (gI χ 4137 0 0) 24) ∧ ((∀ χ2 : St, χ2 = (sI χ 63 0 (gI χ 4137 0 0).toNatClampNeg x1) → (w_M_begins_19 Q χ2)))))
set_option maxHeartbeats 4000000 in
theorem mt_M_begins (l : Launch) (Γ : Gh) (ad : Nat → Nat → Nat) (x1 : Int32) (χ : St) (Q : St → Prop) : Mt l yX4_begins (ws_ yX4_begins cX4_begins 2 (none)) (rmO (0) (0) χ) (Pm Γ ad χ [.ref (ad 40 0), .int x1] (w_M_begins x1 χ Q)) (Qm Γ true ad χ (pV Q)) (frB Γ) := by
  refine Mt.start (by decide) RX4 rfl (Nat.le_of_ble_eq_true rfl) ?_
  intro X hX hG _ _ hna _ hf
  have B19 : ∀ (ad : Nat → Nat → Nat) (χ : St), w_M_begins_19 Q χ → G X ad χ 19 [(0, .ref (ad 40 0))] [] := by
    intro ad χ hf
    unfold w_M_begins_19 at hf
    refine g_aload_n hX 0 dX4_begins_19 rfl rfl ?_
    refine g_dup hX dX4_begins_20 rfl ?_
    refine g_getI hX (k := 37) (fc40 _) ff40 rfl rfl in_X4 (by decide) q1542 dX4_begins_21 ?_
    refine g_iconst hX (v := (1 : Int32)) dX4_begins_24 rfl ?_
    refine g_iadd hX dX4_begins_25 ?_
    refine g_putI hX (k := 37) (fc40 _) ff40 rfl rfl in_X4 tyX4_ok nmX4 (by decide) q1542 rfl rfl rfl rfl dX4_begins_26 ?_
    replace hf := hf _ rfl
    exact g_vret hX ⟨rfl, hf⟩ dX4_begins_29
  unfold w_M_begins at hf
  refine g_aload_n hX 0 dX4_begins_0 rfl rfl ?_
  refine g_getI hX (k := 37) (fc40 _) ff40 rfl rfl in_X4 (by decide) q1542 dX4_begins_1 ?_
  refine g_bipush hX (v := (24 : Int32)) dX4_begins_4 rfl ?_
  refine g_icmp_ge hX 19 dX4_begins_6 (by decide) (fun z => ?_) (fun z => ?_)
  · replace hf := hf.1 z
    refine g_sub [0] rfl ?_
    exact B19 _ _ hf
  · replace hf := hf.2 z
    refine g_aload_n hX 0 dX4_begins_9 rfl rfl ?_
    refine g_getK hX (k := 36) (d := 63) (fc40 _) ff40 rfl (by decide) rfl rfl in_X4 (by decide) q1541 dX4_begins_10 ?_
    refine g_aload_n hX 0 dX4_begins_13 rfl rfl ?_
    refine g_getI hX (k := 37) (fc40 _) ff40 rfl rfl in_X4 (by decide) q1542 dX4_begins_14 ?_
    refine g_iload_n hX 1 dX4_begins_17 rfl rfl ?_
    refine g_iast hX (fc63 _) ff63 rfl hf.1 dX4_begins_18 ?_
    replace hf := hf.2
    replace hf := hf _ rfl
    refine g_sub [0] rfl ?_
    exact B19 _ _ hf

def w_M_agesAs_16 (W1 : Int32 → Int32 → St → (Int32 → St → Prop) → Prop) (Q : Int32 → St → Prop) (x2 : Int32) (χ : St) : Prop := (w_M_begins (20 : Int32) χ (fun χ1 => (W1 (0 : Int32) x2 χ1 (fun r2 χ3 => (Q (r2 + (3 : Int32)) χ3)))))
def w_M_agesAs_b (W1 : Int32 → Int32 → St → (Int32 → St → Prop) → Prop) (x1 : Int32) (x2 : Int32) (χ : St) (Q : Int32 → St → Prop) : Prop := ((x1 = (1 : Int32) → (w_M_agesAs_16 W1 Q x2 χ)) ∧ (¬ x1 = (1 : Int32) → ((x1 = (4 : Int32) → (w_M_agesAs_16 W1 Q x2 χ)) ∧ (¬ x1 = (4 : Int32) → ((¬ x1 = (7 : Int32) → ((¬ x1 = (6 : Int32) → (w_M_begins (1 : Int32) χ (fun χ4 => (Q (x2 + (gI χ4 4139 0 0)) χ4)))) ∧ (x1 = (6 : Int32) → (w_M_begins (70 : Int32) χ (fun χ5 => (W1 (0 : Int32) x2 χ5 (fun r6 χ7 => (Q (r6 * (2 : Int32)) χ7)))))))) ∧ (x1 = (7 : Int32) → (w_M_agesAs_16 W1 Q x2 χ)))))))
set_option maxHeartbeats 4000000 in
theorem mt_M_agesAs_b (l : Launch) (Γ : Gh) (W1 : Int32 → Int32 → St → (Int32 → St → Prop) → Prop) (F1 L1 : Nat) (h1 : ∀ (l : Launch) (Γ : Gh) (ad : Nat → Nat → Nat) (x1 : Int32) (x2 : Int32) (χ : St) (Q : Int32 → St → Prop), Mt l yX4_agesAs (ws_ yX4_agesAs cX4_agesAs 3 (some .int)) (rmO F1 L1 χ) (Pm Γ ad χ [.ref (ad 40 0), .int x1, .int x2] (W1 x1 x2 χ Q)) (Qm Γ true ad χ (pI Q)) (frB Γ)) (ad : Nat → Nat → Nat) (x1 : Int32) (x2 : Int32) (χ : St) (Q : Int32 → St → Prop) : Mt l yX4_agesAs (ws_ yX4_agesAs cX4_agesAs 3 (some .int)) (rmO (F1 + 1) (L1 + 22) χ) (Pm Γ ad χ [.ref (ad 40 0), .int x1, .int x2] (w_M_agesAs_b W1 x1 x2 χ Q)) (Qm Γ true ad χ (pI Q)) (frB Γ) := by
  refine Mt.start (by decide) RX4 rfl (Nat.le_of_ble_eq_true rfl) ?_
  intro X hX hG _ _ hna _ hf
  have B16 : ∀ (ad : Nat → Nat → Nat) (x2 : Int32) (χ : St), w_M_agesAs_16 W1 Q x2 χ → G X ad χ 16 [(0, .ref (ad 40 0)), (2, .int x2)] [] := by
    intro ad x2 χ hf
    unfold w_M_agesAs_16 at hf
    refine g_aload_n hX 0 dX4_agesAs_16 rfl rfl ?_
    refine g_bipush hX (v := (20 : Int32)) dX4_agesAs_17 rfl ?_
    refine g_callVv hX (n := 1) (mt_M_begins X.l X.Γ _ _ _ _) hf q1933 q1935 qs77 q89 q1936 ⟨rfl, hy_M_begins⟩ ⟨by omega, by omega⟩ (fc40 _) ff40 rfl rfl rfl (Nat.le_of_ble_eq_true rfl) dX4_agesAs_19 (fun χ1 hf hc1 => ?_)
    refine g_aload_n hX 0 dX4_agesAs_22 rfl rfl ?_
    refine g_iconst hX (v := (0 : Int32)) dX4_agesAs_23 rfl ?_
    refine g_iload_n hX 1 dX4_agesAs_24 rfl rfl ?_
    refine g_callVi hX (n := 2) (h1 X.l X.Γ _ _ _ _ _) hf q1929 q1931 qs76 q89 q1932 ⟨rfl, hy_M_agesAs⟩ ⟨by omega, by omega⟩ (fc40 _) ff40 rfl rfl rfl (Nat.le_of_ble_eq_true rfl) dX4_agesAs_25 (fun r2 χ3 hf hc3 => ?_)
    refine g_iconst hX (v := (3 : Int32)) dX4_agesAs_28 rfl ?_
    refine g_iadd hX dX4_agesAs_29 ?_
    exact g_iret hX ⟨_, rfl, hf⟩ dX4_agesAs_30
  unfold w_M_agesAs_b at hf
  refine g_iload_n hX 1 dX4_agesAs_0 rfl rfl ?_
  refine g_iconst hX (v := (1 : Int32)) dX4_agesAs_1 rfl ?_
  refine g_icmp_eq hX 16 dX4_agesAs_2 (by decide) (fun z => ?_) (fun z => ?_)
  · replace hf := hf.1 z
    refine g_sub [0, 2] rfl ?_
    exact B16 _ _ _ hf
  · replace hf := hf.2 z
    refine g_iload_n hX 1 dX4_agesAs_5 rfl rfl ?_
    refine g_iconst hX (v := (4 : Int32)) dX4_agesAs_6 rfl ?_
    refine g_icmp_eq hX 16 dX4_agesAs_7 (by decide) (fun z => ?_) (fun z => ?_)
    · replace hf := hf.1 z
      refine g_sub [0, 2] rfl ?_
      exact B16 _ _ _ hf
    · replace hf := hf.2 z
      refine g_iload_n hX 1 dX4_agesAs_10 rfl rfl ?_
      refine g_bipush hX (v := (7 : Int32)) dX4_agesAs_11 rfl ?_
      refine g_icmp_ne hX 31 dX4_agesAs_13 (by decide) (fun z => ?_) (fun z => ?_)
      · replace hf := hf.1 z
        refine g_iload_n hX 1 dX4_agesAs_31 rfl rfl ?_
        refine g_bipush hX (v := (6 : Int32)) dX4_agesAs_32 rfl ?_
        refine g_icmp_ne hX 52 dX4_agesAs_34 (by decide) (fun z => ?_) (fun z => ?_)
        · replace hf := hf.1 z
          refine g_aload_n hX 0 dX4_agesAs_52 rfl rfl ?_
          refine g_iconst hX (v := (1 : Int32)) dX4_agesAs_53 rfl ?_
          refine g_callVv hX (n := 1) (mt_M_begins X.l X.Γ _ _ _ _) hf q1933 q1935 qs77 q89 q1936 ⟨rfl, hy_M_begins⟩ ⟨by omega, by omega⟩ (fc40 _) ff40 rfl rfl rfl (Nat.le_of_ble_eq_true rfl) dX4_agesAs_54 (fun χ4 hf hc4 => ?_)
          refine g_iload_n hX 2 dX4_agesAs_57 rfl rfl ?_
          refine g_aload_n hX 0 dX4_agesAs_58 rfl rfl ?_
          refine g_getI hX (k := 39) (fc40 _) ff40 rfl rfl in_X4 (by decide) q1544 dX4_agesAs_59 ?_
          refine g_iadd hX dX4_agesAs_62 ?_
          exact g_iret hX ⟨_, rfl, hf⟩ dX4_agesAs_63
        · replace hf := hf.2 z
          refine g_aload_n hX 0 dX4_agesAs_37 rfl rfl ?_
          refine g_bipush hX (v := (70 : Int32)) dX4_agesAs_38 rfl ?_
          refine g_callVv hX (n := 1) (mt_M_begins X.l X.Γ _ _ _ _) hf q1933 q1935 qs77 q89 q1936 ⟨rfl, hy_M_begins⟩ ⟨by omega, by omega⟩ (fc40 _) ff40 rfl rfl rfl (Nat.le_of_ble_eq_true rfl) dX4_agesAs_40 (fun χ5 hf hc5 => ?_)
          refine g_aload_n hX 0 dX4_agesAs_43 rfl rfl ?_
          refine g_iconst hX (v := (0 : Int32)) dX4_agesAs_44 rfl ?_
          refine g_iload_n hX 2 dX4_agesAs_45 rfl rfl ?_
          refine g_callVi hX (n := 2) (h1 X.l X.Γ _ _ _ _ _) hf q1929 q1931 qs76 q89 q1932 ⟨rfl, hy_M_agesAs⟩ ⟨by omega, by omega⟩ (fc40 _) ff40 rfl rfl rfl (Nat.le_of_ble_eq_true rfl) dX4_agesAs_46 (fun r6 χ7 hf hc7 => ?_)
          refine g_iconst hX (v := (2 : Int32)) dX4_agesAs_49 rfl ?_
          refine g_imul hX dX4_agesAs_50 ?_
          exact g_iret hX ⟨_, rfl, hf⟩ dX4_agesAs_51
      · replace hf := hf.2 z
        refine g_sub [0, 2] rfl ?_
        exact B16 _ _ _ hf
def w_M_agesAs : Nat → Int32 → Int32 → St → (Int32 → St → Prop) → Prop
  | 0 => fun _ _ _ _ => False
  | d + 1 => fun x1 x2 χ Q => w_M_agesAs_b (w_M_agesAs d) x1 x2 χ Q
theorem mt_M_agesAs (l : Launch) (Γ : Gh) (d : Nat) : ∀ (ad : Nat → Nat → Nat) (x1 : Int32) (x2 : Int32) (χ : St) (Q : Int32 → St → Prop), Mt l yX4_agesAs (ws_ yX4_agesAs cX4_agesAs 3 (some .int)) (rmO (1 * d) (22 * d) χ) (Pm Γ ad χ [.ref (ad 40 0), .int x1, .int x2] (w_M_agesAs d x1 x2 χ Q)) (Qm Γ true ad χ (pI Q)) (frB Γ) := by
  have key : ∀ (d : Nat) (l : Launch) (Γ : Gh) (ad : Nat → Nat → Nat) (x1 : Int32) (x2 : Int32) (χ : St) (Q : Int32 → St → Prop), Mt l yX4_agesAs (ws_ yX4_agesAs cX4_agesAs 3 (some .int)) (rmO (1 * d) (22 * d) χ) (Pm Γ ad χ [.ref (ad 40 0), .int x1, .int x2] (w_M_agesAs d x1 x2 χ Q)) (Qm Γ true ad χ (pI Q)) (frB Γ) := by
    intro d
    induction d with
    | zero => intro l Γ ad x1 x2 χ Q; exact Mt.no (fun h => h)
    | succ d ih => intro l Γ ad x1 x2 χ Q; exact mt_M_agesAs_b l Γ (w_M_agesAs d) (1 * d) (22 * d) ih ad x1 x2 χ Q
  exact key d l Γ

def w_M_showsAs_10 (W1 : Int32 → Int32 → St → (Int32 → St → Prop) → Prop) (Q : Int32 → St → Prop) (x2 : Int32) (χ : St) : Prop := (w_M_begins (40 : Int32) χ (fun χ1 => (W1 (2 : Int32) x2 χ1 (fun r2 χ3 => (Q (r2 * (3 : Int32)) χ3)))))
def w_M_showsAs_36 (W1 : Int32 → Int32 → St → (Int32 → St → Prop) → Prop) (Q : Int32 → St → Prop) (x2 : Int32) (χ : St) : Prop := (w_M_begins (50 : Int32) χ (fun χ4 => (W1 (1 : Int32) x2 χ4 (fun r5 χ6 => (w_M_agesAs 3 (gI χ6 4138 0 0) (2 : Int32) χ6 (fun r7 χ8 => (Q (r5 - r7) χ8)))))))
def w_M_showsAs_b (W1 : Int32 → Int32 → St → (Int32 → St → Prop) → Prop) (x1 : Int32) (x2 : Int32) (χ : St) (Q : Int32 → St → Prop) : Prop := ((x1 = (3 : Int32) → (w_M_showsAs_10 W1 Q x2 χ)) ∧ (¬ x1 = (3 : Int32) → ((¬ x1 = (5 : Int32) → ((x1 = (4 : Int32) → (w_M_showsAs_36 W1 Q x2 χ)) ∧ (¬ x1 = (4 : Int32) → ((¬ x1 = (7 : Int32) → (w_M_begins (11 : Int32) χ (fun χ9 => (Q (x2 ^^^ (gI χ9 4139 0 0)) χ9)))) ∧ (x1 = (7 : Int32) → (w_M_showsAs_36 W1 Q x2 χ)))))) ∧ (x1 = (5 : Int32) → (w_M_showsAs_10 W1 Q x2 χ)))))
set_option maxHeartbeats 4000000 in
theorem mt_M_showsAs_b (l : Launch) (Γ : Gh) (W1 : Int32 → Int32 → St → (Int32 → St → Prop) → Prop) (F1 L1 : Nat) (h1 : ∀ (l : Launch) (Γ : Gh) (ad : Nat → Nat → Nat) (x1 : Int32) (x2 : Int32) (χ : St) (Q : Int32 → St → Prop), Mt l yX4_showsAs (ws_ yX4_showsAs cX4_showsAs 4 (some .int)) (rmO F1 L1 χ) (Pm Γ ad χ [.ref (ad 40 0), .int x1, .int x2] (W1 x1 x2 χ Q)) (Qm Γ true ad χ (pI Q)) (frB Γ)) (ad : Nat → Nat → Nat) (x1 : Int32) (x2 : Int32) (χ : St) (Q : Int32 → St → Prop) : Mt l yX4_showsAs (ws_ yX4_showsAs cX4_showsAs 4 (some .int)) (rmO (F1 + 4) (L1 + 88) χ) (Pm Γ ad χ [.ref (ad 40 0), .int x1, .int x2] (w_M_showsAs_b W1 x1 x2 χ Q)) (Qm Γ true ad χ (pI Q)) (frB Γ) := by
  refine Mt.start (by decide) RX4 rfl (Nat.le_of_ble_eq_true rfl) ?_
  intro X hX hG _ _ hna _ hf
  have B10 : ∀ (ad : Nat → Nat → Nat) (x2 : Int32) (χ : St), w_M_showsAs_10 W1 Q x2 χ → G X ad χ 10 [(0, .ref (ad 40 0)), (2, .int x2)] [] := by
    intro ad x2 χ hf
    unfold w_M_showsAs_10 at hf
    refine g_aload_n hX 0 dX4_showsAs_10 rfl rfl ?_
    refine g_bipush hX (v := (40 : Int32)) dX4_showsAs_11 rfl ?_
    refine g_callVv hX (n := 1) (mt_M_begins X.l X.Γ _ _ _ _) hf q1933 q1935 qs77 q89 q1936 ⟨rfl, hy_M_begins⟩ ⟨by omega, by omega⟩ (fc40 _) ff40 rfl rfl rfl (Nat.le_of_ble_eq_true rfl) dX4_showsAs_13 (fun χ1 hf hc1 => ?_)
    refine g_aload_n hX 0 dX4_showsAs_16 rfl rfl ?_
    refine g_iconst hX (v := (2 : Int32)) dX4_showsAs_17 rfl ?_
    refine g_iload_n hX 1 dX4_showsAs_18 rfl rfl ?_
    refine g_callVi hX (n := 2) (h1 X.l X.Γ _ _ _ _ _) hf q1941 q1943 qs79 q89 q1944 ⟨rfl, hy_M_showsAs⟩ ⟨by omega, by omega⟩ (fc40 _) ff40 rfl rfl rfl (Nat.le_of_ble_eq_true rfl) dX4_showsAs_19 (fun r2 χ3 hf hc3 => ?_)
    refine g_iconst hX (v := (3 : Int32)) dX4_showsAs_22 rfl ?_
    refine g_imul hX dX4_showsAs_23 ?_
    exact g_iret hX ⟨_, rfl, hf⟩ dX4_showsAs_24
  have B36 : ∀ (ad : Nat → Nat → Nat) (x2 : Int32) (χ : St), w_M_showsAs_36 W1 Q x2 χ → G X ad χ 36 [(0, .ref (ad 40 0)), (2, .int x2)] [] := by
    intro ad x2 χ hf
    unfold w_M_showsAs_36 at hf
    refine g_aload_n hX 0 dX4_showsAs_36 rfl rfl ?_
    refine g_bipush hX (v := (50 : Int32)) dX4_showsAs_37 rfl ?_
    refine g_callVv hX (n := 1) (mt_M_begins X.l X.Γ _ _ _ _) hf q1933 q1935 qs77 q89 q1936 ⟨rfl, hy_M_begins⟩ ⟨by omega, by omega⟩ (fc40 _) ff40 rfl rfl rfl (Nat.le_of_ble_eq_true rfl) dX4_showsAs_39 (fun χ4 hf hc4 => ?_)
    refine g_aload_n hX 0 dX4_showsAs_42 rfl rfl ?_
    refine g_iconst hX (v := (1 : Int32)) dX4_showsAs_43 rfl ?_
    refine g_iload_n hX 1 dX4_showsAs_44 rfl rfl ?_
    refine g_callVi hX (n := 2) (h1 X.l X.Γ _ _ _ _ _) hf q1941 q1943 qs79 q89 q1944 ⟨rfl, hy_M_showsAs⟩ ⟨by omega, by omega⟩ (fc40 _) ff40 rfl rfl rfl (Nat.le_of_ble_eq_true rfl) dX4_showsAs_45 (fun r5 χ6 hf hc6 => ?_)
    refine g_istore_n hX dX4_showsAs_48 rfl (by decide) rfl ?_
    refine g_iload_n hX 0 dX4_showsAs_49 rfl rfl ?_
    refine g_aload_n hX 1 dX4_showsAs_50 rfl rfl ?_
    refine g_aload_n hX 1 dX4_showsAs_51 rfl rfl ?_
    refine g_getI hX (k := 38) (fc40 _) ff40 rfl rfl in_X4 (by decide) q1543 dX4_showsAs_52 ?_
    refine g_iconst hX (v := (2 : Int32)) dX4_showsAs_55 rfl ?_
    refine g_callVi hX (n := 2) (mt_M_agesAs X.l X.Γ 3 _ _ _ _ _) hf q1929 q1931 qs76 q89 q1932 ⟨rfl, hy_M_agesAs⟩ ⟨by omega, by omega⟩ (fc40 _) ff40 rfl rfl rfl (Nat.le_of_ble_eq_true rfl) dX4_showsAs_56 (fun r7 χ8 hf hc8 => ?_)
    refine g_isub hX dX4_showsAs_59 ?_
    exact g_iret hX ⟨_, rfl, hf⟩ dX4_showsAs_60
  unfold w_M_showsAs_b at hf
  refine g_iload_n hX 1 dX4_showsAs_0 rfl rfl ?_
  refine g_iconst hX (v := (3 : Int32)) dX4_showsAs_1 rfl ?_
  refine g_icmp_eq hX 10 dX4_showsAs_2 (by decide) (fun z => ?_) (fun z => ?_)
  · replace hf := hf.1 z
    refine g_sub [0, 2] rfl ?_
    exact B10 _ _ _ hf
  · replace hf := hf.2 z
    refine g_iload_n hX 1 dX4_showsAs_5 rfl rfl ?_
    refine g_iconst hX (v := (5 : Int32)) dX4_showsAs_6 rfl ?_
    refine g_icmp_ne hX 25 dX4_showsAs_7 (by decide) (fun z => ?_) (fun z => ?_)
    · replace hf := hf.1 z
      refine g_iload_n hX 1 dX4_showsAs_25 rfl rfl ?_
      refine g_iconst hX (v := (4 : Int32)) dX4_showsAs_26 rfl ?_
      refine g_icmp_eq hX 36 dX4_showsAs_27 (by decide) (fun z => ?_) (fun z => ?_)
      · replace hf := hf.1 z
        refine g_sub [0, 2] rfl ?_
        exact B36 _ _ _ hf
      · replace hf := hf.2 z
        refine g_iload_n hX 1 dX4_showsAs_30 rfl rfl ?_
        refine g_bipush hX (v := (7 : Int32)) dX4_showsAs_31 rfl ?_
        refine g_icmp_ne hX 61 dX4_showsAs_33 (by decide) (fun z => ?_) (fun z => ?_)
        · replace hf := hf.1 z
          refine g_aload_n hX 0 dX4_showsAs_61 rfl rfl ?_
          refine g_bipush hX (v := (11 : Int32)) dX4_showsAs_62 rfl ?_
          refine g_callVv hX (n := 1) (mt_M_begins X.l X.Γ _ _ _ _) hf q1933 q1935 qs77 q89 q1936 ⟨rfl, hy_M_begins⟩ ⟨by omega, by omega⟩ (fc40 _) ff40 rfl rfl rfl (Nat.le_of_ble_eq_true rfl) dX4_showsAs_64 (fun χ9 hf hc9 => ?_)
          refine g_iload_n hX 2 dX4_showsAs_67 rfl rfl ?_
          refine g_aload_n hX 0 dX4_showsAs_68 rfl rfl ?_
          refine g_getI hX (k := 39) (fc40 _) ff40 rfl rfl in_X4 (by decide) q1544 dX4_showsAs_69 ?_
          refine g_ixor hX dX4_showsAs_72 ?_
          exact g_iret hX ⟨_, rfl, hf⟩ dX4_showsAs_73
        · replace hf := hf.2 z
          refine g_sub [0, 2] rfl ?_
          exact B36 _ _ _ hf
    · replace hf := hf.2 z
      refine g_sub [0, 2] rfl ?_
      exact B10 _ _ _ hf
def w_M_showsAs : Nat → Int32 → Int32 → St → (Int32 → St → Prop) → Prop
  | 0 => fun _ _ _ _ => False
  | d + 1 => fun x1 x2 χ Q => w_M_showsAs_b (w_M_showsAs d) x1 x2 χ Q
theorem mt_M_showsAs (l : Launch) (Γ : Gh) (d : Nat) : ∀ (ad : Nat → Nat → Nat) (x1 : Int32) (x2 : Int32) (χ : St) (Q : Int32 → St → Prop), Mt l yX4_showsAs (ws_ yX4_showsAs cX4_showsAs 4 (some .int)) (rmO (4 * d) (88 * d) χ) (Pm Γ ad χ [.ref (ad 40 0), .int x1, .int x2] (w_M_showsAs d x1 x2 χ Q)) (Qm Γ true ad χ (pI Q)) (frB Γ) := by
  have key : ∀ (d : Nat) (l : Launch) (Γ : Gh) (ad : Nat → Nat → Nat) (x1 : Int32) (x2 : Int32) (χ : St) (Q : Int32 → St → Prop), Mt l yX4_showsAs (ws_ yX4_showsAs cX4_showsAs 4 (some .int)) (rmO (4 * d) (88 * d) χ) (Pm Γ ad χ [.ref (ad 40 0), .int x1, .int x2] (w_M_showsAs d x1 x2 χ Q)) (Qm Γ true ad χ (pI Q)) (frB Γ) := by
    intro d
    induction d with
    | zero => intro l Γ ad x1 x2 χ Q; exact Mt.no (fun h => h)
    | succ d ih => intro l Γ ad x1 x2 χ Q; exact mt_M_showsAs_b l Γ (w_M_showsAs d) (4 * d) (88 * d) ih ad x1 x2 χ Q
  exact key d l Γ

def w_M_joinsAs_10 (W1 : Int32 → Int32 → St → (Int32 → St → Prop) → Prop) (Q : Int32 → St → Prop) (x2 : Int32) (χ : St) : Prop := (w_M_begins (41 : Int32) χ (fun χ1 => (W1 (2 : Int32) (x2 + (1 : Int32)) χ1 (fun r2 χ3 => (Q r2 χ3)))))
def w_M_joinsAs_b (W1 : Int32 → Int32 → St → (Int32 → St → Prop) → Prop) (x1 : Int32) (x2 : Int32) (χ : St) (Q : Int32 → St → Prop) : Prop := ((x1 = (3 : Int32) → (w_M_joinsAs_10 W1 Q x2 χ)) ∧ (¬ x1 = (3 : Int32) → ((¬ x1 = (5 : Int32) → ((¬ x1 = (2 : Int32) → ((¬ x1 = (7 : Int32) → (w_M_begins (10 : Int32) χ (fun χ4 => (w_M_agesAs 3 (gI χ4 4138 0 0) x2 χ4 (fun r5 χ6 => (Q (r5 * (2 : Int32)) χ6)))))) ∧ (x1 = (7 : Int32) → (w_M_begins (80 : Int32) χ (fun χ7 => (W1 (4 : Int32) x2 χ7 (fun r8 χ9 => (w_M_showsAs 4 (gI χ9 4138 0 0) (2 : Int32) χ9 (fun r10 χ11 => (Q (r8 + r10) χ11)))))))))) ∧ (x1 = (2 : Int32) → (w_M_begins (30 : Int32) χ (fun χ12 => (W1 (0 : Int32) x2 χ12 (fun r13 χ14 => (Q (-r13) χ14)))))))) ∧ (x1 = (5 : Int32) → (w_M_joinsAs_10 W1 Q x2 χ)))))
set_option maxHeartbeats 4000000 in
theorem mt_M_joinsAs_b (l : Launch) (Γ : Gh) (W1 : Int32 → Int32 → St → (Int32 → St → Prop) → Prop) (F1 L1 : Nat) (h1 : ∀ (l : Launch) (Γ : Gh) (ad : Nat → Nat → Nat) (x1 : Int32) (x2 : Int32) (χ : St) (Q : Int32 → St → Prop), Mt l yX4_joinsAs (ws_ yX4_joinsAs cX4_joinsAs 4 (some .int)) (rmO F1 L1 χ) (Pm Γ ad χ [.ref (ad 40 0), .int x1, .int x2] (W1 x1 x2 χ Q)) (Qm Γ true ad χ (pI Q)) (frB Γ)) (ad : Nat → Nat → Nat) (x1 : Int32) (x2 : Int32) (χ : St) (Q : Int32 → St → Prop) : Mt l yX4_joinsAs (ws_ yX4_joinsAs cX4_joinsAs 4 (some .int)) (rmO (F1 + 17) (L1 + 375) χ) (Pm Γ ad χ [.ref (ad 40 0), .int x1, .int x2] (w_M_joinsAs_b W1 x1 x2 χ Q)) (Qm Γ true ad χ (pI Q)) (frB Γ) := by
  refine Mt.start (by decide) RX4 rfl (Nat.le_of_ble_eq_true rfl) ?_
  intro X hX hG _ _ hna _ hf
  have B10 : ∀ (ad : Nat → Nat → Nat) (x2 : Int32) (χ : St), w_M_joinsAs_10 W1 Q x2 χ → G X ad χ 10 [(0, .ref (ad 40 0)), (2, .int x2)] [] := by
    intro ad x2 χ hf
    unfold w_M_joinsAs_10 at hf
    refine g_aload_n hX 0 dX4_joinsAs_10 rfl rfl ?_
    refine g_bipush hX (v := (41 : Int32)) dX4_joinsAs_11 rfl ?_
    refine g_callVv hX (n := 1) (mt_M_begins X.l X.Γ _ _ _ _) hf q1933 q1935 qs77 q89 q1936 ⟨rfl, hy_M_begins⟩ ⟨by omega, by omega⟩ (fc40 _) ff40 rfl rfl rfl (Nat.le_of_ble_eq_true rfl) dX4_joinsAs_13 (fun χ1 hf hc1 => ?_)
    refine g_aload_n hX 0 dX4_joinsAs_16 rfl rfl ?_
    refine g_iconst hX (v := (2 : Int32)) dX4_joinsAs_17 rfl ?_
    refine g_iload_n hX 1 dX4_joinsAs_18 rfl rfl ?_
    refine g_iconst hX (v := (1 : Int32)) dX4_joinsAs_19 rfl ?_
    refine g_iadd hX dX4_joinsAs_20 ?_
    refine g_callVi hX (n := 2) (h1 X.l X.Γ _ _ _ _ _) hf q1937 q1939 qs78 q89 q1940 ⟨rfl, hy_M_joinsAs⟩ ⟨by omega, by omega⟩ (fc40 _) ff40 rfl rfl rfl (Nat.le_of_ble_eq_true rfl) dX4_joinsAs_21 (fun r2 χ3 hf hc3 => ?_)
    exact g_iret hX ⟨_, rfl, hf⟩ dX4_joinsAs_24
  unfold w_M_joinsAs_b at hf
  refine g_iload_n hX 1 dX4_joinsAs_0 rfl rfl ?_
  refine g_iconst hX (v := (3 : Int32)) dX4_joinsAs_1 rfl ?_
  refine g_icmp_eq hX 10 dX4_joinsAs_2 (by decide) (fun z => ?_) (fun z => ?_)
  · replace hf := hf.1 z
    refine g_sub [0, 2] rfl ?_
    exact B10 _ _ _ hf
  · replace hf := hf.2 z
    refine g_iload_n hX 1 dX4_joinsAs_5 rfl rfl ?_
    refine g_iconst hX (v := (5 : Int32)) dX4_joinsAs_6 rfl ?_
    refine g_icmp_ne hX 25 dX4_joinsAs_7 (by decide) (fun z => ?_) (fun z => ?_)
    · replace hf := hf.1 z
      refine g_iload_n hX 1 dX4_joinsAs_25 rfl rfl ?_
      refine g_iconst hX (v := (2 : Int32)) dX4_joinsAs_26 rfl ?_
      refine g_icmp_ne hX 44 dX4_joinsAs_27 (by decide) (fun z => ?_) (fun z => ?_)
      · replace hf := hf.1 z
        refine g_iload_n hX 1 dX4_joinsAs_44 rfl rfl ?_
        refine g_bipush hX (v := (7 : Int32)) dX4_joinsAs_45 rfl ?_
        refine g_icmp_ne hX 75 dX4_joinsAs_47 (by decide) (fun z => ?_) (fun z => ?_)
        · replace hf := hf.1 z
          refine g_aload_n hX 0 dX4_joinsAs_75 rfl rfl ?_
          refine g_bipush hX (v := (10 : Int32)) dX4_joinsAs_76 rfl ?_
          refine g_callVv hX (n := 1) (mt_M_begins X.l X.Γ _ _ _ _) hf q1933 q1935 qs77 q89 q1936 ⟨rfl, hy_M_begins⟩ ⟨by omega, by omega⟩ (fc40 _) ff40 rfl rfl rfl (Nat.le_of_ble_eq_true rfl) dX4_joinsAs_78 (fun χ4 hf hc4 => ?_)
          refine g_aload_n hX 0 dX4_joinsAs_81 rfl rfl ?_
          refine g_aload_n hX 0 dX4_joinsAs_82 rfl rfl ?_
          refine g_getI hX (k := 38) (fc40 _) ff40 rfl rfl in_X4 (by decide) q1543 dX4_joinsAs_83 ?_
          refine g_iload_n hX 2 dX4_joinsAs_86 rfl rfl ?_
          refine g_callVi hX (n := 2) (mt_M_agesAs X.l X.Γ 3 _ _ _ _ _) hf q1929 q1931 qs76 q89 q1932 ⟨rfl, hy_M_agesAs⟩ ⟨by omega, by omega⟩ (fc40 _) ff40 rfl rfl rfl (Nat.le_of_ble_eq_true rfl) dX4_joinsAs_87 (fun r5 χ6 hf hc6 => ?_)
          refine g_iconst hX (v := (2 : Int32)) dX4_joinsAs_90 rfl ?_
          refine g_imul hX dX4_joinsAs_91 ?_
          exact g_iret hX ⟨_, rfl, hf⟩ dX4_joinsAs_92
        · replace hf := hf.2 z
          refine g_aload_n hX 0 dX4_joinsAs_50 rfl rfl ?_
          refine g_bipush hX (v := (80 : Int32)) dX4_joinsAs_51 rfl ?_
          refine g_callVv hX (n := 1) (mt_M_begins X.l X.Γ _ _ _ _) hf q1933 q1935 qs77 q89 q1936 ⟨rfl, hy_M_begins⟩ ⟨by omega, by omega⟩ (fc40 _) ff40 rfl rfl rfl (Nat.le_of_ble_eq_true rfl) dX4_joinsAs_53 (fun χ7 hf hc7 => ?_)
          refine g_aload_n hX 0 dX4_joinsAs_56 rfl rfl ?_
          refine g_iconst hX (v := (4 : Int32)) dX4_joinsAs_57 rfl ?_
          refine g_iload_n hX 2 dX4_joinsAs_58 rfl rfl ?_
          refine g_callVi hX (n := 2) (h1 X.l X.Γ _ _ _ _ _) hf q1937 q1939 qs78 q89 q1940 ⟨rfl, hy_M_joinsAs⟩ ⟨by omega, by omega⟩ (fc40 _) ff40 rfl rfl rfl (Nat.le_of_ble_eq_true rfl) dX4_joinsAs_59 (fun r8 χ9 hf hc9 => ?_)
          refine g_istore_n hX dX4_joinsAs_62 rfl (by decide) rfl ?_
          refine g_iload_n hX 0 dX4_joinsAs_63 rfl rfl ?_
          refine g_aload_n hX 1 dX4_joinsAs_64 rfl rfl ?_
          refine g_aload_n hX 1 dX4_joinsAs_65 rfl rfl ?_
          refine g_getI hX (k := 38) (fc40 _) ff40 rfl rfl in_X4 (by decide) q1543 dX4_joinsAs_66 ?_
          refine g_iconst hX (v := (2 : Int32)) dX4_joinsAs_69 rfl ?_
          refine g_callVi hX (n := 2) (mt_M_showsAs X.l X.Γ 4 _ _ _ _ _) hf q1941 q1943 qs79 q89 q1944 ⟨rfl, hy_M_showsAs⟩ ⟨by omega, by omega⟩ (fc40 _) ff40 rfl rfl rfl (Nat.le_of_ble_eq_true rfl) dX4_joinsAs_70 (fun r10 χ11 hf hc11 => ?_)
          refine g_iadd hX dX4_joinsAs_73 ?_
          exact g_iret hX ⟨_, rfl, hf⟩ dX4_joinsAs_74
      · replace hf := hf.2 z
        refine g_aload_n hX 0 dX4_joinsAs_30 rfl rfl ?_
        refine g_bipush hX (v := (30 : Int32)) dX4_joinsAs_31 rfl ?_
        refine g_callVv hX (n := 1) (mt_M_begins X.l X.Γ _ _ _ _) hf q1933 q1935 qs77 q89 q1936 ⟨rfl, hy_M_begins⟩ ⟨by omega, by omega⟩ (fc40 _) ff40 rfl rfl rfl (Nat.le_of_ble_eq_true rfl) dX4_joinsAs_33 (fun χ12 hf hc12 => ?_)
        refine g_aload_n hX 0 dX4_joinsAs_36 rfl rfl ?_
        refine g_iconst hX (v := (0 : Int32)) dX4_joinsAs_37 rfl ?_
        refine g_iload_n hX 2 dX4_joinsAs_38 rfl rfl ?_
        refine g_callVi hX (n := 2) (h1 X.l X.Γ _ _ _ _ _) hf q1937 q1939 qs78 q89 q1940 ⟨rfl, hy_M_joinsAs⟩ ⟨by omega, by omega⟩ (fc40 _) ff40 rfl rfl rfl (Nat.le_of_ble_eq_true rfl) dX4_joinsAs_39 (fun r13 χ14 hf hc14 => ?_)
        refine g_ineg hX dX4_joinsAs_42 ?_
        exact g_iret hX ⟨_, rfl, hf⟩ dX4_joinsAs_43
    · replace hf := hf.2 z
      refine g_sub [0, 2] rfl ?_
      exact B10 _ _ _ hf
def w_M_joinsAs : Nat → Int32 → Int32 → St → (Int32 → St → Prop) → Prop
  | 0 => fun _ _ _ _ => False
  | d + 1 => fun x1 x2 χ Q => w_M_joinsAs_b (w_M_joinsAs d) x1 x2 χ Q
theorem mt_M_joinsAs (l : Launch) (Γ : Gh) (d : Nat) : ∀ (ad : Nat → Nat → Nat) (x1 : Int32) (x2 : Int32) (χ : St) (Q : Int32 → St → Prop), Mt l yX4_joinsAs (ws_ yX4_joinsAs cX4_joinsAs 4 (some .int)) (rmO (17 * d) (375 * d) χ) (Pm Γ ad χ [.ref (ad 40 0), .int x1, .int x2] (w_M_joinsAs d x1 x2 χ Q)) (Qm Γ true ad χ (pI Q)) (frB Γ) := by
  have key : ∀ (d : Nat) (l : Launch) (Γ : Gh) (ad : Nat → Nat → Nat) (x1 : Int32) (x2 : Int32) (χ : St) (Q : Int32 → St → Prop), Mt l yX4_joinsAs (ws_ yX4_joinsAs cX4_joinsAs 4 (some .int)) (rmO (17 * d) (375 * d) χ) (Pm Γ ad χ [.ref (ad 40 0), .int x1, .int x2] (w_M_joinsAs d x1 x2 χ Q)) (Qm Γ true ad χ (pI Q)) (frB Γ) := by
    intro d
    induction d with
    | zero => intro l Γ ad x1 x2 χ Q; exact Mt.no (fun h => h)
    | succ d ih => intro l Γ ad x1 x2 χ Q; exact mt_M_joinsAs_b l Γ (w_M_joinsAs d) (17 * d) (375 * d) ih ad x1 x2 χ Q
  exact key d l Γ

def w_M_tellsAs_b (W1 : Int32 → Int32 → St → (Int32 → St → Prop) → Prop) (x1 : Int32) (x2 : Int32) (χ : St) (Q : Int32 → St → Prop) : Prop := ((¬ x1 = (5 : Int32) → ((¬ x1 = (7 : Int32) → (w_M_begins (2 : Int32) χ (fun χ1 => (w_M_joinsAs 4 (gI χ1 4138 0 0) x2 χ1 (fun r2 χ3 => (w_M_showsAs 4 (gI χ3 4138 0 0) (1 : Int32) χ3 (fun r4 χ5 => (Q (r2 - r4) χ5)))))))) ∧ (x1 = (7 : Int32) → (w_M_begins (81 : Int32) χ (fun χ6 => (W1 (4 : Int32) x2 χ6 (fun r7 χ8 => (Q (r7 - (1 : Int32)) χ8)))))))) ∧ (x1 = (5 : Int32) → (w_M_begins (60 : Int32) χ (fun χ9 => (W1 (3 : Int32) x2 χ9 (fun r10 χ11 => (Q (r10 ^^^ (5 : Int32)) χ11)))))))
set_option maxHeartbeats 4000000 in
theorem mt_M_tellsAs_b (l : Launch) (Γ : Gh) (W1 : Int32 → Int32 → St → (Int32 → St → Prop) → Prop) (F1 L1 : Nat) (h1 : ∀ (l : Launch) (Γ : Gh) (ad : Nat → Nat → Nat) (x1 : Int32) (x2 : Int32) (χ : St) (Q : Int32 → St → Prop), Mt l yX4_tellsAs (ws_ yX4_tellsAs cX4_tellsAs 4 (some .int)) (rmO F1 L1 χ) (Pm Γ ad χ [.ref (ad 40 0), .int x1, .int x2] (W1 x1 x2 χ Q)) (Qm Γ true ad χ (pI Q)) (frB Γ)) (ad : Nat → Nat → Nat) (x1 : Int32) (x2 : Int32) (χ : St) (Q : Int32 → St → Prop) : Mt l yX4_tellsAs (ws_ yX4_tellsAs cX4_tellsAs 4 (some .int)) (rmO (F1 + 69) (L1 + 1523) χ) (Pm Γ ad χ [.ref (ad 40 0), .int x1, .int x2] (w_M_tellsAs_b W1 x1 x2 χ Q)) (Qm Γ true ad χ (pI Q)) (frB Γ) := by
  refine Mt.start (by decide) RX4 rfl (Nat.le_of_ble_eq_true rfl) ?_
  intro X hX hG _ _ hna _ hf
  unfold w_M_tellsAs_b at hf
  refine g_iload_n hX 1 dX4_tellsAs_0 rfl rfl ?_
  refine g_iconst hX (v := (5 : Int32)) dX4_tellsAs_1 rfl ?_
  refine g_icmp_ne hX 20 dX4_tellsAs_2 (by decide) (fun z => ?_) (fun z => ?_)
  · replace hf := hf.1 z
    refine g_iload_n hX 1 dX4_tellsAs_20 rfl rfl ?_
    refine g_bipush hX (v := (7 : Int32)) dX4_tellsAs_21 rfl ?_
    refine g_icmp_ne hX 41 dX4_tellsAs_23 (by decide) (fun z => ?_) (fun z => ?_)
    · replace hf := hf.1 z
      refine g_aload_n hX 0 dX4_tellsAs_41 rfl rfl ?_
      refine g_iconst hX (v := (2 : Int32)) dX4_tellsAs_42 rfl ?_
      refine g_callVv hX (n := 1) (mt_M_begins X.l X.Γ _ _ _ _) hf q1933 q1935 qs77 q89 q1936 ⟨rfl, hy_M_begins⟩ ⟨by omega, by omega⟩ (fc40 _) ff40 rfl rfl rfl (Nat.le_of_ble_eq_true rfl) dX4_tellsAs_43 (fun χ1 hf hc1 => ?_)
      refine g_aload_n hX 0 dX4_tellsAs_46 rfl rfl ?_
      refine g_aload_n hX 0 dX4_tellsAs_47 rfl rfl ?_
      refine g_getI hX (k := 38) (fc40 _) ff40 rfl rfl in_X4 (by decide) q1543 dX4_tellsAs_48 ?_
      refine g_iload_n hX 2 dX4_tellsAs_51 rfl rfl ?_
      refine g_callVi hX (n := 2) (mt_M_joinsAs X.l X.Γ 4 _ _ _ _ _) hf q1937 q1939 qs78 q89 q1940 ⟨rfl, hy_M_joinsAs⟩ ⟨by omega, by omega⟩ (fc40 _) ff40 rfl rfl rfl (Nat.le_of_ble_eq_true rfl) dX4_tellsAs_52 (fun r2 χ3 hf hc3 => ?_)
      refine g_istore_n hX dX4_tellsAs_55 rfl (by decide) rfl ?_
      refine g_iload_n hX 0 dX4_tellsAs_56 rfl rfl ?_
      refine g_aload_n hX 1 dX4_tellsAs_57 rfl rfl ?_
      refine g_aload_n hX 1 dX4_tellsAs_58 rfl rfl ?_
      refine g_getI hX (k := 38) (fc40 _) ff40 rfl rfl in_X4 (by decide) q1543 dX4_tellsAs_59 ?_
      refine g_iconst hX (v := (1 : Int32)) dX4_tellsAs_62 rfl ?_
      refine g_callVi hX (n := 2) (mt_M_showsAs X.l X.Γ 4 _ _ _ _ _) hf q1941 q1943 qs79 q89 q1944 ⟨rfl, hy_M_showsAs⟩ ⟨by omega, by omega⟩ (fc40 _) ff40 rfl rfl rfl (Nat.le_of_ble_eq_true rfl) dX4_tellsAs_63 (fun r4 χ5 hf hc5 => ?_)
      refine g_isub hX dX4_tellsAs_66 ?_
      exact g_iret hX ⟨_, rfl, hf⟩ dX4_tellsAs_67
    · replace hf := hf.2 z
      refine g_aload_n hX 0 dX4_tellsAs_26 rfl rfl ?_
      refine g_bipush hX (v := (81 : Int32)) dX4_tellsAs_27 rfl ?_
      refine g_callVv hX (n := 1) (mt_M_begins X.l X.Γ _ _ _ _) hf q1933 q1935 qs77 q89 q1936 ⟨rfl, hy_M_begins⟩ ⟨by omega, by omega⟩ (fc40 _) ff40 rfl rfl rfl (Nat.le_of_ble_eq_true rfl) dX4_tellsAs_29 (fun χ6 hf hc6 => ?_)
      refine g_aload_n hX 0 dX4_tellsAs_32 rfl rfl ?_
      refine g_iconst hX (v := (4 : Int32)) dX4_tellsAs_33 rfl ?_
      refine g_iload_n hX 2 dX4_tellsAs_34 rfl rfl ?_
      refine g_callVi hX (n := 2) (h1 X.l X.Γ _ _ _ _ _) hf q1945 q1947 qs80 q89 q1948 ⟨rfl, hy_M_tellsAs⟩ ⟨by omega, by omega⟩ (fc40 _) ff40 rfl rfl rfl (Nat.le_of_ble_eq_true rfl) dX4_tellsAs_35 (fun r7 χ8 hf hc8 => ?_)
      refine g_iconst hX (v := (1 : Int32)) dX4_tellsAs_38 rfl ?_
      refine g_isub hX dX4_tellsAs_39 ?_
      exact g_iret hX ⟨_, rfl, hf⟩ dX4_tellsAs_40
  · replace hf := hf.2 z
    refine g_aload_n hX 0 dX4_tellsAs_5 rfl rfl ?_
    refine g_bipush hX (v := (60 : Int32)) dX4_tellsAs_6 rfl ?_
    refine g_callVv hX (n := 1) (mt_M_begins X.l X.Γ _ _ _ _) hf q1933 q1935 qs77 q89 q1936 ⟨rfl, hy_M_begins⟩ ⟨by omega, by omega⟩ (fc40 _) ff40 rfl rfl rfl (Nat.le_of_ble_eq_true rfl) dX4_tellsAs_8 (fun χ9 hf hc9 => ?_)
    refine g_aload_n hX 0 dX4_tellsAs_11 rfl rfl ?_
    refine g_iconst hX (v := (3 : Int32)) dX4_tellsAs_12 rfl ?_
    refine g_iload_n hX 2 dX4_tellsAs_13 rfl rfl ?_
    refine g_callVi hX (n := 2) (h1 X.l X.Γ _ _ _ _ _) hf q1945 q1947 qs80 q89 q1948 ⟨rfl, hy_M_tellsAs⟩ ⟨by omega, by omega⟩ (fc40 _) ff40 rfl rfl rfl (Nat.le_of_ble_eq_true rfl) dX4_tellsAs_14 (fun r10 χ11 hf hc11 => ?_)
    refine g_iconst hX (v := (5 : Int32)) dX4_tellsAs_17 rfl ?_
    refine g_ixor hX dX4_tellsAs_18 ?_
    exact g_iret hX ⟨_, rfl, hf⟩ dX4_tellsAs_19
def w_M_tellsAs : Nat → Int32 → Int32 → St → (Int32 → St → Prop) → Prop
  | 0 => fun _ _ _ _ => False
  | d + 1 => fun x1 x2 χ Q => w_M_tellsAs_b (w_M_tellsAs d) x1 x2 χ Q
theorem mt_M_tellsAs (l : Launch) (Γ : Gh) (d : Nat) : ∀ (ad : Nat → Nat → Nat) (x1 : Int32) (x2 : Int32) (χ : St) (Q : Int32 → St → Prop), Mt l yX4_tellsAs (ws_ yX4_tellsAs cX4_tellsAs 4 (some .int)) (rmO (69 * d) (1523 * d) χ) (Pm Γ ad χ [.ref (ad 40 0), .int x1, .int x2] (w_M_tellsAs d x1 x2 χ Q)) (Qm Γ true ad χ (pI Q)) (frB Γ) := by
  have key : ∀ (d : Nat) (l : Launch) (Γ : Gh) (ad : Nat → Nat → Nat) (x1 : Int32) (x2 : Int32) (χ : St) (Q : Int32 → St → Prop), Mt l yX4_tellsAs (ws_ yX4_tellsAs cX4_tellsAs 4 (some .int)) (rmO (69 * d) (1523 * d) χ) (Pm Γ ad χ [.ref (ad 40 0), .int x1, .int x2] (w_M_tellsAs d x1 x2 χ Q)) (Qm Γ true ad χ (pI Q)) (frB Γ) := by
    intro d
    induction d with
    | zero => intro l Γ ad x1 x2 χ Q; exact Mt.no (fun h => h)
    | succ d ih => intro l Γ ad x1 x2 χ Q; exact mt_M_tellsAs_b l Γ (w_M_tellsAs d) (69 * d) (1523 * d) ih ad x1 x2 χ Q
  exact key d l Γ

def w_M_act (x1 : Int32) (x2 : Int32) (x3 : Int32) (χ : St) (Q : Int32 → St → Prop) : Prop := (∀ χ1 : St, χ1 = (sI χ 4137 0 0 (0 : Int32)) → (w_M_isBody x1 χ1 (fun r2 χ3 => ((¬ r2 = 0 → (vp_in x1 50) ∧ ((∀ χ4 : St, χ4 = (sI χ3 4138 0 0 (gI χ3 62 0 x1.toNatClampNeg)) → (∀ χ5 : St, χ5 = (sI χ4 4139 0 0 x1) → (∀ v6 : Int32, v6 = x2 → ((v6 = (0 : Int32) → (w_M_agesAs 3 (gI χ5 4138 0 0) x3 χ5 (fun r7 χ8 => (Q r7 χ8)))) ∧ (v6 = (1 : Int32) → (w_M_joinsAs 4 (gI χ5 4138 0 0) x3 χ5 (fun r9 χ10 => (Q r9 χ10)))) ∧ (v6 = (2 : Int32) → (w_M_showsAs 4 (gI χ5 4138 0 0) x3 χ5 (fun r11 χ12 => (Q r11 χ12)))) ∧ (v6 = (3 : Int32) → (w_M_tellsAs 3 (gI χ5 4138 0 0) x3 χ5 (fun r13 χ14 => (Q r13 χ14)))) ∧ (¬ v6 = (0 : Int32) → ¬ v6 = (1 : Int32) → ¬ v6 = (2 : Int32) → ¬ v6 = (3 : Int32) → (Q (0 : Int32) χ5)))))))) ∧ (r2 = 0 → (Q (0 : Int32) χ3))))))
set_option maxHeartbeats 4000000 in
theorem mt_M_act (l : Launch) (Γ : Gh) (ad : Nat → Nat → Nat) (x1 : Int32) (x2 : Int32) (x3 : Int32) (χ : St) (Q : Int32 → St → Prop) : Mt l yX4_act (ws_ yX4_act cX4_act 4 (some .int)) (rmO (208) (4592) χ) (Pm Γ ad χ [.ref (ad 40 0), .int x1, .int x2, .int x3] (w_M_act x1 x2 x3 χ Q)) (Qm Γ true ad χ (pI Q)) (frB Γ) := by
  refine Mt.start (by decide) RX4 rfl (Nat.le_of_ble_eq_true rfl) ?_
  intro X hX hG _ _ hna _ hf
  unfold w_M_act at hf
  refine g_aload_n hX 0 dX4_act_0 rfl rfl ?_
  refine g_iconst hX (v := (0 : Int32)) dX4_act_1 rfl ?_
  refine g_putI hX (k := 37) (fc40 _) ff40 rfl rfl in_X4 tyX4_ok nmX4 (by decide) q1542 rfl rfl rfl rfl dX4_act_2 ?_
  replace hf := hf _ rfl
  refine g_aload_n hX 0 dX4_act_5 rfl rfl ?_
  refine g_iload_n hX 1 dX4_act_6 rfl rfl ?_
  refine g_callVi hX (n := 1) (mt_M_isBody X.l X.Γ _ _ _ _) hf q1925 q1927 qs75 q89 q1928 ⟨rfl, hy_M_isBody⟩ (by decide) (fc40 _) ff40 rfl rfl rfl (Nat.le_of_ble_eq_true rfl) dX4_act_7 (fun r2 χ3 hf hc3 => ?_)
  refine g_if_ne hX 15 dX4_act_10 (by decide) (fun z => ?_) (fun z => ?_)
  · replace hf := hf.1 z
    refine g_aload_n hX 0 dX4_act_15 rfl rfl ?_
    refine g_aload_n hX 0 dX4_act_16 rfl rfl ?_
    refine g_getK hX (k := 35) (d := 62) (fc40 _) ff40 rfl (by decide) rfl rfl in_X4 (by decide) q1540 dX4_act_17 ?_
    refine g_iload_n hX 1 dX4_act_20 rfl rfl ?_
    refine g_iald hX (fc62 _) ff62 rfl hf.1 dX4_act_21 ?_
    replace hf := hf.2
    refine g_putI hX (k := 38) (fc40 _) ff40 rfl rfl in_X4 tyX4_ok nmX4 (by decide) q1543 rfl rfl rfl rfl dX4_act_22 ?_
    replace hf := hf _ rfl
    refine g_aload_n hX 0 dX4_act_25 rfl rfl ?_
    refine g_iload_n hX 1 dX4_act_26 rfl rfl ?_
    refine g_putI hX (k := 39) (fc40 _) ff40 rfl rfl in_X4 tyX4_ok nmX4 (by decide) q1544 rfl rfl rfl rfl dX4_act_27 ?_
    replace hf := hf _ rfl
    refine g_iload_n hX 2 dX4_act_30 rfl rfl ?_
    replace hf := hf _ rfl
    by_cases z0 : x2 = (0 : Int32)
    · replace hf := hf.1 z0
      refine g_tableIn hX 60 dX4_act_31 (by rw [z0]; decide) (by rw [z0]; decide) (by rw [z0] <;> rfl) (by decide) ?_
      refine g_aload_n hX 0 dX4_act_60 rfl rfl ?_
      refine g_aload_n hX 0 dX4_act_61 rfl rfl ?_
      refine g_getI hX (k := 38) (fc40 _) ff40 rfl rfl in_X4 (by decide) q1543 dX4_act_62 ?_
      refine g_iload_n hX 3 dX4_act_65 rfl rfl ?_
      refine g_callVi hX (n := 2) (mt_M_agesAs X.l X.Γ 3 _ _ _ _ _) hf q1929 q1931 qs76 q89 q1932 ⟨rfl, hy_M_agesAs⟩ (by decide) (fc40 _) ff40 rfl rfl rfl (Nat.le_of_ble_eq_true rfl) dX4_act_66 (fun r7 χ8 hf hc8 => ?_)
      exact g_iret hX ⟨_, rfl, hf⟩ dX4_act_69
    replace hf := hf.2
    by_cases z1 : x2 = (1 : Int32)
    · replace hf := hf.1 z1
      refine g_tableIn hX 70 dX4_act_31 (by rw [z1]; decide) (by rw [z1]; decide) (by rw [z1] <;> rfl) (by decide) ?_
      refine g_aload_n hX 0 dX4_act_70 rfl rfl ?_
      refine g_aload_n hX 0 dX4_act_71 rfl rfl ?_
      refine g_getI hX (k := 38) (fc40 _) ff40 rfl rfl in_X4 (by decide) q1543 dX4_act_72 ?_
      refine g_iload_n hX 3 dX4_act_75 rfl rfl ?_
      refine g_callVi hX (n := 2) (mt_M_joinsAs X.l X.Γ 4 _ _ _ _ _) hf q1937 q1939 qs78 q89 q1940 ⟨rfl, hy_M_joinsAs⟩ (by decide) (fc40 _) ff40 rfl rfl rfl (Nat.le_of_ble_eq_true rfl) dX4_act_76 (fun r9 χ10 hf hc10 => ?_)
      exact g_iret hX ⟨_, rfl, hf⟩ dX4_act_79
    replace hf := hf.2
    by_cases z2 : x2 = (2 : Int32)
    · replace hf := hf.1 z2
      refine g_tableIn hX 80 dX4_act_31 (by rw [z2]; decide) (by rw [z2]; decide) (by rw [z2] <;> rfl) (by decide) ?_
      refine g_aload_n hX 0 dX4_act_80 rfl rfl ?_
      refine g_aload_n hX 0 dX4_act_81 rfl rfl ?_
      refine g_getI hX (k := 38) (fc40 _) ff40 rfl rfl in_X4 (by decide) q1543 dX4_act_82 ?_
      refine g_iload_n hX 3 dX4_act_85 rfl rfl ?_
      refine g_callVi hX (n := 2) (mt_M_showsAs X.l X.Γ 4 _ _ _ _ _) hf q1941 q1943 qs79 q89 q1944 ⟨rfl, hy_M_showsAs⟩ (by decide) (fc40 _) ff40 rfl rfl rfl (Nat.le_of_ble_eq_true rfl) dX4_act_86 (fun r11 χ12 hf hc12 => ?_)
      exact g_iret hX ⟨_, rfl, hf⟩ dX4_act_89
    replace hf := hf.2
    by_cases z3 : x2 = (3 : Int32)
    · replace hf := hf.1 z3
      refine g_tableIn hX 90 dX4_act_31 (by rw [z3]; decide) (by rw [z3]; decide) (by rw [z3] <;> rfl) (by decide) ?_
      refine g_aload_n hX 0 dX4_act_90 rfl rfl ?_
      refine g_aload_n hX 0 dX4_act_91 rfl rfl ?_
      refine g_getI hX (k := 38) (fc40 _) ff40 rfl rfl in_X4 (by decide) q1543 dX4_act_92 ?_
      refine g_iload_n hX 3 dX4_act_95 rfl rfl ?_
      refine g_callVi hX (n := 2) (mt_M_tellsAs X.l X.Γ 3 _ _ _ _ _) hf q1945 q1947 qs80 q89 q1948 ⟨rfl, hy_M_tellsAs⟩ (by decide) (fc40 _) ff40 rfl rfl rfl (Nat.le_of_ble_eq_true rfl) dX4_act_96 (fun r13 χ14 hf hc14 => ?_)
      exact g_iret hX ⟨_, rfl, hf⟩ dX4_act_99
    replace hf := hf.2
    replace hf := hf z0 z1 z2 z3
    refine g_tableOut hX 100 dX4_act_31 (tb_out (fun v h1 h2 => ?_)) (by decide) ?_
    · have h3 : v = 0 ∨ v = 1 ∨ v = 2 ∨ v = 3 := by omega
      rcases h3 with rfl | rfl | rfl | rfl
      · exact z0
      · exact z1
      · exact z2
      · exact z3
    refine g_iconst hX (v := (0 : Int32)) dX4_act_100 rfl ?_
    exact g_iret hX ⟨_, rfl, hf⟩ dX4_act_101
  · replace hf := hf.2 z
    refine g_iconst hX (v := (0 : Int32)) dX4_act_13 rfl ?_
    exact g_iret hX ⟨_, rfl, hf⟩ dX4_act_14

def w_M_trace (x1 : Int32) (χ : St) (Q : Int32 → St → Prop) : Prop := ((x1 < 0 → (Q (-1 : Int32) χ)) ∧ (¬ x1 < 0 → (((gI χ 4137 0 0) ≤ x1 → (Q (-1 : Int32) χ)) ∧ (¬ (gI χ 4137 0 0) ≤ x1 → (((24 : Int32) ≤ x1 → (Q (-1 : Int32) χ)) ∧ (¬ (24 : Int32) ≤ x1 → (vp_in x1 24) ∧ ((Q (gI χ 63 0 x1.toNatClampNeg) χ))))))))
set_option maxHeartbeats 4000000 in
theorem mt_M_trace (l : Launch) (Γ : Gh) (ad : Nat → Nat → Nat) (x1 : Int32) (χ : St) (Q : Int32 → St → Prop) : Mt l yX4_trace (ws_ yX4_trace cX4_trace 2 (some .int)) (rmO (0) (0) χ) (Pm Γ ad χ [.ref (ad 40 0), .int x1] (w_M_trace x1 χ Q)) (Qm Γ true ad χ (pI Q)) (frB Γ) := by
  refine Mt.start (by decide) RX4 rfl (Nat.le_of_ble_eq_true rfl) ?_
  intro X hX hG _ _ hna _ hf
  unfold w_M_trace at hf
  refine g_iload_n hX 1 dX4_trace_0 rfl rfl ?_
  refine g_if_lt hX 27 dX4_trace_1 (by decide) (fun z => ?_) (fun z => ?_)
  · replace hf := hf.1 z
    refine g_iconst hX (v := (-1 : Int32)) dX4_trace_27 rfl ?_
    exact g_iret hX ⟨_, rfl, hf⟩ dX4_trace_28
  · replace hf := hf.2 z
    refine g_iload_n hX 1 dX4_trace_4 rfl rfl ?_
    refine g_aload_n hX 0 dX4_trace_5 rfl rfl ?_
    refine g_getI hX (k := 37) (fc40 _) ff40 rfl rfl in_X4 (by decide) q1542 dX4_trace_6 ?_
    refine g_icmp_ge hX 27 dX4_trace_9 (by decide) (fun z => ?_) (fun z => ?_)
    · replace hf := hf.1 z
      refine g_iconst hX (v := (-1 : Int32)) dX4_trace_27 rfl ?_
      exact g_iret hX ⟨_, rfl, hf⟩ dX4_trace_28
    · replace hf := hf.2 z
      refine g_iload_n hX 1 dX4_trace_12 rfl rfl ?_
      refine g_bipush hX (v := (24 : Int32)) dX4_trace_13 rfl ?_
      refine g_icmp_ge hX 27 dX4_trace_15 (by decide) (fun z => ?_) (fun z => ?_)
      · replace hf := hf.1 z
        refine g_iconst hX (v := (-1 : Int32)) dX4_trace_27 rfl ?_
        exact g_iret hX ⟨_, rfl, hf⟩ dX4_trace_28
      · replace hf := hf.2 z
        refine g_aload_n hX 0 dX4_trace_18 rfl rfl ?_
        refine g_getK hX (k := 36) (d := 63) (fc40 _) ff40 rfl (by decide) rfl rfl in_X4 (by decide) q1541 dX4_trace_19 ?_
        refine g_iload_n hX 1 dX4_trace_22 rfl rfl ?_
        refine g_iald hX (fc63 _) ff63 rfl hf.1 dX4_trace_23 ?_
        replace hf := hf.2
        refine g_goto hX 28 dX4_trace_24 (by decide) ?_
        exact g_iret hX ⟨_, rfl, hf⟩ dX4_trace_28

def w_M_keep_22 (Q : Int32 → St → Prop) (x1 : Int32) (x2 : Int32) (χ : St) : Prop := (vp_in x1 6) ∧ ((∀ χ3 : St, χ3 = (sI χ 64 0 x1.toNatClampNeg x2) → (vp_in x1 6) ∧ ((∀ χ4 : St, χ4 = (sI χ3 65 0 x1.toNatClampNeg (0 : Int32)) → (Q (1 : Int32) χ4)))))
def w_M_keep (x1 : Int32) (x2 : Int32) (χ : St) (Q : Int32 → St → Prop) : Prop := (w_M_isShelf x1 χ (fun r1 χ2 => ((r1 = 0 → (Q (-1 : Int32) χ2)) ∧ (¬ r1 = 0 → ((x2 = (-1 : Int32) → (w_M_keep_22 Q x1 x2 χ2)) ∧ (¬ x2 = (-1 : Int32) → (w_M_isBody x2 χ2 (fun r5 χ6 => ((¬ r5 = 0 → (w_M_keep_22 Q x1 x2 χ6)) ∧ (r5 = 0 → (Q (-1 : Int32) χ6)))))))))))
set_option maxHeartbeats 4000000 in
theorem mt_M_keep (l : Launch) (Γ : Gh) (ad : Nat → Nat → Nat) (x1 : Int32) (x2 : Int32) (χ : St) (Q : Int32 → St → Prop) : Mt l yX4_keep (ws_ yX4_keep cX4_keep 3 (some .int)) (rmO (2) (46) χ) (Pm Γ ad χ [.ref (ad 40 0), .int x1, .int x2] (w_M_keep x1 x2 χ Q)) (Qm Γ true ad χ (pI Q)) (frB Γ) := by
  refine Mt.start (by decide) RX4 rfl (Nat.le_of_ble_eq_true rfl) ?_
  intro X hX hG _ _ hna _ hf
  have B22 : ∀ (ad : Nat → Nat → Nat) (x1 : Int32) (x2 : Int32) (χ : St), w_M_keep_22 Q x1 x2 χ → G X ad χ 22 [(0, .ref (ad 40 0)), (1, .int x1), (2, .int x2)] [] := by
    intro ad x1 x2 χ hf
    unfold w_M_keep_22 at hf
    refine g_aload_n hX 0 dX4_keep_22 rfl rfl ?_
    refine g_getK hX (k := 40) (d := 64) (fc40 _) ff40 rfl (by decide) rfl rfl in_X4 (by decide) q1545 dX4_keep_23 ?_
    refine g_iload_n hX 1 dX4_keep_26 rfl rfl ?_
    refine g_iload_n hX 2 dX4_keep_27 rfl rfl ?_
    refine g_iast hX (fc64 _) ff64 rfl hf.1 dX4_keep_28 ?_
    replace hf := hf.2
    replace hf := hf _ rfl
    refine g_aload_n hX 0 dX4_keep_29 rfl rfl ?_
    refine g_getK hX (k := 41) (d := 65) (fc40 _) ff40 rfl (by decide) rfl rfl in_X4 (by decide) q1546 dX4_keep_30 ?_
    refine g_iload_n hX 1 dX4_keep_33 rfl rfl ?_
    refine g_iconst hX (v := (0 : Int32)) dX4_keep_34 rfl ?_
    refine g_iast hX (fc65 _) ff65 rfl hf.1 dX4_keep_35 ?_
    replace hf := hf.2
    replace hf := hf _ rfl
    refine g_iconst hX (v := (1 : Int32)) dX4_keep_36 rfl ?_
    exact g_iret hX ⟨_, rfl, hf⟩ dX4_keep_37
  unfold w_M_keep at hf
  refine g_iload_n hX 1 dX4_keep_0 rfl rfl ?_
  refine g_callSi hX (n := 1) (mt_M_isShelf X.l X.Γ _ _ _ _) hf q1662 q1663 q89 q1664 hy_M_isShelf (by decide) rfl rfl (Nat.le_of_ble_eq_true rfl) dX4_keep_1 (fun r1 χ2 hf hc2 => ?_)
  refine g_if_eq hX 20 dX4_keep_4 (by decide) (fun z => ?_) (fun z => ?_)
  · replace hf := hf.1 z
    refine g_iconst hX (v := (-1 : Int32)) dX4_keep_20 rfl ?_
    exact g_iret hX ⟨_, rfl, hf⟩ dX4_keep_21
  · replace hf := hf.2 z
    refine g_iload_n hX 2 dX4_keep_7 rfl rfl ?_
    refine g_iconst hX (v := (-1 : Int32)) dX4_keep_8 rfl ?_
    refine g_icmp_eq hX 22 dX4_keep_9 (by decide) (fun z => ?_) (fun z => ?_)
    · replace hf := hf.1 z
      exact B22 _ _ _ _ hf
    · replace hf := hf.2 z
      refine g_aload_n hX 0 dX4_keep_12 rfl rfl ?_
      refine g_iload_n hX 2 dX4_keep_13 rfl rfl ?_
      refine g_callVi hX (n := 1) (mt_M_isBody X.l X.Γ _ _ _ _) hf q1925 q1927 qs75 q89 q1928 ⟨rfl, hy_M_isBody⟩ (by decide) (fc40 _) ff40 rfl rfl rfl (Nat.le_of_ble_eq_true rfl) dX4_keep_14 (fun r5 χ6 hf hc6 => ?_)
      refine g_if_ne hX 22 dX4_keep_17 (by decide) (fun z => ?_) (fun z => ?_)
      · replace hf := hf.1 z
        exact B22 _ _ _ _ hf
      · replace hf := hf.2 z
        refine g_iconst hX (v := (-1 : Int32)) dX4_keep_20 rfl ?_
        exact g_iret hX ⟨_, rfl, hf⟩ dX4_keep_21

def w_M_row_57 (Q : Int32 → St → Prop) : Nat → Int32 → Int32 → St → Prop
  | 0 => fun _ _ _ => False
  | n + 1 => fun x1 x4 χ => (((((60 : Int32) * x1) + (60 : Int32)) ≤ x4 → (Q (1 : Int32) χ)) ∧ (¬ (((60 : Int32) * x1) + (60 : Int32)) ≤ x4 → (vp_in x4 360) ∧ ((∀ χ7 : St, χ7 = (sL χ 66 0 x4.toNatClampNeg (0 : Int64)) → (w_M_row_57 Q n x1 (x4 + (1 : Int32)) χ7)))))
def w_M_row (x1 : Int32) (x2 : Int32) (x3 : Int32) (χ : St) (Q : Int32 → St → Prop) : Prop := (w_M_isShelf x1 χ (fun r1 χ2 => ((r1 = 0 → (Q (-1 : Int32) χ2)) ∧ (¬ r1 = 0 → (w_M_within x2.toInt64 (0 : Int64) (4 : Int64) χ2 (fun r3 χ4 => ((r3 = 0 → (Q (-1 : Int32) χ4)) ∧ (¬ r3 = 0 → ((x3 ≤ (60 : Int32) → ((0 ≤ x3 → (vp_in x1 6) ∧ ((∀ χ5 : St, χ5 = (sI χ4 64 0 x1.toNatClampNeg ((50 : Int32) + x2)) → (vp_in x1 6) ∧ ((∀ χ6 : St, χ6 = (sI χ5 65 0 x1.toNatClampNeg x3) → (∃ k57, w_M_row_57 Q k57 x1 ((60 : Int32) * x1) χ6)))))) ∧ (¬ 0 ≤ x3 → (Q (-14 : Int32) χ4)))) ∧ (¬ x3 ≤ (60 : Int32) → (Q (-1 : Int32) χ4)))))))))))
set_option maxHeartbeats 4000000 in
theorem mt_M_row (l : Launch) (Γ : Gh) (ad : Nat → Nat → Nat) (x1 : Int32) (x2 : Int32) (x3 : Int32) (χ : St) (Q : Int32 → St → Prop) : Mt l yX4_row (ws_ yX4_row cX4_row 5 (some .int)) (rmO (2) (45) χ) (Pm Γ ad χ [.ref (ad 40 0), .int x1, .int x2, .int x3] (w_M_row x1 x2 x3 χ Q)) (Qm Γ true ad χ (pI Q)) (frB Γ) := by
  refine Mt.start (by decide) RX4 rfl (Nat.le_of_ble_eq_true rfl) ?_
  intro X hX hG _ _ hna _ hf
  have B57 : ∀ (n : Nat) (ad : Nat → Nat → Nat) (x1 : Int32) (x4 : Int32) (χ : St), w_M_row_57 Q n x1 x4 χ → G X ad χ 57 [(0, .ref (ad 40 0)), (1, .int x1), (4, .int x4)] [] := by
    intro n
    induction n with
    | zero => intro ad x1 x4 χ hf; exact hf.elim
    | succ n hK57 =>
      intro ad x1 x4 χ hf
      unfold w_M_row_57 at hf
      refine g_iload hX 2 dX4_row_57 rfl ?_
      refine g_bipush hX (v := (60 : Int32)) dX4_row_59 rfl ?_
      refine g_iload_n hX 1 dX4_row_61 rfl rfl ?_
      refine g_imul hX dX4_row_62 ?_
      refine g_bipush hX (v := (60 : Int32)) dX4_row_63 rfl ?_
      refine g_iadd hX dX4_row_65 ?_
      refine g_icmp_ge hX 83 dX4_row_66 (by decide) (fun z => ?_) (fun z => ?_)
      · replace hf := hf.1 z
        refine g_iconst hX (v := (1 : Int32)) dX4_row_83 rfl ?_
        exact g_iret hX ⟨_, rfl, hf⟩ dX4_row_84
      · replace hf := hf.2 z
        refine g_aload_n hX 0 dX4_row_69 rfl rfl ?_
        refine g_getK hX (k := 42) (d := 66) (fc40 _) ff40 rfl (by decide) rfl rfl in_X4 (by decide) q1547 dX4_row_70 ?_
        refine g_iload hX 2 dX4_row_73 rfl ?_
        refine g_lconst hX (v := (0 : Int64)) dX4_row_75 rfl ?_
        refine g_last hX (fc66 _) ff66 rfl hf.1 dX4_row_76 ?_
        replace hf := hf.2
        replace hf := hf _ rfl
        refine g_iinc hX (v := _) 2 dX4_row_77 rfl rfl (by decide) rfl ?_
        refine g_goto hX 57 dX4_row_80 (by decide) ?_
        refine g_sub [1, 2, 0] rfl ?_
        exact hK57 _ _ _ _ hf
  unfold w_M_row at hf
  refine g_iload_n hX 1 dX4_row_0 rfl rfl ?_
  refine g_callSi hX (n := 1) (mt_M_isShelf X.l X.Γ _ _ _ _) hf q1662 q1663 q89 q1664 hy_M_isShelf (by decide) rfl rfl (Nat.le_of_ble_eq_true rfl) dX4_row_1 (fun r1 χ2 hf hc2 => ?_)
  refine g_if_eq hX 25 dX4_row_4 (by decide) (fun z => ?_) (fun z => ?_)
  · replace hf := hf.1 z
    refine g_iconst hX (v := (-1 : Int32)) dX4_row_25 rfl ?_
    exact g_iret hX ⟨_, rfl, hf⟩ dX4_row_26
  · replace hf := hf.2 z
    refine g_iload_n hX 2 dX4_row_7 rfl rfl ?_
    refine g_i2l hX dX4_row_8 ?_
    refine g_lconst hX (v := (0 : Int64)) dX4_row_9 rfl ?_
    refine g_ldc2 hX q1961 dX4_row_10 ?_
    refine g_callSi hX (n := 3) (mt_M_within X.l X.Γ _ _ _ _ _ _) hf q1651 q1652 q89 q1653 hy_M_within (by decide) rfl rfl (Nat.le_of_ble_eq_true rfl) dX4_row_13 (fun r3 χ4 hf hc4 => ?_)
    refine g_if_eq hX 25 dX4_row_16 (by decide) (fun z => ?_) (fun z => ?_)
    · replace hf := hf.1 z
      refine g_iconst hX (v := (-1 : Int32)) dX4_row_25 rfl ?_
      exact g_iret hX ⟨_, rfl, hf⟩ dX4_row_26
    · replace hf := hf.2 z
      refine g_iload_n hX 3 dX4_row_19 rfl rfl ?_
      refine g_bipush hX (v := (60 : Int32)) dX4_row_20 rfl ?_
      refine g_icmp_le hX 27 dX4_row_22 (by decide) (fun z => ?_) (fun z => ?_)
      · replace hf := hf.1 z
        refine g_iload_n hX 3 dX4_row_27 rfl rfl ?_
        refine g_if_ge hX 34 dX4_row_28 (by decide) (fun z => ?_) (fun z => ?_)
        · replace hf := hf.1 z
          refine g_aload_n hX 0 dX4_row_34 rfl rfl ?_
          refine g_getK hX (k := 40) (d := 64) (fc40 _) ff40 rfl (by decide) rfl rfl in_X4 (by decide) q1545 dX4_row_35 ?_
          refine g_iload_n hX 1 dX4_row_38 rfl rfl ?_
          refine g_bipush hX (v := (50 : Int32)) dX4_row_39 rfl ?_
          refine g_iload_n hX 2 dX4_row_41 rfl rfl ?_
          refine g_iadd hX dX4_row_42 ?_
          refine g_iast hX (fc64 _) ff64 rfl hf.1 dX4_row_43 ?_
          replace hf := hf.2
          replace hf := hf _ rfl
          refine g_aload_n hX 0 dX4_row_44 rfl rfl ?_
          refine g_getK hX (k := 41) (d := 65) (fc40 _) ff40 rfl (by decide) rfl rfl in_X4 (by decide) q1546 dX4_row_45 ?_
          refine g_iload_n hX 1 dX4_row_48 rfl rfl ?_
          refine g_iload_n hX 3 dX4_row_49 rfl rfl ?_
          refine g_iast hX (fc65 _) ff65 rfl hf.1 dX4_row_50 ?_
          replace hf := hf.2
          replace hf := hf _ rfl
          refine g_bipush hX (v := (60 : Int32)) dX4_row_51 rfl ?_
          refine g_iload_n hX 1 dX4_row_53 rfl rfl ?_
          refine g_imul hX dX4_row_54 ?_
          refine g_istore hX dX4_row_55 (by decide) rfl ?_
          obtain ⟨n0, hf⟩ := hf
          refine g_sub [1, 2, 0] rfl ?_
          exact B57 n0 _ _ _ _ hf
        · replace hf := hf.2 z
          refine g_bipush hX (v := (-14 : Int32)) dX4_row_31 rfl ?_
          exact g_iret hX ⟨_, rfl, hf⟩ dX4_row_33
      · replace hf := hf.2 z
        refine g_iconst hX (v := (-1 : Int32)) dX4_row_25 rfl ?_
        exact g_iret hX ⟨_, rfl, hf⟩ dX4_row_26

def w_M_refusal (x1 : Int32) (x2 : Int32) (χ : St) (Q : Int32 → St → Prop) : Prop := (w_M_isShelf x1 χ (fun r1 χ2 => ((¬ r1 = 0 → (vp_in x1 6) ∧ (((0 ≤ (gI χ2 64 0 x1.toNatClampNeg) → (vp_in x1 6) ∧ ((((50 : Int32) ≤ (gI χ2 64 0 x1.toNatClampNeg) → ((x2 < 0 → (Q (-13 : Int32) χ2)) ∧ (¬ x2 < 0 → (vp_in x1 6) ∧ ((((gI χ2 65 0 x1.toNatClampNeg) ≤ x2 → (Q (-13 : Int32) χ2)) ∧ (¬ (gI χ2 65 0 x1.toNatClampNeg) ≤ x2 → (Q (0 : Int32) χ2))))))) ∧ (¬ (50 : Int32) ≤ (gI χ2 64 0 x1.toNatClampNeg) → (Q (-12 : Int32) χ2))))) ∧ (¬ 0 ≤ (gI χ2 64 0 x1.toNatClampNeg) → (Q (-11 : Int32) χ2))))) ∧ (r1 = 0 → (Q (-1 : Int32) χ2)))))
set_option maxHeartbeats 4000000 in
theorem mt_M_refusal (l : Launch) (Γ : Gh) (ad : Nat → Nat → Nat) (x1 : Int32) (x2 : Int32) (χ : St) (Q : Int32 → St → Prop) : Mt l yX4_refusal (ws_ yX4_refusal cX4_refusal 3 (some .int)) (rmO (2) (45) χ) (Pm Γ ad χ [.ref (ad 40 0), .int x1, .int x2] (w_M_refusal x1 x2 χ Q)) (Qm Γ true ad χ (pI Q)) (frB Γ) := by
  refine Mt.start (by decide) RX4 rfl (Nat.le_of_ble_eq_true rfl) ?_
  intro X hX hG _ _ hna _ hf
  unfold w_M_refusal at hf
  refine g_iload_n hX 1 dX4_refusal_0 rfl rfl ?_
  refine g_callSi hX (n := 1) (mt_M_isShelf X.l X.Γ _ _ _ _) hf q1662 q1663 q89 q1664 hy_M_isShelf (by decide) rfl rfl (Nat.le_of_ble_eq_true rfl) dX4_refusal_1 (fun r1 χ2 hf hc2 => ?_)
  refine g_if_ne hX 9 dX4_refusal_4 (by decide) (fun z => ?_) (fun z => ?_)
  · replace hf := hf.1 z
    refine g_aload_n hX 0 dX4_refusal_9 rfl rfl ?_
    refine g_getK hX (k := 40) (d := 64) (fc40 _) ff40 rfl (by decide) rfl rfl in_X4 (by decide) q1545 dX4_refusal_10 ?_
    refine g_iload_n hX 1 dX4_refusal_13 rfl rfl ?_
    refine g_iald hX (fc64 _) ff64 rfl hf.1 dX4_refusal_14 ?_
    replace hf := hf.2
    refine g_if_ge hX 21 dX4_refusal_15 (by decide) (fun z => ?_) (fun z => ?_)
    · replace hf := hf.1 z
      refine g_aload_n hX 0 dX4_refusal_21 rfl rfl ?_
      refine g_getK hX (k := 40) (d := 64) (fc40 _) ff40 rfl (by decide) rfl rfl in_X4 (by decide) q1545 dX4_refusal_22 ?_
      refine g_iload_n hX 1 dX4_refusal_25 rfl rfl ?_
      refine g_iald hX (fc64 _) ff64 rfl hf.1 dX4_refusal_26 ?_
      replace hf := hf.2
      refine g_bipush hX (v := (50 : Int32)) dX4_refusal_27 rfl ?_
      refine g_icmp_ge hX 35 dX4_refusal_29 (by decide) (fun z => ?_) (fun z => ?_)
      · replace hf := hf.1 z
        refine g_iload_n hX 2 dX4_refusal_35 rfl rfl ?_
        refine g_if_lt hX 53 dX4_refusal_36 (by decide) (fun z => ?_) (fun z => ?_)
        · replace hf := hf.1 z
          refine g_bipush hX (v := (-13 : Int32)) dX4_refusal_53 rfl ?_
          exact g_iret hX ⟨_, rfl, hf⟩ dX4_refusal_55
        · replace hf := hf.2 z
          refine g_iload_n hX 2 dX4_refusal_39 rfl rfl ?_
          refine g_aload_n hX 0 dX4_refusal_40 rfl rfl ?_
          refine g_getK hX (k := 41) (d := 65) (fc40 _) ff40 rfl (by decide) rfl rfl in_X4 (by decide) q1546 dX4_refusal_41 ?_
          refine g_iload_n hX 1 dX4_refusal_44 rfl rfl ?_
          refine g_iald hX (fc65 _) ff65 rfl hf.1 dX4_refusal_45 ?_
          replace hf := hf.2
          refine g_icmp_ge hX 53 dX4_refusal_46 (by decide) (fun z => ?_) (fun z => ?_)
          · replace hf := hf.1 z
            refine g_bipush hX (v := (-13 : Int32)) dX4_refusal_53 rfl ?_
            exact g_iret hX ⟨_, rfl, hf⟩ dX4_refusal_55
          · replace hf := hf.2 z
            refine g_iconst hX (v := (0 : Int32)) dX4_refusal_49 rfl ?_
            refine g_goto hX 55 dX4_refusal_50 (by decide) ?_
            exact g_iret hX ⟨_, rfl, hf⟩ dX4_refusal_55
      · replace hf := hf.2 z
        refine g_bipush hX (v := (-12 : Int32)) dX4_refusal_32 rfl ?_
        exact g_iret hX ⟨_, rfl, hf⟩ dX4_refusal_34
    · replace hf := hf.2 z
      refine g_bipush hX (v := (-11 : Int32)) dX4_refusal_18 rfl ?_
      exact g_iret hX ⟨_, rfl, hf⟩ dX4_refusal_20
  · replace hf := hf.2 z
    refine g_iconst hX (v := (-1 : Int32)) dX4_refusal_7 rfl ?_
    exact g_iret hX ⟨_, rfl, hf⟩ dX4_refusal_8

def w_M_asSort (x0 : Int32) (x1 : Int64) (χ : St) (Q : Int64 → St → Prop) : Prop := ((¬ x0 = 0 → ((¬ x0 = (1 : Int32) → ((¬ x0 = (2 : Int32) → ((¬ x0 = (4 : Int32) → (Q x1 χ)) ∧ (x0 = (4 : Int32) → (((lg_cmp x1 (0 : Int64)) = 0 → (Q (0 : Int64) χ)) ∧ (¬ (lg_cmp x1 (0 : Int64)) = 0 → (Q (1 : Int64) χ)))))) ∧ (x0 = (2 : Int32) → (Q x1.toInt32.toInt64 χ)))) ∧ (x0 = (1 : Int32) → (Q x1.toInt32.toInt16.toInt32.toInt64 χ)))) ∧ (x0 = 0 → (Q x1.toInt32.toInt8.toInt32.toInt64 χ)))
set_option maxHeartbeats 4000000 in
theorem mt_M_asSort (l : Launch) (Γ : Gh) (ad : Nat → Nat → Nat) (x0 : Int32) (x1 : Int64) (χ : St) (Q : Int64 → St → Prop) : Mt l yX4_asSort (ws_ yX4_asSort cX4_asSort 3 (some .long)) (rmO (0) (0) χ) (Pm Γ ad χ [.int x0, .long x1] (w_M_asSort x0 x1 χ Q)) (Qm Γ true ad χ (pL Q)) (frB Γ) := by
  refine Mt.start (by decide) RX4 rfl (Nat.le_of_ble_eq_true rfl) ?_
  intro X hX hG _ _ hna _ hf
  unfold w_M_asSort at hf
  refine g_iload_n hX 0 dX4_asSort_0 rfl rfl ?_
  refine g_if_ne hX 11 dX4_asSort_1 (by decide) (fun z => ?_) (fun z => ?_)
  · replace hf := hf.1 z
    refine g_iload_n hX 0 dX4_asSort_11 rfl rfl ?_
    refine g_iconst hX (v := (1 : Int32)) dX4_asSort_12 rfl ?_
    refine g_icmp_ne hX 23 dX4_asSort_13 (by decide) (fun z => ?_) (fun z => ?_)
    · replace hf := hf.1 z
      refine g_iload_n hX 0 dX4_asSort_23 rfl rfl ?_
      refine g_iconst hX (v := (2 : Int32)) dX4_asSort_24 rfl ?_
      refine g_icmp_ne hX 34 dX4_asSort_25 (by decide) (fun z => ?_) (fun z => ?_)
      · replace hf := hf.1 z
        refine g_iload_n hX 0 dX4_asSort_34 rfl rfl ?_
        refine g_iconst hX (v := (4 : Int32)) dX4_asSort_35 rfl ?_
        refine g_icmp_ne hX 53 dX4_asSort_36 (by decide) (fun z => ?_) (fun z => ?_)
        · replace hf := hf.1 z
          refine g_lload_n hX 1 dX4_asSort_53 rfl rfl ?_
          exact g_lret hX ⟨_, rfl, hf⟩ dX4_asSort_54
        · replace hf := hf.2 z
          refine g_lload_n hX 1 dX4_asSort_39 rfl rfl ?_
          refine g_lconst hX (v := (0 : Int64)) dX4_asSort_40 rfl ?_
          refine g_lcmp hX dX4_asSort_41 ?_
          refine g_if_eq hX 49 dX4_asSort_42 (by decide) (fun z => ?_) (fun z => ?_)
          · replace hf := hf.1 z
            refine g_lconst hX (v := (0 : Int64)) dX4_asSort_49 rfl ?_
            refine g_goto hX 54 dX4_asSort_50 (by decide) ?_
            exact g_lret hX ⟨_, rfl, hf⟩ dX4_asSort_54
          · replace hf := hf.2 z
            refine g_lconst hX (v := (1 : Int64)) dX4_asSort_45 rfl ?_
            refine g_goto hX 54 dX4_asSort_46 (by decide) ?_
            exact g_lret hX ⟨_, rfl, hf⟩ dX4_asSort_54
      · replace hf := hf.2 z
        refine g_lload_n hX 1 dX4_asSort_28 rfl rfl ?_
        refine g_l2i hX dX4_asSort_29 ?_
        refine g_i2l hX dX4_asSort_30 ?_
        refine g_goto hX 54 dX4_asSort_31 (by decide) ?_
        exact g_lret hX ⟨_, rfl, hf⟩ dX4_asSort_54
    · replace hf := hf.2 z
      refine g_lload_n hX 1 dX4_asSort_16 rfl rfl ?_
      refine g_l2i hX dX4_asSort_17 ?_
      refine g_i2s hX dX4_asSort_18 ?_
      refine g_i2l hX dX4_asSort_19 ?_
      refine g_goto hX 54 dX4_asSort_20 (by decide) ?_
      exact g_lret hX ⟨_, rfl, hf⟩ dX4_asSort_54
  · replace hf := hf.2 z
    refine g_lload_n hX 1 dX4_asSort_4 rfl rfl ?_
    refine g_l2i hX dX4_asSort_5 ?_
    refine g_i2b hX dX4_asSort_6 ?_
    refine g_i2l hX dX4_asSort_7 ?_
    refine g_goto hX 54 dX4_asSort_8 (by decide) ?_
    exact g_lret hX ⟨_, rfl, hf⟩ dX4_asSort_54

def w_M_put_37 (Q : Int32 → St → Prop) (x5 : Int32) (χ : St) : Prop := ((¬ x5 = 0 → (Q x5 χ)) ∧ (x5 = 0 → (Q (1 : Int32) χ)))
def w_M_put (x1 : Int32) (x2 : Int32) (x3 : Int64) (χ : St) (Q : Int32 → St → Prop) : Prop := (w_M_refusal x1 x2 χ (fun r1 χ2 => ((¬ r1 = 0 → (w_M_put_37 Q r1 χ2)) ∧ (r1 = 0 → (vp_in x1 6) ∧ ((w_M_asSort ((gI χ2 64 0 x1.toNatClampNeg) - (50 : Int32)) x3 χ2 (fun r3 χ4 => (vp_in (((60 : Int32) * x1) + x2) 360) ∧ ((∀ χ5 : St, χ5 = (sL χ4 66 0 (((60 : Int32) * x1) + x2).toNatClampNeg r3) → (w_M_put_37 Q r1 χ5))))))))))
set_option maxHeartbeats 4000000 in
theorem mt_M_put (l : Launch) (Γ : Gh) (ad : Nat → Nat → Nat) (x1 : Int32) (x2 : Int32) (x3 : Int64) (χ : St) (Q : Int32 → St → Prop) : Mt l yX4_put (ws_ yX4_put cX4_put 6 (some .int)) (rmO (3) (67) χ) (Pm Γ ad χ [.ref (ad 40 0), .int x1, .int x2, .long x3] (w_M_put x1 x2 x3 χ Q)) (Qm Γ true ad χ (pI Q)) (frB Γ) := by
  refine Mt.start (by decide) RX4 rfl (Nat.le_of_ble_eq_true rfl) ?_
  intro X hX hG _ _ hna _ hf
  have B37 : ∀ (ad : Nat → Nat → Nat) (x5 : Int32) (χ : St), w_M_put_37 Q x5 χ → G X ad χ 37 [(5, .int x5)] [] := by
    intro ad x5 χ hf
    unfold w_M_put_37 at hf
    refine g_iload hX 0 dX4_put_37 rfl ?_
    refine g_if_ne hX 46 dX4_put_39 (by decide) (fun z => ?_) (fun z => ?_)
    · replace hf := hf.1 z
      refine g_iload hX 0 dX4_put_46 rfl ?_
      exact g_iret hX ⟨_, rfl, hf⟩ dX4_put_48
    · replace hf := hf.2 z
      refine g_iconst hX (v := (1 : Int32)) dX4_put_42 rfl ?_
      refine g_goto hX 48 dX4_put_43 (by decide) ?_
      exact g_iret hX ⟨_, rfl, hf⟩ dX4_put_48
  unfold w_M_put at hf
  refine g_aload_n hX 0 dX4_put_0 rfl rfl ?_
  refine g_iload_n hX 1 dX4_put_1 rfl rfl ?_
  refine g_iload_n hX 2 dX4_put_2 rfl rfl ?_
  refine g_callVi hX (n := 2) (mt_M_refusal X.l X.Γ _ _ _ _ _) hf q1966 q1968 qs81 q89 q1969 ⟨rfl, hy_M_refusal⟩ (by decide) (fc40 _) ff40 rfl rfl rfl (Nat.le_of_ble_eq_true rfl) dX4_put_3 (fun r1 χ2 hf hc2 => ?_)
  refine g_istore hX dX4_put_6 (by decide) rfl ?_
  refine g_iload hX 0 dX4_put_8 rfl ?_
  refine g_if_ne hX 37 dX4_put_10 (by decide) (fun z => ?_) (fun z => ?_)
  · replace hf := hf.1 z
    refine g_sub [0] rfl ?_
    exact B37 _ _ _ hf
  · replace hf := hf.2 z
    refine g_aload_n hX 1 dX4_put_13 rfl rfl ?_
    refine g_getK hX (k := 42) (d := 66) (fc40 _) ff40 rfl (by decide) rfl rfl in_X4 (by decide) q1547 dX4_put_14 ?_
    refine g_bipush hX (v := (60 : Int32)) dX4_put_17 rfl ?_
    refine g_iload_n hX 2 dX4_put_19 rfl rfl ?_
    refine g_imul hX dX4_put_20 ?_
    refine g_iload_n hX 3 dX4_put_21 rfl rfl ?_
    refine g_iadd hX dX4_put_22 ?_
    refine g_aload_n hX 1 dX4_put_23 rfl rfl ?_
    refine g_getK hX (k := 40) (d := 64) (fc40 _) ff40 rfl (by decide) rfl rfl in_X4 (by decide) q1545 dX4_put_24 ?_
    refine g_iload_n hX 2 dX4_put_27 rfl rfl ?_
    refine g_iald hX (fc64 _) ff64 rfl hf.1 dX4_put_28 ?_
    replace hf := hf.2
    refine g_bipush hX (v := (50 : Int32)) dX4_put_29 rfl ?_
    refine g_isub hX dX4_put_31 ?_
    refine g_lload_n hX 4 dX4_put_32 rfl rfl ?_
    refine g_callSl hX (n := 2) (mt_M_asSort X.l X.Γ _ _ _ _ _) hf q1970 q1971 q89 q1972 hy_M_asSort (by decide) rfl rfl (Nat.le_of_ble_eq_true rfl) dX4_put_33 (fun r3 χ4 hf hc4 => ?_)
    refine g_last hX (fc66 _) ff66 rfl hf.1 dX4_put_36 ?_
    replace hf := hf.2
    replace hf := hf _ rfl
    refine g_sub [0] rfl ?_
    exact B37 _ _ _ hf

def w_M_element (x1 : Int32) (x2 : Int32) (χ : St) (Q : Int64 → St → Prop) : Prop := (w_M_refusal x1 x2 χ (fun r1 χ2 => ((r1 = 0 → (vp_in (((60 : Int32) * x1) + x2) 360) ∧ ((Q (gL χ2 66 0 (((60 : Int32) * x1) + x2).toNatClampNeg) χ2))) ∧ (¬ r1 = 0 → (Q (-9223372036854775808 : Int64) χ2)))))
set_option maxHeartbeats 4000000 in
theorem mt_M_element (l : Launch) (Γ : Gh) (ad : Nat → Nat → Nat) (x1 : Int32) (x2 : Int32) (χ : St) (Q : Int64 → St → Prop) : Mt l yX4_element (ws_ yX4_element cX4_element 3 (some .long)) (rmO (3) (67) χ) (Pm Γ ad χ [.ref (ad 40 0), .int x1, .int x2] (w_M_element x1 x2 χ Q)) (Qm Γ true ad χ (pL Q)) (frB Γ) := by
  refine Mt.start (by decide) RX4 rfl (Nat.le_of_ble_eq_true rfl) ?_
  intro X hX hG _ _ hna _ hf
  unfold w_M_element at hf
  refine g_aload_n hX 0 dX4_element_0 rfl rfl ?_
  refine g_iload_n hX 1 dX4_element_1 rfl rfl ?_
  refine g_iload_n hX 2 dX4_element_2 rfl rfl ?_
  refine g_callVi hX (n := 2) (mt_M_refusal X.l X.Γ _ _ _ _ _) hf q1966 q1968 qs81 q89 q1969 ⟨rfl, hy_M_refusal⟩ (by decide) (fc40 _) ff40 rfl rfl rfl (Nat.le_of_ble_eq_true rfl) dX4_element_3 (fun r1 χ2 hf hc2 => ?_)
  refine g_if_eq hX 15 dX4_element_6 (by decide) (fun z => ?_) (fun z => ?_)
  · replace hf := hf.1 z
    refine g_aload_n hX 0 dX4_element_15 rfl rfl ?_
    refine g_getK hX (k := 42) (d := 66) (fc40 _) ff40 rfl (by decide) rfl rfl in_X4 (by decide) q1547 dX4_element_16 ?_
    refine g_bipush hX (v := (60 : Int32)) dX4_element_19 rfl ?_
    refine g_iload_n hX 1 dX4_element_21 rfl rfl ?_
    refine g_imul hX dX4_element_22 ?_
    refine g_iload_n hX 2 dX4_element_23 rfl rfl ?_
    refine g_iadd hX dX4_element_24 ?_
    refine g_lald hX (fc66 _) ff66 rfl hf.1 dX4_element_25 ?_
    replace hf := hf.2
    exact g_lret hX ⟨_, rfl, hf⟩ dX4_element_26
  · replace hf := hf.2 z
    refine g_ldc2 hX q1773 dX4_element_9 ?_
    refine g_goto hX 26 dX4_element_12 (by decide) ?_
    exact g_lret hX ⟨_, rfl, hf⟩ dX4_element_26

def w_M_shift_150 (Q : Int32 → St → Prop) : Nat → Int32 → Int32 → Int32 → Int32 → St → Prop
  | 0 => fun _ _ _ _ _ => False
  | n + 1 => fun x3 x4 x5 x6 χ => ((x5 ≤ x6 → (Q x5 χ)) ∧ (¬ x5 ≤ x6 → (vp_in x6 60) ∧ ((vp_in ((((60 : Int32) * x3) + x4) + x6) 360) ∧ ((∀ χ5 : St, χ5 = (sL χ 66 0 ((((60 : Int32) * x3) + x4) + x6).toNatClampNeg (gL χ 67 0 x6.toNatClampNeg)) → (w_M_shift_150 Q n x3 x4 x5 (x6 + (1 : Int32)) χ5))))))
def w_M_shift_113 (Q : Int32 → St → Prop) : Nat → Int32 → Int32 → Int32 → Int32 → Int32 → Int32 → St → Prop
  | 0 => fun _ _ _ _ _ _ _ => False
  | n + 1 => fun x1 x2 x3 x4 x5 x6 χ => ((x5 ≤ x6 → (∃ k150, w_M_shift_150 Q k150 x3 x4 x5 (0 : Int32) χ)) ∧ (¬ x5 ≤ x6 → (vp_in ((((60 : Int32) * x1) + x2) + x6) 360) ∧ ((vp_in x6 60) ∧ ((∀ χ6 : St, χ6 = (sL χ 67 0 x6.toNatClampNeg (gL χ 66 0 ((((60 : Int32) * x1) + x2) + x6).toNatClampNeg)) → (w_M_shift_113 Q n x1 x2 x3 x4 x5 (x6 + (1 : Int32)) χ6))))))
def w_M_shift (x1 : Int32) (x2 : Int32) (x3 : Int32) (x4 : Int32) (x5 : Int32) (χ : St) (Q : Int32 → St → Prop) : Prop := (w_M_isShelf x1 χ (fun r1 χ2 => ((r1 = 0 → (Q (-1 : Int32) χ2)) ∧ (¬ r1 = 0 → (w_M_isShelf x3 χ2 (fun r3 χ4 => ((¬ r3 = 0 → (vp_in x1 6) ∧ ((((gI χ4 64 0 x1.toNatClampNeg) < 0 → (Q (-11 : Int32) χ4)) ∧ (¬ (gI χ4 64 0 x1.toNatClampNeg) < 0 → (vp_in x3 6) ∧ (((0 ≤ (gI χ4 64 0 x3.toNatClampNeg) → (vp_in x1 6) ∧ ((((gI χ4 64 0 x1.toNatClampNeg) < (50 : Int32) → (Q (-12 : Int32) χ4)) ∧ (¬ (gI χ4 64 0 x1.toNatClampNeg) < (50 : Int32) → (vp_in x1 6) ∧ ((vp_in x3 6) ∧ ((((gI χ4 64 0 x1.toNatClampNeg) = (gI χ4 64 0 x3.toNatClampNeg) → ((x5 < 0 → (Q (-13 : Int32) χ4)) ∧ (¬ x5 < 0 → ((x2 < 0 → (Q (-13 : Int32) χ4)) ∧ (¬ x2 < 0 → ((x4 < 0 → (Q (-13 : Int32) χ4)) ∧ (¬ x4 < 0 → (vp_in x1 6) ∧ (((((gI χ4 65 0 x1.toNatClampNeg) - x5) < x2 → (Q (-13 : Int32) χ4)) ∧ (¬ ((gI χ4 65 0 x1.toNatClampNeg) - x5) < x2 → (vp_in x3 6) ∧ (((x4 ≤ ((gI χ4 65 0 x3.toNatClampNeg) - x5) → (∃ k113, w_M_shift_113 Q k113 x1 x2 x3 x4 x5 (0 : Int32) χ4)) ∧ (¬ x4 ≤ ((gI χ4 65 0 x3.toNatClampNeg) - x5) → (Q (-13 : Int32) χ4)))))))))))))) ∧ (¬ (gI χ4 64 0 x1.toNatClampNeg) = (gI χ4 64 0 x3.toNatClampNeg) → (Q (-12 : Int32) χ4))))))))) ∧ (¬ 0 ≤ (gI χ4 64 0 x3.toNatClampNeg) → (Q (-11 : Int32) χ4)))))))) ∧ (r3 = 0 → (Q (-1 : Int32) χ4)))))))))
set_option maxHeartbeats 4000000 in
theorem mt_M_shift (l : Launch) (Γ : Gh) (ad : Nat → Nat → Nat) (x1 : Int32) (x2 : Int32) (x3 : Int32) (x4 : Int32) (x5 : Int32) (χ : St) (Q : Int32 → St → Prop) : Mt l yX4_shift (ws_ yX4_shift cX4_shift 7 (some .int)) (rmO (2) (45) χ) (Pm Γ ad χ [.ref (ad 40 0), .int x1, .int x2, .int x3, .int x4, .int x5] (w_M_shift x1 x2 x3 x4 x5 χ Q)) (Qm Γ true ad χ (pI Q)) (frB Γ) := by
  refine Mt.start (by decide) RX4 rfl (Nat.le_of_ble_eq_true rfl) ?_
  intro X hX hG _ _ hna _ hf
  have B150 : ∀ (n : Nat) (ad : Nat → Nat → Nat) (x3 : Int32) (x4 : Int32) (x5 : Int32) (x6 : Int32) (χ : St), w_M_shift_150 Q n x3 x4 x5 x6 χ → G X ad χ 150 [(0, .ref (ad 40 0)), (3, .int x3), (4, .int x4), (5, .int x5), (6, .int x6)] [] := by
    intro n
    induction n with
    | zero => intro ad x3 x4 x5 x6 χ hf; exact hf.elim
    | succ n hK150 =>
      intro ad x3 x4 x5 x6 χ hf
      unfold w_M_shift_150 at hf
      refine g_iload hX 4 dX4_shift_150 rfl ?_
      refine g_iload hX 3 dX4_shift_152 rfl ?_
      refine g_icmp_ge hX 185 dX4_shift_154 (by decide) (fun z => ?_) (fun z => ?_)
      · replace hf := hf.1 z
        refine g_iload hX 3 dX4_shift_185 rfl ?_
        exact g_iret hX ⟨_, rfl, hf⟩ dX4_shift_187
      · replace hf := hf.2 z
        refine g_aload_n hX 0 dX4_shift_157 rfl rfl ?_
        refine g_getK hX (k := 42) (d := 66) (fc40 _) ff40 rfl (by decide) rfl rfl in_X4 (by decide) q1547 dX4_shift_158 ?_
        refine g_bipush hX (v := (60 : Int32)) dX4_shift_161 rfl ?_
        refine g_iload_n hX 1 dX4_shift_163 rfl rfl ?_
        refine g_imul hX dX4_shift_164 ?_
        refine g_iload hX 2 dX4_shift_165 rfl ?_
        refine g_iadd hX dX4_shift_167 ?_
        refine g_iload hX 4 dX4_shift_168 rfl ?_
        refine g_iadd hX dX4_shift_170 ?_
        refine g_aload_n hX 0 dX4_shift_171 rfl rfl ?_
        refine g_getK hX (k := 43) (d := 67) (fc40 _) ff40 rfl (by decide) rfl rfl in_X4 (by decide) q1548 dX4_shift_172 ?_
        refine g_iload hX 4 dX4_shift_175 rfl ?_
        refine g_lald hX (fc67 _) ff67 rfl hf.1 dX4_shift_177 ?_
        replace hf := hf.2
        refine g_last hX (fc66 _) ff66 rfl hf.1 dX4_shift_178 ?_
        replace hf := hf.2
        replace hf := hf _ rfl
        refine g_iinc hX (v := _) 4 dX4_shift_179 rfl rfl (by decide) rfl ?_
        refine g_goto hX 150 dX4_shift_182 (by decide) ?_
        refine g_sub [1, 2, 3, 4, 0] rfl ?_
        exact hK150 _ _ _ _ _ _ hf
  have B113 : ∀ (n : Nat) (ad : Nat → Nat → Nat) (x1 : Int32) (x2 : Int32) (x3 : Int32) (x4 : Int32) (x5 : Int32) (x6 : Int32) (χ : St), w_M_shift_113 Q n x1 x2 x3 x4 x5 x6 χ → G X ad χ 113 [(0, .ref (ad 40 0)), (1, .int x1), (2, .int x2), (3, .int x3), (4, .int x4), (5, .int x5), (6, .int x6)] [] := by
    intro n
    induction n with
    | zero => intro ad x1 x2 x3 x4 x5 x6 χ hf; exact hf.elim
    | succ n hK113 =>
      intro ad x1 x2 x3 x4 x5 x6 χ hf
      unfold w_M_shift_113 at hf
      refine g_iload hX 6 dX4_shift_113 rfl ?_
      refine g_iload hX 5 dX4_shift_115 rfl ?_
      refine g_icmp_ge hX 147 dX4_shift_117 (by decide) (fun z => ?_) (fun z => ?_)
      · replace hf := hf.1 z
        refine g_iconst hX (v := (0 : Int32)) dX4_shift_147 rfl ?_
        refine g_istore hX dX4_shift_148 (by decide) rfl ?_
        obtain ⟨n0, hf⟩ := hf
        refine g_sub [1, 4, 5, 6, 0] rfl ?_
        exact B150 n0 _ _ _ _ _ _ hf
      · replace hf := hf.2 z
        refine g_aload_n hX 0 dX4_shift_120 rfl rfl ?_
        refine g_getK hX (k := 43) (d := 67) (fc40 _) ff40 rfl (by decide) rfl rfl in_X4 (by decide) q1548 dX4_shift_121 ?_
        refine g_iload hX 6 dX4_shift_124 rfl ?_
        refine g_aload_n hX 0 dX4_shift_126 rfl rfl ?_
        refine g_getK hX (k := 42) (d := 66) (fc40 _) ff40 rfl (by decide) rfl rfl in_X4 (by decide) q1547 dX4_shift_127 ?_
        refine g_bipush hX (v := (60 : Int32)) dX4_shift_130 rfl ?_
        refine g_iload_n hX 1 dX4_shift_132 rfl rfl ?_
        refine g_imul hX dX4_shift_133 ?_
        refine g_iload_n hX 2 dX4_shift_134 rfl rfl ?_
        refine g_iadd hX dX4_shift_135 ?_
        refine g_iload hX 6 dX4_shift_136 rfl ?_
        refine g_iadd hX dX4_shift_138 ?_
        refine g_lald hX (fc66 _) ff66 rfl hf.1 dX4_shift_139 ?_
        replace hf := hf.2
        refine g_last hX (fc67 _) ff67 rfl hf.1 dX4_shift_140 ?_
        replace hf := hf.2
        replace hf := hf _ rfl
        refine g_iinc hX (v := _) 6 dX4_shift_141 rfl rfl (by decide) rfl ?_
        refine g_goto hX 113 dX4_shift_144 (by decide) ?_
        refine g_sub [1, 2, 3, 4, 5, 6, 0] rfl ?_
        exact hK113 _ _ _ _ _ _ _ _ hf
  unfold w_M_shift at hf
  refine g_iload_n hX 1 dX4_shift_0 rfl rfl ?_
  refine g_callSi hX (n := 1) (mt_M_isShelf X.l X.Γ _ _ _ _) hf q1662 q1663 q89 q1664 hy_M_isShelf (by decide) rfl rfl (Nat.le_of_ble_eq_true rfl) dX4_shift_1 (fun r1 χ2 hf hc2 => ?_)
  refine g_if_eq hX 14 dX4_shift_4 (by decide) (fun z => ?_) (fun z => ?_)
  · replace hf := hf.1 z
    refine g_iconst hX (v := (-1 : Int32)) dX4_shift_14 rfl ?_
    exact g_iret hX ⟨_, rfl, hf⟩ dX4_shift_15
  · replace hf := hf.2 z
    refine g_iload_n hX 3 dX4_shift_7 rfl rfl ?_
    refine g_callSi hX (n := 1) (mt_M_isShelf X.l X.Γ _ _ _ _) hf q1662 q1663 q89 q1664 hy_M_isShelf (by decide) rfl rfl (Nat.le_of_ble_eq_true rfl) dX4_shift_8 (fun r3 χ4 hf hc4 => ?_)
    refine g_if_ne hX 16 dX4_shift_11 (by decide) (fun z => ?_) (fun z => ?_)
    · replace hf := hf.1 z
      refine g_aload_n hX 0 dX4_shift_16 rfl rfl ?_
      refine g_getK hX (k := 40) (d := 64) (fc40 _) ff40 rfl (by decide) rfl rfl in_X4 (by decide) q1545 dX4_shift_17 ?_
      refine g_iload_n hX 1 dX4_shift_20 rfl rfl ?_
      refine g_iald hX (fc64 _) ff64 rfl hf.1 dX4_shift_21 ?_
      replace hf := hf.2
      refine g_if_lt hX 34 dX4_shift_22 (by decide) (fun z => ?_) (fun z => ?_)
      · replace hf := hf.1 z
        refine g_bipush hX (v := (-11 : Int32)) dX4_shift_34 rfl ?_
        exact g_iret hX ⟨_, rfl, hf⟩ dX4_shift_36
      · replace hf := hf.2 z
        refine g_aload_n hX 0 dX4_shift_25 rfl rfl ?_
        refine g_getK hX (k := 40) (d := 64) (fc40 _) ff40 rfl (by decide) rfl rfl in_X4 (by decide) q1545 dX4_shift_26 ?_
        refine g_iload_n hX 3 dX4_shift_29 rfl rfl ?_
        refine g_iald hX (fc64 _) ff64 rfl hf.1 dX4_shift_30 ?_
        replace hf := hf.2
        refine g_if_ge hX 37 dX4_shift_31 (by decide) (fun z => ?_) (fun z => ?_)
        · replace hf := hf.1 z
          refine g_aload_n hX 0 dX4_shift_37 rfl rfl ?_
          refine g_getK hX (k := 40) (d := 64) (fc40 _) ff40 rfl (by decide) rfl rfl in_X4 (by decide) q1545 dX4_shift_38 ?_
          refine g_iload_n hX 1 dX4_shift_41 rfl rfl ?_
          refine g_iald hX (fc64 _) ff64 rfl hf.1 dX4_shift_42 ?_
          replace hf := hf.2
          refine g_bipush hX (v := (50 : Int32)) dX4_shift_43 rfl ?_
          refine g_icmp_lt hX 63 dX4_shift_45 (by decide) (fun z => ?_) (fun z => ?_)
          · replace hf := hf.1 z
            refine g_bipush hX (v := (-12 : Int32)) dX4_shift_63 rfl ?_
            exact g_iret hX ⟨_, rfl, hf⟩ dX4_shift_65
          · replace hf := hf.2 z
            refine g_aload_n hX 0 dX4_shift_48 rfl rfl ?_
            refine g_getK hX (k := 40) (d := 64) (fc40 _) ff40 rfl (by decide) rfl rfl in_X4 (by decide) q1545 dX4_shift_49 ?_
            refine g_iload_n hX 1 dX4_shift_52 rfl rfl ?_
            refine g_iald hX (fc64 _) ff64 rfl hf.1 dX4_shift_53 ?_
            replace hf := hf.2
            refine g_aload_n hX 0 dX4_shift_54 rfl rfl ?_
            refine g_getK hX (k := 40) (d := 64) (fc40 _) ff40 rfl (by decide) rfl rfl in_X4 (by decide) q1545 dX4_shift_55 ?_
            refine g_iload_n hX 3 dX4_shift_58 rfl rfl ?_
            refine g_iald hX (fc64 _) ff64 rfl hf.1 dX4_shift_59 ?_
            replace hf := hf.2
            refine g_icmp_eq hX 66 dX4_shift_60 (by decide) (fun z => ?_) (fun z => ?_)
            · replace hf := hf.1 z
              refine g_iload hX 5 dX4_shift_66 rfl ?_
              refine g_if_lt hX 107 dX4_shift_68 (by decide) (fun z => ?_) (fun z => ?_)
              · replace hf := hf.1 z
                refine g_bipush hX (v := (-13 : Int32)) dX4_shift_107 rfl ?_
                exact g_iret hX ⟨_, rfl, hf⟩ dX4_shift_109
              · replace hf := hf.2 z
                refine g_iload_n hX 2 dX4_shift_71 rfl rfl ?_
                refine g_if_lt hX 107 dX4_shift_72 (by decide) (fun z => ?_) (fun z => ?_)
                · replace hf := hf.1 z
                  refine g_bipush hX (v := (-13 : Int32)) dX4_shift_107 rfl ?_
                  exact g_iret hX ⟨_, rfl, hf⟩ dX4_shift_109
                · replace hf := hf.2 z
                  refine g_iload hX 4 dX4_shift_75 rfl ?_
                  refine g_if_lt hX 107 dX4_shift_77 (by decide) (fun z => ?_) (fun z => ?_)
                  · replace hf := hf.1 z
                    refine g_bipush hX (v := (-13 : Int32)) dX4_shift_107 rfl ?_
                    exact g_iret hX ⟨_, rfl, hf⟩ dX4_shift_109
                  · replace hf := hf.2 z
                    refine g_iload_n hX 2 dX4_shift_80 rfl rfl ?_
                    refine g_aload_n hX 0 dX4_shift_81 rfl rfl ?_
                    refine g_getK hX (k := 41) (d := 65) (fc40 _) ff40 rfl (by decide) rfl rfl in_X4 (by decide) q1546 dX4_shift_82 ?_
                    refine g_iload_n hX 1 dX4_shift_85 rfl rfl ?_
                    refine g_iald hX (fc65 _) ff65 rfl hf.1 dX4_shift_86 ?_
                    replace hf := hf.2
                    refine g_iload hX 5 dX4_shift_87 rfl ?_
                    refine g_isub hX dX4_shift_89 ?_
                    refine g_icmp_gt hX 107 dX4_shift_90 (by decide) (fun z => ?_) (fun z => ?_)
                    · replace hf := hf.1 z
                      refine g_bipush hX (v := (-13 : Int32)) dX4_shift_107 rfl ?_
                      exact g_iret hX ⟨_, rfl, hf⟩ dX4_shift_109
                    · replace hf := hf.2 z
                      refine g_iload hX 4 dX4_shift_93 rfl ?_
                      refine g_aload_n hX 0 dX4_shift_95 rfl rfl ?_
                      refine g_getK hX (k := 41) (d := 65) (fc40 _) ff40 rfl (by decide) rfl rfl in_X4 (by decide) q1546 dX4_shift_96 ?_
                      refine g_iload_n hX 3 dX4_shift_99 rfl rfl ?_
                      refine g_iald hX (fc65 _) ff65 rfl hf.1 dX4_shift_100 ?_
                      replace hf := hf.2
                      refine g_iload hX 5 dX4_shift_101 rfl ?_
                      refine g_isub hX dX4_shift_103 ?_
                      refine g_icmp_le hX 110 dX4_shift_104 (by decide) (fun z => ?_) (fun z => ?_)
                      · replace hf := hf.1 z
                        refine g_iconst hX (v := (0 : Int32)) dX4_shift_110 rfl ?_
                        refine g_istore hX dX4_shift_111 (by decide) rfl ?_
                        obtain ⟨n0, hf⟩ := hf
                        refine g_sub [1, 2, 3, 4, 5, 6, 0] rfl ?_
                        exact B113 n0 _ _ _ _ _ _ _ _ hf
                      · replace hf := hf.2 z
                        refine g_bipush hX (v := (-13 : Int32)) dX4_shift_107 rfl ?_
                        exact g_iret hX ⟨_, rfl, hf⟩ dX4_shift_109
            · replace hf := hf.2 z
              refine g_bipush hX (v := (-12 : Int32)) dX4_shift_63 rfl ?_
              exact g_iret hX ⟨_, rfl, hf⟩ dX4_shift_65
        · replace hf := hf.2 z
          refine g_bipush hX (v := (-11 : Int32)) dX4_shift_34 rfl ?_
          exact g_iret hX ⟨_, rfl, hf⟩ dX4_shift_36
    · replace hf := hf.2 z
      refine g_iconst hX (v := (-1 : Int32)) dX4_shift_14 rfl ?_
      exact g_iret hX ⟨_, rfl, hf⟩ dX4_shift_15

def w_M_kindOf (x1 : Int32) (χ : St) (Q : Int32 → St → Prop) : Prop := (vp_in x1 50) ∧ ((Q (gI χ 62 0 x1.toNatClampNeg) χ))
set_option maxHeartbeats 4000000 in
theorem mt_M_kindOf (l : Launch) (Γ : Gh) (ad : Nat → Nat → Nat) (x1 : Int32) (χ : St) (Q : Int32 → St → Prop) : Mt l yX4_kindOf (ws_ yX4_kindOf cX4_kindOf 2 (some .int)) (rmO (0) (0) χ) (Pm Γ ad χ [.ref (ad 40 0), .int x1] (w_M_kindOf x1 χ Q)) (Qm Γ true ad χ (pI Q)) (frB Γ) := by
  refine Mt.start (by decide) RX4 rfl (Nat.le_of_ble_eq_true rfl) ?_
  intro X hX hG _ _ hna _ hf
  unfold w_M_kindOf at hf
  refine g_aload_n hX 0 dX4_kindOf_0 rfl rfl ?_
  refine g_getK hX (k := 35) (d := 62) (fc40 _) ff40 rfl (by decide) rfl rfl in_X4 (by decide) q1540 dX4_kindOf_1 ?_
  refine g_iload_n hX 1 dX4_kindOf_4 rfl rfl ?_
  refine g_iald hX (fc62 _) ff62 rfl hf.1 dX4_kindOf_5 ?_
  replace hf := hf.2
  exact g_iret hX ⟨_, rfl, hf⟩ dX4_kindOf_6

def w_M_above (x0 : Int32) (χ : St) (Q : Int32 → St → Prop) : Prop := ((¬ x0 = (3 : Int32) → ((¬ x0 = (4 : Int32) → ((¬ x0 = (5 : Int32) → ((¬ x0 = (7 : Int32) → (Q (0 : Int32) χ)) ∧ (x0 = (7 : Int32) → (Q (4 : Int32) χ)))) ∧ (x0 = (5 : Int32) → (Q (3 : Int32) χ)))) ∧ (x0 = (4 : Int32) → (Q (1 : Int32) χ)))) ∧ (x0 = (3 : Int32) → (Q (2 : Int32) χ)))
set_option maxHeartbeats 4000000 in
theorem mt_M_above (l : Launch) (Γ : Gh) (ad : Nat → Nat → Nat) (x0 : Int32) (χ : St) (Q : Int32 → St → Prop) : Mt l yX4_above (ws_ yX4_above cX4_above 1 (some .int)) (rmO (0) (0) χ) (Pm Γ ad χ [.int x0] (w_M_above x0 χ Q)) (Qm Γ true ad χ (pI Q)) (frB Γ) := by
  refine Mt.start (by decide) RX4 rfl (Nat.le_of_ble_eq_true rfl) ?_
  intro X hX hG _ _ hna _ hf
  unfold w_M_above at hf
  refine g_iload_n hX 0 dX4_above_0 rfl rfl ?_
  refine g_iconst hX (v := (3 : Int32)) dX4_above_1 rfl ?_
  refine g_icmp_ne hX 9 dX4_above_2 (by decide) (fun z => ?_) (fun z => ?_)
  · replace hf := hf.1 z
    refine g_iload_n hX 0 dX4_above_9 rfl rfl ?_
    refine g_iconst hX (v := (4 : Int32)) dX4_above_10 rfl ?_
    refine g_icmp_ne hX 18 dX4_above_11 (by decide) (fun z => ?_) (fun z => ?_)
    · replace hf := hf.1 z
      refine g_iload_n hX 0 dX4_above_18 rfl rfl ?_
      refine g_iconst hX (v := (5 : Int32)) dX4_above_19 rfl ?_
      refine g_icmp_ne hX 27 dX4_above_20 (by decide) (fun z => ?_) (fun z => ?_)
      · replace hf := hf.1 z
        refine g_iload_n hX 0 dX4_above_27 rfl rfl ?_
        refine g_bipush hX (v := (7 : Int32)) dX4_above_28 rfl ?_
        refine g_icmp_ne hX 37 dX4_above_30 (by decide) (fun z => ?_) (fun z => ?_)
        · replace hf := hf.1 z
          refine g_iconst hX (v := (0 : Int32)) dX4_above_37 rfl ?_
          exact g_iret hX ⟨_, rfl, hf⟩ dX4_above_38
        · replace hf := hf.2 z
          refine g_iconst hX (v := (4 : Int32)) dX4_above_33 rfl ?_
          refine g_goto hX 38 dX4_above_34 (by decide) ?_
          exact g_iret hX ⟨_, rfl, hf⟩ dX4_above_38
      · replace hf := hf.2 z
        refine g_iconst hX (v := (3 : Int32)) dX4_above_23 rfl ?_
        refine g_goto hX 38 dX4_above_24 (by decide) ?_
        exact g_iret hX ⟨_, rfl, hf⟩ dX4_above_38
    · replace hf := hf.2 z
      refine g_iconst hX (v := (1 : Int32)) dX4_above_14 rfl ?_
      refine g_goto hX 38 dX4_above_15 (by decide) ?_
      exact g_iret hX ⟨_, rfl, hf⟩ dX4_above_38
  · replace hf := hf.2 z
    refine g_iconst hX (v := (2 : Int32)) dX4_above_5 rfl ?_
    refine g_goto hX 38 dX4_above_6 (by decide) ?_
    exact g_iret hX ⟨_, rfl, hf⟩ dX4_above_38

def w_M_taken_75 (Q : Int32 → St → Prop) (x1 : Int32) (x2 : Int32) (x3 : Int32) (χ : St) : Prop := ((¬ x3 = x2 → (Q (-12 : Int32) χ)) ∧ (x3 = x2 → (vp_in x1 6) ∧ ((w_M_kindOf (gI χ 64 0 x1.toNatClampNeg) χ (fun r7 χ8 => (Q r7 χ8))))))
def w_M_taken_58 (Q : Int32 → St → Prop) : Nat → Int32 → Int32 → Int32 → St → Prop
  | 0 => fun _ _ _ _ => False
  | n + 1 => fun x1 x2 x3 χ => ((x3 = x2 → (w_M_taken_75 Q x1 x2 x3 χ)) ∧ (¬ x3 = x2 → ((x3 ≤ 0 → (w_M_taken_75 Q x1 x2 x3 χ)) ∧ (¬ x3 ≤ 0 → (w_M_above x3 χ (fun r9 χ10 => (w_M_taken_58 Q n x1 x2 r9 χ10)))))))
def w_M_taken (x1 : Int32) (x2 : Int32) (χ : St) (Q : Int32 → St → Prop) : Prop := (w_M_isShelf x1 χ (fun r1 χ2 => ((r1 = 0 → (Q (-1 : Int32) χ2)) ∧ (¬ r1 = 0 → (w_M_within x2.toInt64 (0 : Int64) (7 : Int64) χ2 (fun r3 χ4 => ((¬ r3 = 0 → (vp_in x1 6) ∧ (((0 ≤ (gI χ4 64 0 x1.toNatClampNeg) → (vp_in x1 6) ∧ ((((gI χ4 64 0 x1.toNatClampNeg) < (50 : Int32) → (vp_in x1 6) ∧ ((w_M_kindOf (gI χ4 64 0 x1.toNatClampNeg) χ4 (fun r5 χ6 => (∃ k58, w_M_taken_58 Q k58 x1 x2 r5 χ6))))) ∧ (¬ (gI χ4 64 0 x1.toNatClampNeg) < (50 : Int32) → (Q (-12 : Int32) χ4))))) ∧ (¬ 0 ≤ (gI χ4 64 0 x1.toNatClampNeg) → (Q (-11 : Int32) χ4))))) ∧ (r3 = 0 → (Q (-1 : Int32) χ4)))))))))
set_option maxHeartbeats 4000000 in
theorem mt_M_taken (l : Launch) (Γ : Gh) (ad : Nat → Nat → Nat) (x1 : Int32) (x2 : Int32) (χ : St) (Q : Int32 → St → Prop) : Mt l yX4_taken (ws_ yX4_taken cX4_taken 4 (some .int)) (rmO (2) (45) χ) (Pm Γ ad χ [.ref (ad 40 0), .int x1, .int x2] (w_M_taken x1 x2 χ Q)) (Qm Γ true ad χ (pI Q)) (frB Γ) := by
  refine Mt.start (by decide) RX4 rfl (Nat.le_of_ble_eq_true rfl) ?_
  intro X hX hG _ _ hna _ hf
  have B75 : ∀ (ad : Nat → Nat → Nat) (x1 : Int32) (x2 : Int32) (x3 : Int32) (χ : St), w_M_taken_75 Q x1 x2 x3 χ → G X ad χ 75 [(0, .ref (ad 40 0)), (1, .int x1), (2, .int x2), (3, .int x3)] [] := by
    intro ad x1 x2 x3 χ hf
    unfold w_M_taken_75 at hf
    refine g_iload_n hX 3 dX4_taken_75 rfl rfl ?_
    refine g_iload_n hX 2 dX4_taken_76 rfl rfl ?_
    refine g_icmp_ne hX 93 dX4_taken_77 (by decide) (fun z => ?_) (fun z => ?_)
    · replace hf := hf.1 z
      refine g_bipush hX (v := (-12 : Int32)) dX4_taken_93 rfl ?_
      exact g_iret hX ⟨_, rfl, hf⟩ dX4_taken_95
    · replace hf := hf.2 z
      refine g_aload_n hX 0 dX4_taken_80 rfl rfl ?_
      refine g_aload_n hX 0 dX4_taken_81 rfl rfl ?_
      refine g_getK hX (k := 40) (d := 64) (fc40 _) ff40 rfl (by decide) rfl rfl in_X4 (by decide) q1545 dX4_taken_82 ?_
      refine g_iload_n hX 1 dX4_taken_85 rfl rfl ?_
      refine g_iald hX (fc64 _) ff64 rfl hf.1 dX4_taken_86 ?_
      replace hf := hf.2
      refine g_callVi hX (n := 1) (mt_M_kindOf X.l X.Γ _ _ _ _) hf q1985 q1987 qs82 q89 q1988 ⟨rfl, hy_M_kindOf⟩ (by decide) (fc40 _) ff40 rfl rfl rfl (Nat.le_of_ble_eq_true rfl) dX4_taken_87 (fun r7 χ8 hf hc8 => ?_)
      refine g_goto hX 95 dX4_taken_90 (by decide) ?_
      exact g_iret hX ⟨_, rfl, hf⟩ dX4_taken_95
  have B58 : ∀ (n : Nat) (ad : Nat → Nat → Nat) (x1 : Int32) (x2 : Int32) (x3 : Int32) (χ : St), w_M_taken_58 Q n x1 x2 x3 χ → G X ad χ 58 [(0, .ref (ad 40 0)), (1, .int x1), (2, .int x2), (3, .int x3)] [] := by
    intro n
    induction n with
    | zero => intro ad x1 x2 x3 χ hf; exact hf.elim
    | succ n hK58 =>
      intro ad x1 x2 x3 χ hf
      unfold w_M_taken_58 at hf
      refine g_iload_n hX 3 dX4_taken_58 rfl rfl ?_
      refine g_iload_n hX 2 dX4_taken_59 rfl rfl ?_
      refine g_icmp_eq hX 75 dX4_taken_60 (by decide) (fun z => ?_) (fun z => ?_)
      · replace hf := hf.1 z
        exact B75 _ _ _ _ _ hf
      · replace hf := hf.2 z
        refine g_iload_n hX 3 dX4_taken_63 rfl rfl ?_
        refine g_if_le hX 75 dX4_taken_64 (by decide) (fun z => ?_) (fun z => ?_)
        · replace hf := hf.1 z
          exact B75 _ _ _ _ _ hf
        · replace hf := hf.2 z
          refine g_iload_n hX 3 dX4_taken_67 rfl rfl ?_
          refine g_callSi hX (n := 1) (mt_M_above X.l X.Γ _ _ _ _) hf q1989 q1990 q89 q1991 hy_M_above (by decide) rfl rfl (Nat.le_of_ble_eq_true rfl) dX4_taken_68 (fun r9 χ10 hf hc10 => ?_)
          refine g_istore_n hX dX4_taken_71 rfl (by decide) rfl ?_
          refine g_goto hX 58 dX4_taken_72 (by decide) ?_
          refine g_sub [1, 2, 3, 0] rfl ?_
          exact hK58 _ _ _ _ _ hf
  unfold w_M_taken at hf
  refine g_iload_n hX 1 dX4_taken_0 rfl rfl ?_
  refine g_callSi hX (n := 1) (mt_M_isShelf X.l X.Γ _ _ _ _) hf q1662 q1663 q89 q1664 hy_M_isShelf (by decide) rfl rfl (Nat.le_of_ble_eq_true rfl) dX4_taken_1 (fun r1 χ2 hf hc2 => ?_)
  refine g_if_eq hX 19 dX4_taken_4 (by decide) (fun z => ?_) (fun z => ?_)
  · replace hf := hf.1 z
    refine g_iconst hX (v := (-1 : Int32)) dX4_taken_19 rfl ?_
    exact g_iret hX ⟨_, rfl, hf⟩ dX4_taken_20
  · replace hf := hf.2 z
    refine g_iload_n hX 2 dX4_taken_7 rfl rfl ?_
    refine g_i2l hX dX4_taken_8 ?_
    refine g_lconst hX (v := (0 : Int64)) dX4_taken_9 rfl ?_
    refine g_ldc2 hX q1920 dX4_taken_10 ?_
    refine g_callSi hX (n := 3) (mt_M_within X.l X.Γ _ _ _ _ _ _) hf q1651 q1652 q89 q1653 hy_M_within (by decide) rfl rfl (Nat.le_of_ble_eq_true rfl) dX4_taken_13 (fun r3 χ4 hf hc4 => ?_)
    refine g_if_ne hX 21 dX4_taken_16 (by decide) (fun z => ?_) (fun z => ?_)
    · replace hf := hf.1 z
      refine g_aload_n hX 0 dX4_taken_21 rfl rfl ?_
      refine g_getK hX (k := 40) (d := 64) (fc40 _) ff40 rfl (by decide) rfl rfl in_X4 (by decide) q1545 dX4_taken_22 ?_
      refine g_iload_n hX 1 dX4_taken_25 rfl rfl ?_
      refine g_iald hX (fc64 _) ff64 rfl hf.1 dX4_taken_26 ?_
      replace hf := hf.2
      refine g_if_ge hX 33 dX4_taken_27 (by decide) (fun z => ?_) (fun z => ?_)
      · replace hf := hf.1 z
        refine g_aload_n hX 0 dX4_taken_33 rfl rfl ?_
        refine g_getK hX (k := 40) (d := 64) (fc40 _) ff40 rfl (by decide) rfl rfl in_X4 (by decide) q1545 dX4_taken_34 ?_
        refine g_iload_n hX 1 dX4_taken_37 rfl rfl ?_
        refine g_iald hX (fc64 _) ff64 rfl hf.1 dX4_taken_38 ?_
        replace hf := hf.2
        refine g_bipush hX (v := (50 : Int32)) dX4_taken_39 rfl ?_
        refine g_icmp_lt hX 47 dX4_taken_41 (by decide) (fun z => ?_) (fun z => ?_)
        · replace hf := hf.1 z
          refine g_aload_n hX 0 dX4_taken_47 rfl rfl ?_
          refine g_aload_n hX 0 dX4_taken_48 rfl rfl ?_
          refine g_getK hX (k := 40) (d := 64) (fc40 _) ff40 rfl (by decide) rfl rfl in_X4 (by decide) q1545 dX4_taken_49 ?_
          refine g_iload_n hX 1 dX4_taken_52 rfl rfl ?_
          refine g_iald hX (fc64 _) ff64 rfl hf.1 dX4_taken_53 ?_
          replace hf := hf.2
          refine g_callVi hX (n := 1) (mt_M_kindOf X.l X.Γ _ _ _ _) hf q1985 q1987 qs82 q89 q1988 ⟨rfl, hy_M_kindOf⟩ (by decide) (fc40 _) ff40 rfl rfl rfl (Nat.le_of_ble_eq_true rfl) dX4_taken_54 (fun r5 χ6 hf hc6 => ?_)
          refine g_istore_n hX dX4_taken_57 rfl (by decide) rfl ?_
          obtain ⟨n0, hf⟩ := hf
          refine g_sub [1, 2, 3, 0] rfl ?_
          exact B58 n0 _ _ _ _ _ hf
        · replace hf := hf.2 z
          refine g_bipush hX (v := (-12 : Int32)) dX4_taken_44 rfl ?_
          exact g_iret hX ⟨_, rfl, hf⟩ dX4_taken_46
      · replace hf := hf.2 z
        refine g_bipush hX (v := (-11 : Int32)) dX4_taken_30 rfl ?_
        exact g_iret hX ⟨_, rfl, hf⟩ dX4_taken_32
    · replace hf := hf.2 z
      refine g_iconst hX (v := (-1 : Int32)) dX4_taken_19 rfl ?_
      exact g_iret hX ⟨_, rfl, hf⟩ dX4_taken_20

def w_M_lookedFor_30 (Q : Int32 → St → Prop) (K4 : Int32 → Int32 → St → Prop) (x2 : Int32) (z0 : Int32) (z1 : Int32) (χ : St) : Prop := (K4 (z1 + z0) (x2 + (1 : Int32)) χ)
def w_M_lookedFor_4 (Q : Int32 → St → Prop) : Nat → Int32 → Int32 → St → Prop
  | 0 => fun _ _ _ => False
  | n + 1 => fun x1 x2 χ => ((((6 : Int32) * (gI χ 4106 0 0)) ≤ x2 → (Q x1 χ)) ∧ (¬ ((6 : Int32) * (gI χ 4106 0 0)) ≤ x2 → (vp_in x2 48) ∧ ((((gI χ 47 0 x2.toNatClampNeg) ≤ 0 → (w_M_lookedFor_30 Q (w_M_lookedFor_4 Q n) x2 (0 : Int32) x1 χ)) ∧ (¬ (gI χ 47 0 x2.toNatClampNeg) ≤ 0 → (w_M_lookedFor_30 Q (w_M_lookedFor_4 Q n) x2 (1 : Int32) x1 χ))))))
def w_M_lookedFor (χ : St) (Q : Int32 → St → Prop) : Prop := (∃ k4, w_M_lookedFor_4 Q k4 (0 : Int32) (0 : Int32) χ)
set_option maxHeartbeats 4000000 in
theorem mt_M_lookedFor (l : Launch) (Γ : Gh) (ad : Nat → Nat → Nat) (χ : St) (Q : Int32 → St → Prop) : Mt l yX4_lookedFor (ws_ yX4_lookedFor cX4_lookedFor 3 (some .int)) (rmO (0) (0) χ) (Pm Γ ad χ [.ref (ad 40 0)] (w_M_lookedFor χ Q)) (Qm Γ true ad χ (pI Q)) (frB Γ) := by
  refine Mt.start (by decide) RX4 rfl (Nat.le_of_ble_eq_true rfl) ?_
  intro X hX hG _ _ hna _ hf
  have B30 : ∀ (K4 : Int32 → Int32 → St → Prop) (hK4 : ∀ (ad : Nat → Nat → Nat) (x1 : Int32) (x2 : Int32) (χ : St), K4 x1 x2 χ → G X ad χ 4 [(0, .ref (ad 40 0)), (1, .int x1), (2, .int x2)] []) (ad : Nat → Nat → Nat) (x2 : Int32) (z0 : Int32) (z1 : Int32) (χ : St), w_M_lookedFor_30 Q K4 x2 z0 z1 χ → G X ad χ 30 [(0, .ref (ad 40 0)), (2, .int x2)] [.int z0, .int z1] := by
    intro K4 hK4 ad x2 z0 z1 χ hf
    unfold w_M_lookedFor_30 at hf
    refine g_iadd hX dX4_lookedFor_30 ?_
    refine g_istore_n hX dX4_lookedFor_31 rfl (by decide) rfl ?_
    refine g_iinc hX (v := _) 2 dX4_lookedFor_32 rfl rfl (by decide) rfl ?_
    refine g_goto hX 4 dX4_lookedFor_35 (by decide) ?_
    refine g_sub [2, 1, 0] rfl ?_
    exact hK4 _ _ _ _ hf
  have B4 : ∀ (n : Nat) (ad : Nat → Nat → Nat) (x1 : Int32) (x2 : Int32) (χ : St), w_M_lookedFor_4 Q n x1 x2 χ → G X ad χ 4 [(0, .ref (ad 40 0)), (1, .int x1), (2, .int x2)] [] := by
    intro n
    induction n with
    | zero => intro ad x1 x2 χ hf; exact hf.elim
    | succ n hK4 =>
      intro ad x1 x2 χ hf
      unfold w_M_lookedFor_4 at hf
      refine g_iload_n hX 2 dX4_lookedFor_4 rfl rfl ?_
      refine g_bipush hX (v := (6 : Int32)) dX4_lookedFor_5 rfl ?_
      refine g_aload_n hX 0 dX4_lookedFor_7 rfl rfl ?_
      refine g_getI hX (k := 6) (fc40 _) ff40 rfl rfl in_X4 (by decide) q1511 dX4_lookedFor_8 ?_
      refine g_imul hX dX4_lookedFor_11 ?_
      refine g_icmp_ge hX 38 dX4_lookedFor_12 (by decide) (fun z => ?_) (fun z => ?_)
      · replace hf := hf.1 z
        refine g_iload_n hX 1 dX4_lookedFor_38 rfl rfl ?_
        exact g_iret hX ⟨_, rfl, hf⟩ dX4_lookedFor_39
      · replace hf := hf.2 z
        refine g_iload_n hX 1 dX4_lookedFor_15 rfl rfl ?_
        refine g_aload_n hX 0 dX4_lookedFor_16 rfl rfl ?_
        refine g_getK hX (k := 9) (d := 47) (fc40 _) ff40 rfl (by decide) rfl rfl in_X4 (by decide) q1514 dX4_lookedFor_17 ?_
        refine g_iload_n hX 2 dX4_lookedFor_20 rfl rfl ?_
        refine g_iald hX (fc47 _) ff47 rfl hf.1 dX4_lookedFor_21 ?_
        replace hf := hf.2
        refine g_if_le hX 29 dX4_lookedFor_22 (by decide) (fun z => ?_) (fun z => ?_)
        · replace hf := hf.1 z
          refine g_iconst hX (v := (0 : Int32)) dX4_lookedFor_29 rfl ?_
          refine g_sub [0, 2] rfl ?_
          exact B30 (w_M_lookedFor_4 Q n) hK4 _ _ _ _ _ hf
        · replace hf := hf.2 z
          refine g_iconst hX (v := (1 : Int32)) dX4_lookedFor_25 rfl ?_
          refine g_goto hX 30 dX4_lookedFor_26 (by decide) ?_
          refine g_sub [0, 2] rfl ?_
          exact B30 (w_M_lookedFor_4 Q n) hK4 _ _ _ _ _ hf
  unfold w_M_lookedFor at hf
  refine g_iconst hX (v := (0 : Int32)) dX4_lookedFor_0 rfl ?_
  refine g_istore_n hX dX4_lookedFor_1 rfl (by decide) rfl ?_
  refine g_iconst hX (v := (0 : Int32)) dX4_lookedFor_2 rfl ?_
  refine g_istore_n hX dX4_lookedFor_3 rfl (by decide) rfl ?_
  obtain ⟨n0, hf⟩ := hf
  refine g_sub [2, 1, 0] rfl ?_
  exact B4 n0 _ _ _ _ hf

def w_M_count (x1 : Int32) (χ : St) (Q : Int32 → St → Prop) : Prop := (∀ v1 : Int32, v1 = x1 → ((v1 = (0 : Int32) → (Q (gI χ 4106 0 0) χ)) ∧ (v1 = (1 : Int32) → (Q (gI χ 4127 0 0) χ)) ∧ (v1 = (2 : Int32) → (w_M_lookedFor χ (fun r2 χ3 => (Q r2 χ3)))) ∧ (v1 = (3 : Int32) → (Q (gI χ 4111 0 0) χ)) ∧ (v1 = (4 : Int32) → (Q (gI χ 4105 0 0) χ)) ∧ (v1 = (5 : Int32) → (Q (gI χ 4134 0 0) χ)) ∧ (v1 = (6 : Int32) → (Q (gI χ 4137 0 0) χ)) ∧ (¬ v1 = (0 : Int32) → ¬ v1 = (1 : Int32) → ¬ v1 = (2 : Int32) → ¬ v1 = (3 : Int32) → ¬ v1 = (4 : Int32) → ¬ v1 = (5 : Int32) → ¬ v1 = (6 : Int32) → (Q (-1 : Int32) χ))))
set_option maxHeartbeats 4000000 in
theorem mt_M_count (l : Launch) (Γ : Gh) (ad : Nat → Nat → Nat) (x1 : Int32) (χ : St) (Q : Int32 → St → Prop) : Mt l yX4_count (ws_ yX4_count cX4_count 2 (some .int)) (rmO (1) (22) χ) (Pm Γ ad χ [.ref (ad 40 0), .int x1] (w_M_count x1 χ Q)) (Qm Γ true ad χ (pI Q)) (frB Γ) := by
  refine Mt.start (by decide) RX4 rfl (Nat.le_of_ble_eq_true rfl) ?_
  intro X hX hG _ _ hna _ hf
  unfold w_M_count at hf
  refine g_iload_n hX 1 dX4_count_0 rfl rfl ?_
  replace hf := hf _ rfl
  by_cases z0 : x1 = (0 : Int32)
  · replace hf := hf.1 z0
    refine g_tableIn hX 44 dX4_count_1 (by rw [z0]; decide) (by rw [z0]; decide) (by rw [z0] <;> rfl) (by decide) ?_
    refine g_aload_n hX 0 dX4_count_44 rfl rfl ?_
    refine g_getI hX (k := 6) (fc40 _) ff40 rfl rfl in_X4 (by decide) q1511 dX4_count_45 ?_
    exact g_iret hX ⟨_, rfl, hf⟩ dX4_count_48
  replace hf := hf.2
  by_cases z1 : x1 = (1 : Int32)
  · replace hf := hf.1 z1
    refine g_tableIn hX 49 dX4_count_1 (by rw [z1]; decide) (by rw [z1]; decide) (by rw [z1] <;> rfl) (by decide) ?_
    refine g_aload_n hX 0 dX4_count_49 rfl rfl ?_
    refine g_getI hX (k := 27) (fc40 _) ff40 rfl rfl in_X4 (by decide) q1532 dX4_count_50 ?_
    exact g_iret hX ⟨_, rfl, hf⟩ dX4_count_53
  replace hf := hf.2
  by_cases z2 : x1 = (2 : Int32)
  · replace hf := hf.1 z2
    refine g_tableIn hX 54 dX4_count_1 (by rw [z2]; decide) (by rw [z2]; decide) (by rw [z2] <;> rfl) (by decide) ?_
    refine g_aload_n hX 0 dX4_count_54 rfl rfl ?_
    refine g_callVi hX (n := 0) (mt_M_lookedFor X.l X.Γ _ _ _) hf q1996 q1998 qs83 q89 q1999 ⟨rfl, hy_M_lookedFor⟩ (by decide) (fc40 _) ff40 rfl rfl rfl (Nat.le_of_ble_eq_true rfl) dX4_count_55 (fun r2 χ3 hf hc3 => ?_)
    exact g_iret hX ⟨_, rfl, hf⟩ dX4_count_58
  replace hf := hf.2
  by_cases z3 : x1 = (3 : Int32)
  · replace hf := hf.1 z3
    refine g_tableIn hX 59 dX4_count_1 (by rw [z3]; decide) (by rw [z3]; decide) (by rw [z3] <;> rfl) (by decide) ?_
    refine g_aload_n hX 0 dX4_count_59 rfl rfl ?_
    refine g_getI hX (k := 11) (fc40 _) ff40 rfl rfl in_X4 (by decide) q1516 dX4_count_60 ?_
    exact g_iret hX ⟨_, rfl, hf⟩ dX4_count_63
  replace hf := hf.2
  by_cases z4 : x1 = (4 : Int32)
  · replace hf := hf.1 z4
    refine g_tableIn hX 64 dX4_count_1 (by rw [z4]; decide) (by rw [z4]; decide) (by rw [z4] <;> rfl) (by decide) ?_
    refine g_aload_n hX 0 dX4_count_64 rfl rfl ?_
    refine g_getI hX (k := 5) (fc40 _) ff40 rfl rfl in_X4 (by decide) q1510 dX4_count_65 ?_
    exact g_iret hX ⟨_, rfl, hf⟩ dX4_count_68
  replace hf := hf.2
  by_cases z5 : x1 = (5 : Int32)
  · replace hf := hf.1 z5
    refine g_tableIn hX 69 dX4_count_1 (by rw [z5]; decide) (by rw [z5]; decide) (by rw [z5] <;> rfl) (by decide) ?_
    refine g_aload_n hX 0 dX4_count_69 rfl rfl ?_
    refine g_getI hX (k := 34) (fc40 _) ff40 rfl rfl in_X4 (by decide) q1539 dX4_count_70 ?_
    exact g_iret hX ⟨_, rfl, hf⟩ dX4_count_73
  replace hf := hf.2
  by_cases z6 : x1 = (6 : Int32)
  · replace hf := hf.1 z6
    refine g_tableIn hX 74 dX4_count_1 (by rw [z6]; decide) (by rw [z6]; decide) (by rw [z6] <;> rfl) (by decide) ?_
    refine g_aload_n hX 0 dX4_count_74 rfl rfl ?_
    refine g_getI hX (k := 37) (fc40 _) ff40 rfl rfl in_X4 (by decide) q1542 dX4_count_75 ?_
    exact g_iret hX ⟨_, rfl, hf⟩ dX4_count_78
  replace hf := hf.2
  replace hf := hf z0 z1 z2 z3 z4 z5 z6
  refine g_tableOut hX 79 dX4_count_1 (tb_out (fun v h1 h2 => ?_)) (by decide) ?_
  · have h3 : v = 0 ∨ v = 1 ∨ v = 2 ∨ v = 3 ∨ v = 4 ∨ v = 5 ∨ v = 6 := by omega
    rcases h3 with rfl | rfl | rfl | rfl | rfl | rfl | rfl
    · exact z0
    · exact z1
    · exact z2
    · exact z3
    · exact z4
    · exact z5
    · exact z6
  refine g_iconst hX (v := (-1 : Int32)) dX4_count_79 rfl ?_
  exact g_iret hX ⟨_, rfl, hf⟩ dX4_count_80
