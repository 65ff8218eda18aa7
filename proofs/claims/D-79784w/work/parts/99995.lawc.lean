set_option maxRecDepth 100000
theorem hdS_X0_ahead : yX0_ahead.cls ≠ "java/lang/invoke/MethodHandle" ∧ yX0_ahead.cls ≠ "java/lang/invoke/VarHandle" ∧ (parseMethodDescriptor yX0_ahead.desc).map (fun d => d.parameters.length) = some 3 := by decide +kernel
theorem hdS_X0_answer : yX0_answer.cls ≠ "java/lang/invoke/MethodHandle" ∧ yX0_answer.cls ≠ "java/lang/invoke/VarHandle" ∧ (parseMethodDescriptor yX0_answer.desc).map (fun d => d.parameters.length) = some 4 := by decide +kernel
theorem hdS_X0_answerAnew : yX0_answerAnew.cls ≠ "java/lang/invoke/MethodHandle" ∧ yX0_answerAnew.cls ≠ "java/lang/invoke/VarHandle" ∧ (parseMethodDescriptor yX0_answerAnew.desc).map (fun d => d.parameters.length) = some 4 := by decide +kernel
theorem hdS_X0_answers : yX0_answers.cls ≠ "java/lang/invoke/MethodHandle" ∧ yX0_answers.cls ≠ "java/lang/invoke/VarHandle" ∧ (parseMethodDescriptor yX0_answers.desc).map (fun d => d.parameters.length) = some 4 := by decide +kernel
theorem hdS_X0_back : yX0_back.cls ≠ "java/lang/invoke/MethodHandle" ∧ yX0_back.cls ≠ "java/lang/invoke/VarHandle" ∧ (parseMethodDescriptor yX0_back.desc).map (fun d => d.parameters.length) = some 3 := by decide +kernel
theorem hdS_X0_before : yX0_before.cls ≠ "java/lang/invoke/MethodHandle" ∧ yX0_before.cls ≠ "java/lang/invoke/VarHandle" ∧ (parseMethodDescriptor yX0_before.desc).map (fun d => d.parameters.length) = some 2 := by decide +kernel
theorem hdS_X0_both : yX0_both.cls ≠ "java/lang/invoke/MethodHandle" ∧ yX0_both.cls ≠ "java/lang/invoke/VarHandle" ∧ (parseMethodDescriptor yX0_both.desc).map (fun d => d.parameters.length) = some 2 := by decide +kernel
theorem hdS_X0_close : yX0_close.cls ≠ "java/lang/invoke/MethodHandle" ∧ yX0_close.cls ≠ "java/lang/invoke/VarHandle" ∧ (parseMethodDescriptor yX0_close.desc).map (fun d => d.parameters.length) = some 2 := by decide +kernel
theorem hdS_X0_count : yX0_count.cls ≠ "java/lang/invoke/MethodHandle" ∧ yX0_count.cls ≠ "java/lang/invoke/VarHandle" ∧ (parseMethodDescriptor yX0_count.desc).map (fun d => d.parameters.length) = some 5 := by decide +kernel
theorem hdS_X0_either : yX0_either.cls ≠ "java/lang/invoke/MethodHandle" ∧ yX0_either.cls ≠ "java/lang/invoke/VarHandle" ∧ (parseMethodDescriptor yX0_either.desc).map (fun d => d.parameters.length) = some 2 := by decide +kernel
theorem hdS_X0_event : yX0_event.cls ≠ "java/lang/invoke/MethodHandle" ∧ yX0_event.cls ≠ "java/lang/invoke/VarHandle" ∧ (parseMethodDescriptor yX0_event.desc).map (fun d => d.parameters.length) = some 7 := by decide +kernel
theorem hdS_X0_eventAt : yX0_eventAt.cls ≠ "java/lang/invoke/MethodHandle" ∧ yX0_eventAt.cls ≠ "java/lang/invoke/VarHandle" ∧ (parseMethodDescriptor yX0_eventAt.desc).map (fun d => d.parameters.length) = some 3 := by decide +kernel
theorem hdS_X0_explainedBy : yX0_explainedBy.cls ≠ "java/lang/invoke/MethodHandle" ∧ yX0_explainedBy.cls ≠ "java/lang/invoke/VarHandle" ∧ (parseMethodDescriptor yX0_explainedBy.desc).map (fun d => d.parameters.length) = some 5 := by decide +kernel
theorem hdS_X0_explanation : yX0_explanation.cls ≠ "java/lang/invoke/MethodHandle" ∧ yX0_explanation.cls ≠ "java/lang/invoke/VarHandle" ∧ (parseMethodDescriptor yX0_explanation.desc).map (fun d => d.parameters.length) = some 4 := by decide +kernel
theorem hdS_X0_greatest : yX0_greatest.cls ≠ "java/lang/invoke/MethodHandle" ∧ yX0_greatest.cls ≠ "java/lang/invoke/VarHandle" ∧ (parseMethodDescriptor yX0_greatest.desc).map (fun d => d.parameters.length) = some 5 := by decide +kernel
theorem hdS_X0_greatestByAll : yX0_greatestByAll.cls ≠ "java/lang/invoke/MethodHandle" ∧ yX0_greatestByAll.cls ≠ "java/lang/invoke/VarHandle" ∧ (parseMethodDescriptor yX0_greatestByAll.desc).map (fun d => d.parameters.length) = some 5 := by decide +kernel
theorem hdS_X0_isLate : yX0_isLate.cls ≠ "java/lang/invoke/MethodHandle" ∧ yX0_isLate.cls ≠ "java/lang/invoke/VarHandle" ∧ (parseMethodDescriptor yX0_isLate.desc).map (fun d => d.parameters.length) = some 3 := by decide +kernel
theorem hdS_X0_kindIs : yX0_kindIs.cls ≠ "java/lang/invoke/MethodHandle" ∧ yX0_kindIs.cls ≠ "java/lang/invoke/VarHandle" ∧ (parseMethodDescriptor yX0_kindIs.desc).map (fun d => d.parameters.length) = some 3 := by decide +kernel
theorem hdS_X0_knownSince : yX0_knownSince.cls ≠ "java/lang/invoke/MethodHandle" ∧ yX0_knownSince.cls ≠ "java/lang/invoke/VarHandle" ∧ (parseMethodDescriptor yX0_knownSince.desc).map (fun d => d.parameters.length) = some 4 := by decide +kernel
theorem hdS_X0_many : yX0_many.cls ≠ "java/lang/invoke/MethodHandle" ∧ yX0_many.cls ≠ "java/lang/invoke/VarHandle" ∧ (parseMethodDescriptor yX0_many.desc).map (fun d => d.parameters.length) = some 4 := by decide +kernel
theorem hdS_X0_mend : yX0_mend.cls ≠ "java/lang/invoke/MethodHandle" ∧ yX0_mend.cls ≠ "java/lang/invoke/VarHandle" ∧ (parseMethodDescriptor yX0_mend.desc).map (fun d => d.parameters.length) = some 4 := by decide +kernel
theorem hdS_X0_mendedBy : yX0_mendedBy.cls ≠ "java/lang/invoke/MethodHandle" ∧ yX0_mendedBy.cls ≠ "java/lang/invoke/VarHandle" ∧ (parseMethodDescriptor yX0_mendedBy.desc).map (fun d => d.parameters.length) = some 5 := by decide +kernel
theorem hdS_X0_next : yX0_next.cls ≠ "java/lang/invoke/MethodHandle" ∧ yX0_next.cls ≠ "java/lang/invoke/VarHandle" ∧ (parseMethodDescriptor yX0_next.desc).map (fun d => d.parameters.length) = some 2 := by decide +kernel
theorem hdS_X0_not : yX0_not.cls ≠ "java/lang/invoke/MethodHandle" ∧ yX0_not.cls ≠ "java/lang/invoke/VarHandle" ∧ (parseMethodDescriptor yX0_not.desc).map (fun d => d.parameters.length) = some 2 := by decide +kernel
theorem hdS_X0_offer : yX0_offer.cls ≠ "java/lang/invoke/MethodHandle" ∧ yX0_offer.cls ≠ "java/lang/invoke/VarHandle" ∧ (parseMethodDescriptor yX0_offer.desc).map (fun d => d.parameters.length) = some 7 := by decide +kernel
theorem hdS_X0_once : yX0_once.cls ≠ "java/lang/invoke/MethodHandle" ∧ yX0_once.cls ≠ "java/lang/invoke/VarHandle" ∧ (parseMethodDescriptor yX0_once.desc).map (fun d => d.parameters.length) = some 3 := by decide +kernel
theorem hdS_X0_overOrders : yX0_overOrders.cls ≠ "java/lang/invoke/MethodHandle" ∧ yX0_overOrders.cls ≠ "java/lang/invoke/VarHandle" ∧ (parseMethodDescriptor yX0_overOrders.desc).map (fun d => d.parameters.length) = some 5 := by decide +kernel
theorem hdS_X0_setOffset : yX0_setOffset.cls ≠ "java/lang/invoke/MethodHandle" ∧ yX0_setOffset.cls ≠ "java/lang/invoke/VarHandle" ∧ (parseMethodDescriptor yX0_setOffset.desc).map (fun d => d.parameters.length) = some 4 := by decide +kernel
theorem hdS_X0_setPatience : yX0_setPatience.cls ≠ "java/lang/invoke/MethodHandle" ∧ yX0_setPatience.cls ≠ "java/lang/invoke/VarHandle" ∧ (parseMethodDescriptor yX0_setPatience.desc).map (fun d => d.parameters.length) = some 3 := by decide +kernel
theorem hdS_X0_since : yX0_since.cls ≠ "java/lang/invoke/MethodHandle" ∧ yX0_since.cls ≠ "java/lang/invoke/VarHandle" ∧ (parseMethodDescriptor yX0_since.desc).map (fun d => d.parameters.length) = some 3 := by decide +kernel
theorem hdS_X0_soon : yX0_soon.cls ≠ "java/lang/invoke/MethodHandle" ∧ yX0_soon.cls ≠ "java/lang/invoke/VarHandle" ∧ (parseMethodDescriptor yX0_soon.desc).map (fun d => d.parameters.length) = some 3 := by decide +kernel
theorem hdS_X0_takenBack : yX0_takenBack.cls ≠ "java/lang/invoke/MethodHandle" ∧ yX0_takenBack.cls ≠ "java/lang/invoke/VarHandle" ∧ (parseMethodDescriptor yX0_takenBack.desc).map (fun d => d.parameters.length) = some 3 := by decide +kernel
theorem hdS_X0_timeOf : yX0_timeOf.cls ≠ "java/lang/invoke/MethodHandle" ∧ yX0_timeOf.cls ≠ "java/lang/invoke/VarHandle" ∧ (parseMethodDescriptor yX0_timeOf.desc).map (fun d => d.parameters.length) = some 3 := by decide +kernel
theorem hdS_X0_until : yX0_until.cls ≠ "java/lang/invoke/MethodHandle" ∧ yX0_until.cls ≠ "java/lang/invoke/VarHandle" ∧ (parseMethodDescriptor yX0_until.desc).map (fun d => d.parameters.length) = some 3 := by decide +kernel
theorem hdS_X0_valueIs : yX0_valueIs.cls ≠ "java/lang/invoke/MethodHandle" ∧ yX0_valueIs.cls ≠ "java/lang/invoke/VarHandle" ∧ (parseMethodDescriptor yX0_valueIs.desc).map (fun d => d.parameters.length) = some 4 := by decide +kernel
theorem hdS_X0_watch : yX0_watch.cls ≠ "java/lang/invoke/MethodHandle" ∧ yX0_watch.cls ≠ "java/lang/invoke/VarHandle" ∧ (parseMethodDescriptor yX0_watch.desc).map (fun d => d.parameters.length) = some 4 := by decide +kernel
theorem hdV_X1_dropped : yX1_dropped.cls = RX1 ∧ yX1_dropped.cls ≠ "java/lang/invoke/MethodHandle" ∧ yX1_dropped.cls ≠ "java/lang/invoke/VarHandle" ∧ (parseMethodDescriptor yX1_dropped.desc).map (fun d => d.parameters.length) = some 0 := by decide +kernel
theorem hdV_X1_events : yX1_events.cls = RX1 ∧ yX1_events.cls ≠ "java/lang/invoke/MethodHandle" ∧ yX1_events.cls ≠ "java/lang/invoke/VarHandle" ∧ (parseMethodDescriptor yX1_events.desc).map (fun d => d.parameters.length) = some 0 := by decide +kernel
theorem hdV_X1_orders : yX1_orders.cls = RX1 ∧ yX1_orders.cls ≠ "java/lang/invoke/MethodHandle" ∧ yX1_orders.cls ≠ "java/lang/invoke/VarHandle" ∧ (parseMethodDescriptor yX1_orders.desc).map (fun d => d.parameters.length) = some 0 := by decide +kernel
theorem hdV_X1_parts : yX1_parts.cls = RX1 ∧ yX1_parts.cls ≠ "java/lang/invoke/MethodHandle" ∧ yX1_parts.cls ≠ "java/lang/invoke/VarHandle" ∧ (parseMethodDescriptor yX1_parts.desc).map (fun d => d.parameters.length) = some 0 := by decide +kernel
theorem hdV_X1_present : yX1_present.cls = RX1 ∧ yX1_present.cls ≠ "java/lang/invoke/MethodHandle" ∧ yX1_present.cls ≠ "java/lang/invoke/VarHandle" ∧ (parseMethodDescriptor yX1_present.desc).map (fun d => d.parameters.length) = some 0 := by decide +kernel
theorem hdV_X1_scrap : yX1_scrap.cls = RX1 ∧ yX1_scrap.cls ≠ "java/lang/invoke/MethodHandle" ∧ yX1_scrap.cls ≠ "java/lang/invoke/VarHandle" ∧ (parseMethodDescriptor yX1_scrap.desc).map (fun d => d.parameters.length) = some 0 := by decide +kernel
theorem hdV_X3_ahead : yX3_ahead.cls = RX3 ∧ yX3_ahead.cls ≠ "java/lang/invoke/MethodHandle" ∧ yX3_ahead.cls ≠ "java/lang/invoke/VarHandle" ∧ (parseMethodDescriptor yX3_ahead.desc).map (fun d => d.parameters.length) = some 1 := by decide +kernel
theorem hdV_X3_answerAnew : yX3_answerAnew.cls = RX3 ∧ yX3_answerAnew.cls ≠ "java/lang/invoke/MethodHandle" ∧ yX3_answerAnew.cls ≠ "java/lang/invoke/VarHandle" ∧ (parseMethodDescriptor yX3_answerAnew.desc).map (fun d => d.parameters.length) = some 2 := by decide +kernel
theorem hdV_X3_answers : yX3_answers.cls = RX3 ∧ yX3_answers.cls ≠ "java/lang/invoke/MethodHandle" ∧ yX3_answers.cls ≠ "java/lang/invoke/VarHandle" ∧ (parseMethodDescriptor yX3_answers.desc).map (fun d => d.parameters.length) = some 2 := by decide +kernel
theorem hdV_X3_back : yX3_back.cls = RX3 ∧ yX3_back.cls ≠ "java/lang/invoke/MethodHandle" ∧ yX3_back.cls ≠ "java/lang/invoke/VarHandle" ∧ (parseMethodDescriptor yX3_back.desc).map (fun d => d.parameters.length) = some 1 := by decide +kernel
theorem hdV_X3_before : yX3_before.cls = RX3 ∧ yX3_before.cls ≠ "java/lang/invoke/MethodHandle" ∧ yX3_before.cls ≠ "java/lang/invoke/VarHandle" ∧ (parseMethodDescriptor yX3_before.desc).map (fun d => d.parameters.length) = some 0 := by decide +kernel
theorem hdV_X3_both : yX3_both.cls = RX3 ∧ yX3_both.cls ≠ "java/lang/invoke/MethodHandle" ∧ yX3_both.cls ≠ "java/lang/invoke/VarHandle" ∧ (parseMethodDescriptor yX3_both.desc).map (fun d => d.parameters.length) = some 0 := by decide +kernel
theorem hdV_X3_close : yX3_close.cls = RX3 ∧ yX3_close.cls ≠ "java/lang/invoke/MethodHandle" ∧ yX3_close.cls ≠ "java/lang/invoke/VarHandle" ∧ (parseMethodDescriptor yX3_close.desc).map (fun d => d.parameters.length) = some 0 := by decide +kernel
theorem hdV_X3_count : yX3_count.cls = RX3 ∧ yX3_count.cls ≠ "java/lang/invoke/MethodHandle" ∧ yX3_count.cls ≠ "java/lang/invoke/VarHandle" ∧ (parseMethodDescriptor yX3_count.desc).map (fun d => d.parameters.length) = some 3 := by decide +kernel
theorem hdV_X3_dropped : yX3_dropped.cls = RX3 ∧ yX3_dropped.cls ≠ "java/lang/invoke/MethodHandle" ∧ yX3_dropped.cls ≠ "java/lang/invoke/VarHandle" ∧ (parseMethodDescriptor yX3_dropped.desc).map (fun d => d.parameters.length) = some 0 := by decide +kernel
theorem hdV_X3_either : yX3_either.cls = RX3 ∧ yX3_either.cls ≠ "java/lang/invoke/MethodHandle" ∧ yX3_either.cls ≠ "java/lang/invoke/VarHandle" ∧ (parseMethodDescriptor yX3_either.desc).map (fun d => d.parameters.length) = some 0 := by decide +kernel
theorem hdV_X3_event : yX3_event.cls = RX3 ∧ yX3_event.cls ≠ "java/lang/invoke/MethodHandle" ∧ yX3_event.cls ≠ "java/lang/invoke/VarHandle" ∧ (parseMethodDescriptor yX3_event.desc).map (fun d => d.parameters.length) = some 5 := by decide +kernel
theorem hdV_X3_eventAt : yX3_eventAt.cls = RX3 ∧ yX3_eventAt.cls ≠ "java/lang/invoke/MethodHandle" ∧ yX3_eventAt.cls ≠ "java/lang/invoke/VarHandle" ∧ (parseMethodDescriptor yX3_eventAt.desc).map (fun d => d.parameters.length) = some 1 := by decide +kernel
theorem hdV_X3_events : yX3_events.cls = RX3 ∧ yX3_events.cls ≠ "java/lang/invoke/MethodHandle" ∧ yX3_events.cls ≠ "java/lang/invoke/VarHandle" ∧ (parseMethodDescriptor yX3_events.desc).map (fun d => d.parameters.length) = some 0 := by decide +kernel
theorem hdV_X3_explainedBy : yX3_explainedBy.cls = RX3 ∧ yX3_explainedBy.cls ≠ "java/lang/invoke/MethodHandle" ∧ yX3_explainedBy.cls ≠ "java/lang/invoke/VarHandle" ∧ (parseMethodDescriptor yX3_explainedBy.desc).map (fun d => d.parameters.length) = some 3 := by decide +kernel
theorem hdV_X3_explanation : yX3_explanation.cls = RX3 ∧ yX3_explanation.cls ≠ "java/lang/invoke/MethodHandle" ∧ yX3_explanation.cls ≠ "java/lang/invoke/VarHandle" ∧ (parseMethodDescriptor yX3_explanation.desc).map (fun d => d.parameters.length) = some 2 := by decide +kernel
theorem hdV_X3_greatestByAll : yX3_greatestByAll.cls = RX3 ∧ yX3_greatestByAll.cls ≠ "java/lang/invoke/MethodHandle" ∧ yX3_greatestByAll.cls ≠ "java/lang/invoke/VarHandle" ∧ (parseMethodDescriptor yX3_greatestByAll.desc).map (fun d => d.parameters.length) = some 3 := by decide +kernel
theorem hdV_X3_isLate : yX3_isLate.cls = RX3 ∧ yX3_isLate.cls ≠ "java/lang/invoke/MethodHandle" ∧ yX3_isLate.cls ≠ "java/lang/invoke/VarHandle" ∧ (parseMethodDescriptor yX3_isLate.desc).map (fun d => d.parameters.length) = some 1 := by decide +kernel
theorem hdV_X3_kindIs : yX3_kindIs.cls = RX3 ∧ yX3_kindIs.cls ≠ "java/lang/invoke/MethodHandle" ∧ yX3_kindIs.cls ≠ "java/lang/invoke/VarHandle" ∧ (parseMethodDescriptor yX3_kindIs.desc).map (fun d => d.parameters.length) = some 1 := by decide +kernel
theorem hdV_X3_knownSince : yX3_knownSince.cls = RX3 ∧ yX3_knownSince.cls ≠ "java/lang/invoke/MethodHandle" ∧ yX3_knownSince.cls ≠ "java/lang/invoke/VarHandle" ∧ (parseMethodDescriptor yX3_knownSince.desc).map (fun d => d.parameters.length) = some 2 := by decide +kernel
theorem hdV_X3_many : yX3_many.cls = RX3 ∧ yX3_many.cls ≠ "java/lang/invoke/MethodHandle" ∧ yX3_many.cls ≠ "java/lang/invoke/VarHandle" ∧ (parseMethodDescriptor yX3_many.desc).map (fun d => d.parameters.length) = some 2 := by decide +kernel
theorem hdV_X3_mend : yX3_mend.cls = RX3 ∧ yX3_mend.cls ≠ "java/lang/invoke/MethodHandle" ∧ yX3_mend.cls ≠ "java/lang/invoke/VarHandle" ∧ (parseMethodDescriptor yX3_mend.desc).map (fun d => d.parameters.length) = some 2 := by decide +kernel
theorem hdV_X3_mendedBy : yX3_mendedBy.cls = RX3 ∧ yX3_mendedBy.cls ≠ "java/lang/invoke/MethodHandle" ∧ yX3_mendedBy.cls ≠ "java/lang/invoke/VarHandle" ∧ (parseMethodDescriptor yX3_mendedBy.desc).map (fun d => d.parameters.length) = some 3 := by decide +kernel
theorem hdV_X3_next : yX3_next.cls = RX3 ∧ yX3_next.cls ≠ "java/lang/invoke/MethodHandle" ∧ yX3_next.cls ≠ "java/lang/invoke/VarHandle" ∧ (parseMethodDescriptor yX3_next.desc).map (fun d => d.parameters.length) = some 0 := by decide +kernel
theorem hdV_X3_not_2 : yX3_not_2.cls = RX3 ∧ yX3_not_2.cls ≠ "java/lang/invoke/MethodHandle" ∧ yX3_not_2.cls ≠ "java/lang/invoke/VarHandle" ∧ (parseMethodDescriptor yX3_not_2.desc).map (fun d => d.parameters.length) = some 0 := by decide +kernel
theorem hdV_X3_offer : yX3_offer.cls = RX3 ∧ yX3_offer.cls ≠ "java/lang/invoke/MethodHandle" ∧ yX3_offer.cls ≠ "java/lang/invoke/VarHandle" ∧ (parseMethodDescriptor yX3_offer.desc).map (fun d => d.parameters.length) = some 5 := by decide +kernel
theorem hdV_X3_once : yX3_once.cls = RX3 ∧ yX3_once.cls ≠ "java/lang/invoke/MethodHandle" ∧ yX3_once.cls ≠ "java/lang/invoke/VarHandle" ∧ (parseMethodDescriptor yX3_once.desc).map (fun d => d.parameters.length) = some 1 := by decide +kernel
theorem hdV_X3_orders : yX3_orders.cls = RX3 ∧ yX3_orders.cls ≠ "java/lang/invoke/MethodHandle" ∧ yX3_orders.cls ≠ "java/lang/invoke/VarHandle" ∧ (parseMethodDescriptor yX3_orders.desc).map (fun d => d.parameters.length) = some 0 := by decide +kernel
theorem hdV_X3_overOrders : yX3_overOrders.cls = RX3 ∧ yX3_overOrders.cls ≠ "java/lang/invoke/MethodHandle" ∧ yX3_overOrders.cls ≠ "java/lang/invoke/VarHandle" ∧ (parseMethodDescriptor yX3_overOrders.desc).map (fun d => d.parameters.length) = some 3 := by decide +kernel
theorem hdV_X3_parts : yX3_parts.cls = RX3 ∧ yX3_parts.cls ≠ "java/lang/invoke/MethodHandle" ∧ yX3_parts.cls ≠ "java/lang/invoke/VarHandle" ∧ (parseMethodDescriptor yX3_parts.desc).map (fun d => d.parameters.length) = some 0 := by decide +kernel
theorem hdV_X3_present : yX3_present.cls = RX3 ∧ yX3_present.cls ≠ "java/lang/invoke/MethodHandle" ∧ yX3_present.cls ≠ "java/lang/invoke/VarHandle" ∧ (parseMethodDescriptor yX3_present.desc).map (fun d => d.parameters.length) = some 0 := by decide +kernel
theorem hdV_X3_scrap : yX3_scrap.cls = RX3 ∧ yX3_scrap.cls ≠ "java/lang/invoke/MethodHandle" ∧ yX3_scrap.cls ≠ "java/lang/invoke/VarHandle" ∧ (parseMethodDescriptor yX3_scrap.desc).map (fun d => d.parameters.length) = some 0 := by decide +kernel
theorem hdV_X3_setOffset : yX3_setOffset.cls = RX3 ∧ yX3_setOffset.cls ≠ "java/lang/invoke/MethodHandle" ∧ yX3_setOffset.cls ≠ "java/lang/invoke/VarHandle" ∧ (parseMethodDescriptor yX3_setOffset.desc).map (fun d => d.parameters.length) = some 2 := by decide +kernel
theorem hdV_X3_setPatience : yX3_setPatience.cls = RX3 ∧ yX3_setPatience.cls ≠ "java/lang/invoke/MethodHandle" ∧ yX3_setPatience.cls ≠ "java/lang/invoke/VarHandle" ∧ (parseMethodDescriptor yX3_setPatience.desc).map (fun d => d.parameters.length) = some 1 := by decide +kernel
theorem hdV_X3_since : yX3_since.cls = RX3 ∧ yX3_since.cls ≠ "java/lang/invoke/MethodHandle" ∧ yX3_since.cls ≠ "java/lang/invoke/VarHandle" ∧ (parseMethodDescriptor yX3_since.desc).map (fun d => d.parameters.length) = some 1 := by decide +kernel
theorem hdV_X3_soon : yX3_soon.cls = RX3 ∧ yX3_soon.cls ≠ "java/lang/invoke/MethodHandle" ∧ yX3_soon.cls ≠ "java/lang/invoke/VarHandle" ∧ (parseMethodDescriptor yX3_soon.desc).map (fun d => d.parameters.length) = some 1 := by decide +kernel
theorem hdV_X3_takenBack : yX3_takenBack.cls = RX3 ∧ yX3_takenBack.cls ≠ "java/lang/invoke/MethodHandle" ∧ yX3_takenBack.cls ≠ "java/lang/invoke/VarHandle" ∧ (parseMethodDescriptor yX3_takenBack.desc).map (fun d => d.parameters.length) = some 1 := by decide +kernel
theorem hdV_X3_thrown : yX3_thrown.cls = RX3 ∧ yX3_thrown.cls ≠ "java/lang/invoke/MethodHandle" ∧ yX3_thrown.cls ≠ "java/lang/invoke/VarHandle" ∧ (parseMethodDescriptor yX3_thrown.desc).map (fun d => d.parameters.length) = some 0 := by decide +kernel
theorem hdV_X3_timeOf : yX3_timeOf.cls = RX3 ∧ yX3_timeOf.cls ≠ "java/lang/invoke/MethodHandle" ∧ yX3_timeOf.cls ≠ "java/lang/invoke/VarHandle" ∧ (parseMethodDescriptor yX3_timeOf.desc).map (fun d => d.parameters.length) = some 1 := by decide +kernel
theorem hdV_X3_until : yX3_until.cls = RX3 ∧ yX3_until.cls ≠ "java/lang/invoke/MethodHandle" ∧ yX3_until.cls ≠ "java/lang/invoke/VarHandle" ∧ (parseMethodDescriptor yX3_until.desc).map (fun d => d.parameters.length) = some 1 := by decide +kernel
theorem hdV_X3_valueIs : yX3_valueIs.cls = RX3 ∧ yX3_valueIs.cls ≠ "java/lang/invoke/MethodHandle" ∧ yX3_valueIs.cls ≠ "java/lang/invoke/VarHandle" ∧ (parseMethodDescriptor yX3_valueIs.desc).map (fun d => d.parameters.length) = some 2 := by decide +kernel
theorem hdV_X3_watch : yX3_watch.cls = RX3 ∧ yX3_watch.cls ≠ "java/lang/invoke/MethodHandle" ∧ yX3_watch.cls ≠ "java/lang/invoke/VarHandle" ∧ (parseMethodDescriptor yX3_watch.desc).map (fun d => d.parameters.length) = some 2 := by decide +kernel
theorem zLate {X : zX} {x m o b0 k D : Nat} {g : zG} {G : zG → Prop} {u : Int32} (hok : zOk X) (hp : zCal X D yX1_isLate wX1_isLate (.ref x :: [.int u]) g (fun r g1 => ∃ u' : Int32, r = some (.int u') ∧ zbo u' ∧ zPar X x m o b0 k yX3_isLate wX3_isLate [.int u] (D + 1) zKF 0 u' g1) (fun s g1 => ∃ cd : Int32, (s, cd) ∈ [(RJ9, (1 : Int32))] ∧ zPar X x m o b0 k yX3_isLate wX3_isLate [.int u] (D + 1) zKF cd 0 g1)) (hG : ∀ (g3 : zG) (cd : Int32), zIw X x m b0 (k + 1) cd g3 → zOut o g3 → G g3) :
    zCal X D yX1_isLate wX1_isLate (.ref x :: [.int u]) g (fun r g1 => ∃ (v : Int32) (f : Nat → Int64), r = some (.int v) ∧ zbo v ∧ zGj g1 0 o = some (1, f) ∧ zLK X (D + 1) m o yX3_isLate wX3_isLate [.int u] zbo G (some (.int 0)) (zSj g1 0 o 1 (vp_updL f 0 v.toInt64))) (fun s g1 => s = RJ9 ∧ zLK X (D + 1) m o yX3_isLate wX3_isLate [.int u] zbo G (some (.int 1)) g1) := by
  refine zCal.mono hp ?_ ?_
  · rintro r g1 ⟨v, rv, hz, hq⟩
    obtain ⟨f, hf⟩ := hq.1
    exact ⟨v, f, rv, hz, hf, zLK.of hok hq (fun _ => hz) hG (Or.inr ⟨rfl, f, hf, rfl⟩)⟩
  · rintro s g1 ⟨cd, hm, hq⟩
    simp only [List.mem_cons, List.not_mem_nil, or_false, Prod.mk.injEq] at hm
    obtain ⟨rfl, rfl⟩ := hm
    exact ⟨rfl, zLK.of hok hq (fun z => absurd z (by decide)) hG (Or.inl ⟨by decide, rfl⟩)⟩
set_option maxHeartbeats 4000000 in
theorem bL_0 {X : zX} {E : zM} {nm : String} {x m o b0 k D b L : Nat} {xs : Nat → Int32} {g : zG} (hok : zOk X) (hnc : zNx X) (C : zC X (D + 2) E RX0 cL_law 7 ret nm) (hS0 : zLS X E b L xs) (hb : b0 + 15000 * 64 + 20000 ≤ zz X) (hk : k < 64) (hD : 400 ≤ D) {i : Int32} (h5 : zLi5 i L) {cd0 : Int32} (I : zIw X x m b0 k cd0 g) (hO : zOut o g) (hG : ∀ (g3 : zG) (cd : Int32), zIw X x m b0 (k + 1) cd g3 → zOut o g3 → GW X E 7 g3 2645 [(0, .ref b), (1, .ref x), (2, .ref m), (3, .ref o), (4, .int i)] []) : GW X E 7 g 224 [(0, .ref b), (1, .ref x), (2, .ref m), (3, .ref o), (4, .int i)] [] := by
  intro H locs ls hR hS hl
  refine lv_aload_n C.x C.b dL_law_224 rfl (lv_at hl 1 rfl) ?_
  refine lv_aload_n C.x C.b dL_law_225 rfl (lv_at hl 0 rfl) ?_
  refine lv_iload C.x C.b dL_law_226 (lv_at hl 4 rfl) ?_
  refine lv_iconst (v := 1) C.x C.b dL_law_228 (by decide) ?_
  refine lv_iadd C.x C.b dL_law_229 ?_
  refine z_sld C hS hS0.1 hS0.2.1 hS0.2.2 h5.1 dL_law_230 ?_
  refine lv_aload_n C.x C.b dL_law_231 rfl (lv_at hl 0 rfl) ?_
  refine lv_iload C.x C.b dL_law_232 (lv_at hl 4 rfl) ?_
  refine lv_iconst (v := 2) C.x C.b dL_law_234 (by decide) ?_
  refine lv_iadd C.x C.b dL_law_235 ?_
  refine z_sld C hS hS0.1 hS0.2.1 hS0.2.2 h5.2.1 dL_law_236 ?_
  refine lv_aload_n C.x C.b dL_law_237 rfl (lv_at hl 3 rfl) ?_
  refine z_callSW C hR hS hl (n := 4) (y := yX0_setOffset) (bytes := cX0_setOffset) (maxL := 5) (rt := some .int) (As := [.ref x, .int (xs (i + 1).toNatClampNeg), .int (xs (i + 2).toNatClampNeg), .ref o]) (rest := []) (lw_SW q613 q614 q72 q615) hdS_X0_setOffset (by decide) rfl rfl (Nat.le_of_ble_eq_true rfl) dL_law_238 (mX0_setOffset hok hnc x (xs (i + 1).toNatClampNeg) (xs (i + 2).toNatClampNeg) o I.is1 (zPair.k2 hok (pr_setOffset hok hb hk hD hO I) hG)) (fun r g_1 hk_ => ?_) (fun s g1 h => zKF.ex h)
  obtain ⟨kk, rfl, hI_, h⟩ := hk_
  show GW X E 7 g_1 241 [(0, .ref b), (1, .ref x), (2, .ref m), (3, .ref o), (4, .int i)] [.int kk]
  intro H locs ls hR hS hl
  refine lv_istore (lv' := [(5, .int kk), (0, .ref b), (1, .ref x), (2, .ref m), (3, .ref o), (4, .int i)]) C.x C.b dL_law_241 hl (by decide) rfl (fun ls hl => ?_)
  refine lv_aload_n C.x C.b dL_law_243 rfl (lv_at hl 3 rfl) ?_
  refine lv_aload_n C.x C.b dL_law_244 rfl (lv_at hl 1 rfl) ?_
  refine lv_iload C.x C.b dL_law_245 (lv_at hl 5 rfl) ?_
  refine lv_iconst (v := 1) C.x C.b dL_law_247 (by decide) ?_
  refine lv_iadd C.x C.b dL_law_248 ?_
  refine z_sld C hS hS0.1 hS0.2.1 hS0.2.2 h5.1 dL_law_249 ?_
  refine lv_aload_n C.x C.b dL_law_250 rfl (lv_at hl 1 rfl) ?_
  refine lv_iload C.x C.b dL_law_251 (lv_at hl 5 rfl) ?_
  refine lv_iconst (v := 2) C.x C.b dL_law_253 (by decide) ?_
  refine lv_iadd C.x C.b dL_law_254 ?_
  refine z_sld C hS hS0.1 hS0.2.1 hS0.2.2 h5.2.1 dL_law_255 ?_
  refine z_callV C hR hS hl (n := 2) (C1 := RX3) (T := TX3) (N := 35) (ci := 3) (y := yX3_setOffset) (bytes := cX3_setOffset) (maxL := 4) (rt := (some .int)) (As := [.int (xs (i + 1).toNatClampNeg), .int (xs (i + 2).toNatClampNeg)]) (rest := []) hI_ rfl (lw_V q1748 q1749 q1750 q82 q1751) hdV_X3_setOffset (by decide) rfl rfl (Nat.le_of_ble_eq_true rfl) dL_law_256 h (fun r g_2 hk_ => ?_) (fun s g1 h => zKF.ex h)
  clear h; obtain ⟨bb, rfl, hI_, h⟩ := hk_
  show GW X E 7 g_2 259 [(5, .int kk), (0, .ref b), (1, .ref x), (2, .ref m), (3, .ref o), (4, .int i)] [.int bb]
  intro H locs ls hR hS hl
  refine lv_istore (lv' := [(6, .int bb), (5, .int kk), (0, .ref b), (1, .ref x), (2, .ref m), (3, .ref o), (4, .int i)]) C.x C.b dL_law_259 hl (by decide) rfl (fun ls hl => ?_)
  refine lv_aload_n C.x C.b dL_law_261 rfl (lv_at hl 4 rfl) ?_
  refine z_callV C hR hS hl (n := 0) (C1 := RX3) (T := TX3) (N := 35) (ci := 3) (y := yX3_thrown) (bytes := cX3_thrown) (maxL := 1) (rt := (some .int)) (As := []) (rest := []) hI_ rfl (lw_V q1744 q1745 q1746 q82 q1747) hdV_X3_thrown (by decide) rfl rfl (Nat.le_of_ble_eq_true rfl) dL_law_262 h (fun r g_3 hk_ => ?_) (fun s g1 h => zKF.ex h)
  clear h; obtain ⟨rfl, hg, h⟩ := hk_
  show GW X E 7 g_3 265 [(6, .int bb), (5, .int kk), (0, .ref b), (1, .ref x), (2, .ref m), (3, .ref o), (4, .int i)] [.int kk]
  intro H locs ls hR hS hl
  refine lv_iload C.x C.b dL_law_265 (lv_at hl 1 rfl) ?_
  refine lv_icmp_eq (tgt := 272) C.x C.b dL_law_267 (by decide) (fun _ => ?_) (fun c => absurd rfl c)
  refine lv_iload C.x C.b dL_law_272 (lv_at hl 1 rfl) ?_
  refine lv_if_ne (tgt := 289) C.x C.b dL_law_274 (by decide) (fun c => ?_) (fun c => ?_)
  · refine lv_goto (tgt := 2645) C.x C.b dL_law_289 (by decide) ?_
    exact hg H locs ls hR hS (lv_sub hl [2, 3, 4, 5, 6] rfl)
  · obtain ⟨f, q1, q2, zb_⟩ := h c
    refine lv_aload_n C.x C.b dL_law_277 rfl (lv_at hl 5 rfl) ?_
    refine lv_iconst (v := 0) C.x C.b dL_law_278 (by decide) ?_
    refine z_lald C hR q1 z_in01 dL_law_279 ?_
    rw [show f (0 : Int32).toNatClampNeg = bb.toInt64 from q2]
    refine lv_iload C.x C.b dL_law_280 (lv_at hl 0 rfl) ?_
    refine lv_i2l C.x C.b dL_law_282 rfl ?_
    refine W.lcmp C.x C.b dL_law_283 ?_
    rw [lg_cmp_s]
    refine lv_if_eq (tgt := 289) C.x C.b dL_law_284 (by decide) (fun _ => ?_) (fun c => absurd rfl c)
    refine lv_goto (tgt := 2645) C.x C.b dL_law_289 (by decide) ?_
    exact hg H locs ls hR hS (lv_sub hl [2, 3, 4, 5, 6] rfl)
set_option maxHeartbeats 4000000 in
theorem bL_1 {X : zX} {E : zM} {nm : String} {x m o b0 k D b L : Nat} {xs : Nat → Int32} {g : zG} (hok : zOk X) (hnc : zNx X) (C : zC X (D + 2) E RX0 cL_law 7 ret nm) (hS0 : zLS X E b L xs) (hb : b0 + 15000 * 64 + 20000 ≤ zz X) (hk : k < 64) (hD : 400 ≤ D) {i : Int32} (h5 : zLi5 i L) {cd0 : Int32} (I : zIw X x m b0 k cd0 g) (hO : zOut o g) (hG : ∀ (g3 : zG) (cd : Int32), zIw X x m b0 (k + 1) cd g3 → zOut o g3 → GW X E 7 g3 2645 [(0, .ref b), (1, .ref x), (2, .ref m), (3, .ref o), (4, .int i)] []) : GW X E 7 g 292 [(0, .ref b), (1, .ref x), (2, .ref m), (3, .ref o), (4, .int i)] [] := by
  intro H locs ls hR hS hl
  refine lv_aload_n C.x C.b dL_law_292 rfl (lv_at hl 1 rfl) ?_
  refine lv_aload_n C.x C.b dL_law_293 rfl (lv_at hl 0 rfl) ?_
  refine lv_iload C.x C.b dL_law_294 (lv_at hl 4 rfl) ?_
  refine lv_iconst (v := 1) C.x C.b dL_law_296 (by decide) ?_
  refine lv_iadd C.x C.b dL_law_297 ?_
  refine z_sld C hS hS0.1 hS0.2.1 hS0.2.2 h5.1 dL_law_298 ?_
  refine lv_aload_n C.x C.b dL_law_299 rfl (lv_at hl 3 rfl) ?_
  refine z_callSW C hR hS hl (n := 3) (y := yX0_setPatience) (bytes := cX0_setPatience) (maxL := 4) (rt := some .int) (As := [.ref x, .int (xs (i + 1).toNatClampNeg), .ref o]) (rest := []) (lw_SW q739 q740 q72 q741) hdS_X0_setPatience (by decide) rfl rfl (Nat.le_of_ble_eq_true rfl) dL_law_300 (mX0_setPatience hok hnc x (xs (i + 1).toNatClampNeg) o I.is1 (zPair.k1 hok (pr_setPatience hok hb hk hD hO I) hG)) (fun r g_1 hk_ => ?_) (fun s g1 h => zKF.ex h)
  obtain ⟨kk, rfl, hI_, h⟩ := hk_
  show GW X E 7 g_1 303 [(0, .ref b), (1, .ref x), (2, .ref m), (3, .ref o), (4, .int i)] [.int kk]
  intro H locs ls hR hS hl
  refine lv_istore (lv' := [(5, .int kk), (0, .ref b), (1, .ref x), (2, .ref m), (3, .ref o), (4, .int i)]) C.x C.b dL_law_303 hl (by decide) rfl (fun ls hl => ?_)
  refine lv_aload_n C.x C.b dL_law_305 rfl (lv_at hl 3 rfl) ?_
  refine lv_aload_n C.x C.b dL_law_306 rfl (lv_at hl 1 rfl) ?_
  refine lv_iload C.x C.b dL_law_307 (lv_at hl 5 rfl) ?_
  refine lv_iconst (v := 1) C.x C.b dL_law_309 (by decide) ?_
  refine lv_iadd C.x C.b dL_law_310 ?_
  refine z_sld C hS hS0.1 hS0.2.1 hS0.2.2 h5.1 dL_law_311 ?_
  refine z_callV C hR hS hl (n := 1) (C1 := RX3) (T := TX3) (N := 35) (ci := 3) (y := yX3_setPatience) (bytes := cX3_setPatience) (maxL := 3) (rt := (some .int)) (As := [.int (xs (i + 1).toNatClampNeg)]) (rest := []) hI_ rfl (lw_V q1762 q1763 q1764 q82 q1765) hdV_X3_setPatience (by decide) rfl rfl (Nat.le_of_ble_eq_true rfl) dL_law_312 h (fun r g_2 hk_ => ?_) (fun s g1 h => zKF.ex h)
  clear h; obtain ⟨bb, rfl, hI_, h⟩ := hk_
  show GW X E 7 g_2 315 [(5, .int kk), (0, .ref b), (1, .ref x), (2, .ref m), (3, .ref o), (4, .int i)] [.int bb]
  intro H locs ls hR hS hl
  refine lv_istore (lv' := [(6, .int bb), (5, .int kk), (0, .ref b), (1, .ref x), (2, .ref m), (3, .ref o), (4, .int i)]) C.x C.b dL_law_315 hl (by decide) rfl (fun ls hl => ?_)
  refine lv_aload_n C.x C.b dL_law_317 rfl (lv_at hl 4 rfl) ?_
  refine z_callV C hR hS hl (n := 0) (C1 := RX3) (T := TX3) (N := 35) (ci := 3) (y := yX3_thrown) (bytes := cX3_thrown) (maxL := 1) (rt := (some .int)) (As := []) (rest := []) hI_ rfl (lw_V q1744 q1745 q1746 q82 q1747) hdV_X3_thrown (by decide) rfl rfl (Nat.le_of_ble_eq_true rfl) dL_law_318 h (fun r g_3 hk_ => ?_) (fun s g1 h => zKF.ex h)
  clear h; obtain ⟨rfl, hg, h⟩ := hk_
  show GW X E 7 g_3 321 [(6, .int bb), (5, .int kk), (0, .ref b), (1, .ref x), (2, .ref m), (3, .ref o), (4, .int i)] [.int kk]
  intro H locs ls hR hS hl
  refine lv_iload C.x C.b dL_law_321 (lv_at hl 1 rfl) ?_
  refine lv_icmp_eq (tgt := 328) C.x C.b dL_law_323 (by decide) (fun _ => ?_) (fun c => absurd rfl c)
  refine lv_iload C.x C.b dL_law_328 (lv_at hl 1 rfl) ?_
  refine lv_if_ne (tgt := 345) C.x C.b dL_law_330 (by decide) (fun c => ?_) (fun c => ?_)
  · refine lv_goto (tgt := 2645) C.x C.b dL_law_345 (by decide) ?_
    exact hg H locs ls hR hS (lv_sub hl [2, 3, 4, 5, 6] rfl)
  · obtain ⟨f, q1, q2, zb_⟩ := h c
    refine lv_aload_n C.x C.b dL_law_333 rfl (lv_at hl 5 rfl) ?_
    refine lv_iconst (v := 0) C.x C.b dL_law_334 (by decide) ?_
    refine z_lald C hR q1 z_in01 dL_law_335 ?_
    rw [show f (0 : Int32).toNatClampNeg = bb.toInt64 from q2]
    refine lv_iload C.x C.b dL_law_336 (lv_at hl 0 rfl) ?_
    refine lv_i2l C.x C.b dL_law_338 rfl ?_
    refine W.lcmp C.x C.b dL_law_339 ?_
    rw [lg_cmp_s]
    refine lv_if_eq (tgt := 345) C.x C.b dL_law_340 (by decide) (fun _ => ?_) (fun c => absurd rfl c)
    refine lv_goto (tgt := 2645) C.x C.b dL_law_345 (by decide) ?_
    exact hg H locs ls hR hS (lv_sub hl [2, 3, 4, 5, 6] rfl)
set_option maxHeartbeats 4000000 in
theorem bL_2 {X : zX} {E : zM} {nm : String} {x m o b0 k D b L : Nat} {xs : Nat → Int32} {g : zG} (hok : zOk X) (hnc : zNx X) (C : zC X (D + 2) E RX0 cL_law 7 ret nm) (hS0 : zLS X E b L xs) (hb : b0 + 15000 * 64 + 20000 ≤ zz X) (hk : k < 64) (hD : 400 ≤ D) {i : Int32} (h5 : zLi5 i L) {cd0 : Int32} (I : zIw X x m b0 k cd0 g) (hO : zOut o g) (hG : ∀ (g3 : zG) (cd : Int32), zIw X x m b0 (k + 1) cd g3 → zOut o g3 → GW X E 7 g3 2645 [(0, .ref b), (1, .ref x), (2, .ref m), (3, .ref o), (4, .int i)] []) : GW X E 7 g 348 [(0, .ref b), (1, .ref x), (2, .ref m), (3, .ref o), (4, .int i)] [] := by
  intro H locs ls hR hS hl
  refine lv_aload_n C.x C.b dL_law_348 rfl (lv_at hl 1 rfl) ?_
  refine lv_aload_n C.x C.b dL_law_349 rfl (lv_at hl 0 rfl) ?_
  refine lv_iload C.x C.b dL_law_350 (lv_at hl 4 rfl) ?_
  refine lv_iconst (v := 1) C.x C.b dL_law_352 (by decide) ?_
  refine lv_iadd C.x C.b dL_law_353 ?_
  refine z_sld C hS hS0.1 hS0.2.1 hS0.2.2 h5.1 dL_law_354 ?_
  refine lv_aload_n C.x C.b dL_law_355 rfl (lv_at hl 0 rfl) ?_
  refine lv_iload C.x C.b dL_law_356 (lv_at hl 4 rfl) ?_
  refine lv_iconst (v := 2) C.x C.b dL_law_358 (by decide) ?_
  refine lv_iadd C.x C.b dL_law_359 ?_
  refine z_sld C hS hS0.1 hS0.2.1 hS0.2.2 h5.2.1 dL_law_360 ?_
  refine lv_aload_n C.x C.b dL_law_361 rfl (lv_at hl 0 rfl) ?_
  refine lv_iload C.x C.b dL_law_362 (lv_at hl 4 rfl) ?_
  refine lv_iconst (v := 3) C.x C.b dL_law_364 (by decide) ?_
  refine lv_iadd C.x C.b dL_law_365 ?_
  refine z_sld C hS hS0.1 hS0.2.1 hS0.2.2 h5.2.2.1 dL_law_366 ?_
  refine lv_aload_n C.x C.b dL_law_367 rfl (lv_at hl 0 rfl) ?_
  refine lv_iload C.x C.b dL_law_368 (lv_at hl 4 rfl) ?_
  refine lv_iconst (v := 4) C.x C.b dL_law_370 (by decide) ?_
  refine lv_iadd C.x C.b dL_law_371 ?_
  refine z_sld C hS hS0.1 hS0.2.1 hS0.2.2 h5.2.2.2.1 dL_law_372 ?_
  refine lv_aload_n C.x C.b dL_law_373 rfl (lv_at hl 0 rfl) ?_
  refine lv_iload C.x C.b dL_law_374 (lv_at hl 4 rfl) ?_
  refine lv_iconst (v := 5) C.x C.b dL_law_376 (by decide) ?_
  refine lv_iadd C.x C.b dL_law_377 ?_
  refine z_sld C hS hS0.1 hS0.2.1 hS0.2.2 h5.2.2.2.2 dL_law_378 ?_
  refine lv_aload_n C.x C.b dL_law_379 rfl (lv_at hl 3 rfl) ?_
  refine z_callSW C hR hS hl (n := 7) (y := yX0_event) (bytes := cX0_event) (maxL := 8) (rt := some .int) (As := [.ref x, .int (xs (i + 1).toNatClampNeg), .int (xs (i + 2).toNatClampNeg), .int (xs (i + 3).toNatClampNeg), .int (xs (i + 4).toNatClampNeg), .int (xs (i + 5).toNatClampNeg), .ref o]) (rest := []) (lw_SW q746 q747 q72 q748) hdS_X0_event (by decide) rfl rfl (Nat.le_of_ble_eq_true rfl) dL_law_380 (mX0_event hok hnc x (xs (i + 1).toNatClampNeg) (xs (i + 2).toNatClampNeg) (xs (i + 3).toNatClampNeg) (xs (i + 4).toNatClampNeg) (xs (i + 5).toNatClampNeg) o I.is1 (zPair.k3 hok (pr_event hok hb hk hD hO I) hG)) (fun r g_1 hk_ => ?_) (fun s g1 h => zKF.ex h)
  obtain ⟨kk, rfl, hI_, h⟩ := hk_
  show GW X E 7 g_1 383 [(0, .ref b), (1, .ref x), (2, .ref m), (3, .ref o), (4, .int i)] [.int kk]
  intro H locs ls hR hS hl
  refine lv_istore (lv' := [(5, .int kk), (0, .ref b), (1, .ref x), (2, .ref m), (3, .ref o), (4, .int i)]) C.x C.b dL_law_383 hl (by decide) rfl (fun ls hl => ?_)
  refine lv_aload_n C.x C.b dL_law_385 rfl (lv_at hl 3 rfl) ?_
  refine lv_aload_n C.x C.b dL_law_386 rfl (lv_at hl 1 rfl) ?_
  refine lv_iload C.x C.b dL_law_387 (lv_at hl 5 rfl) ?_
  refine lv_iconst (v := 1) C.x C.b dL_law_389 (by decide) ?_
  refine lv_iadd C.x C.b dL_law_390 ?_
  refine z_sld C hS hS0.1 hS0.2.1 hS0.2.2 h5.1 dL_law_391 ?_
  refine lv_aload_n C.x C.b dL_law_392 rfl (lv_at hl 1 rfl) ?_
  refine lv_iload C.x C.b dL_law_393 (lv_at hl 5 rfl) ?_
  refine lv_iconst (v := 2) C.x C.b dL_law_395 (by decide) ?_
  refine lv_iadd C.x C.b dL_law_396 ?_
  refine z_sld C hS hS0.1 hS0.2.1 hS0.2.2 h5.2.1 dL_law_397 ?_
  refine lv_aload_n C.x C.b dL_law_398 rfl (lv_at hl 1 rfl) ?_
  refine lv_iload C.x C.b dL_law_399 (lv_at hl 5 rfl) ?_
  refine lv_iconst (v := 3) C.x C.b dL_law_401 (by decide) ?_
  refine lv_iadd C.x C.b dL_law_402 ?_
  refine z_sld C hS hS0.1 hS0.2.1 hS0.2.2 h5.2.2.1 dL_law_403 ?_
  refine lv_aload_n C.x C.b dL_law_404 rfl (lv_at hl 1 rfl) ?_
  refine lv_iload C.x C.b dL_law_405 (lv_at hl 5 rfl) ?_
  refine lv_iconst (v := 4) C.x C.b dL_law_407 (by decide) ?_
  refine lv_iadd C.x C.b dL_law_408 ?_
  refine z_sld C hS hS0.1 hS0.2.1 hS0.2.2 h5.2.2.2.1 dL_law_409 ?_
  refine lv_aload_n C.x C.b dL_law_410 rfl (lv_at hl 1 rfl) ?_
  refine lv_iload C.x C.b dL_law_411 (lv_at hl 5 rfl) ?_
  refine lv_iconst (v := 5) C.x C.b dL_law_413 (by decide) ?_
  refine lv_iadd C.x C.b dL_law_414 ?_
  refine z_sld C hS hS0.1 hS0.2.1 hS0.2.2 h5.2.2.2.2 dL_law_415 ?_
  refine z_callV C hR hS hl (n := 5) (C1 := RX3) (T := TX3) (N := 35) (ci := 3) (y := yX3_event) (bytes := cX3_event) (maxL := 7) (rt := (some .int)) (As := [.int (xs (i + 1).toNatClampNeg), .int (xs (i + 2).toNatClampNeg), .int (xs (i + 3).toNatClampNeg), .int (xs (i + 4).toNatClampNeg), .int (xs (i + 5).toNatClampNeg)]) (rest := []) hI_ rfl (lw_V q1766 q1767 q1768 q82 q1769) hdV_X3_event (by decide) rfl rfl (Nat.le_of_ble_eq_true rfl) dL_law_416 h (fun r g_2 hk_ => ?_) (fun s g1 h => zKF.ex h)
  clear h; obtain ⟨bb, rfl, hI_, h⟩ := hk_
  show GW X E 7 g_2 419 [(5, .int kk), (0, .ref b), (1, .ref x), (2, .ref m), (3, .ref o), (4, .int i)] [.int bb]
  intro H locs ls hR hS hl
  refine lv_istore (lv' := [(6, .int bb), (5, .int kk), (0, .ref b), (1, .ref x), (2, .ref m), (3, .ref o), (4, .int i)]) C.x C.b dL_law_419 hl (by decide) rfl (fun ls hl => ?_)
  refine lv_aload_n C.x C.b dL_law_421 rfl (lv_at hl 4 rfl) ?_
  refine z_callV C hR hS hl (n := 0) (C1 := RX3) (T := TX3) (N := 35) (ci := 3) (y := yX3_thrown) (bytes := cX3_thrown) (maxL := 1) (rt := (some .int)) (As := []) (rest := []) hI_ rfl (lw_V q1744 q1745 q1746 q82 q1747) hdV_X3_thrown (by decide) rfl rfl (Nat.le_of_ble_eq_true rfl) dL_law_422 h (fun r g_3 hk_ => ?_) (fun s g1 h => zKF.ex h)
  clear h; obtain ⟨rfl, hg, h⟩ := hk_
  show GW X E 7 g_3 425 [(6, .int bb), (5, .int kk), (0, .ref b), (1, .ref x), (2, .ref m), (3, .ref o), (4, .int i)] [.int kk]
  intro H locs ls hR hS hl
  refine lv_iload C.x C.b dL_law_425 (lv_at hl 1 rfl) ?_
  refine lv_icmp_eq (tgt := 432) C.x C.b dL_law_427 (by decide) (fun _ => ?_) (fun c => absurd rfl c)
  refine lv_iload C.x C.b dL_law_432 (lv_at hl 1 rfl) ?_
  refine lv_if_ne (tgt := 449) C.x C.b dL_law_434 (by decide) (fun c => ?_) (fun c => ?_)
  · refine lv_goto (tgt := 2645) C.x C.b dL_law_449 (by decide) ?_
    exact hg H locs ls hR hS (lv_sub hl [2, 3, 4, 5, 6] rfl)
  · obtain ⟨f, q1, q2, zb_⟩ := h c
    refine lv_aload_n C.x C.b dL_law_437 rfl (lv_at hl 5 rfl) ?_
    refine lv_iconst (v := 0) C.x C.b dL_law_438 (by decide) ?_
    refine z_lald C hR q1 z_in01 dL_law_439 ?_
    rw [show f (0 : Int32).toNatClampNeg = bb.toInt64 from q2]
    refine lv_iload C.x C.b dL_law_440 (lv_at hl 0 rfl) ?_
    refine lv_i2l C.x C.b dL_law_442 rfl ?_
    refine W.lcmp C.x C.b dL_law_443 ?_
    rw [lg_cmp_s]
    refine lv_if_eq (tgt := 449) C.x C.b dL_law_444 (by decide) (fun _ => ?_) (fun c => absurd rfl c)
    refine lv_goto (tgt := 2645) C.x C.b dL_law_449 (by decide) ?_
    exact hg H locs ls hR hS (lv_sub hl [2, 3, 4, 5, 6] rfl)
set_option maxHeartbeats 4000000 in
theorem bL_3 {X : zX} {E : zM} {nm : String} {x m o b0 k D b L : Nat} {xs : Nat → Int32} {g : zG} (hok : zOk X) (hnc : zNx X) (C : zC X (D + 2) E RX0 cL_law 7 ret nm) (hS0 : zLS X E b L xs) (hb : b0 + 15000 * 64 + 20000 ≤ zz X) (hk : k < 64) (hD : 400 ≤ D) {i : Int32} (h5 : zLi5 i L) {cd0 : Int32} (I : zIw X x m b0 k cd0 g) (hO : zOut o g) (hG : ∀ (g3 : zG) (cd : Int32), zIw X x m b0 (k + 1) cd g3 → zOut o g3 → GW X E 7 g3 2645 [(0, .ref b), (1, .ref x), (2, .ref m), (3, .ref o), (4, .int i)] []) : GW X E 7 g 452 [(0, .ref b), (1, .ref x), (2, .ref m), (3, .ref o), (4, .int i)] [] := by
  intro H locs ls hR hS hl
  refine lv_aload_n C.x C.b dL_law_452 rfl (lv_at hl 1 rfl) ?_
  refine lv_aload_n C.x C.b dL_law_453 rfl (lv_at hl 0 rfl) ?_
  refine lv_iload C.x C.b dL_law_454 (lv_at hl 4 rfl) ?_
  refine lv_iconst (v := 1) C.x C.b dL_law_456 (by decide) ?_
  refine lv_iadd C.x C.b dL_law_457 ?_
  refine z_sld C hS hS0.1 hS0.2.1 hS0.2.2 h5.1 dL_law_458 ?_
  refine lv_aload_n C.x C.b dL_law_459 rfl (lv_at hl 0 rfl) ?_
  refine lv_iload C.x C.b dL_law_460 (lv_at hl 4 rfl) ?_
  refine lv_iconst (v := 2) C.x C.b dL_law_462 (by decide) ?_
  refine lv_iadd C.x C.b dL_law_463 ?_
  refine z_sld C hS hS0.1 hS0.2.1 hS0.2.2 h5.2.1 dL_law_464 ?_
  refine lv_aload_n C.x C.b dL_law_465 rfl (lv_at hl 0 rfl) ?_
  refine lv_iload C.x C.b dL_law_466 (lv_at hl 4 rfl) ?_
  refine lv_iconst (v := 3) C.x C.b dL_law_468 (by decide) ?_
  refine lv_iadd C.x C.b dL_law_469 ?_
  refine z_sld C hS hS0.1 hS0.2.1 hS0.2.2 h5.2.2.1 dL_law_470 ?_
  refine lv_aload_n C.x C.b dL_law_471 rfl (lv_at hl 0 rfl) ?_
  refine lv_iload C.x C.b dL_law_472 (lv_at hl 4 rfl) ?_
  refine lv_iconst (v := 4) C.x C.b dL_law_474 (by decide) ?_
  refine lv_iadd C.x C.b dL_law_475 ?_
  refine z_sld C hS hS0.1 hS0.2.1 hS0.2.2 h5.2.2.2.1 dL_law_476 ?_
  refine lv_aload_n C.x C.b dL_law_477 rfl (lv_at hl 0 rfl) ?_
  refine lv_iload C.x C.b dL_law_478 (lv_at hl 4 rfl) ?_
  refine lv_iconst (v := 5) C.x C.b dL_law_480 (by decide) ?_
  refine lv_iadd C.x C.b dL_law_481 ?_
  refine z_sld C hS hS0.1 hS0.2.1 hS0.2.2 h5.2.2.2.2 dL_law_482 ?_
  refine lv_aload_n C.x C.b dL_law_483 rfl (lv_at hl 3 rfl) ?_
  refine z_callSW C hR hS hl (n := 7) (y := yX0_offer) (bytes := cX0_offer) (maxL := 8) (rt := some .int) (As := [.ref x, .int (xs (i + 1).toNatClampNeg), .int (xs (i + 2).toNatClampNeg), .int (xs (i + 3).toNatClampNeg), .int (xs (i + 4).toNatClampNeg), .int (xs (i + 5).toNatClampNeg), .ref o]) (rest := []) (lw_SW q1183 q1184 q72 q1185) hdS_X0_offer (by decide) rfl rfl (Nat.le_of_ble_eq_true rfl) dL_law_484 (mX0_offer hok hnc x (xs (i + 1).toNatClampNeg) (xs (i + 2).toNatClampNeg) (xs (i + 3).toNatClampNeg) (xs (i + 4).toNatClampNeg) (xs (i + 5).toNatClampNeg) o I.is1 (zPair.k3 hok (pr_offer hok hb hk hD hO I) hG)) (fun r g_1 hk_ => ?_) (fun s g1 h => zKF.ex h)
  obtain ⟨kk, rfl, hI_, h⟩ := hk_
  show GW X E 7 g_1 487 [(0, .ref b), (1, .ref x), (2, .ref m), (3, .ref o), (4, .int i)] [.int kk]
  intro H locs ls hR hS hl
  refine lv_istore (lv' := [(5, .int kk), (0, .ref b), (1, .ref x), (2, .ref m), (3, .ref o), (4, .int i)]) C.x C.b dL_law_487 hl (by decide) rfl (fun ls hl => ?_)
  refine lv_aload_n C.x C.b dL_law_489 rfl (lv_at hl 3 rfl) ?_
  refine lv_aload_n C.x C.b dL_law_490 rfl (lv_at hl 1 rfl) ?_
  refine lv_iload C.x C.b dL_law_491 (lv_at hl 5 rfl) ?_
  refine lv_iconst (v := 1) C.x C.b dL_law_493 (by decide) ?_
  refine lv_iadd C.x C.b dL_law_494 ?_
  refine z_sld C hS hS0.1 hS0.2.1 hS0.2.2 h5.1 dL_law_495 ?_
  refine lv_aload_n C.x C.b dL_law_496 rfl (lv_at hl 1 rfl) ?_
  refine lv_iload C.x C.b dL_law_497 (lv_at hl 5 rfl) ?_
  refine lv_iconst (v := 2) C.x C.b dL_law_499 (by decide) ?_
  refine lv_iadd C.x C.b dL_law_500 ?_
  refine z_sld C hS hS0.1 hS0.2.1 hS0.2.2 h5.2.1 dL_law_501 ?_
  refine lv_aload_n C.x C.b dL_law_502 rfl (lv_at hl 1 rfl) ?_
  refine lv_iload C.x C.b dL_law_503 (lv_at hl 5 rfl) ?_
  refine lv_iconst (v := 3) C.x C.b dL_law_505 (by decide) ?_
  refine lv_iadd C.x C.b dL_law_506 ?_
  refine z_sld C hS hS0.1 hS0.2.1 hS0.2.2 h5.2.2.1 dL_law_507 ?_
  refine lv_aload_n C.x C.b dL_law_508 rfl (lv_at hl 1 rfl) ?_
  refine lv_iload C.x C.b dL_law_509 (lv_at hl 5 rfl) ?_
  refine lv_iconst (v := 4) C.x C.b dL_law_511 (by decide) ?_
  refine lv_iadd C.x C.b dL_law_512 ?_
  refine z_sld C hS hS0.1 hS0.2.1 hS0.2.2 h5.2.2.2.1 dL_law_513 ?_
  refine lv_aload_n C.x C.b dL_law_514 rfl (lv_at hl 1 rfl) ?_
  refine lv_iload C.x C.b dL_law_515 (lv_at hl 5 rfl) ?_
  refine lv_iconst (v := 5) C.x C.b dL_law_517 (by decide) ?_
  refine lv_iadd C.x C.b dL_law_518 ?_
  refine z_sld C hS hS0.1 hS0.2.1 hS0.2.2 h5.2.2.2.2 dL_law_519 ?_
  refine z_callV C hR hS hl (n := 5) (C1 := RX3) (T := TX3) (N := 35) (ci := 3) (y := yX3_offer) (bytes := cX3_offer) (maxL := 8) (rt := (some .int)) (As := [.int (xs (i + 1).toNatClampNeg), .int (xs (i + 2).toNatClampNeg), .int (xs (i + 3).toNatClampNeg), .int (xs (i + 4).toNatClampNeg), .int (xs (i + 5).toNatClampNeg)]) (rest := []) hI_ rfl (lw_V q1857 q1858 q1859 q82 q1860) hdV_X3_offer (by decide) rfl rfl (Nat.le_of_ble_eq_true rfl) dL_law_520 h (fun r g_2 hk_ => ?_) (fun s g1 h => zKF.ex h)
  clear h; obtain ⟨bb, rfl, hI_, h⟩ := hk_
  show GW X E 7 g_2 523 [(5, .int kk), (0, .ref b), (1, .ref x), (2, .ref m), (3, .ref o), (4, .int i)] [.int bb]
  intro H locs ls hR hS hl
  refine lv_istore (lv' := [(6, .int bb), (5, .int kk), (0, .ref b), (1, .ref x), (2, .ref m), (3, .ref o), (4, .int i)]) C.x C.b dL_law_523 hl (by decide) rfl (fun ls hl => ?_)
  refine lv_aload_n C.x C.b dL_law_525 rfl (lv_at hl 4 rfl) ?_
  refine z_callV C hR hS hl (n := 0) (C1 := RX3) (T := TX3) (N := 35) (ci := 3) (y := yX3_thrown) (bytes := cX3_thrown) (maxL := 1) (rt := (some .int)) (As := []) (rest := []) hI_ rfl (lw_V q1744 q1745 q1746 q82 q1747) hdV_X3_thrown (by decide) rfl rfl (Nat.le_of_ble_eq_true rfl) dL_law_526 h (fun r g_3 hk_ => ?_) (fun s g1 h => zKF.ex h)
  clear h; obtain ⟨rfl, hg, h⟩ := hk_
  show GW X E 7 g_3 529 [(6, .int bb), (5, .int kk), (0, .ref b), (1, .ref x), (2, .ref m), (3, .ref o), (4, .int i)] [.int kk]
  intro H locs ls hR hS hl
  refine lv_iload C.x C.b dL_law_529 (lv_at hl 1 rfl) ?_
  refine lv_icmp_eq (tgt := 536) C.x C.b dL_law_531 (by decide) (fun _ => ?_) (fun c => absurd rfl c)
  refine lv_iload C.x C.b dL_law_536 (lv_at hl 1 rfl) ?_
  refine lv_if_ne (tgt := 553) C.x C.b dL_law_538 (by decide) (fun c => ?_) (fun c => ?_)
  · refine lv_goto (tgt := 2645) C.x C.b dL_law_553 (by decide) ?_
    exact hg H locs ls hR hS (lv_sub hl [2, 3, 4, 5, 6] rfl)
  · obtain ⟨f, q1, q2, zb_⟩ := h c
    refine lv_aload_n C.x C.b dL_law_541 rfl (lv_at hl 5 rfl) ?_
    refine lv_iconst (v := 0) C.x C.b dL_law_542 (by decide) ?_
    refine z_lald C hR q1 z_in01 dL_law_543 ?_
    rw [show f (0 : Int32).toNatClampNeg = bb.toInt64 from q2]
    refine lv_iload C.x C.b dL_law_544 (lv_at hl 0 rfl) ?_
    refine lv_i2l C.x C.b dL_law_546 rfl ?_
    refine W.lcmp C.x C.b dL_law_547 ?_
    rw [lg_cmp_s]
    refine lv_if_eq (tgt := 553) C.x C.b dL_law_548 (by decide) (fun _ => ?_) (fun c => absurd rfl c)
    refine lv_goto (tgt := 2645) C.x C.b dL_law_553 (by decide) ?_
    exact hg H locs ls hR hS (lv_sub hl [2, 3, 4, 5, 6] rfl)
set_option maxHeartbeats 4000000 in
theorem bL_4 {X : zX} {E : zM} {nm : String} {x m o b0 k D b L : Nat} {xs : Nat → Int32} {g : zG} (hok : zOk X) (hnc : zNx X) (C : zC X (D + 2) E RX0 cL_law 7 ret nm) (hS0 : zLS X E b L xs) (hb : b0 + 15000 * 64 + 20000 ≤ zz X) (hk : k < 64) (hD : 400 ≤ D) {i : Int32} (h5 : zLi5 i L) {cd0 : Int32} (I : zIw X x m b0 k cd0 g) (hO : zOut o g) (hG : ∀ (g3 : zG) (cd : Int32), zIw X x m b0 (k + 1) cd g3 → zOut o g3 → GW X E 7 g3 2645 [(0, .ref b), (1, .ref x), (2, .ref m), (3, .ref o), (4, .int i)] []) : GW X E 7 g 556 [(0, .ref b), (1, .ref x), (2, .ref m), (3, .ref o), (4, .int i)] [] := by
  intro H locs ls hR hS hl
  refine lv_aload_n C.x C.b dL_law_556 rfl (lv_at hl 1 rfl) ?_
  refine lv_aload_n C.x C.b dL_law_557 rfl (lv_at hl 3 rfl) ?_
  refine z_callSW C hR hS hl (n := 2) (y := yX0_close) (bytes := cX0_close) (maxL := 3) (rt := some .int) (As := [.ref x, .ref o]) (rest := []) (lw_SW q1223 q1224 q72 q1225) hdS_X0_close (by decide) rfl rfl (Nat.le_of_ble_eq_true rfl) dL_law_558 (mX0_close hok hnc x  o I.is1 (zPair.k1 hok (pr_close hok hb hk hD hO I) hG)) (fun r g_1 hk_ => ?_) (fun s g1 h => zKF.ex h)
  obtain ⟨kk, rfl, hI_, h⟩ := hk_
  show GW X E 7 g_1 561 [(0, .ref b), (1, .ref x), (2, .ref m), (3, .ref o), (4, .int i)] [.int kk]
  intro H locs ls hR hS hl
  refine lv_istore (lv' := [(5, .int kk), (0, .ref b), (1, .ref x), (2, .ref m), (3, .ref o), (4, .int i)]) C.x C.b dL_law_561 hl (by decide) rfl (fun ls hl => ?_)
  refine lv_aload_n C.x C.b dL_law_563 rfl (lv_at hl 3 rfl) ?_
  refine z_callV C hR hS hl (n := 0) (C1 := RX3) (T := TX3) (N := 35) (ci := 3) (y := yX3_close) (bytes := cX3_close) (maxL := 1) (rt := (some .int)) (As := []) (rest := []) hI_ rfl (lw_V q1869 q1870 q1871 q82 q1872) hdV_X3_close (by decide) rfl rfl (Nat.le_of_ble_eq_true rfl) dL_law_564 h (fun r g_2 hk_ => ?_) (fun s g1 h => zKF.ex h)
  clear h; obtain ⟨bb, rfl, hI_, h⟩ := hk_
  show GW X E 7 g_2 567 [(5, .int kk), (0, .ref b), (1, .ref x), (2, .ref m), (3, .ref o), (4, .int i)] [.int bb]
  intro H locs ls hR hS hl
  refine lv_istore (lv' := [(6, .int bb), (5, .int kk), (0, .ref b), (1, .ref x), (2, .ref m), (3, .ref o), (4, .int i)]) C.x C.b dL_law_567 hl (by decide) rfl (fun ls hl => ?_)
  refine lv_aload_n C.x C.b dL_law_569 rfl (lv_at hl 4 rfl) ?_
  refine z_callV C hR hS hl (n := 0) (C1 := RX3) (T := TX3) (N := 35) (ci := 3) (y := yX3_thrown) (bytes := cX3_thrown) (maxL := 1) (rt := (some .int)) (As := []) (rest := []) hI_ rfl (lw_V q1744 q1745 q1746 q82 q1747) hdV_X3_thrown (by decide) rfl rfl (Nat.le_of_ble_eq_true rfl) dL_law_570 h (fun r g_3 hk_ => ?_) (fun s g1 h => zKF.ex h)
  clear h; obtain ⟨rfl, hg, h⟩ := hk_
  show GW X E 7 g_3 573 [(6, .int bb), (5, .int kk), (0, .ref b), (1, .ref x), (2, .ref m), (3, .ref o), (4, .int i)] [.int kk]
  intro H locs ls hR hS hl
  refine lv_iload C.x C.b dL_law_573 (lv_at hl 1 rfl) ?_
  refine lv_icmp_eq (tgt := 580) C.x C.b dL_law_575 (by decide) (fun _ => ?_) (fun c => absurd rfl c)
  refine lv_iload C.x C.b dL_law_580 (lv_at hl 1 rfl) ?_
  refine lv_if_ne (tgt := 597) C.x C.b dL_law_582 (by decide) (fun c => ?_) (fun c => ?_)
  · refine lv_goto (tgt := 2645) C.x C.b dL_law_597 (by decide) ?_
    exact hg H locs ls hR hS (lv_sub hl [2, 3, 4, 5, 6] rfl)
  · obtain ⟨f, q1, q2, zb_⟩ := h c
    refine lv_aload_n C.x C.b dL_law_585 rfl (lv_at hl 5 rfl) ?_
    refine lv_iconst (v := 0) C.x C.b dL_law_586 (by decide) ?_
    refine z_lald C hR q1 z_in01 dL_law_587 ?_
    rw [show f (0 : Int32).toNatClampNeg = bb.toInt64 from q2]
    refine lv_iload C.x C.b dL_law_588 (lv_at hl 0 rfl) ?_
    refine lv_i2l C.x C.b dL_law_590 rfl ?_
    refine W.lcmp C.x C.b dL_law_591 ?_
    rw [lg_cmp_s]
    refine lv_if_eq (tgt := 597) C.x C.b dL_law_592 (by decide) (fun _ => ?_) (fun c => absurd rfl c)
    refine lv_goto (tgt := 2645) C.x C.b dL_law_597 (by decide) ?_
    exact hg H locs ls hR hS (lv_sub hl [2, 3, 4, 5, 6] rfl)
set_option maxHeartbeats 4000000 in
theorem bL_5 {X : zX} {E : zM} {nm : String} {x m o b0 k D b L : Nat} {xs : Nat → Int32} {g : zG} (hok : zOk X) (hnc : zNx X) (C : zC X (D + 2) E RX0 cL_law 7 ret nm) (hS0 : zLS X E b L xs) (hb : b0 + 15000 * 64 + 20000 ≤ zz X) (hk : k < 64) (hD : 400 ≤ D) {i : Int32} (h5 : zLi5 i L) {cd0 : Int32} (I : zIw X x m b0 k cd0 g) (hO : zOut o g) (hG : ∀ (g3 : zG) (cd : Int32), zIw X x m b0 (k + 1) cd g3 → zOut o g3 → GW X E 7 g3 2645 [(0, .ref b), (1, .ref x), (2, .ref m), (3, .ref o), (4, .int i)] []) : GW X E 7 g 600 [(0, .ref b), (1, .ref x), (2, .ref m), (3, .ref o), (4, .int i)] [] := by
  intro H locs ls hR hS hl
  refine lv_aload_n C.x C.b dL_law_600 rfl (lv_at hl 1 rfl) ?_
  refine lv_aload_n C.x C.b dL_law_601 rfl (lv_at hl 0 rfl) ?_
  refine lv_iload C.x C.b dL_law_602 (lv_at hl 4 rfl) ?_
  refine lv_iconst (v := 1) C.x C.b dL_law_604 (by decide) ?_
  refine lv_iadd C.x C.b dL_law_605 ?_
  refine z_sld C hS hS0.1 hS0.2.1 hS0.2.2 h5.1 dL_law_606 ?_
  refine lv_aload_n C.x C.b dL_law_607 rfl (lv_at hl 3 rfl) ?_
  refine z_callSW C hR hS hl (n := 3) (y := yX0_kindIs) (bytes := cX0_kindIs) (maxL := 4) (rt := some .int) (As := [.ref x, .int (xs (i + 1).toNatClampNeg), .ref o]) (rest := []) (lw_SW q1234 q1235 q72 q1236) hdS_X0_kindIs (by decide) rfl rfl (Nat.le_of_ble_eq_true rfl) dL_law_608 (mX0_kindIs hok hnc x (xs (i + 1).toNatClampNeg) o I.is1 (zPair.k2 hok (pr_kindIs hok hb hk hD hO I) hG)) (fun r g_1 hk_ => ?_) (fun s g1 h => zKF.ex h)
  obtain ⟨kk, rfl, hI_, h⟩ := hk_
  show GW X E 7 g_1 611 [(0, .ref b), (1, .ref x), (2, .ref m), (3, .ref o), (4, .int i)] [.int kk]
  intro H locs ls hR hS hl
  refine lv_istore (lv' := [(5, .int kk), (0, .ref b), (1, .ref x), (2, .ref m), (3, .ref o), (4, .int i)]) C.x C.b dL_law_611 hl (by decide) rfl (fun ls hl => ?_)
  refine lv_aload_n C.x C.b dL_law_613 rfl (lv_at hl 3 rfl) ?_
  refine lv_aload_n C.x C.b dL_law_614 rfl (lv_at hl 1 rfl) ?_
  refine lv_iload C.x C.b dL_law_615 (lv_at hl 5 rfl) ?_
  refine lv_iconst (v := 1) C.x C.b dL_law_617 (by decide) ?_
  refine lv_iadd C.x C.b dL_law_618 ?_
  refine z_sld C hS hS0.1 hS0.2.1 hS0.2.2 h5.1 dL_law_619 ?_
  refine z_callV C hR hS hl (n := 1) (C1 := RX3) (T := TX3) (N := 35) (ci := 3) (y := yX3_kindIs) (bytes := cX3_kindIs) (maxL := 2) (rt := (some .int)) (As := [.int (xs (i + 1).toNatClampNeg)]) (rest := []) hI_ rfl (lw_V q1873 q1874 q1875 q82 q1876) hdV_X3_kindIs (by decide) rfl rfl (Nat.le_of_ble_eq_true rfl) dL_law_620 h (fun r g_2 hk_ => ?_) (fun s g1 h => zKF.ex h)
  clear h; obtain ⟨bb, rfl, hI_, h⟩ := hk_
  show GW X E 7 g_2 623 [(5, .int kk), (0, .ref b), (1, .ref x), (2, .ref m), (3, .ref o), (4, .int i)] [.int bb]
  intro H locs ls hR hS hl
  refine lv_istore (lv' := [(6, .int bb), (5, .int kk), (0, .ref b), (1, .ref x), (2, .ref m), (3, .ref o), (4, .int i)]) C.x C.b dL_law_623 hl (by decide) rfl (fun ls hl => ?_)
  refine lv_aload_n C.x C.b dL_law_625 rfl (lv_at hl 4 rfl) ?_
  refine z_callV C hR hS hl (n := 0) (C1 := RX3) (T := TX3) (N := 35) (ci := 3) (y := yX3_thrown) (bytes := cX3_thrown) (maxL := 1) (rt := (some .int)) (As := []) (rest := []) hI_ rfl (lw_V q1744 q1745 q1746 q82 q1747) hdV_X3_thrown (by decide) rfl rfl (Nat.le_of_ble_eq_true rfl) dL_law_626 h (fun r g_3 hk_ => ?_) (fun s g1 h => zKF.ex h)
  clear h; obtain ⟨rfl, hg, h⟩ := hk_
  show GW X E 7 g_3 629 [(6, .int bb), (5, .int kk), (0, .ref b), (1, .ref x), (2, .ref m), (3, .ref o), (4, .int i)] [.int kk]
  intro H locs ls hR hS hl
  refine lv_iload C.x C.b dL_law_629 (lv_at hl 1 rfl) ?_
  refine lv_icmp_eq (tgt := 636) C.x C.b dL_law_631 (by decide) (fun _ => ?_) (fun c => absurd rfl c)
  refine lv_iload C.x C.b dL_law_636 (lv_at hl 1 rfl) ?_
  refine lv_if_ne (tgt := 653) C.x C.b dL_law_638 (by decide) (fun c => ?_) (fun c => ?_)
  · refine lv_goto (tgt := 2645) C.x C.b dL_law_653 (by decide) ?_
    exact hg H locs ls hR hS (lv_sub hl [2, 3, 4, 5, 6] rfl)
  · obtain ⟨f, q1, q2, zb_⟩ := h c
    refine lv_aload_n C.x C.b dL_law_641 rfl (lv_at hl 5 rfl) ?_
    refine lv_iconst (v := 0) C.x C.b dL_law_642 (by decide) ?_
    refine z_lald C hR q1 z_in01 dL_law_643 ?_
    rw [show f (0 : Int32).toNatClampNeg = bb.toInt64 from q2]
    refine lv_iload C.x C.b dL_law_644 (lv_at hl 0 rfl) ?_
    refine lv_i2l C.x C.b dL_law_646 rfl ?_
    refine W.lcmp C.x C.b dL_law_647 ?_
    rw [lg_cmp_s]
    refine lv_if_eq (tgt := 653) C.x C.b dL_law_648 (by decide) (fun _ => ?_) (fun c => absurd rfl c)
    refine lv_goto (tgt := 2645) C.x C.b dL_law_653 (by decide) ?_
    exact hg H locs ls hR hS (lv_sub hl [2, 3, 4, 5, 6] rfl)
set_option maxHeartbeats 4000000 in
theorem bL_6 {X : zX} {E : zM} {nm : String} {x m o b0 k D b L : Nat} {xs : Nat → Int32} {g : zG} (hok : zOk X) (hnc : zNx X) (C : zC X (D + 2) E RX0 cL_law 7 ret nm) (hS0 : zLS X E b L xs) (hb : b0 + 15000 * 64 + 20000 ≤ zz X) (hk : k < 64) (hD : 400 ≤ D) {i : Int32} (h5 : zLi5 i L) {cd0 : Int32} (I : zIw X x m b0 k cd0 g) (hO : zOut o g) (hG : ∀ (g3 : zG) (cd : Int32), zIw X x m b0 (k + 1) cd g3 → zOut o g3 → GW X E 7 g3 2645 [(0, .ref b), (1, .ref x), (2, .ref m), (3, .ref o), (4, .int i)] []) : GW X E 7 g 656 [(0, .ref b), (1, .ref x), (2, .ref m), (3, .ref o), (4, .int i)] [] := by
  intro H locs ls hR hS hl
  refine lv_aload_n C.x C.b dL_law_656 rfl (lv_at hl 1 rfl) ?_
  refine lv_aload_n C.x C.b dL_law_657 rfl (lv_at hl 0 rfl) ?_
  refine lv_iload C.x C.b dL_law_658 (lv_at hl 4 rfl) ?_
  refine lv_iconst (v := 1) C.x C.b dL_law_660 (by decide) ?_
  refine lv_iadd C.x C.b dL_law_661 ?_
  refine z_sld C hS hS0.1 hS0.2.1 hS0.2.2 h5.1 dL_law_662 ?_
  refine lv_aload_n C.x C.b dL_law_663 rfl (lv_at hl 0 rfl) ?_
  refine lv_iload C.x C.b dL_law_664 (lv_at hl 4 rfl) ?_
  refine lv_iconst (v := 2) C.x C.b dL_law_666 (by decide) ?_
  refine lv_iadd C.x C.b dL_law_667 ?_
  refine z_sld C hS hS0.1 hS0.2.1 hS0.2.2 h5.2.1 dL_law_668 ?_
  refine lv_aload_n C.x C.b dL_law_669 rfl (lv_at hl 3 rfl) ?_
  refine z_callSW C hR hS hl (n := 4) (y := yX0_valueIs) (bytes := cX0_valueIs) (maxL := 5) (rt := some .int) (As := [.ref x, .int (xs (i + 1).toNatClampNeg), .int (xs (i + 2).toNatClampNeg), .ref o]) (rest := []) (lw_SW q1282 q1283 q72 q1284) hdS_X0_valueIs (by decide) rfl rfl (Nat.le_of_ble_eq_true rfl) dL_law_670 (mX0_valueIs hok hnc x (xs (i + 1).toNatClampNeg) (xs (i + 2).toNatClampNeg) o I.is1 (zPair.k2 hok (pr_valueIs hok hb hk hD hO I) hG)) (fun r g_1 hk_ => ?_) (fun s g1 h => zKF.ex h)
  obtain ⟨kk, rfl, hI_, h⟩ := hk_
  show GW X E 7 g_1 673 [(0, .ref b), (1, .ref x), (2, .ref m), (3, .ref o), (4, .int i)] [.int kk]
  intro H locs ls hR hS hl
  refine lv_istore (lv' := [(5, .int kk), (0, .ref b), (1, .ref x), (2, .ref m), (3, .ref o), (4, .int i)]) C.x C.b dL_law_673 hl (by decide) rfl (fun ls hl => ?_)
  refine lv_aload_n C.x C.b dL_law_675 rfl (lv_at hl 3 rfl) ?_
  refine lv_aload_n C.x C.b dL_law_676 rfl (lv_at hl 1 rfl) ?_
  refine lv_iload C.x C.b dL_law_677 (lv_at hl 5 rfl) ?_
  refine lv_iconst (v := 1) C.x C.b dL_law_679 (by decide) ?_
  refine lv_iadd C.x C.b dL_law_680 ?_
  refine z_sld C hS hS0.1 hS0.2.1 hS0.2.2 h5.1 dL_law_681 ?_
  refine lv_aload_n C.x C.b dL_law_682 rfl (lv_at hl 1 rfl) ?_
  refine lv_iload C.x C.b dL_law_683 (lv_at hl 5 rfl) ?_
  refine lv_iconst (v := 2) C.x C.b dL_law_685 (by decide) ?_
  refine lv_iadd C.x C.b dL_law_686 ?_
  refine z_sld C hS hS0.1 hS0.2.1 hS0.2.2 h5.2.1 dL_law_687 ?_
  refine z_callV C hR hS hl (n := 2) (C1 := RX3) (T := TX3) (N := 35) (ci := 3) (y := yX3_valueIs) (bytes := cX3_valueIs) (maxL := 3) (rt := (some .int)) (As := [.int (xs (i + 1).toNatClampNeg), .int (xs (i + 2).toNatClampNeg)]) (rest := []) hI_ rfl (lw_V q1885 q1886 q1887 q82 q1888) hdV_X3_valueIs (by decide) rfl rfl (Nat.le_of_ble_eq_true rfl) dL_law_688 h (fun r g_2 hk_ => ?_) (fun s g1 h => zKF.ex h)
  clear h; obtain ⟨bb, rfl, hI_, h⟩ := hk_
  show GW X E 7 g_2 691 [(5, .int kk), (0, .ref b), (1, .ref x), (2, .ref m), (3, .ref o), (4, .int i)] [.int bb]
  intro H locs ls hR hS hl
  refine lv_istore (lv' := [(6, .int bb), (5, .int kk), (0, .ref b), (1, .ref x), (2, .ref m), (3, .ref o), (4, .int i)]) C.x C.b dL_law_691 hl (by decide) rfl (fun ls hl => ?_)
  refine lv_aload_n C.x C.b dL_law_693 rfl (lv_at hl 4 rfl) ?_
  refine z_callV C hR hS hl (n := 0) (C1 := RX3) (T := TX3) (N := 35) (ci := 3) (y := yX3_thrown) (bytes := cX3_thrown) (maxL := 1) (rt := (some .int)) (As := []) (rest := []) hI_ rfl (lw_V q1744 q1745 q1746 q82 q1747) hdV_X3_thrown (by decide) rfl rfl (Nat.le_of_ble_eq_true rfl) dL_law_694 h (fun r g_3 hk_ => ?_) (fun s g1 h => zKF.ex h)
  clear h; obtain ⟨rfl, hg, h⟩ := hk_
  show GW X E 7 g_3 697 [(6, .int bb), (5, .int kk), (0, .ref b), (1, .ref x), (2, .ref m), (3, .ref o), (4, .int i)] [.int kk]
  intro H locs ls hR hS hl
  refine lv_iload C.x C.b dL_law_697 (lv_at hl 1 rfl) ?_
  refine lv_icmp_eq (tgt := 704) C.x C.b dL_law_699 (by decide) (fun _ => ?_) (fun c => absurd rfl c)
  refine lv_iload C.x C.b dL_law_704 (lv_at hl 1 rfl) ?_
  refine lv_if_ne (tgt := 721) C.x C.b dL_law_706 (by decide) (fun c => ?_) (fun c => ?_)
  · refine lv_goto (tgt := 2645) C.x C.b dL_law_721 (by decide) ?_
    exact hg H locs ls hR hS (lv_sub hl [2, 3, 4, 5, 6] rfl)
  · obtain ⟨f, q1, q2, zb_⟩ := h c
    refine lv_aload_n C.x C.b dL_law_709 rfl (lv_at hl 5 rfl) ?_
    refine lv_iconst (v := 0) C.x C.b dL_law_710 (by decide) ?_
    refine z_lald C hR q1 z_in01 dL_law_711 ?_
    rw [show f (0 : Int32).toNatClampNeg = bb.toInt64 from q2]
    refine lv_iload C.x C.b dL_law_712 (lv_at hl 0 rfl) ?_
    refine lv_i2l C.x C.b dL_law_714 rfl ?_
    refine W.lcmp C.x C.b dL_law_715 ?_
    rw [lg_cmp_s]
    refine lv_if_eq (tgt := 721) C.x C.b dL_law_716 (by decide) (fun _ => ?_) (fun c => absurd rfl c)
    refine lv_goto (tgt := 2645) C.x C.b dL_law_721 (by decide) ?_
    exact hg H locs ls hR hS (lv_sub hl [2, 3, 4, 5, 6] rfl)
set_option maxHeartbeats 4000000 in
theorem bL_7 {X : zX} {E : zM} {nm : String} {x m o b0 k D b L : Nat} {xs : Nat → Int32} {g : zG} (hok : zOk X) (hnc : zNx X) (C : zC X (D + 2) E RX0 cL_law 7 ret nm) (hS0 : zLS X E b L xs) (hb : b0 + 15000 * 64 + 20000 ≤ zz X) (hk : k < 64) (hD : 400 ≤ D) {i : Int32} (h5 : zLi5 i L) {cd0 : Int32} (I : zIw X x m b0 k cd0 g) (hO : zOut o g) (hG : ∀ (g3 : zG) (cd : Int32), zIw X x m b0 (k + 1) cd g3 → zOut o g3 → GW X E 7 g3 2645 [(0, .ref b), (1, .ref x), (2, .ref m), (3, .ref o), (4, .int i)] []) : GW X E 7 g 724 [(0, .ref b), (1, .ref x), (2, .ref m), (3, .ref o), (4, .int i)] [] := by
  intro H locs ls hR hS hl
  refine lv_aload_n C.x C.b dL_law_724 rfl (lv_at hl 1 rfl) ?_
  refine lv_aload_n C.x C.b dL_law_725 rfl (lv_at hl 3 rfl) ?_
  refine z_callSW C hR hS hl (n := 2) (y := yX0_not) (bytes := cX0_not) (maxL := 3) (rt := some .int) (As := [.ref x, .ref o]) (rest := []) (lw_SW q1291 q1292 q72 q1293) hdS_X0_not (by decide) rfl rfl (Nat.le_of_ble_eq_true rfl) dL_law_726 (mX0_not hok hnc x  o I.is1 (zPair.k1 hok (pr_not hok hb hk hD hO I) hG)) (fun r g_1 hk_ => ?_) (fun s g1 h => zKF.ex h)
  obtain ⟨kk, rfl, hI_, h⟩ := hk_
  show GW X E 7 g_1 729 [(0, .ref b), (1, .ref x), (2, .ref m), (3, .ref o), (4, .int i)] [.int kk]
  intro H locs ls hR hS hl
  refine lv_istore (lv' := [(5, .int kk), (0, .ref b), (1, .ref x), (2, .ref m), (3, .ref o), (4, .int i)]) C.x C.b dL_law_729 hl (by decide) rfl (fun ls hl => ?_)
  refine lv_aload_n C.x C.b dL_law_731 rfl (lv_at hl 3 rfl) ?_
  refine z_callV C hR hS hl (n := 0) (C1 := RX3) (T := TX3) (N := 35) (ci := 3) (y := yX3_not_2) (bytes := cX3_not_2) (maxL := 1) (rt := (some .int)) (As := []) (rest := []) hI_ rfl (lw_V q1889 q1890 q1891 q82 q1892) hdV_X3_not_2 (by decide) rfl rfl (Nat.le_of_ble_eq_true rfl) dL_law_732 h (fun r g_2 hk_ => ?_) (fun s g1 h => zKF.ex h)
  clear h; obtain ⟨bb, rfl, hI_, h⟩ := hk_
  show GW X E 7 g_2 735 [(5, .int kk), (0, .ref b), (1, .ref x), (2, .ref m), (3, .ref o), (4, .int i)] [.int bb]
  intro H locs ls hR hS hl
  refine lv_istore (lv' := [(6, .int bb), (5, .int kk), (0, .ref b), (1, .ref x), (2, .ref m), (3, .ref o), (4, .int i)]) C.x C.b dL_law_735 hl (by decide) rfl (fun ls hl => ?_)
  refine lv_aload_n C.x C.b dL_law_737 rfl (lv_at hl 4 rfl) ?_
  refine z_callV C hR hS hl (n := 0) (C1 := RX3) (T := TX3) (N := 35) (ci := 3) (y := yX3_thrown) (bytes := cX3_thrown) (maxL := 1) (rt := (some .int)) (As := []) (rest := []) hI_ rfl (lw_V q1744 q1745 q1746 q82 q1747) hdV_X3_thrown (by decide) rfl rfl (Nat.le_of_ble_eq_true rfl) dL_law_738 h (fun r g_3 hk_ => ?_) (fun s g1 h => zKF.ex h)
  clear h; obtain ⟨rfl, hg, h⟩ := hk_
  show GW X E 7 g_3 741 [(6, .int bb), (5, .int kk), (0, .ref b), (1, .ref x), (2, .ref m), (3, .ref o), (4, .int i)] [.int kk]
  intro H locs ls hR hS hl
  refine lv_iload C.x C.b dL_law_741 (lv_at hl 1 rfl) ?_
  refine lv_icmp_eq (tgt := 748) C.x C.b dL_law_743 (by decide) (fun _ => ?_) (fun c => absurd rfl c)
  refine lv_iload C.x C.b dL_law_748 (lv_at hl 1 rfl) ?_
  refine lv_if_ne (tgt := 765) C.x C.b dL_law_750 (by decide) (fun c => ?_) (fun c => ?_)
  · refine lv_goto (tgt := 2645) C.x C.b dL_law_765 (by decide) ?_
    exact hg H locs ls hR hS (lv_sub hl [2, 3, 4, 5, 6] rfl)
  · obtain ⟨f, q1, q2, zb_⟩ := h c
    refine lv_aload_n C.x C.b dL_law_753 rfl (lv_at hl 5 rfl) ?_
    refine lv_iconst (v := 0) C.x C.b dL_law_754 (by decide) ?_
    refine z_lald C hR q1 z_in01 dL_law_755 ?_
    rw [show f (0 : Int32).toNatClampNeg = bb.toInt64 from q2]
    refine lv_iload C.x C.b dL_law_756 (lv_at hl 0 rfl) ?_
    refine lv_i2l C.x C.b dL_law_758 rfl ?_
    refine W.lcmp C.x C.b dL_law_759 ?_
    rw [lg_cmp_s]
    refine lv_if_eq (tgt := 765) C.x C.b dL_law_760 (by decide) (fun _ => ?_) (fun c => absurd rfl c)
    refine lv_goto (tgt := 2645) C.x C.b dL_law_765 (by decide) ?_
    exact hg H locs ls hR hS (lv_sub hl [2, 3, 4, 5, 6] rfl)
set_option maxHeartbeats 4000000 in
theorem bL_8 {X : zX} {E : zM} {nm : String} {x m o b0 k D b L : Nat} {xs : Nat → Int32} {g : zG} (hok : zOk X) (hnc : zNx X) (C : zC X (D + 2) E RX0 cL_law 7 ret nm) (hS0 : zLS X E b L xs) (hb : b0 + 15000 * 64 + 20000 ≤ zz X) (hk : k < 64) (hD : 400 ≤ D) {i : Int32} (h5 : zLi5 i L) {cd0 : Int32} (I : zIw X x m b0 k cd0 g) (hO : zOut o g) (hG : ∀ (g3 : zG) (cd : Int32), zIw X x m b0 (k + 1) cd g3 → zOut o g3 → GW X E 7 g3 2645 [(0, .ref b), (1, .ref x), (2, .ref m), (3, .ref o), (4, .int i)] []) : GW X E 7 g 768 [(0, .ref b), (1, .ref x), (2, .ref m), (3, .ref o), (4, .int i)] [] := by
  intro H locs ls hR hS hl
  refine lv_aload_n C.x C.b dL_law_768 rfl (lv_at hl 1 rfl) ?_
  refine lv_aload_n C.x C.b dL_law_769 rfl (lv_at hl 3 rfl) ?_
  refine z_callSW C hR hS hl (n := 2) (y := yX0_both) (bytes := cX0_both) (maxL := 3) (rt := some .int) (As := [.ref x, .ref o]) (rest := []) (lw_SW q1306 q1307 q72 q1308) hdS_X0_both (by decide) rfl rfl (Nat.le_of_ble_eq_true rfl) dL_law_770 (mX0_both hok hnc x  o I.is1 (zPair.k1 hok (pr_both hok hb hk hD hO I) hG)) (fun r g_1 hk_ => ?_) (fun s g1 h => zKF.ex h)
  obtain ⟨kk, rfl, hI_, h⟩ := hk_
  show GW X E 7 g_1 773 [(0, .ref b), (1, .ref x), (2, .ref m), (3, .ref o), (4, .int i)] [.int kk]
  intro H locs ls hR hS hl
  refine lv_istore (lv' := [(5, .int kk), (0, .ref b), (1, .ref x), (2, .ref m), (3, .ref o), (4, .int i)]) C.x C.b dL_law_773 hl (by decide) rfl (fun ls hl => ?_)
  refine lv_aload_n C.x C.b dL_law_775 rfl (lv_at hl 3 rfl) ?_
  refine z_callV C hR hS hl (n := 0) (C1 := RX3) (T := TX3) (N := 35) (ci := 3) (y := yX3_both) (bytes := cX3_both) (maxL := 1) (rt := (some .int)) (As := []) (rest := []) hI_ rfl (lw_V q1905 q1906 q1907 q82 q1908) hdV_X3_both (by decide) rfl rfl (Nat.le_of_ble_eq_true rfl) dL_law_776 h (fun r g_2 hk_ => ?_) (fun s g1 h => zKF.ex h)
  clear h; obtain ⟨bb, rfl, hI_, h⟩ := hk_
  show GW X E 7 g_2 779 [(5, .int kk), (0, .ref b), (1, .ref x), (2, .ref m), (3, .ref o), (4, .int i)] [.int bb]
  intro H locs ls hR hS hl
  refine lv_istore (lv' := [(6, .int bb), (5, .int kk), (0, .ref b), (1, .ref x), (2, .ref m), (3, .ref o), (4, .int i)]) C.x C.b dL_law_779 hl (by decide) rfl (fun ls hl => ?_)
  refine lv_aload_n C.x C.b dL_law_781 rfl (lv_at hl 4 rfl) ?_
  refine z_callV C hR hS hl (n := 0) (C1 := RX3) (T := TX3) (N := 35) (ci := 3) (y := yX3_thrown) (bytes := cX3_thrown) (maxL := 1) (rt := (some .int)) (As := []) (rest := []) hI_ rfl (lw_V q1744 q1745 q1746 q82 q1747) hdV_X3_thrown (by decide) rfl rfl (Nat.le_of_ble_eq_true rfl) dL_law_782 h (fun r g_3 hk_ => ?_) (fun s g1 h => zKF.ex h)
  clear h; obtain ⟨rfl, hg, h⟩ := hk_
  show GW X E 7 g_3 785 [(6, .int bb), (5, .int kk), (0, .ref b), (1, .ref x), (2, .ref m), (3, .ref o), (4, .int i)] [.int kk]
  intro H locs ls hR hS hl
  refine lv_iload C.x C.b dL_law_785 (lv_at hl 1 rfl) ?_
  refine lv_icmp_eq (tgt := 792) C.x C.b dL_law_787 (by decide) (fun _ => ?_) (fun c => absurd rfl c)
  refine lv_iload C.x C.b dL_law_792 (lv_at hl 1 rfl) ?_
  refine lv_if_ne (tgt := 809) C.x C.b dL_law_794 (by decide) (fun c => ?_) (fun c => ?_)
  · refine lv_goto (tgt := 2645) C.x C.b dL_law_809 (by decide) ?_
    exact hg H locs ls hR hS (lv_sub hl [2, 3, 4, 5, 6] rfl)
  · obtain ⟨f, q1, q2, zb_⟩ := h c
    refine lv_aload_n C.x C.b dL_law_797 rfl (lv_at hl 5 rfl) ?_
    refine lv_iconst (v := 0) C.x C.b dL_law_798 (by decide) ?_
    refine z_lald C hR q1 z_in01 dL_law_799 ?_
    rw [show f (0 : Int32).toNatClampNeg = bb.toInt64 from q2]
    refine lv_iload C.x C.b dL_law_800 (lv_at hl 0 rfl) ?_
    refine lv_i2l C.x C.b dL_law_802 rfl ?_
    refine W.lcmp C.x C.b dL_law_803 ?_
    rw [lg_cmp_s]
    refine lv_if_eq (tgt := 809) C.x C.b dL_law_804 (by decide) (fun _ => ?_) (fun c => absurd rfl c)
    refine lv_goto (tgt := 2645) C.x C.b dL_law_809 (by decide) ?_
    exact hg H locs ls hR hS (lv_sub hl [2, 3, 4, 5, 6] rfl)
set_option maxHeartbeats 4000000 in
theorem bL_9 {X : zX} {E : zM} {nm : String} {x m o b0 k D b L : Nat} {xs : Nat → Int32} {g : zG} (hok : zOk X) (hnc : zNx X) (C : zC X (D + 2) E RX0 cL_law 7 ret nm) (hS0 : zLS X E b L xs) (hb : b0 + 15000 * 64 + 20000 ≤ zz X) (hk : k < 64) (hD : 400 ≤ D) {i : Int32} (h5 : zLi5 i L) {cd0 : Int32} (I : zIw X x m b0 k cd0 g) (hO : zOut o g) (hG : ∀ (g3 : zG) (cd : Int32), zIw X x m b0 (k + 1) cd g3 → zOut o g3 → GW X E 7 g3 2645 [(0, .ref b), (1, .ref x), (2, .ref m), (3, .ref o), (4, .int i)] []) : GW X E 7 g 812 [(0, .ref b), (1, .ref x), (2, .ref m), (3, .ref o), (4, .int i)] [] := by
  intro H locs ls hR hS hl
  refine lv_aload_n C.x C.b dL_law_812 rfl (lv_at hl 1 rfl) ?_
  refine lv_aload_n C.x C.b dL_law_813 rfl (lv_at hl 3 rfl) ?_
  refine z_callSW C hR hS hl (n := 2) (y := yX0_either) (bytes := cX0_either) (maxL := 3) (rt := some .int) (As := [.ref x, .ref o]) (rest := []) (lw_SW q1315 q1316 q72 q1317) hdS_X0_either (by decide) rfl rfl (Nat.le_of_ble_eq_true rfl) dL_law_814 (mX0_either hok hnc x  o I.is1 (zPair.k1 hok (pr_either hok hb hk hD hO I) hG)) (fun r g_1 hk_ => ?_) (fun s g1 h => zKF.ex h)
  obtain ⟨kk, rfl, hI_, h⟩ := hk_
  show GW X E 7 g_1 817 [(0, .ref b), (1, .ref x), (2, .ref m), (3, .ref o), (4, .int i)] [.int kk]
  intro H locs ls hR hS hl
  refine lv_istore (lv' := [(5, .int kk), (0, .ref b), (1, .ref x), (2, .ref m), (3, .ref o), (4, .int i)]) C.x C.b dL_law_817 hl (by decide) rfl (fun ls hl => ?_)
  refine lv_aload_n C.x C.b dL_law_819 rfl (lv_at hl 3 rfl) ?_
  refine z_callV C hR hS hl (n := 0) (C1 := RX3) (T := TX3) (N := 35) (ci := 3) (y := yX3_either) (bytes := cX3_either) (maxL := 1) (rt := (some .int)) (As := []) (rest := []) hI_ rfl (lw_V q1909 q1910 q1911 q82 q1912) hdV_X3_either (by decide) rfl rfl (Nat.le_of_ble_eq_true rfl) dL_law_820 h (fun r g_2 hk_ => ?_) (fun s g1 h => zKF.ex h)
  clear h; obtain ⟨bb, rfl, hI_, h⟩ := hk_
  show GW X E 7 g_2 823 [(5, .int kk), (0, .ref b), (1, .ref x), (2, .ref m), (3, .ref o), (4, .int i)] [.int bb]
  intro H locs ls hR hS hl
  refine lv_istore (lv' := [(6, .int bb), (5, .int kk), (0, .ref b), (1, .ref x), (2, .ref m), (3, .ref o), (4, .int i)]) C.x C.b dL_law_823 hl (by decide) rfl (fun ls hl => ?_)
  refine lv_aload_n C.x C.b dL_law_825 rfl (lv_at hl 4 rfl) ?_
  refine z_callV C hR hS hl (n := 0) (C1 := RX3) (T := TX3) (N := 35) (ci := 3) (y := yX3_thrown) (bytes := cX3_thrown) (maxL := 1) (rt := (some .int)) (As := []) (rest := []) hI_ rfl (lw_V q1744 q1745 q1746 q82 q1747) hdV_X3_thrown (by decide) rfl rfl (Nat.le_of_ble_eq_true rfl) dL_law_826 h (fun r g_3 hk_ => ?_) (fun s g1 h => zKF.ex h)
  clear h; obtain ⟨rfl, hg, h⟩ := hk_
  show GW X E 7 g_3 829 [(6, .int bb), (5, .int kk), (0, .ref b), (1, .ref x), (2, .ref m), (3, .ref o), (4, .int i)] [.int kk]
  intro H locs ls hR hS hl
  refine lv_iload C.x C.b dL_law_829 (lv_at hl 1 rfl) ?_
  refine lv_icmp_eq (tgt := 836) C.x C.b dL_law_831 (by decide) (fun _ => ?_) (fun c => absurd rfl c)
  refine lv_iload C.x C.b dL_law_836 (lv_at hl 1 rfl) ?_
  refine lv_if_ne (tgt := 853) C.x C.b dL_law_838 (by decide) (fun c => ?_) (fun c => ?_)
  · refine lv_goto (tgt := 2645) C.x C.b dL_law_853 (by decide) ?_
    exact hg H locs ls hR hS (lv_sub hl [2, 3, 4, 5, 6] rfl)
  · obtain ⟨f, q1, q2, zb_⟩ := h c
    refine lv_aload_n C.x C.b dL_law_841 rfl (lv_at hl 5 rfl) ?_
    refine lv_iconst (v := 0) C.x C.b dL_law_842 (by decide) ?_
    refine z_lald C hR q1 z_in01 dL_law_843 ?_
    rw [show f (0 : Int32).toNatClampNeg = bb.toInt64 from q2]
    refine lv_iload C.x C.b dL_law_844 (lv_at hl 0 rfl) ?_
    refine lv_i2l C.x C.b dL_law_846 rfl ?_
    refine W.lcmp C.x C.b dL_law_847 ?_
    rw [lg_cmp_s]
    refine lv_if_eq (tgt := 853) C.x C.b dL_law_848 (by decide) (fun _ => ?_) (fun c => absurd rfl c)
    refine lv_goto (tgt := 2645) C.x C.b dL_law_853 (by decide) ?_
    exact hg H locs ls hR hS (lv_sub hl [2, 3, 4, 5, 6] rfl)
set_option maxHeartbeats 4000000 in
theorem bL_10 {X : zX} {E : zM} {nm : String} {x m o b0 k D b L : Nat} {xs : Nat → Int32} {g : zG} (hok : zOk X) (hnc : zNx X) (C : zC X (D + 2) E RX0 cL_law 7 ret nm) (hS0 : zLS X E b L xs) (hb : b0 + 15000 * 64 + 20000 ≤ zz X) (hk : k < 64) (hD : 400 ≤ D) {i : Int32} (h5 : zLi5 i L) {cd0 : Int32} (I : zIw X x m b0 k cd0 g) (hO : zOut o g) (hG : ∀ (g3 : zG) (cd : Int32), zIw X x m b0 (k + 1) cd g3 → zOut o g3 → GW X E 7 g3 2645 [(0, .ref b), (1, .ref x), (2, .ref m), (3, .ref o), (4, .int i)] []) : GW X E 7 g 856 [(0, .ref b), (1, .ref x), (2, .ref m), (3, .ref o), (4, .int i)] [] := by
  intro H locs ls hR hS hl
  refine lv_aload_n C.x C.b dL_law_856 rfl (lv_at hl 1 rfl) ?_
  refine lv_aload_n C.x C.b dL_law_857 rfl (lv_at hl 3 rfl) ?_
  refine z_callSW C hR hS hl (n := 2) (y := yX0_before) (bytes := cX0_before) (maxL := 3) (rt := some .int) (As := [.ref x, .ref o]) (rest := []) (lw_SW q1324 q1325 q72 q1326) hdS_X0_before (by decide) rfl rfl (Nat.le_of_ble_eq_true rfl) dL_law_858 (mX0_before hok hnc x  o I.is1 (zPair.k1 hok (pr_before hok hb hk hD hO I) hG)) (fun r g_1 hk_ => ?_) (fun s g1 h => zKF.ex h)
  obtain ⟨kk, rfl, hI_, h⟩ := hk_
  show GW X E 7 g_1 861 [(0, .ref b), (1, .ref x), (2, .ref m), (3, .ref o), (4, .int i)] [.int kk]
  intro H locs ls hR hS hl
  refine lv_istore (lv' := [(5, .int kk), (0, .ref b), (1, .ref x), (2, .ref m), (3, .ref o), (4, .int i)]) C.x C.b dL_law_861 hl (by decide) rfl (fun ls hl => ?_)
  refine lv_aload_n C.x C.b dL_law_863 rfl (lv_at hl 3 rfl) ?_
  refine z_callV C hR hS hl (n := 0) (C1 := RX3) (T := TX3) (N := 35) (ci := 3) (y := yX3_before) (bytes := cX3_before) (maxL := 1) (rt := (some .int)) (As := []) (rest := []) hI_ rfl (lw_V q1913 q1914 q1915 q82 q1916) hdV_X3_before (by decide) rfl rfl (Nat.le_of_ble_eq_true rfl) dL_law_864 h (fun r g_2 hk_ => ?_) (fun s g1 h => zKF.ex h)
  clear h; obtain ⟨bb, rfl, hI_, h⟩ := hk_
  show GW X E 7 g_2 867 [(5, .int kk), (0, .ref b), (1, .ref x), (2, .ref m), (3, .ref o), (4, .int i)] [.int bb]
  intro H locs ls hR hS hl
  refine lv_istore (lv' := [(6, .int bb), (5, .int kk), (0, .ref b), (1, .ref x), (2, .ref m), (3, .ref o), (4, .int i)]) C.x C.b dL_law_867 hl (by decide) rfl (fun ls hl => ?_)
  refine lv_aload_n C.x C.b dL_law_869 rfl (lv_at hl 4 rfl) ?_
  refine z_callV C hR hS hl (n := 0) (C1 := RX3) (T := TX3) (N := 35) (ci := 3) (y := yX3_thrown) (bytes := cX3_thrown) (maxL := 1) (rt := (some .int)) (As := []) (rest := []) hI_ rfl (lw_V q1744 q1745 q1746 q82 q1747) hdV_X3_thrown (by decide) rfl rfl (Nat.le_of_ble_eq_true rfl) dL_law_870 h (fun r g_3 hk_ => ?_) (fun s g1 h => zKF.ex h)
  clear h; obtain ⟨rfl, hg, h⟩ := hk_
  show GW X E 7 g_3 873 [(6, .int bb), (5, .int kk), (0, .ref b), (1, .ref x), (2, .ref m), (3, .ref o), (4, .int i)] [.int kk]
  intro H locs ls hR hS hl
  refine lv_iload C.x C.b dL_law_873 (lv_at hl 1 rfl) ?_
  refine lv_icmp_eq (tgt := 880) C.x C.b dL_law_875 (by decide) (fun _ => ?_) (fun c => absurd rfl c)
  refine lv_iload C.x C.b dL_law_880 (lv_at hl 1 rfl) ?_
  refine lv_if_ne (tgt := 897) C.x C.b dL_law_882 (by decide) (fun c => ?_) (fun c => ?_)
  · refine lv_goto (tgt := 2645) C.x C.b dL_law_897 (by decide) ?_
    exact hg H locs ls hR hS (lv_sub hl [2, 3, 4, 5, 6] rfl)
  · obtain ⟨f, q1, q2, zb_⟩ := h c
    refine lv_aload_n C.x C.b dL_law_885 rfl (lv_at hl 5 rfl) ?_
    refine lv_iconst (v := 0) C.x C.b dL_law_886 (by decide) ?_
    refine z_lald C hR q1 z_in01 dL_law_887 ?_
    rw [show f (0 : Int32).toNatClampNeg = bb.toInt64 from q2]
    refine lv_iload C.x C.b dL_law_888 (lv_at hl 0 rfl) ?_
    refine lv_i2l C.x C.b dL_law_890 rfl ?_
    refine W.lcmp C.x C.b dL_law_891 ?_
    rw [lg_cmp_s]
    refine lv_if_eq (tgt := 897) C.x C.b dL_law_892 (by decide) (fun _ => ?_) (fun c => absurd rfl c)
    refine lv_goto (tgt := 2645) C.x C.b dL_law_897 (by decide) ?_
    exact hg H locs ls hR hS (lv_sub hl [2, 3, 4, 5, 6] rfl)
set_option maxHeartbeats 4000000 in
theorem bL_11 {X : zX} {E : zM} {nm : String} {x m o b0 k D b L : Nat} {xs : Nat → Int32} {g : zG} (hok : zOk X) (hnc : zNx X) (C : zC X (D + 2) E RX0 cL_law 7 ret nm) (hS0 : zLS X E b L xs) (hb : b0 + 15000 * 64 + 20000 ≤ zz X) (hk : k < 64) (hD : 400 ≤ D) {i : Int32} (h5 : zLi5 i L) {cd0 : Int32} (I : zIw X x m b0 k cd0 g) (hO : zOut o g) (hG : ∀ (g3 : zG) (cd : Int32), zIw X x m b0 (k + 1) cd g3 → zOut o g3 → GW X E 7 g3 2645 [(0, .ref b), (1, .ref x), (2, .ref m), (3, .ref o), (4, .int i)] []) : GW X E 7 g 900 [(0, .ref b), (1, .ref x), (2, .ref m), (3, .ref o), (4, .int i)] [] := by
  intro H locs ls hR hS hl
  refine lv_aload_n C.x C.b dL_law_900 rfl (lv_at hl 1 rfl) ?_
  refine lv_aload_n C.x C.b dL_law_901 rfl (lv_at hl 0 rfl) ?_
  refine lv_iload C.x C.b dL_law_902 (lv_at hl 4 rfl) ?_
  refine lv_iconst (v := 1) C.x C.b dL_law_904 (by decide) ?_
  refine lv_iadd C.x C.b dL_law_905 ?_
  refine z_sld C hS hS0.1 hS0.2.1 hS0.2.2 h5.1 dL_law_906 ?_
  refine lv_aload_n C.x C.b dL_law_907 rfl (lv_at hl 3 rfl) ?_
  refine z_callSW C hR hS hl (n := 3) (y := yX0_since) (bytes := cX0_since) (maxL := 4) (rt := some .int) (As := [.ref x, .int (xs (i + 1).toNatClampNeg), .ref o]) (rest := []) (lw_SW q1333 q1334 q72 q1335) hdS_X0_since (by decide) rfl rfl (Nat.le_of_ble_eq_true rfl) dL_law_908 (mX0_since hok hnc x (xs (i + 1).toNatClampNeg) o I.is1 (zPair.k2 hok (pr_since hok hb hk hD hO I) hG)) (fun r g_1 hk_ => ?_) (fun s g1 h => zKF.ex h)
  obtain ⟨kk, rfl, hI_, h⟩ := hk_
  show GW X E 7 g_1 911 [(0, .ref b), (1, .ref x), (2, .ref m), (3, .ref o), (4, .int i)] [.int kk]
  intro H locs ls hR hS hl
  refine lv_istore (lv' := [(5, .int kk), (0, .ref b), (1, .ref x), (2, .ref m), (3, .ref o), (4, .int i)]) C.x C.b dL_law_911 hl (by decide) rfl (fun ls hl => ?_)
  refine lv_aload_n C.x C.b dL_law_913 rfl (lv_at hl 3 rfl) ?_
  refine lv_aload_n C.x C.b dL_law_914 rfl (lv_at hl 1 rfl) ?_
  refine lv_iload C.x C.b dL_law_915 (lv_at hl 5 rfl) ?_
  refine lv_iconst (v := 1) C.x C.b dL_law_917 (by decide) ?_
  refine lv_iadd C.x C.b dL_law_918 ?_
  refine z_sld C hS hS0.1 hS0.2.1 hS0.2.2 h5.1 dL_law_919 ?_
  refine z_callV C hR hS hl (n := 1) (C1 := RX3) (T := TX3) (N := 35) (ci := 3) (y := yX3_since) (bytes := cX3_since) (maxL := 2) (rt := (some .int)) (As := [.int (xs (i + 1).toNatClampNeg)]) (rest := []) hI_ rfl (lw_V q1917 q1918 q1919 q82 q1920) hdV_X3_since (by decide) rfl rfl (Nat.le_of_ble_eq_true rfl) dL_law_920 h (fun r g_2 hk_ => ?_) (fun s g1 h => zKF.ex h)
  clear h; obtain ⟨bb, rfl, hI_, h⟩ := hk_
  show GW X E 7 g_2 923 [(5, .int kk), (0, .ref b), (1, .ref x), (2, .ref m), (3, .ref o), (4, .int i)] [.int bb]
  intro H locs ls hR hS hl
  refine lv_istore (lv' := [(6, .int bb), (5, .int kk), (0, .ref b), (1, .ref x), (2, .ref m), (3, .ref o), (4, .int i)]) C.x C.b dL_law_923 hl (by decide) rfl (fun ls hl => ?_)
  refine lv_aload_n C.x C.b dL_law_925 rfl (lv_at hl 4 rfl) ?_
  refine z_callV C hR hS hl (n := 0) (C1 := RX3) (T := TX3) (N := 35) (ci := 3) (y := yX3_thrown) (bytes := cX3_thrown) (maxL := 1) (rt := (some .int)) (As := []) (rest := []) hI_ rfl (lw_V q1744 q1745 q1746 q82 q1747) hdV_X3_thrown (by decide) rfl rfl (Nat.le_of_ble_eq_true rfl) dL_law_926 h (fun r g_3 hk_ => ?_) (fun s g1 h => zKF.ex h)
  clear h; obtain ⟨rfl, hg, h⟩ := hk_
  show GW X E 7 g_3 929 [(6, .int bb), (5, .int kk), (0, .ref b), (1, .ref x), (2, .ref m), (3, .ref o), (4, .int i)] [.int kk]
  intro H locs ls hR hS hl
  refine lv_iload C.x C.b dL_law_929 (lv_at hl 1 rfl) ?_
  refine lv_icmp_eq (tgt := 936) C.x C.b dL_law_931 (by decide) (fun _ => ?_) (fun c => absurd rfl c)
  refine lv_iload C.x C.b dL_law_936 (lv_at hl 1 rfl) ?_
  refine lv_if_ne (tgt := 953) C.x C.b dL_law_938 (by decide) (fun c => ?_) (fun c => ?_)
  · refine lv_goto (tgt := 2645) C.x C.b dL_law_953 (by decide) ?_
    exact hg H locs ls hR hS (lv_sub hl [2, 3, 4, 5, 6] rfl)
  · obtain ⟨f, q1, q2, zb_⟩ := h c
    refine lv_aload_n C.x C.b dL_law_941 rfl (lv_at hl 5 rfl) ?_
    refine lv_iconst (v := 0) C.x C.b dL_law_942 (by decide) ?_
    refine z_lald C hR q1 z_in01 dL_law_943 ?_
    rw [show f (0 : Int32).toNatClampNeg = bb.toInt64 from q2]
    refine lv_iload C.x C.b dL_law_944 (lv_at hl 0 rfl) ?_
    refine lv_i2l C.x C.b dL_law_946 rfl ?_
    refine W.lcmp C.x C.b dL_law_947 ?_
    rw [lg_cmp_s]
    refine lv_if_eq (tgt := 953) C.x C.b dL_law_948 (by decide) (fun _ => ?_) (fun c => absurd rfl c)
    refine lv_goto (tgt := 2645) C.x C.b dL_law_953 (by decide) ?_
    exact hg H locs ls hR hS (lv_sub hl [2, 3, 4, 5, 6] rfl)
set_option maxHeartbeats 4000000 in
theorem bL_12 {X : zX} {E : zM} {nm : String} {x m o b0 k D b L : Nat} {xs : Nat → Int32} {g : zG} (hok : zOk X) (hnc : zNx X) (C : zC X (D + 2) E RX0 cL_law 7 ret nm) (hS0 : zLS X E b L xs) (hb : b0 + 15000 * 64 + 20000 ≤ zz X) (hk : k < 64) (hD : 400 ≤ D) {i : Int32} (h5 : zLi5 i L) {cd0 : Int32} (I : zIw X x m b0 k cd0 g) (hO : zOut o g) (hG : ∀ (g3 : zG) (cd : Int32), zIw X x m b0 (k + 1) cd g3 → zOut o g3 → GW X E 7 g3 2645 [(0, .ref b), (1, .ref x), (2, .ref m), (3, .ref o), (4, .int i)] []) : GW X E 7 g 956 [(0, .ref b), (1, .ref x), (2, .ref m), (3, .ref o), (4, .int i)] [] := by
  intro H locs ls hR hS hl
  refine lv_aload_n C.x C.b dL_law_956 rfl (lv_at hl 1 rfl) ?_
  refine lv_aload_n C.x C.b dL_law_957 rfl (lv_at hl 0 rfl) ?_
  refine lv_iload C.x C.b dL_law_958 (lv_at hl 4 rfl) ?_
  refine lv_iconst (v := 1) C.x C.b dL_law_960 (by decide) ?_
  refine lv_iadd C.x C.b dL_law_961 ?_
  refine z_sld C hS hS0.1 hS0.2.1 hS0.2.2 h5.1 dL_law_962 ?_
  refine lv_aload_n C.x C.b dL_law_963 rfl (lv_at hl 3 rfl) ?_
  refine z_callSW C hR hS hl (n := 3) (y := yX0_once) (bytes := cX0_once) (maxL := 4) (rt := some .int) (As := [.ref x, .int (xs (i + 1).toNatClampNeg), .ref o]) (rest := []) (lw_SW q1345 q1346 q72 q1347) hdS_X0_once (by decide) rfl rfl (Nat.le_of_ble_eq_true rfl) dL_law_964 (mX0_once hok hnc x (xs (i + 1).toNatClampNeg) o I.is1 (zPair.k2 hok (pr_once hok hb hk hD hO I) hG)) (fun r g_1 hk_ => ?_) (fun s g1 h => zKF.ex h)
  obtain ⟨kk, rfl, hI_, h⟩ := hk_
  show GW X E 7 g_1 967 [(0, .ref b), (1, .ref x), (2, .ref m), (3, .ref o), (4, .int i)] [.int kk]
  intro H locs ls hR hS hl
  refine lv_istore (lv' := [(5, .int kk), (0, .ref b), (1, .ref x), (2, .ref m), (3, .ref o), (4, .int i)]) C.x C.b dL_law_967 hl (by decide) rfl (fun ls hl => ?_)
  refine lv_aload_n C.x C.b dL_law_969 rfl (lv_at hl 3 rfl) ?_
  refine lv_aload_n C.x C.b dL_law_970 rfl (lv_at hl 1 rfl) ?_
  refine lv_iload C.x C.b dL_law_971 (lv_at hl 5 rfl) ?_
  refine lv_iconst (v := 1) C.x C.b dL_law_973 (by decide) ?_
  refine lv_iadd C.x C.b dL_law_974 ?_
  refine z_sld C hS hS0.1 hS0.2.1 hS0.2.2 h5.1 dL_law_975 ?_
  refine z_callV C hR hS hl (n := 1) (C1 := RX3) (T := TX3) (N := 35) (ci := 3) (y := yX3_once) (bytes := cX3_once) (maxL := 2) (rt := (some .int)) (As := [.int (xs (i + 1).toNatClampNeg)]) (rest := []) hI_ rfl (lw_V q1928 q1929 q1930 q82 q1931) hdV_X3_once (by decide) rfl rfl (Nat.le_of_ble_eq_true rfl) dL_law_976 h (fun r g_2 hk_ => ?_) (fun s g1 h => zKF.ex h)
  clear h; obtain ⟨bb, rfl, hI_, h⟩ := hk_
  show GW X E 7 g_2 979 [(5, .int kk), (0, .ref b), (1, .ref x), (2, .ref m), (3, .ref o), (4, .int i)] [.int bb]
  intro H locs ls hR hS hl
  refine lv_istore (lv' := [(6, .int bb), (5, .int kk), (0, .ref b), (1, .ref x), (2, .ref m), (3, .ref o), (4, .int i)]) C.x C.b dL_law_979 hl (by decide) rfl (fun ls hl => ?_)
  refine lv_aload_n C.x C.b dL_law_981 rfl (lv_at hl 4 rfl) ?_
  refine z_callV C hR hS hl (n := 0) (C1 := RX3) (T := TX3) (N := 35) (ci := 3) (y := yX3_thrown) (bytes := cX3_thrown) (maxL := 1) (rt := (some .int)) (As := []) (rest := []) hI_ rfl (lw_V q1744 q1745 q1746 q82 q1747) hdV_X3_thrown (by decide) rfl rfl (Nat.le_of_ble_eq_true rfl) dL_law_982 h (fun r g_3 hk_ => ?_) (fun s g1 h => zKF.ex h)
  clear h; obtain ⟨rfl, hg, h⟩ := hk_
  show GW X E 7 g_3 985 [(6, .int bb), (5, .int kk), (0, .ref b), (1, .ref x), (2, .ref m), (3, .ref o), (4, .int i)] [.int kk]
  intro H locs ls hR hS hl
  refine lv_iload C.x C.b dL_law_985 (lv_at hl 1 rfl) ?_
  refine lv_icmp_eq (tgt := 992) C.x C.b dL_law_987 (by decide) (fun _ => ?_) (fun c => absurd rfl c)
  refine lv_iload C.x C.b dL_law_992 (lv_at hl 1 rfl) ?_
  refine lv_if_ne (tgt := 1009) C.x C.b dL_law_994 (by decide) (fun c => ?_) (fun c => ?_)
  · refine lv_goto (tgt := 2645) C.x C.b dL_law_1009 (by decide) ?_
    exact hg H locs ls hR hS (lv_sub hl [2, 3, 4, 5, 6] rfl)
  · obtain ⟨f, q1, q2, zb_⟩ := h c
    refine lv_aload_n C.x C.b dL_law_997 rfl (lv_at hl 5 rfl) ?_
    refine lv_iconst (v := 0) C.x C.b dL_law_998 (by decide) ?_
    refine z_lald C hR q1 z_in01 dL_law_999 ?_
    rw [show f (0 : Int32).toNatClampNeg = bb.toInt64 from q2]
    refine lv_iload C.x C.b dL_law_1000 (lv_at hl 0 rfl) ?_
    refine lv_i2l C.x C.b dL_law_1002 rfl ?_
    refine W.lcmp C.x C.b dL_law_1003 ?_
    rw [lg_cmp_s]
    refine lv_if_eq (tgt := 1009) C.x C.b dL_law_1004 (by decide) (fun _ => ?_) (fun c => absurd rfl c)
    refine lv_goto (tgt := 2645) C.x C.b dL_law_1009 (by decide) ?_
    exact hg H locs ls hR hS (lv_sub hl [2, 3, 4, 5, 6] rfl)
set_option maxHeartbeats 4000000 in
theorem bL_13 {X : zX} {E : zM} {nm : String} {x m o b0 k D b L : Nat} {xs : Nat → Int32} {g : zG} (hok : zOk X) (hnc : zNx X) (C : zC X (D + 2) E RX0 cL_law 7 ret nm) (hS0 : zLS X E b L xs) (hb : b0 + 15000 * 64 + 20000 ≤ zz X) (hk : k < 64) (hD : 400 ≤ D) {i : Int32} (h5 : zLi5 i L) {cd0 : Int32} (I : zIw X x m b0 k cd0 g) (hO : zOut o g) (hG : ∀ (g3 : zG) (cd : Int32), zIw X x m b0 (k + 1) cd g3 → zOut o g3 → GW X E 7 g3 2645 [(0, .ref b), (1, .ref x), (2, .ref m), (3, .ref o), (4, .int i)] []) : GW X E 7 g 1012 [(0, .ref b), (1, .ref x), (2, .ref m), (3, .ref o), (4, .int i)] [] := by
  intro H locs ls hR hS hl
  refine lv_aload_n C.x C.b dL_law_1012 rfl (lv_at hl 1 rfl) ?_
  refine lv_aload_n C.x C.b dL_law_1013 rfl (lv_at hl 3 rfl) ?_
  refine z_callSW C hR hS hl (n := 2) (y := yX0_next) (bytes := cX0_next) (maxL := 3) (rt := some .int) (As := [.ref x, .ref o]) (rest := []) (lw_SW q1353 q1354 q72 q1355) hdS_X0_next (by decide) rfl rfl (Nat.le_of_ble_eq_true rfl) dL_law_1014 (mX0_next hok hnc x  o I.is1 (zPair.k1 hok (pr_next hok hb hk hD hO I) hG)) (fun r g_1 hk_ => ?_) (fun s g1 h => zKF.ex h)
  obtain ⟨kk, rfl, hI_, h⟩ := hk_
  show GW X E 7 g_1 1017 [(0, .ref b), (1, .ref x), (2, .ref m), (3, .ref o), (4, .int i)] [.int kk]
  intro H locs ls hR hS hl
  refine lv_istore (lv' := [(5, .int kk), (0, .ref b), (1, .ref x), (2, .ref m), (3, .ref o), (4, .int i)]) C.x C.b dL_law_1017 hl (by decide) rfl (fun ls hl => ?_)
  refine lv_aload_n C.x C.b dL_law_1019 rfl (lv_at hl 3 rfl) ?_
  refine z_callV C hR hS hl (n := 0) (C1 := RX3) (T := TX3) (N := 35) (ci := 3) (y := yX3_next) (bytes := cX3_next) (maxL := 1) (rt := (some .int)) (As := []) (rest := []) hI_ rfl (lw_V q1932 q1933 q1934 q82 q1935) hdV_X3_next (by decide) rfl rfl (Nat.le_of_ble_eq_true rfl) dL_law_1020 h (fun r g_2 hk_ => ?_) (fun s g1 h => zKF.ex h)
  clear h; obtain ⟨bb, rfl, hI_, h⟩ := hk_
  show GW X E 7 g_2 1023 [(5, .int kk), (0, .ref b), (1, .ref x), (2, .ref m), (3, .ref o), (4, .int i)] [.int bb]
  intro H locs ls hR hS hl
  refine lv_istore (lv' := [(6, .int bb), (5, .int kk), (0, .ref b), (1, .ref x), (2, .ref m), (3, .ref o), (4, .int i)]) C.x C.b dL_law_1023 hl (by decide) rfl (fun ls hl => ?_)
  refine lv_aload_n C.x C.b dL_law_1025 rfl (lv_at hl 4 rfl) ?_
  refine z_callV C hR hS hl (n := 0) (C1 := RX3) (T := TX3) (N := 35) (ci := 3) (y := yX3_thrown) (bytes := cX3_thrown) (maxL := 1) (rt := (some .int)) (As := []) (rest := []) hI_ rfl (lw_V q1744 q1745 q1746 q82 q1747) hdV_X3_thrown (by decide) rfl rfl (Nat.le_of_ble_eq_true rfl) dL_law_1026 h (fun r g_3 hk_ => ?_) (fun s g1 h => zKF.ex h)
  clear h; obtain ⟨rfl, hg, h⟩ := hk_
  show GW X E 7 g_3 1029 [(6, .int bb), (5, .int kk), (0, .ref b), (1, .ref x), (2, .ref m), (3, .ref o), (4, .int i)] [.int kk]
  intro H locs ls hR hS hl
  refine lv_iload C.x C.b dL_law_1029 (lv_at hl 1 rfl) ?_
  refine lv_icmp_eq (tgt := 1036) C.x C.b dL_law_1031 (by decide) (fun _ => ?_) (fun c => absurd rfl c)
  refine lv_iload C.x C.b dL_law_1036 (lv_at hl 1 rfl) ?_
  refine lv_if_ne (tgt := 1053) C.x C.b dL_law_1038 (by decide) (fun c => ?_) (fun c => ?_)
  · refine lv_goto (tgt := 2645) C.x C.b dL_law_1053 (by decide) ?_
    exact hg H locs ls hR hS (lv_sub hl [2, 3, 4, 5, 6] rfl)
  · obtain ⟨f, q1, q2, zb_⟩ := h c
    refine lv_aload_n C.x C.b dL_law_1041 rfl (lv_at hl 5 rfl) ?_
    refine lv_iconst (v := 0) C.x C.b dL_law_1042 (by decide) ?_
    refine z_lald C hR q1 z_in01 dL_law_1043 ?_
    rw [show f (0 : Int32).toNatClampNeg = bb.toInt64 from q2]
    refine lv_iload C.x C.b dL_law_1044 (lv_at hl 0 rfl) ?_
    refine lv_i2l C.x C.b dL_law_1046 rfl ?_
    refine W.lcmp C.x C.b dL_law_1047 ?_
    rw [lg_cmp_s]
    refine lv_if_eq (tgt := 1053) C.x C.b dL_law_1048 (by decide) (fun _ => ?_) (fun c => absurd rfl c)
    refine lv_goto (tgt := 2645) C.x C.b dL_law_1053 (by decide) ?_
    exact hg H locs ls hR hS (lv_sub hl [2, 3, 4, 5, 6] rfl)
set_option maxHeartbeats 4000000 in
theorem bL_14 {X : zX} {E : zM} {nm : String} {x m o b0 k D b L : Nat} {xs : Nat → Int32} {g : zG} (hok : zOk X) (hnc : zNx X) (C : zC X (D + 2) E RX0 cL_law 7 ret nm) (hS0 : zLS X E b L xs) (hb : b0 + 15000 * 64 + 20000 ≤ zz X) (hk : k < 64) (hD : 400 ≤ D) {i : Int32} (h5 : zLi5 i L) {cd0 : Int32} (I : zIw X x m b0 k cd0 g) (hO : zOut o g) (hG : ∀ (g3 : zG) (cd : Int32), zIw X x m b0 (k + 1) cd g3 → zOut o g3 → GW X E 7 g3 2645 [(0, .ref b), (1, .ref x), (2, .ref m), (3, .ref o), (4, .int i)] []) : GW X E 7 g 1056 [(0, .ref b), (1, .ref x), (2, .ref m), (3, .ref o), (4, .int i)] [] := by
  intro H locs ls hR hS hl
  refine lv_aload_n C.x C.b dL_law_1056 rfl (lv_at hl 1 rfl) ?_
  refine lv_aload_n C.x C.b dL_law_1057 rfl (lv_at hl 0 rfl) ?_
  refine lv_iload C.x C.b dL_law_1058 (lv_at hl 4 rfl) ?_
  refine lv_iconst (v := 1) C.x C.b dL_law_1060 (by decide) ?_
  refine lv_iadd C.x C.b dL_law_1061 ?_
  refine z_sld C hS hS0.1 hS0.2.1 hS0.2.2 h5.1 dL_law_1062 ?_
  refine lv_aload_n C.x C.b dL_law_1063 rfl (lv_at hl 3 rfl) ?_
  refine z_callSW C hR hS hl (n := 3) (y := yX0_until) (bytes := cX0_until) (maxL := 4) (rt := some .int) (As := [.ref x, .int (xs (i + 1).toNatClampNeg), .ref o]) (rest := []) (lw_SW q1362 q1363 q72 q1364) hdS_X0_until (by decide) rfl rfl (Nat.le_of_ble_eq_true rfl) dL_law_1064 (mX0_until hok hnc x (xs (i + 1).toNatClampNeg) o I.is1 (zPair.k2 hok (pr_until hok hb hk hD hO I) hG)) (fun r g_1 hk_ => ?_) (fun s g1 h => zKF.ex h)
  obtain ⟨kk, rfl, hI_, h⟩ := hk_
  show GW X E 7 g_1 1067 [(0, .ref b), (1, .ref x), (2, .ref m), (3, .ref o), (4, .int i)] [.int kk]
  intro H locs ls hR hS hl
  refine lv_istore (lv' := [(5, .int kk), (0, .ref b), (1, .ref x), (2, .ref m), (3, .ref o), (4, .int i)]) C.x C.b dL_law_1067 hl (by decide) rfl (fun ls hl => ?_)
  refine lv_aload_n C.x C.b dL_law_1069 rfl (lv_at hl 3 rfl) ?_
  refine lv_aload_n C.x C.b dL_law_1070 rfl (lv_at hl 1 rfl) ?_
  refine lv_iload C.x C.b dL_law_1071 (lv_at hl 5 rfl) ?_
  refine lv_iconst (v := 1) C.x C.b dL_law_1073 (by decide) ?_
  refine lv_iadd C.x C.b dL_law_1074 ?_
  refine z_sld C hS hS0.1 hS0.2.1 hS0.2.2 h5.1 dL_law_1075 ?_
  refine z_callV C hR hS hl (n := 1) (C1 := RX3) (T := TX3) (N := 35) (ci := 3) (y := yX3_until) (bytes := cX3_until) (maxL := 2) (rt := (some .int)) (As := [.int (xs (i + 1).toNatClampNeg)]) (rest := []) hI_ rfl (lw_V q1936 q1937 q1938 q82 q1939) hdV_X3_until (by decide) rfl rfl (Nat.le_of_ble_eq_true rfl) dL_law_1076 h (fun r g_2 hk_ => ?_) (fun s g1 h => zKF.ex h)
  clear h; obtain ⟨bb, rfl, hI_, h⟩ := hk_
  show GW X E 7 g_2 1079 [(5, .int kk), (0, .ref b), (1, .ref x), (2, .ref m), (3, .ref o), (4, .int i)] [.int bb]
  intro H locs ls hR hS hl
  refine lv_istore (lv' := [(6, .int bb), (5, .int kk), (0, .ref b), (1, .ref x), (2, .ref m), (3, .ref o), (4, .int i)]) C.x C.b dL_law_1079 hl (by decide) rfl (fun ls hl => ?_)
  refine lv_aload_n C.x C.b dL_law_1081 rfl (lv_at hl 4 rfl) ?_
  refine z_callV C hR hS hl (n := 0) (C1 := RX3) (T := TX3) (N := 35) (ci := 3) (y := yX3_thrown) (bytes := cX3_thrown) (maxL := 1) (rt := (some .int)) (As := []) (rest := []) hI_ rfl (lw_V q1744 q1745 q1746 q82 q1747) hdV_X3_thrown (by decide) rfl rfl (Nat.le_of_ble_eq_true rfl) dL_law_1082 h (fun r g_3 hk_ => ?_) (fun s g1 h => zKF.ex h)
  clear h; obtain ⟨rfl, hg, h⟩ := hk_
  show GW X E 7 g_3 1085 [(6, .int bb), (5, .int kk), (0, .ref b), (1, .ref x), (2, .ref m), (3, .ref o), (4, .int i)] [.int kk]
  intro H locs ls hR hS hl
  refine lv_iload C.x C.b dL_law_1085 (lv_at hl 1 rfl) ?_
  refine lv_icmp_eq (tgt := 1092) C.x C.b dL_law_1087 (by decide) (fun _ => ?_) (fun c => absurd rfl c)
  refine lv_iload C.x C.b dL_law_1092 (lv_at hl 1 rfl) ?_
  refine lv_if_ne (tgt := 1109) C.x C.b dL_law_1094 (by decide) (fun c => ?_) (fun c => ?_)
  · refine lv_goto (tgt := 2645) C.x C.b dL_law_1109 (by decide) ?_
    exact hg H locs ls hR hS (lv_sub hl [2, 3, 4, 5, 6] rfl)
  · obtain ⟨f, q1, q2, zb_⟩ := h c
    refine lv_aload_n C.x C.b dL_law_1097 rfl (lv_at hl 5 rfl) ?_
    refine lv_iconst (v := 0) C.x C.b dL_law_1098 (by decide) ?_
    refine z_lald C hR q1 z_in01 dL_law_1099 ?_
    rw [show f (0 : Int32).toNatClampNeg = bb.toInt64 from q2]
    refine lv_iload C.x C.b dL_law_1100 (lv_at hl 0 rfl) ?_
    refine lv_i2l C.x C.b dL_law_1102 rfl ?_
    refine W.lcmp C.x C.b dL_law_1103 ?_
    rw [lg_cmp_s]
    refine lv_if_eq (tgt := 1109) C.x C.b dL_law_1104 (by decide) (fun _ => ?_) (fun c => absurd rfl c)
    refine lv_goto (tgt := 2645) C.x C.b dL_law_1109 (by decide) ?_
    exact hg H locs ls hR hS (lv_sub hl [2, 3, 4, 5, 6] rfl)
set_option maxHeartbeats 4000000 in
theorem bL_15 {X : zX} {E : zM} {nm : String} {x m o b0 k D b L : Nat} {xs : Nat → Int32} {g : zG} (hok : zOk X) (hnc : zNx X) (C : zC X (D + 2) E RX0 cL_law 7 ret nm) (hS0 : zLS X E b L xs) (hb : b0 + 15000 * 64 + 20000 ≤ zz X) (hk : k < 64) (hD : 400 ≤ D) {i : Int32} (h5 : zLi5 i L) {cd0 : Int32} (I : zIw X x m b0 k cd0 g) (hO : zOut o g) (hG : ∀ (g3 : zG) (cd : Int32), zIw X x m b0 (k + 1) cd g3 → zOut o g3 → GW X E 7 g3 2645 [(0, .ref b), (1, .ref x), (2, .ref m), (3, .ref o), (4, .int i)] []) : GW X E 7 g 1112 [(0, .ref b), (1, .ref x), (2, .ref m), (3, .ref o), (4, .int i)] [] := by
  intro H locs ls hR hS hl
  refine lv_aload_n C.x C.b dL_law_1112 rfl (lv_at hl 1 rfl) ?_
  refine lv_aload_n C.x C.b dL_law_1113 rfl (lv_at hl 0 rfl) ?_
  refine lv_iload C.x C.b dL_law_1114 (lv_at hl 4 rfl) ?_
  refine lv_iconst (v := 1) C.x C.b dL_law_1116 (by decide) ?_
  refine lv_iadd C.x C.b dL_law_1117 ?_
  refine z_sld C hS hS0.1 hS0.2.1 hS0.2.2 h5.1 dL_law_1118 ?_
  refine lv_aload_n C.x C.b dL_law_1119 rfl (lv_at hl 3 rfl) ?_
  refine z_callSW C hR hS hl (n := 3) (y := yX0_soon) (bytes := cX0_soon) (maxL := 4) (rt := some .int) (As := [.ref x, .int (xs (i + 1).toNatClampNeg), .ref o]) (rest := []) (lw_SW q1371 q1372 q72 q1373) hdS_X0_soon (by decide) rfl rfl (Nat.le_of_ble_eq_true rfl) dL_law_1120 (mX0_soon hok hnc x (xs (i + 1).toNatClampNeg) o I.is1 (zPair.k2 hok (pr_soon hok hb hk hD hO I) hG)) (fun r g_1 hk_ => ?_) (fun s g1 h => zKF.ex h)
  obtain ⟨kk, rfl, hI_, h⟩ := hk_
  show GW X E 7 g_1 1123 [(0, .ref b), (1, .ref x), (2, .ref m), (3, .ref o), (4, .int i)] [.int kk]
  intro H locs ls hR hS hl
  refine lv_istore (lv' := [(5, .int kk), (0, .ref b), (1, .ref x), (2, .ref m), (3, .ref o), (4, .int i)]) C.x C.b dL_law_1123 hl (by decide) rfl (fun ls hl => ?_)
  refine lv_aload_n C.x C.b dL_law_1125 rfl (lv_at hl 3 rfl) ?_
  refine lv_aload_n C.x C.b dL_law_1126 rfl (lv_at hl 1 rfl) ?_
  refine lv_iload C.x C.b dL_law_1127 (lv_at hl 5 rfl) ?_
  refine lv_iconst (v := 1) C.x C.b dL_law_1129 (by decide) ?_
  refine lv_iadd C.x C.b dL_law_1130 ?_
  refine z_sld C hS hS0.1 hS0.2.1 hS0.2.2 h5.1 dL_law_1131 ?_
  refine z_callV C hR hS hl (n := 1) (C1 := RX3) (T := TX3) (N := 35) (ci := 3) (y := yX3_soon) (bytes := cX3_soon) (maxL := 2) (rt := (some .int)) (As := [.int (xs (i + 1).toNatClampNeg)]) (rest := []) hI_ rfl (lw_V q1940 q1941 q1942 q82 q1943) hdV_X3_soon (by decide) rfl rfl (Nat.le_of_ble_eq_true rfl) dL_law_1132 h (fun r g_2 hk_ => ?_) (fun s g1 h => zKF.ex h)
  clear h; obtain ⟨bb, rfl, hI_, h⟩ := hk_
  show GW X E 7 g_2 1135 [(5, .int kk), (0, .ref b), (1, .ref x), (2, .ref m), (3, .ref o), (4, .int i)] [.int bb]
  intro H locs ls hR hS hl
  refine lv_istore (lv' := [(6, .int bb), (5, .int kk), (0, .ref b), (1, .ref x), (2, .ref m), (3, .ref o), (4, .int i)]) C.x C.b dL_law_1135 hl (by decide) rfl (fun ls hl => ?_)
  refine lv_aload_n C.x C.b dL_law_1137 rfl (lv_at hl 4 rfl) ?_
  refine z_callV C hR hS hl (n := 0) (C1 := RX3) (T := TX3) (N := 35) (ci := 3) (y := yX3_thrown) (bytes := cX3_thrown) (maxL := 1) (rt := (some .int)) (As := []) (rest := []) hI_ rfl (lw_V q1744 q1745 q1746 q82 q1747) hdV_X3_thrown (by decide) rfl rfl (Nat.le_of_ble_eq_true rfl) dL_law_1138 h (fun r g_3 hk_ => ?_) (fun s g1 h => zKF.ex h)
  clear h; obtain ⟨rfl, hg, h⟩ := hk_
  show GW X E 7 g_3 1141 [(6, .int bb), (5, .int kk), (0, .ref b), (1, .ref x), (2, .ref m), (3, .ref o), (4, .int i)] [.int kk]
  intro H locs ls hR hS hl
  refine lv_iload C.x C.b dL_law_1141 (lv_at hl 1 rfl) ?_
  refine lv_icmp_eq (tgt := 1148) C.x C.b dL_law_1143 (by decide) (fun _ => ?_) (fun c => absurd rfl c)
  refine lv_iload C.x C.b dL_law_1148 (lv_at hl 1 rfl) ?_
  refine lv_if_ne (tgt := 1165) C.x C.b dL_law_1150 (by decide) (fun c => ?_) (fun c => ?_)
  · refine lv_goto (tgt := 2645) C.x C.b dL_law_1165 (by decide) ?_
    exact hg H locs ls hR hS (lv_sub hl [2, 3, 4, 5, 6] rfl)
  · obtain ⟨f, q1, q2, zb_⟩ := h c
    refine lv_aload_n C.x C.b dL_law_1153 rfl (lv_at hl 5 rfl) ?_
    refine lv_iconst (v := 0) C.x C.b dL_law_1154 (by decide) ?_
    refine z_lald C hR q1 z_in01 dL_law_1155 ?_
    rw [show f (0 : Int32).toNatClampNeg = bb.toInt64 from q2]
    refine lv_iload C.x C.b dL_law_1156 (lv_at hl 0 rfl) ?_
    refine lv_i2l C.x C.b dL_law_1158 rfl ?_
    refine W.lcmp C.x C.b dL_law_1159 ?_
    rw [lg_cmp_s]
    refine lv_if_eq (tgt := 1165) C.x C.b dL_law_1160 (by decide) (fun _ => ?_) (fun c => absurd rfl c)
    refine lv_goto (tgt := 2645) C.x C.b dL_law_1165 (by decide) ?_
    exact hg H locs ls hR hS (lv_sub hl [2, 3, 4, 5, 6] rfl)
set_option maxHeartbeats 4000000 in
theorem bL_16 {X : zX} {E : zM} {nm : String} {x m o b0 k D b L : Nat} {xs : Nat → Int32} {g : zG} (hok : zOk X) (hnc : zNx X) (C : zC X (D + 2) E RX0 cL_law 7 ret nm) (hS0 : zLS X E b L xs) (hb : b0 + 15000 * 64 + 20000 ≤ zz X) (hk : k < 64) (hD : 400 ≤ D) {i : Int32} (h5 : zLi5 i L) {cd0 : Int32} (I : zIw X x m b0 k cd0 g) (hO : zOut o g) (hG : ∀ (g3 : zG) (cd : Int32), zIw X x m b0 (k + 1) cd g3 → zOut o g3 → GW X E 7 g3 2645 [(0, .ref b), (1, .ref x), (2, .ref m), (3, .ref o), (4, .int i)] []) : GW X E 7 g 1168 [(0, .ref b), (1, .ref x), (2, .ref m), (3, .ref o), (4, .int i)] [] := by
  intro H locs ls hR hS hl
  refine lv_aload_n C.x C.b dL_law_1168 rfl (lv_at hl 1 rfl) ?_
  refine lv_aload_n C.x C.b dL_law_1169 rfl (lv_at hl 0 rfl) ?_
  refine lv_iload C.x C.b dL_law_1170 (lv_at hl 4 rfl) ?_
  refine lv_iconst (v := 1) C.x C.b dL_law_1172 (by decide) ?_
  refine lv_iadd C.x C.b dL_law_1173 ?_
  refine z_sld C hS hS0.1 hS0.2.1 hS0.2.2 h5.1 dL_law_1174 ?_
  refine lv_aload_n C.x C.b dL_law_1175 rfl (lv_at hl 0 rfl) ?_
  refine lv_iload C.x C.b dL_law_1176 (lv_at hl 4 rfl) ?_
  refine lv_iconst (v := 2) C.x C.b dL_law_1178 (by decide) ?_
  refine lv_iadd C.x C.b dL_law_1179 ?_
  refine z_sld C hS hS0.1 hS0.2.1 hS0.2.2 h5.2.1 dL_law_1180 ?_
  refine lv_aload_n C.x C.b dL_law_1181 rfl (lv_at hl 3 rfl) ?_
  refine z_callSW C hR hS hl (n := 4) (y := yX0_many) (bytes := cX0_many) (maxL := 5) (rt := some .int) (As := [.ref x, .int (xs (i + 1).toNatClampNeg), .int (xs (i + 2).toNatClampNeg), .ref o]) (rest := []) (lw_SW q1379 q1380 q72 q1381) hdS_X0_many (by decide) rfl rfl (Nat.le_of_ble_eq_true rfl) dL_law_1182 (mX0_many hok hnc x (xs (i + 1).toNatClampNeg) (xs (i + 2).toNatClampNeg) o I.is1 (zPair.k2 hok (pr_many hok hb hk hD hO I) hG)) (fun r g_1 hk_ => ?_) (fun s g1 h => zKF.ex h)
  obtain ⟨kk, rfl, hI_, h⟩ := hk_
  show GW X E 7 g_1 1185 [(0, .ref b), (1, .ref x), (2, .ref m), (3, .ref o), (4, .int i)] [.int kk]
  intro H locs ls hR hS hl
  refine lv_istore (lv' := [(5, .int kk), (0, .ref b), (1, .ref x), (2, .ref m), (3, .ref o), (4, .int i)]) C.x C.b dL_law_1185 hl (by decide) rfl (fun ls hl => ?_)
  refine lv_aload_n C.x C.b dL_law_1187 rfl (lv_at hl 3 rfl) ?_
  refine lv_aload_n C.x C.b dL_law_1188 rfl (lv_at hl 1 rfl) ?_
  refine lv_iload C.x C.b dL_law_1189 (lv_at hl 5 rfl) ?_
  refine lv_iconst (v := 1) C.x C.b dL_law_1191 (by decide) ?_
  refine lv_iadd C.x C.b dL_law_1192 ?_
  refine z_sld C hS hS0.1 hS0.2.1 hS0.2.2 h5.1 dL_law_1193 ?_
  refine lv_aload_n C.x C.b dL_law_1194 rfl (lv_at hl 1 rfl) ?_
  refine lv_iload C.x C.b dL_law_1195 (lv_at hl 5 rfl) ?_
  refine lv_iconst (v := 2) C.x C.b dL_law_1197 (by decide) ?_
  refine lv_iadd C.x C.b dL_law_1198 ?_
  refine z_sld C hS hS0.1 hS0.2.1 hS0.2.2 h5.2.1 dL_law_1199 ?_
  refine z_callV C hR hS hl (n := 2) (C1 := RX3) (T := TX3) (N := 35) (ci := 3) (y := yX3_many) (bytes := cX3_many) (maxL := 3) (rt := (some .int)) (As := [.int (xs (i + 1).toNatClampNeg), .int (xs (i + 2).toNatClampNeg)]) (rest := []) hI_ rfl (lw_V q1944 q1945 q1946 q82 q1947) hdV_X3_many (by decide) rfl rfl (Nat.le_of_ble_eq_true rfl) dL_law_1200 h (fun r g_2 hk_ => ?_) (fun s g1 h => zKF.ex h)
  clear h; obtain ⟨bb, rfl, hI_, h⟩ := hk_
  show GW X E 7 g_2 1203 [(5, .int kk), (0, .ref b), (1, .ref x), (2, .ref m), (3, .ref o), (4, .int i)] [.int bb]
  intro H locs ls hR hS hl
  refine lv_istore (lv' := [(6, .int bb), (5, .int kk), (0, .ref b), (1, .ref x), (2, .ref m), (3, .ref o), (4, .int i)]) C.x C.b dL_law_1203 hl (by decide) rfl (fun ls hl => ?_)
  refine lv_aload_n C.x C.b dL_law_1205 rfl (lv_at hl 4 rfl) ?_
  refine z_callV C hR hS hl (n := 0) (C1 := RX3) (T := TX3) (N := 35) (ci := 3) (y := yX3_thrown) (bytes := cX3_thrown) (maxL := 1) (rt := (some .int)) (As := []) (rest := []) hI_ rfl (lw_V q1744 q1745 q1746 q82 q1747) hdV_X3_thrown (by decide) rfl rfl (Nat.le_of_ble_eq_true rfl) dL_law_1206 h (fun r g_3 hk_ => ?_) (fun s g1 h => zKF.ex h)
  clear h; obtain ⟨rfl, hg, h⟩ := hk_
  show GW X E 7 g_3 1209 [(6, .int bb), (5, .int kk), (0, .ref b), (1, .ref x), (2, .ref m), (3, .ref o), (4, .int i)] [.int kk]
  intro H locs ls hR hS hl
  refine lv_iload C.x C.b dL_law_1209 (lv_at hl 1 rfl) ?_
  refine lv_icmp_eq (tgt := 1216) C.x C.b dL_law_1211 (by decide) (fun _ => ?_) (fun c => absurd rfl c)
  refine lv_iload C.x C.b dL_law_1216 (lv_at hl 1 rfl) ?_
  refine lv_if_ne (tgt := 1233) C.x C.b dL_law_1218 (by decide) (fun c => ?_) (fun c => ?_)
  · refine lv_goto (tgt := 2645) C.x C.b dL_law_1233 (by decide) ?_
    exact hg H locs ls hR hS (lv_sub hl [2, 3, 4, 5, 6] rfl)
  · obtain ⟨f, q1, q2, zb_⟩ := h c
    refine lv_aload_n C.x C.b dL_law_1221 rfl (lv_at hl 5 rfl) ?_
    refine lv_iconst (v := 0) C.x C.b dL_law_1222 (by decide) ?_
    refine z_lald C hR q1 z_in01 dL_law_1223 ?_
    rw [show f (0 : Int32).toNatClampNeg = bb.toInt64 from q2]
    refine lv_iload C.x C.b dL_law_1224 (lv_at hl 0 rfl) ?_
    refine lv_i2l C.x C.b dL_law_1226 rfl ?_
    refine W.lcmp C.x C.b dL_law_1227 ?_
    rw [lg_cmp_s]
    refine lv_if_eq (tgt := 1233) C.x C.b dL_law_1228 (by decide) (fun _ => ?_) (fun c => absurd rfl c)
    refine lv_goto (tgt := 2645) C.x C.b dL_law_1233 (by decide) ?_
    exact hg H locs ls hR hS (lv_sub hl [2, 3, 4, 5, 6] rfl)
set_option maxHeartbeats 4000000 in
theorem bL_17 {X : zX} {E : zM} {nm : String} {x m o b0 k D b L : Nat} {xs : Nat → Int32} {g : zG} (hok : zOk X) (hnc : zNx X) (C : zC X (D + 2) E RX0 cL_law 7 ret nm) (hS0 : zLS X E b L xs) (hb : b0 + 15000 * 64 + 20000 ≤ zz X) (hk : k < 64) (hD : 400 ≤ D) {i : Int32} (h5 : zLi5 i L) {cd0 : Int32} (I : zIw X x m b0 k cd0 g) (hO : zOut o g) (hG : ∀ (g3 : zG) (cd : Int32), zIw X x m b0 (k + 1) cd g3 → zOut o g3 → GW X E 7 g3 2645 [(0, .ref b), (1, .ref x), (2, .ref m), (3, .ref o), (4, .int i)] []) : GW X E 7 g 1236 [(0, .ref b), (1, .ref x), (2, .ref m), (3, .ref o), (4, .int i)] [] := by
  intro H locs ls hR hS hl
  refine lv_aload_n C.x C.b dL_law_1236 rfl (lv_at hl 1 rfl) ?_
  refine z_callV C hR hS hl (n := 0) (C1 := RX1) (T := TX1) (N := 12) (ci := 1) (y := yX1_scrap) (bytes := cX1_scrap) (maxL := 2) (rt := (some .int)) (As := []) (rest := []) I.is1 rfl (lw_V q286 q287 q288 q73 q289) hdV_X1_scrap (by decide) rfl rfl (Nat.le_of_ble_eq_true rfl) dL_law_1237 (zPair.k0 (pr_scrap hok hb hk (by omega) hO I) hG) (fun r g_1 hk_ => ?_) (fun s g1 h => zKF.ex h)
  obtain ⟨v, rfl, hI_, h⟩ := hk_
  show GW X E 7 g_1 1240 [(0, .ref b), (1, .ref x), (2, .ref m), (3, .ref o), (4, .int i)] [.int v]
  intro H locs ls hR hS hl
  refine lv_aload_n C.x C.b dL_law_1240 rfl (lv_at hl 2 rfl) ?_
  refine z_callV C hR hS hl (n := 0) (C1 := RX3) (T := TX3) (N := 35) (ci := 3) (y := yX3_scrap) (bytes := cX3_scrap) (maxL := 2) (rt := (some .int)) (As := []) (rest := [.int v]) hI_ rfl (lw_V q1948 q1949 q1950 q82 q1951) hdV_X3_scrap (by decide) rfl rfl (Nat.le_of_ble_eq_true rfl) dL_law_1241 h (fun r g_2 hk_ => ?_) (fun s g1 h => zKF.ex h)
  obtain ⟨rfl, hg⟩ := hk_
  show GW X E 7 g_2 1244 [(0, .ref b), (1, .ref x), (2, .ref m), (3, .ref o), (4, .int i)] [.int v, .int v]
  intro H locs ls hR hS hl
  refine lv_icmp_eq (tgt := 2645) C.x C.b dL_law_1244 (by decide) (fun _ => ?_) (fun c => absurd rfl c)
  exact hg H locs ls hR hS hl
set_option maxHeartbeats 4000000 in
theorem bL_18 {X : zX} {E : zM} {nm : String} {x m o b0 k D b L : Nat} {xs : Nat → Int32} {g : zG} (hok : zOk X) (hnc : zNx X) (C : zC X (D + 2) E RX0 cL_law 7 ret nm) (hS0 : zLS X E b L xs) (hb : b0 + 15000 * 64 + 20000 ≤ zz X) (hk : k < 64) (hD : 400 ≤ D) {i : Int32} (h5 : zLi5 i L) {cd0 : Int32} (I : zIw X x m b0 k cd0 g) (hO : zOut o g) (hG : ∀ (g3 : zG) (cd : Int32), zIw X x m b0 (k + 1) cd g3 → zOut o g3 → GW X E 7 g3 2645 [(0, .ref b), (1, .ref x), (2, .ref m), (3, .ref o), (4, .int i)] []) : GW X E 7 g 1249 [(0, .ref b), (1, .ref x), (2, .ref m), (3, .ref o), (4, .int i)] [] := by
  intro H locs ls hR hS hl
  refine lv_aload_n C.x C.b dL_law_1249 rfl (lv_at hl 1 rfl) ?_
  refine lv_aload_n C.x C.b dL_law_1250 rfl (lv_at hl 0 rfl) ?_
  refine lv_iload C.x C.b dL_law_1251 (lv_at hl 4 rfl) ?_
  refine lv_iconst (v := 1) C.x C.b dL_law_1253 (by decide) ?_
  refine lv_iadd C.x C.b dL_law_1254 ?_
  refine z_sld C hS hS0.1 hS0.2.1 hS0.2.2 h5.1 dL_law_1255 ?_
  refine z_bool C dL_law_1256 dL_law_1259 dL_law_1260 dL_law_1263 ?_
  refine lv_aload_n C.x C.b dL_law_1264 rfl (lv_at hl 0 rfl) ?_
  refine lv_iload C.x C.b dL_law_1265 (lv_at hl 4 rfl) ?_
  refine lv_iconst (v := 2) C.x C.b dL_law_1267 (by decide) ?_
  refine lv_iadd C.x C.b dL_law_1268 ?_
  refine z_sld C hS hS0.1 hS0.2.1 hS0.2.2 h5.2.1 dL_law_1269 ?_
  refine z_bool C dL_law_1270 dL_law_1273 dL_law_1274 dL_law_1277 ?_
  refine lv_aload_n C.x C.b dL_law_1278 rfl (lv_at hl 3 rfl) ?_
  refine z_callSW C hR hS hl (n := 4) (y := yX0_watch) (bytes := cX0_watch) (maxL := 5) (rt := some .int) (As := [.ref x, .int (if xs (i + 1).toNatClampNeg = 0 then 0 else 1), .int (if xs (i + 2).toNatClampNeg = 0 then 0 else 1), .ref o]) (rest := []) (lw_SW q1388 q1389 q72 q1390) hdS_X0_watch (by decide) rfl rfl (Nat.le_of_ble_eq_true rfl) dL_law_1279 (mX0_watch hok hnc x (if xs (i + 1).toNatClampNeg = 0 then 0 else 1) (if xs (i + 2).toNatClampNeg = 0 then 0 else 1) o I.is1 (zPair.k1 hok (pr_watch hok hb hk hD hO I (zbo_if _) (zbo_if _)) hG)) (fun r g_1 hk_ => ?_) (fun s g1 h => zKF.ex h)
  obtain ⟨kk, rfl, hI_, h⟩ := hk_
  show GW X E 7 g_1 1282 [(0, .ref b), (1, .ref x), (2, .ref m), (3, .ref o), (4, .int i)] [.int kk]
  intro H locs ls hR hS hl
  refine lv_istore (lv' := [(5, .int kk), (0, .ref b), (1, .ref x), (2, .ref m), (3, .ref o), (4, .int i)]) C.x C.b dL_law_1282 hl (by decide) rfl (fun ls hl => ?_)
  refine lv_aload_n C.x C.b dL_law_1284 rfl (lv_at hl 3 rfl) ?_
  refine lv_aload_n C.x C.b dL_law_1285 rfl (lv_at hl 1 rfl) ?_
  refine lv_iload C.x C.b dL_law_1286 (lv_at hl 5 rfl) ?_
  refine lv_iconst (v := 1) C.x C.b dL_law_1288 (by decide) ?_
  refine lv_iadd C.x C.b dL_law_1289 ?_
  refine z_sld C hS hS0.1 hS0.2.1 hS0.2.2 h5.1 dL_law_1290 ?_
  refine z_bool C dL_law_1291 dL_law_1294 dL_law_1295 dL_law_1298 ?_
  refine lv_aload_n C.x C.b dL_law_1299 rfl (lv_at hl 1 rfl) ?_
  refine lv_iload C.x C.b dL_law_1300 (lv_at hl 5 rfl) ?_
  refine lv_iconst (v := 2) C.x C.b dL_law_1302 (by decide) ?_
  refine lv_iadd C.x C.b dL_law_1303 ?_
  refine z_sld C hS hS0.1 hS0.2.1 hS0.2.2 h5.2.1 dL_law_1304 ?_
  refine z_bool C dL_law_1305 dL_law_1308 dL_law_1309 dL_law_1312 ?_
  refine z_callV C hR hS hl (n := 2) (C1 := RX3) (T := TX3) (N := 35) (ci := 3) (y := yX3_watch) (bytes := cX3_watch) (maxL := 5) (rt := (some .int)) (As := [.int (if xs (i + 1).toNatClampNeg = 0 then 0 else 1), .int (if xs (i + 2).toNatClampNeg = 0 then 0 else 1)]) (rest := []) hI_ rfl (lw_V q1956 q1957 q1958 q82 q1959) hdV_X3_watch (by decide) rfl rfl (Nat.le_of_ble_eq_true rfl) dL_law_1313 h (fun r g_2 hk_ => ?_) (fun s g1 h => zKF.ex h)
  clear h; obtain ⟨bb, rfl, hI_, h⟩ := hk_
  show GW X E 7 g_2 1316 [(5, .int kk), (0, .ref b), (1, .ref x), (2, .ref m), (3, .ref o), (4, .int i)] [.int bb]
  intro H locs ls hR hS hl
  refine lv_istore (lv' := [(6, .int bb), (5, .int kk), (0, .ref b), (1, .ref x), (2, .ref m), (3, .ref o), (4, .int i)]) C.x C.b dL_law_1316 hl (by decide) rfl (fun ls hl => ?_)
  refine lv_aload_n C.x C.b dL_law_1318 rfl (lv_at hl 4 rfl) ?_
  refine z_callV C hR hS hl (n := 0) (C1 := RX3) (T := TX3) (N := 35) (ci := 3) (y := yX3_thrown) (bytes := cX3_thrown) (maxL := 1) (rt := (some .int)) (As := []) (rest := []) hI_ rfl (lw_V q1744 q1745 q1746 q82 q1747) hdV_X3_thrown (by decide) rfl rfl (Nat.le_of_ble_eq_true rfl) dL_law_1319 h (fun r g_3 hk_ => ?_) (fun s g1 h => zKF.ex h)
  clear h; obtain ⟨rfl, hg, h⟩ := hk_
  show GW X E 7 g_3 1322 [(6, .int bb), (5, .int kk), (0, .ref b), (1, .ref x), (2, .ref m), (3, .ref o), (4, .int i)] [.int kk]
  intro H locs ls hR hS hl
  refine lv_iload C.x C.b dL_law_1322 (lv_at hl 1 rfl) ?_
  refine lv_icmp_eq (tgt := 1329) C.x C.b dL_law_1324 (by decide) (fun _ => ?_) (fun c => absurd rfl c)
  refine lv_iload C.x C.b dL_law_1329 (lv_at hl 1 rfl) ?_
  refine lv_if_ne (tgt := 1346) C.x C.b dL_law_1331 (by decide) (fun c => ?_) (fun c => ?_)
  · refine lv_goto (tgt := 2645) C.x C.b dL_law_1346 (by decide) ?_
    exact hg H locs ls hR hS (lv_sub hl [2, 3, 4, 5, 6] rfl)
  · obtain ⟨f, q1, q2, zb_⟩ := h c
    refine lv_aload_n C.x C.b dL_law_1334 rfl (lv_at hl 5 rfl) ?_
    refine lv_iconst (v := 0) C.x C.b dL_law_1335 (by decide) ?_
    refine z_lald C hR q1 z_in01 dL_law_1336 ?_
    rw [show f (0 : Int32).toNatClampNeg = bb.toInt64 from q2]
    refine lv_iload C.x C.b dL_law_1337 (lv_at hl 0 rfl) ?_
    refine lv_i2l C.x C.b dL_law_1339 rfl ?_
    refine W.lcmp C.x C.b dL_law_1340 ?_
    rw [lg_cmp_s]
    refine lv_if_eq (tgt := 1346) C.x C.b dL_law_1341 (by decide) (fun _ => ?_) (fun c => absurd rfl c)
    refine lv_goto (tgt := 2645) C.x C.b dL_law_1346 (by decide) ?_
    exact hg H locs ls hR hS (lv_sub hl [2, 3, 4, 5, 6] rfl)
set_option maxHeartbeats 4000000 in
theorem bL_19 {X : zX} {E : zM} {nm : String} {x m o b0 k D b L : Nat} {xs : Nat → Int32} {g : zG} (hok : zOk X) (hnc : zNx X) (C : zC X (D + 2) E RX0 cL_law 7 ret nm) (hS0 : zLS X E b L xs) (hb : b0 + 15000 * 64 + 20000 ≤ zz X) (hk : k < 64) (hD : 400 ≤ D) {i : Int32} (h5 : zLi5 i L) {cd0 : Int32} (I : zIw X x m b0 k cd0 g) (hO : zOut o g) (hG : ∀ (g3 : zG) (cd : Int32), zIw X x m b0 (k + 1) cd g3 → zOut o g3 → GW X E 7 g3 2645 [(0, .ref b), (1, .ref x), (2, .ref m), (3, .ref o), (4, .int i)] []) : GW X E 7 g 1349 [(0, .ref b), (1, .ref x), (2, .ref m), (3, .ref o), (4, .int i)] [] := by
  intro H locs ls hR hS hl
  refine lv_aload_n C.x C.b dL_law_1349 rfl (lv_at hl 1 rfl) ?_
  refine z_callV C hR hS hl (n := 0) (C1 := RX1) (T := TX1) (N := 12) (ci := 1) (y := yX1_events) (bytes := cX1_events) (maxL := 1) (rt := (some .int)) (As := []) (rest := []) I.is1 rfl (lw_V q308 q309 q310 q73 q311) hdV_X1_events (by decide) rfl rfl (Nat.le_of_ble_eq_true rfl) dL_law_1350 (zPair.k0 (pr_events hok hb hk (by omega) hO I) hG) (fun r g_1 hk_ => ?_) (fun s g1 h => zKF.ex h)
  obtain ⟨v, rfl, hI_, h⟩ := hk_
  show GW X E 7 g_1 1353 [(0, .ref b), (1, .ref x), (2, .ref m), (3, .ref o), (4, .int i)] [.int v]
  intro H locs ls hR hS hl
  refine lv_aload_n C.x C.b dL_law_1353 rfl (lv_at hl 2 rfl) ?_
  refine z_callV C hR hS hl (n := 0) (C1 := RX3) (T := TX3) (N := 35) (ci := 3) (y := yX3_events) (bytes := cX3_events) (maxL := 1) (rt := (some .int)) (As := []) (rest := [.int v]) hI_ rfl (lw_V q1960 q1961 q1962 q82 q1963) hdV_X3_events (by decide) rfl rfl (Nat.le_of_ble_eq_true rfl) dL_law_1354 h (fun r g_2 hk_ => ?_) (fun s g1 h => zKF.ex h)
  obtain ⟨rfl, hg⟩ := hk_
  show GW X E 7 g_2 1357 [(0, .ref b), (1, .ref x), (2, .ref m), (3, .ref o), (4, .int i)] [.int v, .int v]
  intro H locs ls hR hS hl
  refine lv_icmp_eq (tgt := 2645) C.x C.b dL_law_1357 (by decide) (fun _ => ?_) (fun c => absurd rfl c)
  exact hg H locs ls hR hS hl
set_option maxHeartbeats 4000000 in
theorem bL_20 {X : zX} {E : zM} {nm : String} {x m o b0 k D b L : Nat} {xs : Nat → Int32} {g : zG} (hok : zOk X) (hnc : zNx X) (C : zC X (D + 2) E RX0 cL_law 7 ret nm) (hS0 : zLS X E b L xs) (hb : b0 + 15000 * 64 + 20000 ≤ zz X) (hk : k < 64) (hD : 400 ≤ D) {i : Int32} (h5 : zLi5 i L) {cd0 : Int32} (I : zIw X x m b0 k cd0 g) (hO : zOut o g) (hG : ∀ (g3 : zG) (cd : Int32), zIw X x m b0 (k + 1) cd g3 → zOut o g3 → GW X E 7 g3 2645 [(0, .ref b), (1, .ref x), (2, .ref m), (3, .ref o), (4, .int i)] []) : GW X E 7 g 1362 [(0, .ref b), (1, .ref x), (2, .ref m), (3, .ref o), (4, .int i)] [] := by
  intro H locs ls hR hS hl
  refine lv_aload_n C.x C.b dL_law_1362 rfl (lv_at hl 1 rfl) ?_
  refine z_callV C hR hS hl (n := 0) (C1 := RX1) (T := TX1) (N := 12) (ci := 1) (y := yX1_dropped) (bytes := cX1_dropped) (maxL := 1) (rt := (some .int)) (As := []) (rest := []) I.is1 rfl (lw_V q312 q313 q314 q73 q315) hdV_X1_dropped (by decide) rfl rfl (Nat.le_of_ble_eq_true rfl) dL_law_1363 (zPair.k0 (pr_dropped hok hb hk (by omega) hO I) hG) (fun r g_1 hk_ => ?_) (fun s g1 h => zKF.ex h)
  obtain ⟨v, rfl, hI_, h⟩ := hk_
  show GW X E 7 g_1 1366 [(0, .ref b), (1, .ref x), (2, .ref m), (3, .ref o), (4, .int i)] [.int v]
  intro H locs ls hR hS hl
  refine lv_aload_n C.x C.b dL_law_1366 rfl (lv_at hl 2 rfl) ?_
  refine z_callV C hR hS hl (n := 0) (C1 := RX3) (T := TX3) (N := 35) (ci := 3) (y := yX3_dropped) (bytes := cX3_dropped) (maxL := 1) (rt := (some .int)) (As := []) (rest := [.int v]) hI_ rfl (lw_V q1964 q1965 q1966 q82 q1967) hdV_X3_dropped (by decide) rfl rfl (Nat.le_of_ble_eq_true rfl) dL_law_1367 h (fun r g_2 hk_ => ?_) (fun s g1 h => zKF.ex h)
  obtain ⟨rfl, hg⟩ := hk_
  show GW X E 7 g_2 1370 [(0, .ref b), (1, .ref x), (2, .ref m), (3, .ref o), (4, .int i)] [.int v, .int v]
  intro H locs ls hR hS hl
  refine lv_icmp_eq (tgt := 2645) C.x C.b dL_law_1370 (by decide) (fun _ => ?_) (fun c => absurd rfl c)
  exact hg H locs ls hR hS hl
set_option maxHeartbeats 4000000 in
theorem bL_21 {X : zX} {E : zM} {nm : String} {x m o b0 k D b L : Nat} {xs : Nat → Int32} {g : zG} (hok : zOk X) (hnc : zNx X) (C : zC X (D + 2) E RX0 cL_law 7 ret nm) (hS0 : zLS X E b L xs) (hb : b0 + 15000 * 64 + 20000 ≤ zz X) (hk : k < 64) (hD : 400 ≤ D) {i : Int32} (h5 : zLi5 i L) {cd0 : Int32} (I : zIw X x m b0 k cd0 g) (hO : zOut o g) (hG : ∀ (g3 : zG) (cd : Int32), zIw X x m b0 (k + 1) cd g3 → zOut o g3 → GW X E 7 g3 2645 [(0, .ref b), (1, .ref x), (2, .ref m), (3, .ref o), (4, .int i)] []) : GW X E 7 g 1375 [(0, .ref b), (1, .ref x), (2, .ref m), (3, .ref o), (4, .int i)] [] := by
  intro H locs ls hR hS hl
  refine lv_aload_n C.x C.b dL_law_1375 rfl (lv_at hl 1 rfl) ?_
  refine z_callV C hR hS hl (n := 0) (C1 := RX1) (T := TX1) (N := 12) (ci := 1) (y := yX1_present) (bytes := cX1_present) (maxL := 1) (rt := (some .int)) (As := []) (rest := []) I.is1 rfl (lw_V q316 q317 q318 q73 q319) hdV_X1_present (by decide) rfl rfl (Nat.le_of_ble_eq_true rfl) dL_law_1376 (zPair.k0 (pr_present hok hb hk (by omega) hO I) hG) (fun r g_1 hk_ => ?_) (fun s g1 h => zKF.ex h)
  obtain ⟨v, rfl, hI_, h⟩ := hk_
  show GW X E 7 g_1 1379 [(0, .ref b), (1, .ref x), (2, .ref m), (3, .ref o), (4, .int i)] [.int v]
  intro H locs ls hR hS hl
  refine lv_aload_n C.x C.b dL_law_1379 rfl (lv_at hl 2 rfl) ?_
  refine z_callV C hR hS hl (n := 0) (C1 := RX3) (T := TX3) (N := 35) (ci := 3) (y := yX3_present) (bytes := cX3_present) (maxL := 1) (rt := (some .int)) (As := []) (rest := [.int v]) hI_ rfl (lw_V q1968 q1969 q1970 q82 q1971) hdV_X3_present (by decide) rfl rfl (Nat.le_of_ble_eq_true rfl) dL_law_1380 h (fun r g_2 hk_ => ?_) (fun s g1 h => zKF.ex h)
  obtain ⟨rfl, hg⟩ := hk_
  show GW X E 7 g_2 1383 [(0, .ref b), (1, .ref x), (2, .ref m), (3, .ref o), (4, .int i)] [.int v, .int v]
  intro H locs ls hR hS hl
  refine lv_icmp_eq (tgt := 2645) C.x C.b dL_law_1383 (by decide) (fun _ => ?_) (fun c => absurd rfl c)
  exact hg H locs ls hR hS hl
set_option maxHeartbeats 4000000 in
theorem bL_22 {X : zX} {E : zM} {nm : String} {x m o b0 k D b L : Nat} {xs : Nat → Int32} {g : zG} (hok : zOk X) (hnc : zNx X) (C : zC X (D + 2) E RX0 cL_law 7 ret nm) (hS0 : zLS X E b L xs) (hb : b0 + 15000 * 64 + 20000 ≤ zz X) (hk : k < 64) (hD : 400 ≤ D) {i : Int32} (h5 : zLi5 i L) {cd0 : Int32} (I : zIw X x m b0 k cd0 g) (hO : zOut o g) (hG : ∀ (g3 : zG) (cd : Int32), zIw X x m b0 (k + 1) cd g3 → zOut o g3 → GW X E 7 g3 2645 [(0, .ref b), (1, .ref x), (2, .ref m), (3, .ref o), (4, .int i)] []) : GW X E 7 g 1388 [(0, .ref b), (1, .ref x), (2, .ref m), (3, .ref o), (4, .int i)] [] := by
  intro H locs ls hR hS hl
  refine lv_aload_n C.x C.b dL_law_1388 rfl (lv_at hl 1 rfl) ?_
  refine lv_aload_n C.x C.b dL_law_1389 rfl (lv_at hl 0 rfl) ?_
  refine lv_iload C.x C.b dL_law_1390 (lv_at hl 4 rfl) ?_
  refine lv_iconst (v := 1) C.x C.b dL_law_1392 (by decide) ?_
  refine lv_iadd C.x C.b dL_law_1393 ?_
  refine z_sld C hS hS0.1 hS0.2.1 hS0.2.2 h5.1 dL_law_1394 ?_
  refine lv_aload_n C.x C.b dL_law_1395 rfl (lv_at hl 3 rfl) ?_
  refine z_callSW C hR hS hl (n := 3) (y := yX0_eventAt) (bytes := cX0_eventAt) (maxL := 4) (rt := some .int) (As := [.ref x, .int (xs (i + 1).toNatClampNeg), .ref o]) (rest := []) (lw_SW q1464 q1465 q72 q1466) hdS_X0_eventAt (by decide) rfl rfl (Nat.le_of_ble_eq_true rfl) dL_law_1396 (mX0_eventAt hok hnc x (xs (i + 1).toNatClampNeg) o I.is1 (zPair.k1 hok (pr_eventAt hok hb hk hD hO I) hG)) (fun r g_1 hk_ => ?_) (fun s g1 h => zKF.ex h)
  obtain ⟨kk, rfl, hI_, h⟩ := hk_
  show GW X E 7 g_1 1399 [(0, .ref b), (1, .ref x), (2, .ref m), (3, .ref o), (4, .int i)] [.int kk]
  intro H locs ls hR hS hl
  refine lv_istore (lv' := [(5, .int kk), (0, .ref b), (1, .ref x), (2, .ref m), (3, .ref o), (4, .int i)]) C.x C.b dL_law_1399 hl (by decide) rfl (fun ls hl => ?_)
  refine lv_aload_n C.x C.b dL_law_1401 rfl (lv_at hl 3 rfl) ?_
  refine lv_aload_n C.x C.b dL_law_1402 rfl (lv_at hl 1 rfl) ?_
  refine lv_iload C.x C.b dL_law_1403 (lv_at hl 5 rfl) ?_
  refine lv_iconst (v := 1) C.x C.b dL_law_1405 (by decide) ?_
  refine lv_iadd C.x C.b dL_law_1406 ?_
  refine z_sld C hS hS0.1 hS0.2.1 hS0.2.2 h5.1 dL_law_1407 ?_
  refine z_callV C hR hS hl (n := 1) (C1 := RX3) (T := TX3) (N := 35) (ci := 3) (y := yX3_eventAt) (bytes := cX3_eventAt) (maxL := 2) (rt := (some .int)) (As := [.int (xs (i + 1).toNatClampNeg)]) (rest := []) hI_ rfl (lw_V q1972 q1973 q1974 q82 q1975) hdV_X3_eventAt (by decide) rfl rfl (Nat.le_of_ble_eq_true rfl) dL_law_1408 h (fun r g_2 hk_ => ?_) (fun s g1 h => zKF.ex h)
  clear h; obtain ⟨bb, rfl, hI_, h⟩ := hk_
  show GW X E 7 g_2 1411 [(5, .int kk), (0, .ref b), (1, .ref x), (2, .ref m), (3, .ref o), (4, .int i)] [.int bb]
  intro H locs ls hR hS hl
  refine lv_istore (lv' := [(6, .int bb), (5, .int kk), (0, .ref b), (1, .ref x), (2, .ref m), (3, .ref o), (4, .int i)]) C.x C.b dL_law_1411 hl (by decide) rfl (fun ls hl => ?_)
  refine lv_aload_n C.x C.b dL_law_1413 rfl (lv_at hl 4 rfl) ?_
  refine z_callV C hR hS hl (n := 0) (C1 := RX3) (T := TX3) (N := 35) (ci := 3) (y := yX3_thrown) (bytes := cX3_thrown) (maxL := 1) (rt := (some .int)) (As := []) (rest := []) hI_ rfl (lw_V q1744 q1745 q1746 q82 q1747) hdV_X3_thrown (by decide) rfl rfl (Nat.le_of_ble_eq_true rfl) dL_law_1414 h (fun r g_3 hk_ => ?_) (fun s g1 h => zKF.ex h)
  clear h; obtain ⟨rfl, hg, h⟩ := hk_
  show GW X E 7 g_3 1417 [(6, .int bb), (5, .int kk), (0, .ref b), (1, .ref x), (2, .ref m), (3, .ref o), (4, .int i)] [.int kk]
  intro H locs ls hR hS hl
  refine lv_iload C.x C.b dL_law_1417 (lv_at hl 1 rfl) ?_
  refine lv_icmp_eq (tgt := 1424) C.x C.b dL_law_1419 (by decide) (fun _ => ?_) (fun c => absurd rfl c)
  refine lv_iload C.x C.b dL_law_1424 (lv_at hl 1 rfl) ?_
  refine lv_if_ne (tgt := 1441) C.x C.b dL_law_1426 (by decide) (fun c => ?_) (fun c => ?_)
  · refine lv_goto (tgt := 2645) C.x C.b dL_law_1441 (by decide) ?_
    exact hg H locs ls hR hS (lv_sub hl [2, 3, 4, 5, 6] rfl)
  · obtain ⟨f, q1, q2, zb_⟩ := h c
    refine lv_aload_n C.x C.b dL_law_1429 rfl (lv_at hl 5 rfl) ?_
    refine lv_iconst (v := 0) C.x C.b dL_law_1430 (by decide) ?_
    refine z_lald C hR q1 z_in01 dL_law_1431 ?_
    rw [show f (0 : Int32).toNatClampNeg = bb.toInt64 from q2]
    refine lv_iload C.x C.b dL_law_1432 (lv_at hl 0 rfl) ?_
    refine lv_i2l C.x C.b dL_law_1434 rfl ?_
    refine W.lcmp C.x C.b dL_law_1435 ?_
    rw [lg_cmp_s]
    refine lv_if_eq (tgt := 1441) C.x C.b dL_law_1436 (by decide) (fun _ => ?_) (fun c => absurd rfl c)
    refine lv_goto (tgt := 2645) C.x C.b dL_law_1441 (by decide) ?_
    exact hg H locs ls hR hS (lv_sub hl [2, 3, 4, 5, 6] rfl)
set_option maxHeartbeats 4000000 in
theorem bL_23 {X : zX} {E : zM} {nm : String} {x m o b0 k D b L : Nat} {xs : Nat → Int32} {g : zG} (hok : zOk X) (hnc : zNx X) (C : zC X (D + 2) E RX0 cL_law 7 ret nm) (hS0 : zLS X E b L xs) (hb : b0 + 15000 * 64 + 20000 ≤ zz X) (hk : k < 64) (hD : 400 ≤ D) {i : Int32} (h5 : zLi5 i L) {cd0 : Int32} (I : zIw X x m b0 k cd0 g) (hO : zOut o g) (hG : ∀ (g3 : zG) (cd : Int32), zIw X x m b0 (k + 1) cd g3 → zOut o g3 → GW X E 7 g3 2645 [(0, .ref b), (1, .ref x), (2, .ref m), (3, .ref o), (4, .int i)] []) : GW X E 7 g 1444 [(0, .ref b), (1, .ref x), (2, .ref m), (3, .ref o), (4, .int i)] [] := by
  intro H locs ls hR hS hl
  refine lv_aload_n C.x C.b dL_law_1444 rfl (lv_at hl 1 rfl) ?_
  refine lv_aload_n C.x C.b dL_law_1445 rfl (lv_at hl 0 rfl) ?_
  refine lv_iload C.x C.b dL_law_1446 (lv_at hl 4 rfl) ?_
  refine lv_iconst (v := 1) C.x C.b dL_law_1448 (by decide) ?_
  refine lv_iadd C.x C.b dL_law_1449 ?_
  refine z_sld C hS hS0.1 hS0.2.1 hS0.2.2 h5.1 dL_law_1450 ?_
  refine lv_aload_n C.x C.b dL_law_1451 rfl (lv_at hl 3 rfl) ?_
  refine z_callSW C hR hS hl (n := 3) (y := yX0_timeOf) (bytes := cX0_timeOf) (maxL := 4) (rt := some .int) (As := [.ref x, .int (xs (i + 1).toNatClampNeg), .ref o]) (rest := []) (lw_SW q1471 q1472 q72 q1473) hdS_X0_timeOf (by decide) rfl rfl (Nat.le_of_ble_eq_true rfl) dL_law_1452 (mX0_timeOf hok hnc x (xs (i + 1).toNatClampNeg) o I.is1 (zPair.k1 hok (pr_timeOf hok hb hk hD hO I) hG)) (fun r g_1 hk_ => ?_) (fun s g1 h => zKF.ex h)
  obtain ⟨kk, rfl, hI_, h⟩ := hk_
  show GW X E 7 g_1 1455 [(0, .ref b), (1, .ref x), (2, .ref m), (3, .ref o), (4, .int i)] [.int kk]
  intro H locs ls hR hS hl
  refine lv_istore (lv' := [(5, .int kk), (0, .ref b), (1, .ref x), (2, .ref m), (3, .ref o), (4, .int i)]) C.x C.b dL_law_1455 hl (by decide) rfl (fun ls hl => ?_)
  refine lv_aload_n C.x C.b dL_law_1457 rfl (lv_at hl 3 rfl) ?_
  refine lv_aload_n C.x C.b dL_law_1458 rfl (lv_at hl 1 rfl) ?_
  refine lv_iload C.x C.b dL_law_1459 (lv_at hl 5 rfl) ?_
  refine lv_iconst (v := 1) C.x C.b dL_law_1461 (by decide) ?_
  refine lv_iadd C.x C.b dL_law_1462 ?_
  refine z_sld C hS hS0.1 hS0.2.1 hS0.2.2 h5.1 dL_law_1463 ?_
  refine z_callV C hR hS hl (n := 1) (C1 := RX3) (T := TX3) (N := 35) (ci := 3) (y := yX3_timeOf) (bytes := cX3_timeOf) (maxL := 2) (rt := (some .int)) (As := [.int (xs (i + 1).toNatClampNeg)]) (rest := []) hI_ rfl (lw_V q1980 q1981 q1982 q82 q1983) hdV_X3_timeOf (by decide) rfl rfl (Nat.le_of_ble_eq_true rfl) dL_law_1464 h (fun r g_2 hk_ => ?_) (fun s g1 h => zKF.ex h)
  clear h; obtain ⟨bb, rfl, hI_, h⟩ := hk_
  show GW X E 7 g_2 1467 [(5, .int kk), (0, .ref b), (1, .ref x), (2, .ref m), (3, .ref o), (4, .int i)] [.int bb]
  intro H locs ls hR hS hl
  refine lv_istore (lv' := [(6, .int bb), (5, .int kk), (0, .ref b), (1, .ref x), (2, .ref m), (3, .ref o), (4, .int i)]) C.x C.b dL_law_1467 hl (by decide) rfl (fun ls hl => ?_)
  refine lv_aload_n C.x C.b dL_law_1469 rfl (lv_at hl 4 rfl) ?_
  refine z_callV C hR hS hl (n := 0) (C1 := RX3) (T := TX3) (N := 35) (ci := 3) (y := yX3_thrown) (bytes := cX3_thrown) (maxL := 1) (rt := (some .int)) (As := []) (rest := []) hI_ rfl (lw_V q1744 q1745 q1746 q82 q1747) hdV_X3_thrown (by decide) rfl rfl (Nat.le_of_ble_eq_true rfl) dL_law_1470 h (fun r g_3 hk_ => ?_) (fun s g1 h => zKF.ex h)
  clear h; obtain ⟨rfl, hg, h⟩ := hk_
  show GW X E 7 g_3 1473 [(6, .int bb), (5, .int kk), (0, .ref b), (1, .ref x), (2, .ref m), (3, .ref o), (4, .int i)] [.int kk]
  intro H locs ls hR hS hl
  refine lv_iload C.x C.b dL_law_1473 (lv_at hl 1 rfl) ?_
  refine lv_icmp_eq (tgt := 1480) C.x C.b dL_law_1475 (by decide) (fun _ => ?_) (fun c => absurd rfl c)
  refine lv_iload C.x C.b dL_law_1480 (lv_at hl 1 rfl) ?_
  refine lv_if_ne (tgt := 1497) C.x C.b dL_law_1482 (by decide) (fun c => ?_) (fun c => ?_)
  · refine lv_goto (tgt := 2645) C.x C.b dL_law_1497 (by decide) ?_
    exact hg H locs ls hR hS (lv_sub hl [2, 3, 4, 5, 6] rfl)
  · obtain ⟨f, q1, q2, zb_⟩ := h c
    refine lv_aload_n C.x C.b dL_law_1485 rfl (lv_at hl 5 rfl) ?_
    refine lv_iconst (v := 0) C.x C.b dL_law_1486 (by decide) ?_
    refine z_lald C hR q1 z_in01 dL_law_1487 ?_
    rw [show f (0 : Int32).toNatClampNeg = bb.toInt64 from q2]
    refine lv_iload C.x C.b dL_law_1488 (lv_at hl 0 rfl) ?_
    refine lv_i2l C.x C.b dL_law_1490 rfl ?_
    refine W.lcmp C.x C.b dL_law_1491 ?_
    rw [lg_cmp_s]
    refine lv_if_eq (tgt := 1497) C.x C.b dL_law_1492 (by decide) (fun _ => ?_) (fun c => absurd rfl c)
    refine lv_goto (tgt := 2645) C.x C.b dL_law_1497 (by decide) ?_
    exact hg H locs ls hR hS (lv_sub hl [2, 3, 4, 5, 6] rfl)
set_option maxHeartbeats 4000000 in
theorem bL_24 {X : zX} {E : zM} {nm : String} {x m o b0 k D b L : Nat} {xs : Nat → Int32} {g : zG} (hok : zOk X) (hnc : zNx X) (C : zC X (D + 2) E RX0 cL_law 7 ret nm) (hS0 : zLS X E b L xs) (hb : b0 + 15000 * 64 + 20000 ≤ zz X) (hk : k < 64) (hD : 400 ≤ D) {i : Int32} (h5 : zLi5 i L) {cd0 : Int32} (I : zIw X x m b0 k cd0 g) (hO : zOut o g) (hG : ∀ (g3 : zG) (cd : Int32), zIw X x m b0 (k + 1) cd g3 → zOut o g3 → GW X E 7 g3 2645 [(0, .ref b), (1, .ref x), (2, .ref m), (3, .ref o), (4, .int i)] []) : GW X E 7 g 1500 [(0, .ref b), (1, .ref x), (2, .ref m), (3, .ref o), (4, .int i)] [] := by
  intro H locs ls hR hS hl
  refine lv_aload_n C.x C.b dL_law_1500 rfl (lv_at hl 1 rfl) ?_
  refine lv_aload_n C.x C.b dL_law_1501 rfl (lv_at hl 0 rfl) ?_
  refine lv_iload C.x C.b dL_law_1502 (lv_at hl 4 rfl) ?_
  refine lv_iconst (v := 1) C.x C.b dL_law_1504 (by decide) ?_
  refine lv_iadd C.x C.b dL_law_1505 ?_
  refine z_sld C hS hS0.1 hS0.2.1 hS0.2.2 h5.1 dL_law_1506 ?_
  refine lv_aload_n C.x C.b dL_law_1507 rfl (lv_at hl 3 rfl) ?_
  refine z_callSW C hR hS hl (n := 3) (y := yX0_isLate) (bytes := cX0_isLate) (maxL := 4) (rt := some .int) (As := [.ref x, .int (xs (i + 1).toNatClampNeg), .ref o]) (rest := []) (lw_SW q1482 q1483 q72 q1484) hdS_X0_isLate (by decide) rfl rfl (Nat.le_of_ble_eq_true rfl) dL_law_1508 (mX0_isLate hok hnc x (xs (i + 1).toNatClampNeg) o I.is1 (zLate hok (pr_isLate hok hb hk hD hO I) hG)) (fun r g_1 hk_ => ?_) (fun s g1 h => zKF.ex h)
  obtain ⟨kk, rfl, hI_, h⟩ := hk_
  show GW X E 7 g_1 1511 [(0, .ref b), (1, .ref x), (2, .ref m), (3, .ref o), (4, .int i)] [.int kk]
  intro H locs ls hR hS hl
  refine lv_istore (lv' := [(5, .int kk), (0, .ref b), (1, .ref x), (2, .ref m), (3, .ref o), (4, .int i)]) C.x C.b dL_law_1511 hl (by decide) rfl (fun ls hl => ?_)
  refine lv_aload_n C.x C.b dL_law_1513 rfl (lv_at hl 3 rfl) ?_
  refine lv_aload_n C.x C.b dL_law_1514 rfl (lv_at hl 1 rfl) ?_
  refine lv_iload C.x C.b dL_law_1515 (lv_at hl 5 rfl) ?_
  refine lv_iconst (v := 1) C.x C.b dL_law_1517 (by decide) ?_
  refine lv_iadd C.x C.b dL_law_1518 ?_
  refine z_sld C hS hS0.1 hS0.2.1 hS0.2.2 h5.1 dL_law_1519 ?_
  refine z_callV C hR hS hl (n := 1) (C1 := RX3) (T := TX3) (N := 35) (ci := 3) (y := yX3_isLate) (bytes := cX3_isLate) (maxL := 2) (rt := (some .boolean)) (As := [.int (xs (i + 1).toNatClampNeg)]) (rest := []) hI_ rfl (lw_V q1984 q1985 q1986 q82 q1987) hdV_X3_isLate (by decide) rfl rfl (Nat.le_of_ble_eq_true rfl) dL_law_1520 h (fun r g_2 hk_ => ?_) (fun s g1 h => zKF.ex h)
  clear h; obtain ⟨bb, rfl, hI_, h⟩ := hk_
  show GW X E 7 g_2 1523 [(5, .int kk), (0, .ref b), (1, .ref x), (2, .ref m), (3, .ref o), (4, .int i)] [.int bb]
  intro H locs ls hR hS hl
  refine lv_istore (lv' := [(6, .int bb), (5, .int kk), (0, .ref b), (1, .ref x), (2, .ref m), (3, .ref o), (4, .int i)]) C.x C.b dL_law_1523 hl (by decide) rfl (fun ls hl => ?_)
  refine lv_aload_n C.x C.b dL_law_1525 rfl (lv_at hl 4 rfl) ?_
  refine z_callV C hR hS hl (n := 0) (C1 := RX3) (T := TX3) (N := 35) (ci := 3) (y := yX3_thrown) (bytes := cX3_thrown) (maxL := 1) (rt := (some .int)) (As := []) (rest := []) hI_ rfl (lw_V q1744 q1745 q1746 q82 q1747) hdV_X3_thrown (by decide) rfl rfl (Nat.le_of_ble_eq_true rfl) dL_law_1526 h (fun r g_3 hk_ => ?_) (fun s g1 h => zKF.ex h)
  clear h; obtain ⟨rfl, hg, h⟩ := hk_
  show GW X E 7 g_3 1529 [(6, .int bb), (5, .int kk), (0, .ref b), (1, .ref x), (2, .ref m), (3, .ref o), (4, .int i)] [.int kk]
  intro H locs ls hR hS hl
  refine lv_iload C.x C.b dL_law_1529 (lv_at hl 1 rfl) ?_
  refine lv_icmp_eq (tgt := 1536) C.x C.b dL_law_1531 (by decide) (fun _ => ?_) (fun c => absurd rfl c)
  refine lv_iload C.x C.b dL_law_1536 (lv_at hl 1 rfl) ?_
  refine lv_if_ne (tgt := 1560) C.x C.b dL_law_1538 (by decide) (fun c => ?_) (fun c => ?_)
  · refine lv_goto (tgt := 2645) C.x C.b dL_law_1560 (by decide) ?_
    exact hg H locs ls hR hS (lv_sub hl [2, 3, 4, 5, 6] rfl)
  · obtain ⟨f, q1, q2, zb_⟩ := h c
    refine lv_aload_n C.x C.b dL_law_1541 rfl (lv_at hl 5 rfl) ?_
    refine lv_iconst (v := 0) C.x C.b dL_law_1542 (by decide) ?_
    refine z_lald C hR q1 z_in01 dL_law_1543 ?_
    rw [show f (0 : Int32).toNatClampNeg = bb.toInt64 from q2]
    refine lv_iload C.x C.b dL_law_1544 (lv_at hl 0 rfl) ?_
    refine lv_if_eq (tgt := 1553) C.x C.b dL_law_1546 (by decide) (fun c0 => ?_) (fun c0 => ?_)
    · subst c0
      refine lv_lconst (v := 0) C.x C.b dL_law_1553 (by decide) ?_
      refine W.lcmp C.x C.b dL_law_1554 ?_
      rw [show lg_cmp (0 : Int32).toInt64 0 = 0 by decide]
      refine lv_if_eq (tgt := 1560) C.x C.b dL_law_1555 (by decide) (fun _ => ?_) (fun c => absurd rfl c)
      refine lv_goto (tgt := 2645) C.x C.b dL_law_1560 (by decide) ?_
      exact hg H locs ls hR hS (lv_sub hl [2, 3, 4, 5, 6] rfl)
    · obtain rfl : bb = 1 := zb_.resolve_left c0
      refine lv_lconst (v := 1) C.x C.b dL_law_1549 (by decide) ?_
      refine lv_goto (tgt := 1554) C.x C.b dL_law_1550 (by decide) ?_
      refine W.lcmp C.x C.b dL_law_1554 ?_
      rw [show lg_cmp (1 : Int32).toInt64 1 = 0 by decide]
      refine lv_if_eq (tgt := 1560) C.x C.b dL_law_1555 (by decide) (fun _ => ?_) (fun c => absurd rfl c)
      refine lv_goto (tgt := 2645) C.x C.b dL_law_1560 (by decide) ?_
      exact hg H locs ls hR hS (lv_sub hl [2, 3, 4, 5, 6] rfl)
set_option maxHeartbeats 4000000 in
theorem bL_25 {X : zX} {E : zM} {nm : String} {x m o b0 k D b L : Nat} {xs : Nat → Int32} {g : zG} (hok : zOk X) (hnc : zNx X) (C : zC X (D + 2) E RX0 cL_law 7 ret nm) (hS0 : zLS X E b L xs) (hb : b0 + 15000 * 64 + 20000 ≤ zz X) (hk : k < 64) (hD : 400 ≤ D) {i : Int32} (h5 : zLi5 i L) {cd0 : Int32} (I : zIw X x m b0 k cd0 g) (hO : zOut o g) (hG : ∀ (g3 : zG) (cd : Int32), zIw X x m b0 (k + 1) cd g3 → zOut o g3 → GW X E 7 g3 2645 [(0, .ref b), (1, .ref x), (2, .ref m), (3, .ref o), (4, .int i)] []) : GW X E 7 g 1563 [(0, .ref b), (1, .ref x), (2, .ref m), (3, .ref o), (4, .int i)] [] := by
  intro H locs ls hR hS hl
  refine lv_aload_n C.x C.b dL_law_1563 rfl (lv_at hl 1 rfl) ?_
  refine lv_aload_n C.x C.b dL_law_1564 rfl (lv_at hl 0 rfl) ?_
  refine lv_iload C.x C.b dL_law_1565 (lv_at hl 4 rfl) ?_
  refine lv_iconst (v := 1) C.x C.b dL_law_1567 (by decide) ?_
  refine lv_iadd C.x C.b dL_law_1568 ?_
  refine z_sld C hS hS0.1 hS0.2.1 hS0.2.2 h5.1 dL_law_1569 ?_
  refine lv_aload_n C.x C.b dL_law_1570 rfl (lv_at hl 0 rfl) ?_
  refine lv_iload C.x C.b dL_law_1571 (lv_at hl 4 rfl) ?_
  refine lv_iconst (v := 2) C.x C.b dL_law_1573 (by decide) ?_
  refine lv_iadd C.x C.b dL_law_1574 ?_
  refine z_sld C hS hS0.1 hS0.2.1 hS0.2.2 h5.2.1 dL_law_1575 ?_
  refine lv_aload_n C.x C.b dL_law_1576 rfl (lv_at hl 0 rfl) ?_
  refine lv_iload C.x C.b dL_law_1577 (lv_at hl 4 rfl) ?_
  refine lv_iconst (v := 3) C.x C.b dL_law_1579 (by decide) ?_
  refine lv_iadd C.x C.b dL_law_1580 ?_
  refine z_sld C hS hS0.1 hS0.2.1 hS0.2.2 h5.2.2.1 dL_law_1581 ?_
  refine lv_aload_n C.x C.b dL_law_1582 rfl (lv_at hl 3 rfl) ?_
  refine z_callSW C hR hS hl (n := 5) (y := yX0_count) (bytes := cX0_count) (maxL := 6) (rt := some .int) (As := [.ref x, .int (xs (i + 1).toNatClampNeg), .int (xs (i + 2).toNatClampNeg), .int (xs (i + 3).toNatClampNeg), .ref o]) (rest := []) (lw_SW q1489 q1490 q72 q1491) hdS_X0_count (by decide) rfl rfl (Nat.le_of_ble_eq_true rfl) dL_law_1583 (mX0_count hok hnc x (xs (i + 1).toNatClampNeg) (xs (i + 2).toNatClampNeg) (xs (i + 3).toNatClampNeg) o I.is1 (zPair.k1 hok (pr_count hok hb hk hD hO I) hG)) (fun r g_1 hk_ => ?_) (fun s g1 h => zKF.ex h)
  obtain ⟨kk, rfl, hI_, h⟩ := hk_
  show GW X E 7 g_1 1586 [(0, .ref b), (1, .ref x), (2, .ref m), (3, .ref o), (4, .int i)] [.int kk]
  intro H locs ls hR hS hl
  refine lv_istore (lv' := [(5, .int kk), (0, .ref b), (1, .ref x), (2, .ref m), (3, .ref o), (4, .int i)]) C.x C.b dL_law_1586 hl (by decide) rfl (fun ls hl => ?_)
  refine lv_aload_n C.x C.b dL_law_1588 rfl (lv_at hl 3 rfl) ?_
  refine lv_aload_n C.x C.b dL_law_1589 rfl (lv_at hl 1 rfl) ?_
  refine lv_iload C.x C.b dL_law_1590 (lv_at hl 5 rfl) ?_
  refine lv_iconst (v := 1) C.x C.b dL_law_1592 (by decide) ?_
  refine lv_iadd C.x C.b dL_law_1593 ?_
  refine z_sld C hS hS0.1 hS0.2.1 hS0.2.2 h5.1 dL_law_1594 ?_
  refine lv_aload_n C.x C.b dL_law_1595 rfl (lv_at hl 1 rfl) ?_
  refine lv_iload C.x C.b dL_law_1596 (lv_at hl 5 rfl) ?_
  refine lv_iconst (v := 2) C.x C.b dL_law_1598 (by decide) ?_
  refine lv_iadd C.x C.b dL_law_1599 ?_
  refine z_sld C hS hS0.1 hS0.2.1 hS0.2.2 h5.2.1 dL_law_1600 ?_
  refine lv_aload_n C.x C.b dL_law_1601 rfl (lv_at hl 1 rfl) ?_
  refine lv_iload C.x C.b dL_law_1602 (lv_at hl 5 rfl) ?_
  refine lv_iconst (v := 3) C.x C.b dL_law_1604 (by decide) ?_
  refine lv_iadd C.x C.b dL_law_1605 ?_
  refine z_sld C hS hS0.1 hS0.2.1 hS0.2.2 h5.2.2.1 dL_law_1606 ?_
  refine z_callV C hR hS hl (n := 3) (C1 := RX3) (T := TX3) (N := 35) (ci := 3) (y := yX3_count) (bytes := cX3_count) (maxL := 6) (rt := (some .int)) (As := [.int (xs (i + 1).toNatClampNeg), .int (xs (i + 2).toNatClampNeg), .int (xs (i + 3).toNatClampNeg)]) (rest := []) hI_ rfl (lw_V q1988 q1989 q1990 q82 q1991) hdV_X3_count (by decide) rfl rfl (Nat.le_of_ble_eq_true rfl) dL_law_1607 h (fun r g_2 hk_ => ?_) (fun s g1 h => zKF.ex h)
  clear h; obtain ⟨bb, rfl, hI_, h⟩ := hk_
  show GW X E 7 g_2 1610 [(5, .int kk), (0, .ref b), (1, .ref x), (2, .ref m), (3, .ref o), (4, .int i)] [.int bb]
  intro H locs ls hR hS hl
  refine lv_istore (lv' := [(6, .int bb), (5, .int kk), (0, .ref b), (1, .ref x), (2, .ref m), (3, .ref o), (4, .int i)]) C.x C.b dL_law_1610 hl (by decide) rfl (fun ls hl => ?_)
  refine lv_aload_n C.x C.b dL_law_1612 rfl (lv_at hl 4 rfl) ?_
  refine z_callV C hR hS hl (n := 0) (C1 := RX3) (T := TX3) (N := 35) (ci := 3) (y := yX3_thrown) (bytes := cX3_thrown) (maxL := 1) (rt := (some .int)) (As := []) (rest := []) hI_ rfl (lw_V q1744 q1745 q1746 q82 q1747) hdV_X3_thrown (by decide) rfl rfl (Nat.le_of_ble_eq_true rfl) dL_law_1613 h (fun r g_3 hk_ => ?_) (fun s g1 h => zKF.ex h)
  clear h; obtain ⟨rfl, hg, h⟩ := hk_
  show GW X E 7 g_3 1616 [(6, .int bb), (5, .int kk), (0, .ref b), (1, .ref x), (2, .ref m), (3, .ref o), (4, .int i)] [.int kk]
  intro H locs ls hR hS hl
  refine lv_iload C.x C.b dL_law_1616 (lv_at hl 1 rfl) ?_
  refine lv_icmp_eq (tgt := 1623) C.x C.b dL_law_1618 (by decide) (fun _ => ?_) (fun c => absurd rfl c)
  refine lv_iload C.x C.b dL_law_1623 (lv_at hl 1 rfl) ?_
  refine lv_if_ne (tgt := 1640) C.x C.b dL_law_1625 (by decide) (fun c => ?_) (fun c => ?_)
  · refine lv_goto (tgt := 2645) C.x C.b dL_law_1640 (by decide) ?_
    exact hg H locs ls hR hS (lv_sub hl [2, 3, 4, 5, 6] rfl)
  · obtain ⟨f, q1, q2, zb_⟩ := h c
    refine lv_aload_n C.x C.b dL_law_1628 rfl (lv_at hl 5 rfl) ?_
    refine lv_iconst (v := 0) C.x C.b dL_law_1629 (by decide) ?_
    refine z_lald C hR q1 z_in01 dL_law_1630 ?_
    rw [show f (0 : Int32).toNatClampNeg = bb.toInt64 from q2]
    refine lv_iload C.x C.b dL_law_1631 (lv_at hl 0 rfl) ?_
    refine lv_i2l C.x C.b dL_law_1633 rfl ?_
    refine W.lcmp C.x C.b dL_law_1634 ?_
    rw [lg_cmp_s]
    refine lv_if_eq (tgt := 1640) C.x C.b dL_law_1635 (by decide) (fun _ => ?_) (fun c => absurd rfl c)
    refine lv_goto (tgt := 2645) C.x C.b dL_law_1640 (by decide) ?_
    exact hg H locs ls hR hS (lv_sub hl [2, 3, 4, 5, 6] rfl)
set_option maxHeartbeats 4000000 in
theorem bL_26 {X : zX} {E : zM} {nm : String} {x m o b0 k D b L : Nat} {xs : Nat → Int32} {g : zG} (hok : zOk X) (hnc : zNx X) (C : zC X (D + 2) E RX0 cL_law 7 ret nm) (hS0 : zLS X E b L xs) (hb : b0 + 15000 * 64 + 20000 ≤ zz X) (hk : k < 64) (hD : 400 ≤ D) {i : Int32} (h5 : zLi5 i L) {cd0 : Int32} (I : zIw X x m b0 k cd0 g) (hO : zOut o g) (hG : ∀ (g3 : zG) (cd : Int32), zIw X x m b0 (k + 1) cd g3 → zOut o g3 → GW X E 7 g3 2645 [(0, .ref b), (1, .ref x), (2, .ref m), (3, .ref o), (4, .int i)] []) : GW X E 7 g 1643 [(0, .ref b), (1, .ref x), (2, .ref m), (3, .ref o), (4, .int i)] [] := by
  intro H locs ls hR hS hl
  refine lv_aload_n C.x C.b dL_law_1643 rfl (lv_at hl 1 rfl) ?_
  refine lv_aload_n C.x C.b dL_law_1644 rfl (lv_at hl 0 rfl) ?_
  refine lv_iload C.x C.b dL_law_1645 (lv_at hl 4 rfl) ?_
  refine lv_iconst (v := 1) C.x C.b dL_law_1647 (by decide) ?_
  refine lv_iadd C.x C.b dL_law_1648 ?_
  refine z_sld C hS hS0.1 hS0.2.1 hS0.2.2 h5.1 dL_law_1649 ?_
  refine lv_aload_n C.x C.b dL_law_1650 rfl (lv_at hl 0 rfl) ?_
  refine lv_iload C.x C.b dL_law_1651 (lv_at hl 4 rfl) ?_
  refine lv_iconst (v := 2) C.x C.b dL_law_1653 (by decide) ?_
  refine lv_iadd C.x C.b dL_law_1654 ?_
  refine z_sld C hS hS0.1 hS0.2.1 hS0.2.2 h5.2.1 dL_law_1655 ?_
  refine lv_aload_n C.x C.b dL_law_1656 rfl (lv_at hl 0 rfl) ?_
  refine lv_iload C.x C.b dL_law_1657 (lv_at hl 4 rfl) ?_
  refine lv_iconst (v := 3) C.x C.b dL_law_1659 (by decide) ?_
  refine lv_iadd C.x C.b dL_law_1660 ?_
  refine z_sld C hS hS0.1 hS0.2.1 hS0.2.2 h5.2.2.1 dL_law_1661 ?_
  refine lv_aload_n C.x C.b dL_law_1662 rfl (lv_at hl 3 rfl) ?_
  refine z_callSW C hR hS hl (n := 5) (y := yX0_greatest) (bytes := cX0_greatest) (maxL := 6) (rt := some .int) (As := [.ref x, .int (xs (i + 1).toNatClampNeg), .int (xs (i + 2).toNatClampNeg), .int (xs (i + 3).toNatClampNeg), .ref o]) (rest := []) (lw_SW q1501 q1502 q72 q1503) hdS_X0_greatest (by decide) rfl rfl (Nat.le_of_ble_eq_true rfl) dL_law_1663 (mX0_greatest hok hnc x (xs (i + 1).toNatClampNeg) (xs (i + 2).toNatClampNeg) (xs (i + 3).toNatClampNeg) o I.is1 (zPair.k1 hok (pr_greatest hok hb hk hD hO I) hG)) (fun r g_1 hk_ => ?_) (fun s g1 h => zKF.ex h)
  obtain ⟨kk, rfl, hI_, h⟩ := hk_
  show GW X E 7 g_1 1666 [(0, .ref b), (1, .ref x), (2, .ref m), (3, .ref o), (4, .int i)] [.int kk]
  intro H locs ls hR hS hl
  refine lv_istore (lv' := [(5, .int kk), (0, .ref b), (1, .ref x), (2, .ref m), (3, .ref o), (4, .int i)]) C.x C.b dL_law_1666 hl (by decide) rfl (fun ls hl => ?_)
  refine lv_aload_n C.x C.b dL_law_1668 rfl (lv_at hl 3 rfl) ?_
  refine lv_aload_n C.x C.b dL_law_1669 rfl (lv_at hl 1 rfl) ?_
  refine lv_iload C.x C.b dL_law_1670 (lv_at hl 5 rfl) ?_
  refine lv_iconst (v := 1) C.x C.b dL_law_1672 (by decide) ?_
  refine lv_iadd C.x C.b dL_law_1673 ?_
  refine z_sld C hS hS0.1 hS0.2.1 hS0.2.2 h5.1 dL_law_1674 ?_
  refine lv_aload_n C.x C.b dL_law_1675 rfl (lv_at hl 1 rfl) ?_
  refine lv_iload C.x C.b dL_law_1676 (lv_at hl 5 rfl) ?_
  refine lv_iconst (v := 2) C.x C.b dL_law_1678 (by decide) ?_
  refine lv_iadd C.x C.b dL_law_1679 ?_
  refine z_sld C hS hS0.1 hS0.2.1 hS0.2.2 h5.2.1 dL_law_1680 ?_
  refine lv_aload_n C.x C.b dL_law_1681 rfl (lv_at hl 1 rfl) ?_
  refine lv_iload C.x C.b dL_law_1682 (lv_at hl 5 rfl) ?_
  refine lv_iconst (v := 3) C.x C.b dL_law_1684 (by decide) ?_
  refine lv_iadd C.x C.b dL_law_1685 ?_
  refine z_sld C hS hS0.1 hS0.2.1 hS0.2.2 h5.2.2.1 dL_law_1686 ?_
  refine z_callV C hR hS hl (n := 3) (C1 := RX3) (T := TX3) (N := 35) (ci := 3) (y := yX3_greatest) (bytes := cX3_greatest) (maxL := 6) (rt := (some .int)) (As := [.int (xs (i + 1).toNatClampNeg), .int (xs (i + 2).toNatClampNeg), .int (xs (i + 3).toNatClampNeg)]) (rest := []) hI_ rfl (lw_V q1996 q1997 q1998 q82 q1999) hdV_X3_greatest (by decide) rfl rfl (Nat.le_of_ble_eq_true rfl) dL_law_1687 h (fun r g_2 hk_ => ?_) (fun s g1 h => zKF.ex h)
  clear h; obtain ⟨bb, rfl, hI_, h⟩ := hk_
  show GW X E 7 g_2 1690 [(5, .int kk), (0, .ref b), (1, .ref x), (2, .ref m), (3, .ref o), (4, .int i)] [.int bb]
  intro H locs ls hR hS hl
  refine lv_istore (lv' := [(6, .int bb), (5, .int kk), (0, .ref b), (1, .ref x), (2, .ref m), (3, .ref o), (4, .int i)]) C.x C.b dL_law_1690 hl (by decide) rfl (fun ls hl => ?_)
  refine lv_aload_n C.x C.b dL_law_1692 rfl (lv_at hl 4 rfl) ?_
  refine z_callV C hR hS hl (n := 0) (C1 := RX3) (T := TX3) (N := 35) (ci := 3) (y := yX3_thrown) (bytes := cX3_thrown) (maxL := 1) (rt := (some .int)) (As := []) (rest := []) hI_ rfl (lw_V q1744 q1745 q1746 q82 q1747) hdV_X3_thrown (by decide) rfl rfl (Nat.le_of_ble_eq_true rfl) dL_law_1693 h (fun r g_3 hk_ => ?_) (fun s g1 h => zKF.ex h)
  clear h; obtain ⟨rfl, hg, h⟩ := hk_
  show GW X E 7 g_3 1696 [(6, .int bb), (5, .int kk), (0, .ref b), (1, .ref x), (2, .ref m), (3, .ref o), (4, .int i)] [.int kk]
  intro H locs ls hR hS hl
  refine lv_iload C.x C.b dL_law_1696 (lv_at hl 1 rfl) ?_
  refine lv_icmp_eq (tgt := 1703) C.x C.b dL_law_1698 (by decide) (fun _ => ?_) (fun c => absurd rfl c)
  refine lv_iload C.x C.b dL_law_1703 (lv_at hl 1 rfl) ?_
  refine lv_if_ne (tgt := 1720) C.x C.b dL_law_1705 (by decide) (fun c => ?_) (fun c => ?_)
  · refine lv_goto (tgt := 2645) C.x C.b dL_law_1720 (by decide) ?_
    exact hg H locs ls hR hS (lv_sub hl [2, 3, 4, 5, 6] rfl)
  · obtain ⟨f, q1, q2, zb_⟩ := h c
    refine lv_aload_n C.x C.b dL_law_1708 rfl (lv_at hl 5 rfl) ?_
    refine lv_iconst (v := 0) C.x C.b dL_law_1709 (by decide) ?_
    refine z_lald C hR q1 z_in01 dL_law_1710 ?_
    rw [show f (0 : Int32).toNatClampNeg = bb.toInt64 from q2]
    refine lv_iload C.x C.b dL_law_1711 (lv_at hl 0 rfl) ?_
    refine lv_i2l C.x C.b dL_law_1713 rfl ?_
    refine W.lcmp C.x C.b dL_law_1714 ?_
    rw [lg_cmp_s]
    refine lv_if_eq (tgt := 1720) C.x C.b dL_law_1715 (by decide) (fun _ => ?_) (fun c => absurd rfl c)
    refine lv_goto (tgt := 2645) C.x C.b dL_law_1720 (by decide) ?_
    exact hg H locs ls hR hS (lv_sub hl [2, 3, 4, 5, 6] rfl)
set_option maxHeartbeats 4000000 in
theorem bL_27 {X : zX} {E : zM} {nm : String} {x m o b0 k D b L : Nat} {xs : Nat → Int32} {g : zG} (hok : zOk X) (hnc : zNx X) (C : zC X (D + 2) E RX0 cL_law 7 ret nm) (hS0 : zLS X E b L xs) (hb : b0 + 15000 * 64 + 20000 ≤ zz X) (hk : k < 64) (hD : 400 ≤ D) {i : Int32} (h5 : zLi5 i L) {cd0 : Int32} (I : zIw X x m b0 k cd0 g) (hO : zOut o g) (hG : ∀ (g3 : zG) (cd : Int32), zIw X x m b0 (k + 1) cd g3 → zOut o g3 → GW X E 7 g3 2645 [(0, .ref b), (1, .ref x), (2, .ref m), (3, .ref o), (4, .int i)] []) : GW X E 7 g 1723 [(0, .ref b), (1, .ref x), (2, .ref m), (3, .ref o), (4, .int i)] [] := by
  intro H locs ls hR hS hl
  refine lv_aload_n C.x C.b dL_law_1723 rfl (lv_at hl 1 rfl) ?_
  refine lv_aload_n C.x C.b dL_law_1724 rfl (lv_at hl 0 rfl) ?_
  refine lv_iload C.x C.b dL_law_1725 (lv_at hl 4 rfl) ?_
  refine lv_iconst (v := 1) C.x C.b dL_law_1727 (by decide) ?_
  refine lv_iadd C.x C.b dL_law_1728 ?_
  refine z_sld C hS hS0.1 hS0.2.1 hS0.2.2 h5.1 dL_law_1729 ?_
  refine lv_aload_n C.x C.b dL_law_1730 rfl (lv_at hl 0 rfl) ?_
  refine lv_iload C.x C.b dL_law_1731 (lv_at hl 4 rfl) ?_
  refine lv_iconst (v := 2) C.x C.b dL_law_1733 (by decide) ?_
  refine lv_iadd C.x C.b dL_law_1734 ?_
  refine z_sld C hS hS0.1 hS0.2.1 hS0.2.2 h5.2.1 dL_law_1735 ?_
  refine lv_aload_n C.x C.b dL_law_1736 rfl (lv_at hl 0 rfl) ?_
  refine lv_iload C.x C.b dL_law_1737 (lv_at hl 4 rfl) ?_
  refine lv_iconst (v := 3) C.x C.b dL_law_1739 (by decide) ?_
  refine lv_iadd C.x C.b dL_law_1740 ?_
  refine z_sld C hS hS0.1 hS0.2.1 hS0.2.2 h5.2.2.1 dL_law_1741 ?_
  refine lv_aload_n C.x C.b dL_law_1742 rfl (lv_at hl 3 rfl) ?_
  refine z_callSW C hR hS hl (n := 5) (y := yX0_greatestByAll) (bytes := cX0_greatestByAll) (maxL := 6) (rt := some .int) (As := [.ref x, .int (xs (i + 1).toNatClampNeg), .int (xs (i + 2).toNatClampNeg), .int (xs (i + 3).toNatClampNeg), .ref o]) (rest := []) (lw_SW q1508 q1509 q72 q1510) hdS_X0_greatestByAll (by decide) rfl rfl (Nat.le_of_ble_eq_true rfl) dL_law_1743 (mX0_greatestByAll hok hnc x (xs (i + 1).toNatClampNeg) (xs (i + 2).toNatClampNeg) (xs (i + 3).toNatClampNeg) o I.is1 (zPair.k1 hok (pr_greatestByAll hok hb hk hD hO I) hG)) (fun r g_1 hk_ => ?_) (fun s g1 h => zKF.ex h)
  obtain ⟨kk, rfl, hI_, h⟩ := hk_
  show GW X E 7 g_1 1746 [(0, .ref b), (1, .ref x), (2, .ref m), (3, .ref o), (4, .int i)] [.int kk]
  intro H locs ls hR hS hl
  refine lv_istore (lv' := [(5, .int kk), (0, .ref b), (1, .ref x), (2, .ref m), (3, .ref o), (4, .int i)]) C.x C.b dL_law_1746 hl (by decide) rfl (fun ls hl => ?_)
  refine lv_aload_n C.x C.b dL_law_1748 rfl (lv_at hl 3 rfl) ?_
  refine lv_aload_n C.x C.b dL_law_1749 rfl (lv_at hl 1 rfl) ?_
  refine lv_iload C.x C.b dL_law_1750 (lv_at hl 5 rfl) ?_
  refine lv_iconst (v := 1) C.x C.b dL_law_1752 (by decide) ?_
  refine lv_iadd C.x C.b dL_law_1753 ?_
  refine z_sld C hS hS0.1 hS0.2.1 hS0.2.2 h5.1 dL_law_1754 ?_
  refine lv_aload_n C.x C.b dL_law_1755 rfl (lv_at hl 1 rfl) ?_
  refine lv_iload C.x C.b dL_law_1756 (lv_at hl 5 rfl) ?_
  refine lv_iconst (v := 2) C.x C.b dL_law_1758 (by decide) ?_
  refine lv_iadd C.x C.b dL_law_1759 ?_
  refine z_sld C hS hS0.1 hS0.2.1 hS0.2.2 h5.2.1 dL_law_1760 ?_
  refine lv_aload_n C.x C.b dL_law_1761 rfl (lv_at hl 1 rfl) ?_
  refine lv_iload C.x C.b dL_law_1762 (lv_at hl 5 rfl) ?_
  refine lv_iconst (v := 3) C.x C.b dL_law_1764 (by decide) ?_
  refine lv_iadd C.x C.b dL_law_1765 ?_
  refine z_sld C hS hS0.1 hS0.2.1 hS0.2.2 h5.2.2.1 dL_law_1766 ?_
  refine z_callV C hR hS hl (n := 3) (C1 := RX3) (T := TX3) (N := 35) (ci := 3) (y := yX3_greatestByAll) (bytes := cX3_greatestByAll) (maxL := 4) (rt := (some .int)) (As := [.int (xs (i + 1).toNatClampNeg), .int (xs (i + 2).toNatClampNeg), .int (xs (i + 3).toNatClampNeg)]) (rest := []) hI_ rfl (lw_V q2000 q2001 q2002 q82 q2003) hdV_X3_greatestByAll (by decide) rfl rfl (Nat.le_of_ble_eq_true rfl) dL_law_1767 h (fun r g_2 hk_ => ?_) (fun s g1 h => zKF.ex h)
  clear h; obtain ⟨bb, rfl, hI_, h⟩ := hk_
  show GW X E 7 g_2 1770 [(5, .int kk), (0, .ref b), (1, .ref x), (2, .ref m), (3, .ref o), (4, .int i)] [.int bb]
  intro H locs ls hR hS hl
  refine lv_istore (lv' := [(6, .int bb), (5, .int kk), (0, .ref b), (1, .ref x), (2, .ref m), (3, .ref o), (4, .int i)]) C.x C.b dL_law_1770 hl (by decide) rfl (fun ls hl => ?_)
  refine lv_aload_n C.x C.b dL_law_1772 rfl (lv_at hl 4 rfl) ?_
  refine z_callV C hR hS hl (n := 0) (C1 := RX3) (T := TX3) (N := 35) (ci := 3) (y := yX3_thrown) (bytes := cX3_thrown) (maxL := 1) (rt := (some .int)) (As := []) (rest := []) hI_ rfl (lw_V q1744 q1745 q1746 q82 q1747) hdV_X3_thrown (by decide) rfl rfl (Nat.le_of_ble_eq_true rfl) dL_law_1773 h (fun r g_3 hk_ => ?_) (fun s g1 h => zKF.ex h)
  clear h; obtain ⟨rfl, hg, h⟩ := hk_
  show GW X E 7 g_3 1776 [(6, .int bb), (5, .int kk), (0, .ref b), (1, .ref x), (2, .ref m), (3, .ref o), (4, .int i)] [.int kk]
  intro H locs ls hR hS hl
  refine lv_iload C.x C.b dL_law_1776 (lv_at hl 1 rfl) ?_
  refine lv_icmp_eq (tgt := 1783) C.x C.b dL_law_1778 (by decide) (fun _ => ?_) (fun c => absurd rfl c)
  refine lv_iload C.x C.b dL_law_1783 (lv_at hl 1 rfl) ?_
  refine lv_if_ne (tgt := 1800) C.x C.b dL_law_1785 (by decide) (fun c => ?_) (fun c => ?_)
  · refine lv_goto (tgt := 2645) C.x C.b dL_law_1800 (by decide) ?_
    exact hg H locs ls hR hS (lv_sub hl [2, 3, 4, 5, 6] rfl)
  · obtain ⟨f, q1, q2, zb_⟩ := h c
    refine lv_aload_n C.x C.b dL_law_1788 rfl (lv_at hl 5 rfl) ?_
    refine lv_iconst (v := 0) C.x C.b dL_law_1789 (by decide) ?_
    refine z_lald C hR q1 z_in01 dL_law_1790 ?_
    rw [show f (0 : Int32).toNatClampNeg = bb.toInt64 from q2]
    refine lv_iload C.x C.b dL_law_1791 (lv_at hl 0 rfl) ?_
    refine lv_i2l C.x C.b dL_law_1793 rfl ?_
    refine W.lcmp C.x C.b dL_law_1794 ?_
    rw [lg_cmp_s]
    refine lv_if_eq (tgt := 1800) C.x C.b dL_law_1795 (by decide) (fun _ => ?_) (fun c => absurd rfl c)
    refine lv_goto (tgt := 2645) C.x C.b dL_law_1800 (by decide) ?_
    exact hg H locs ls hR hS (lv_sub hl [2, 3, 4, 5, 6] rfl)
set_option maxHeartbeats 4000000 in
theorem bL_28 {X : zX} {E : zM} {nm : String} {x m o b0 k D b L : Nat} {xs : Nat → Int32} {g : zG} (hok : zOk X) (hnc : zNx X) (C : zC X (D + 2) E RX0 cL_law 7 ret nm) (hS0 : zLS X E b L xs) (hb : b0 + 15000 * 64 + 20000 ≤ zz X) (hk : k < 64) (hD : 400 ≤ D) {i : Int32} (h5 : zLi5 i L) {cd0 : Int32} (I : zIw X x m b0 k cd0 g) (hO : zOut o g) (hG : ∀ (g3 : zG) (cd : Int32), zIw X x m b0 (k + 1) cd g3 → zOut o g3 → GW X E 7 g3 2645 [(0, .ref b), (1, .ref x), (2, .ref m), (3, .ref o), (4, .int i)] []) : GW X E 7 g 1803 [(0, .ref b), (1, .ref x), (2, .ref m), (3, .ref o), (4, .int i)] [] := by
  intro H locs ls hR hS hl
  refine lv_aload_n C.x C.b dL_law_1803 rfl (lv_at hl 1 rfl) ?_
  refine lv_aload_n C.x C.b dL_law_1804 rfl (lv_at hl 0 rfl) ?_
  refine lv_iload C.x C.b dL_law_1805 (lv_at hl 4 rfl) ?_
  refine lv_iconst (v := 1) C.x C.b dL_law_1807 (by decide) ?_
  refine lv_iadd C.x C.b dL_law_1808 ?_
  refine z_sld C hS hS0.1 hS0.2.1 hS0.2.2 h5.1 dL_law_1809 ?_
  refine lv_aload_n C.x C.b dL_law_1810 rfl (lv_at hl 0 rfl) ?_
  refine lv_iload C.x C.b dL_law_1811 (lv_at hl 4 rfl) ?_
  refine lv_iconst (v := 2) C.x C.b dL_law_1813 (by decide) ?_
  refine lv_iadd C.x C.b dL_law_1814 ?_
  refine z_sld C hS hS0.1 hS0.2.1 hS0.2.2 h5.2.1 dL_law_1815 ?_
  refine lv_aload_n C.x C.b dL_law_1816 rfl (lv_at hl 3 rfl) ?_
  refine z_callSW C hR hS hl (n := 4) (y := yX0_answer) (bytes := cX0_answer) (maxL := 5) (rt := some .int) (As := [.ref x, .int (xs (i + 1).toNatClampNeg), .int (xs (i + 2).toNatClampNeg), .ref o]) (rest := []) (lw_SW q1515 q1516 q72 q1517) hdS_X0_answer (by decide) rfl rfl (Nat.le_of_ble_eq_true rfl) dL_law_1817 (mX0_answer hok hnc x (xs (i + 1).toNatClampNeg) (xs (i + 2).toNatClampNeg) o I.is1 (zPair.k1 hok (pr_answer hok hb hk hD hO I) hG)) (fun r g_1 hk_ => ?_) (fun s g1 h => zKF.ex h)
  obtain ⟨kk, rfl, hI_, h⟩ := hk_
  show GW X E 7 g_1 1820 [(0, .ref b), (1, .ref x), (2, .ref m), (3, .ref o), (4, .int i)] [.int kk]
  intro H locs ls hR hS hl
  refine lv_istore (lv' := [(5, .int kk), (0, .ref b), (1, .ref x), (2, .ref m), (3, .ref o), (4, .int i)]) C.x C.b dL_law_1820 hl (by decide) rfl (fun ls hl => ?_)
  refine lv_aload_n C.x C.b dL_law_1822 rfl (lv_at hl 3 rfl) ?_
  refine lv_aload_n C.x C.b dL_law_1823 rfl (lv_at hl 1 rfl) ?_
  refine lv_iload C.x C.b dL_law_1824 (lv_at hl 5 rfl) ?_
  refine lv_iconst (v := 1) C.x C.b dL_law_1826 (by decide) ?_
  refine lv_iadd C.x C.b dL_law_1827 ?_
  refine z_sld C hS hS0.1 hS0.2.1 hS0.2.2 h5.1 dL_law_1828 ?_
  refine lv_aload_n C.x C.b dL_law_1829 rfl (lv_at hl 1 rfl) ?_
  refine lv_iload C.x C.b dL_law_1830 (lv_at hl 5 rfl) ?_
  refine lv_iconst (v := 2) C.x C.b dL_law_1832 (by decide) ?_
  refine lv_iadd C.x C.b dL_law_1833 ?_
  refine z_sld C hS hS0.1 hS0.2.1 hS0.2.2 h5.2.1 dL_law_1834 ?_
  refine z_callV C hR hS hl (n := 2) (C1 := RX3) (T := TX3) (N := 35) (ci := 3) (y := yX3_answer) (bytes := cX3_answer) (maxL := 3) (rt := (some .int)) (As := [.int (xs (i + 1).toNatClampNeg), .int (xs (i + 2).toNatClampNeg)]) (rest := []) hI_ rfl (lw_V q2005 q2006 q2007 q82 q2008) hdV_X3_answer (by decide) rfl rfl (Nat.le_of_ble_eq_true rfl) dL_law_1835 h (fun r g_2 hk_ => ?_) (fun s g1 h => zKF.ex h)
  clear h; obtain ⟨bb, rfl, hI_, h⟩ := hk_
  show GW X E 7 g_2 1838 [(5, .int kk), (0, .ref b), (1, .ref x), (2, .ref m), (3, .ref o), (4, .int i)] [.int bb]
  intro H locs ls hR hS hl
  refine lv_istore (lv' := [(6, .int bb), (5, .int kk), (0, .ref b), (1, .ref x), (2, .ref m), (3, .ref o), (4, .int i)]) C.x C.b dL_law_1838 hl (by decide) rfl (fun ls hl => ?_)
  refine lv_aload_n C.x C.b dL_law_1840 rfl (lv_at hl 4 rfl) ?_
  refine z_callV C hR hS hl (n := 0) (C1 := RX3) (T := TX3) (N := 35) (ci := 3) (y := yX3_thrown) (bytes := cX3_thrown) (maxL := 1) (rt := (some .int)) (As := []) (rest := []) hI_ rfl (lw_V q1744 q1745 q1746 q82 q1747) hdV_X3_thrown (by decide) rfl rfl (Nat.le_of_ble_eq_true rfl) dL_law_1841 h (fun r g_3 hk_ => ?_) (fun s g1 h => zKF.ex h)
  clear h; obtain ⟨rfl, hg, h⟩ := hk_
  show GW X E 7 g_3 1844 [(6, .int bb), (5, .int kk), (0, .ref b), (1, .ref x), (2, .ref m), (3, .ref o), (4, .int i)] [.int kk]
  intro H locs ls hR hS hl
  refine lv_iload C.x C.b dL_law_1844 (lv_at hl 1 rfl) ?_
  refine lv_icmp_eq (tgt := 1851) C.x C.b dL_law_1846 (by decide) (fun _ => ?_) (fun c => absurd rfl c)
  refine lv_iload C.x C.b dL_law_1851 (lv_at hl 1 rfl) ?_
  refine lv_if_ne (tgt := 1868) C.x C.b dL_law_1853 (by decide) (fun c => ?_) (fun c => ?_)
  · refine lv_goto (tgt := 2645) C.x C.b dL_law_1868 (by decide) ?_
    exact hg H locs ls hR hS (lv_sub hl [2, 3, 4, 5, 6] rfl)
  · obtain ⟨f, q1, q2, zb_⟩ := h c
    refine lv_aload_n C.x C.b dL_law_1856 rfl (lv_at hl 5 rfl) ?_
    refine lv_iconst (v := 0) C.x C.b dL_law_1857 (by decide) ?_
    refine z_lald C hR q1 z_in01 dL_law_1858 ?_
    rw [show f (0 : Int32).toNatClampNeg = bb.toInt64 from q2]
    refine lv_iload C.x C.b dL_law_1859 (lv_at hl 0 rfl) ?_
    refine lv_i2l C.x C.b dL_law_1861 rfl ?_
    refine W.lcmp C.x C.b dL_law_1862 ?_
    rw [lg_cmp_s]
    refine lv_if_eq (tgt := 1868) C.x C.b dL_law_1863 (by decide) (fun _ => ?_) (fun c => absurd rfl c)
    refine lv_goto (tgt := 2645) C.x C.b dL_law_1868 (by decide) ?_
    exact hg H locs ls hR hS (lv_sub hl [2, 3, 4, 5, 6] rfl)
set_option maxHeartbeats 4000000 in
theorem bL_29 {X : zX} {E : zM} {nm : String} {x m o b0 k D b L : Nat} {xs : Nat → Int32} {g : zG} (hok : zOk X) (hnc : zNx X) (C : zC X (D + 2) E RX0 cL_law 7 ret nm) (hS0 : zLS X E b L xs) (hb : b0 + 15000 * 64 + 20000 ≤ zz X) (hk : k < 64) (hD : 400 ≤ D) {i : Int32} (h5 : zLi5 i L) {cd0 : Int32} (I : zIw X x m b0 k cd0 g) (hO : zOut o g) (hG : ∀ (g3 : zG) (cd : Int32), zIw X x m b0 (k + 1) cd g3 → zOut o g3 → GW X E 7 g3 2645 [(0, .ref b), (1, .ref x), (2, .ref m), (3, .ref o), (4, .int i)] []) : GW X E 7 g 1871 [(0, .ref b), (1, .ref x), (2, .ref m), (3, .ref o), (4, .int i)] [] := by
  intro H locs ls hR hS hl
  refine lv_aload_n C.x C.b dL_law_1871 rfl (lv_at hl 1 rfl) ?_
  refine lv_aload_n C.x C.b dL_law_1872 rfl (lv_at hl 0 rfl) ?_
  refine lv_iload C.x C.b dL_law_1873 (lv_at hl 4 rfl) ?_
  refine lv_iconst (v := 1) C.x C.b dL_law_1875 (by decide) ?_
  refine lv_iadd C.x C.b dL_law_1876 ?_
  refine z_sld C hS hS0.1 hS0.2.1 hS0.2.2 h5.1 dL_law_1877 ?_
  refine lv_aload_n C.x C.b dL_law_1878 rfl (lv_at hl 0 rfl) ?_
  refine lv_iload C.x C.b dL_law_1879 (lv_at hl 4 rfl) ?_
  refine lv_iconst (v := 2) C.x C.b dL_law_1881 (by decide) ?_
  refine lv_iadd C.x C.b dL_law_1882 ?_
  refine z_sld C hS hS0.1 hS0.2.1 hS0.2.2 h5.2.1 dL_law_1883 ?_
  refine lv_aload_n C.x C.b dL_law_1884 rfl (lv_at hl 3 rfl) ?_
  refine z_callSW C hR hS hl (n := 4) (y := yX0_answerAnew) (bytes := cX0_answerAnew) (maxL := 5) (rt := some .int) (As := [.ref x, .int (xs (i + 1).toNatClampNeg), .int (xs (i + 2).toNatClampNeg), .ref o]) (rest := []) (lw_SW q1526 q1527 q72 q1528) hdS_X0_answerAnew (by decide) rfl rfl (Nat.le_of_ble_eq_true rfl) dL_law_1885 (mX0_answerAnew hok hnc x (xs (i + 1).toNatClampNeg) (xs (i + 2).toNatClampNeg) o I.is1 (zPair.k1 hok (pr_answerAnew hok hb hk hD hO I) hG)) (fun r g_1 hk_ => ?_) (fun s g1 h => zKF.ex h)
  obtain ⟨kk, rfl, hI_, h⟩ := hk_
  show GW X E 7 g_1 1888 [(0, .ref b), (1, .ref x), (2, .ref m), (3, .ref o), (4, .int i)] [.int kk]
  intro H locs ls hR hS hl
  refine lv_istore (lv' := [(5, .int kk), (0, .ref b), (1, .ref x), (2, .ref m), (3, .ref o), (4, .int i)]) C.x C.b dL_law_1888 hl (by decide) rfl (fun ls hl => ?_)
  refine lv_aload_n C.x C.b dL_law_1890 rfl (lv_at hl 3 rfl) ?_
  refine lv_aload_n C.x C.b dL_law_1891 rfl (lv_at hl 1 rfl) ?_
  refine lv_iload C.x C.b dL_law_1892 (lv_at hl 5 rfl) ?_
  refine lv_iconst (v := 1) C.x C.b dL_law_1894 (by decide) ?_
  refine lv_iadd C.x C.b dL_law_1895 ?_
  refine z_sld C hS hS0.1 hS0.2.1 hS0.2.2 h5.1 dL_law_1896 ?_
  refine lv_aload_n C.x C.b dL_law_1897 rfl (lv_at hl 1 rfl) ?_
  refine lv_iload C.x C.b dL_law_1898 (lv_at hl 5 rfl) ?_
  refine lv_iconst (v := 2) C.x C.b dL_law_1900 (by decide) ?_
  refine lv_iadd C.x C.b dL_law_1901 ?_
  refine z_sld C hS hS0.1 hS0.2.1 hS0.2.2 h5.2.1 dL_law_1902 ?_
  refine z_callV C hR hS hl (n := 2) (C1 := RX3) (T := TX3) (N := 35) (ci := 3) (y := yX3_answerAnew) (bytes := cX3_answerAnew) (maxL := 3) (rt := (some .int)) (As := [.int (xs (i + 1).toNatClampNeg), .int (xs (i + 2).toNatClampNeg)]) (rest := []) hI_ rfl (lw_V q2017 q2018 q2019 q82 q2020) hdV_X3_answerAnew (by decide) rfl rfl (Nat.le_of_ble_eq_true rfl) dL_law_1903 h (fun r g_2 hk_ => ?_) (fun s g1 h => zKF.ex h)
  clear h; obtain ⟨bb, rfl, hI_, h⟩ := hk_
  show GW X E 7 g_2 1906 [(5, .int kk), (0, .ref b), (1, .ref x), (2, .ref m), (3, .ref o), (4, .int i)] [.int bb]
  intro H locs ls hR hS hl
  refine lv_istore (lv' := [(6, .int bb), (5, .int kk), (0, .ref b), (1, .ref x), (2, .ref m), (3, .ref o), (4, .int i)]) C.x C.b dL_law_1906 hl (by decide) rfl (fun ls hl => ?_)
  refine lv_aload_n C.x C.b dL_law_1908 rfl (lv_at hl 4 rfl) ?_
  refine z_callV C hR hS hl (n := 0) (C1 := RX3) (T := TX3) (N := 35) (ci := 3) (y := yX3_thrown) (bytes := cX3_thrown) (maxL := 1) (rt := (some .int)) (As := []) (rest := []) hI_ rfl (lw_V q1744 q1745 q1746 q82 q1747) hdV_X3_thrown (by decide) rfl rfl (Nat.le_of_ble_eq_true rfl) dL_law_1909 h (fun r g_3 hk_ => ?_) (fun s g1 h => zKF.ex h)
  clear h; obtain ⟨rfl, hg, h⟩ := hk_
  show GW X E 7 g_3 1912 [(6, .int bb), (5, .int kk), (0, .ref b), (1, .ref x), (2, .ref m), (3, .ref o), (4, .int i)] [.int kk]
  intro H locs ls hR hS hl
  refine lv_iload C.x C.b dL_law_1912 (lv_at hl 1 rfl) ?_
  refine lv_icmp_eq (tgt := 1919) C.x C.b dL_law_1914 (by decide) (fun _ => ?_) (fun c => absurd rfl c)
  refine lv_iload C.x C.b dL_law_1919 (lv_at hl 1 rfl) ?_
  refine lv_if_ne (tgt := 1936) C.x C.b dL_law_1921 (by decide) (fun c => ?_) (fun c => ?_)
  · refine lv_goto (tgt := 2645) C.x C.b dL_law_1936 (by decide) ?_
    exact hg H locs ls hR hS (lv_sub hl [2, 3, 4, 5, 6] rfl)
  · obtain ⟨f, q1, q2, zb_⟩ := h c
    refine lv_aload_n C.x C.b dL_law_1924 rfl (lv_at hl 5 rfl) ?_
    refine lv_iconst (v := 0) C.x C.b dL_law_1925 (by decide) ?_
    refine z_lald C hR q1 z_in01 dL_law_1926 ?_
    rw [show f (0 : Int32).toNatClampNeg = bb.toInt64 from q2]
    refine lv_iload C.x C.b dL_law_1927 (lv_at hl 0 rfl) ?_
    refine lv_i2l C.x C.b dL_law_1929 rfl ?_
    refine W.lcmp C.x C.b dL_law_1930 ?_
    rw [lg_cmp_s]
    refine lv_if_eq (tgt := 1936) C.x C.b dL_law_1931 (by decide) (fun _ => ?_) (fun c => absurd rfl c)
    refine lv_goto (tgt := 2645) C.x C.b dL_law_1936 (by decide) ?_
    exact hg H locs ls hR hS (lv_sub hl [2, 3, 4, 5, 6] rfl)
set_option maxHeartbeats 4000000 in
theorem bL_30 {X : zX} {E : zM} {nm : String} {x m o b0 k D b L : Nat} {xs : Nat → Int32} {g : zG} (hok : zOk X) (hnc : zNx X) (C : zC X (D + 2) E RX0 cL_law 7 ret nm) (hS0 : zLS X E b L xs) (hb : b0 + 15000 * 64 + 20000 ≤ zz X) (hk : k < 64) (hD : 400 ≤ D) {i : Int32} (h5 : zLi5 i L) {cd0 : Int32} (I : zIw X x m b0 k cd0 g) (hO : zOut o g) (hG : ∀ (g3 : zG) (cd : Int32), zIw X x m b0 (k + 1) cd g3 → zOut o g3 → GW X E 7 g3 2645 [(0, .ref b), (1, .ref x), (2, .ref m), (3, .ref o), (4, .int i)] []) : GW X E 7 g 1939 [(0, .ref b), (1, .ref x), (2, .ref m), (3, .ref o), (4, .int i)] [] := by
  intro H locs ls hR hS hl
  refine lv_aload_n C.x C.b dL_law_1939 rfl (lv_at hl 1 rfl) ?_
  refine lv_aload_n C.x C.b dL_law_1940 rfl (lv_at hl 0 rfl) ?_
  refine lv_iload C.x C.b dL_law_1941 (lv_at hl 4 rfl) ?_
  refine lv_iconst (v := 1) C.x C.b dL_law_1943 (by decide) ?_
  refine lv_iadd C.x C.b dL_law_1944 ?_
  refine z_sld C hS hS0.1 hS0.2.1 hS0.2.2 h5.1 dL_law_1945 ?_
  refine lv_aload_n C.x C.b dL_law_1946 rfl (lv_at hl 0 rfl) ?_
  refine lv_iload C.x C.b dL_law_1947 (lv_at hl 4 rfl) ?_
  refine lv_iconst (v := 2) C.x C.b dL_law_1949 (by decide) ?_
  refine lv_iadd C.x C.b dL_law_1950 ?_
  refine z_sld C hS hS0.1 hS0.2.1 hS0.2.2 h5.2.1 dL_law_1951 ?_
  refine lv_aload_n C.x C.b dL_law_1952 rfl (lv_at hl 3 rfl) ?_
  refine z_callSW C hR hS hl (n := 4) (y := yX0_knownSince) (bytes := cX0_knownSince) (maxL := 5) (rt := some .int) (As := [.ref x, .int (xs (i + 1).toNatClampNeg), .int (xs (i + 2).toNatClampNeg), .ref o]) (rest := []) (lw_SW q1534 q1535 q72 q1536) hdS_X0_knownSince (by decide) rfl rfl (Nat.le_of_ble_eq_true rfl) dL_law_1953 (mX0_knownSince hok hnc x (xs (i + 1).toNatClampNeg) (xs (i + 2).toNatClampNeg) o I.is1 (zPair.k1 hok (pr_knownSince hok hb hk hD hO I) hG)) (fun r g_1 hk_ => ?_) (fun s g1 h => zKF.ex h)
  obtain ⟨kk, rfl, hI_, h⟩ := hk_
  show GW X E 7 g_1 1956 [(0, .ref b), (1, .ref x), (2, .ref m), (3, .ref o), (4, .int i)] [.int kk]
  intro H locs ls hR hS hl
  refine lv_istore (lv' := [(5, .int kk), (0, .ref b), (1, .ref x), (2, .ref m), (3, .ref o), (4, .int i)]) C.x C.b dL_law_1956 hl (by decide) rfl (fun ls hl => ?_)
  refine lv_aload_n C.x C.b dL_law_1958 rfl (lv_at hl 3 rfl) ?_
  refine lv_aload_n C.x C.b dL_law_1959 rfl (lv_at hl 1 rfl) ?_
  refine lv_iload C.x C.b dL_law_1960 (lv_at hl 5 rfl) ?_
  refine lv_iconst (v := 1) C.x C.b dL_law_1962 (by decide) ?_
  refine lv_iadd C.x C.b dL_law_1963 ?_
  refine z_sld C hS hS0.1 hS0.2.1 hS0.2.2 h5.1 dL_law_1964 ?_
  refine lv_aload_n C.x C.b dL_law_1965 rfl (lv_at hl 1 rfl) ?_
  refine lv_iload C.x C.b dL_law_1966 (lv_at hl 5 rfl) ?_
  refine lv_iconst (v := 2) C.x C.b dL_law_1968 (by decide) ?_
  refine lv_iadd C.x C.b dL_law_1969 ?_
  refine z_sld C hS hS0.1 hS0.2.1 hS0.2.2 h5.2.1 dL_law_1970 ?_
  refine z_callV C hR hS hl (n := 2) (C1 := RX3) (T := TX3) (N := 35) (ci := 3) (y := yX3_knownSince) (bytes := cX3_knownSince) (maxL := 3) (rt := (some .int)) (As := [.int (xs (i + 1).toNatClampNeg), .int (xs (i + 2).toNatClampNeg)]) (rest := []) hI_ rfl (lw_V q2022 q2023 q2024 q82 q2025) hdV_X3_knownSince (by decide) rfl rfl (Nat.le_of_ble_eq_true rfl) dL_law_1971 h (fun r g_2 hk_ => ?_) (fun s g1 h => zKF.ex h)
  clear h; obtain ⟨bb, rfl, hI_, h⟩ := hk_
  show GW X E 7 g_2 1974 [(5, .int kk), (0, .ref b), (1, .ref x), (2, .ref m), (3, .ref o), (4, .int i)] [.int bb]
  intro H locs ls hR hS hl
  refine lv_istore (lv' := [(6, .int bb), (5, .int kk), (0, .ref b), (1, .ref x), (2, .ref m), (3, .ref o), (4, .int i)]) C.x C.b dL_law_1974 hl (by decide) rfl (fun ls hl => ?_)
  refine lv_aload_n C.x C.b dL_law_1976 rfl (lv_at hl 4 rfl) ?_
  refine z_callV C hR hS hl (n := 0) (C1 := RX3) (T := TX3) (N := 35) (ci := 3) (y := yX3_thrown) (bytes := cX3_thrown) (maxL := 1) (rt := (some .int)) (As := []) (rest := []) hI_ rfl (lw_V q1744 q1745 q1746 q82 q1747) hdV_X3_thrown (by decide) rfl rfl (Nat.le_of_ble_eq_true rfl) dL_law_1977 h (fun r g_3 hk_ => ?_) (fun s g1 h => zKF.ex h)
  clear h; obtain ⟨rfl, hg, h⟩ := hk_
  show GW X E 7 g_3 1980 [(6, .int bb), (5, .int kk), (0, .ref b), (1, .ref x), (2, .ref m), (3, .ref o), (4, .int i)] [.int kk]
  intro H locs ls hR hS hl
  refine lv_iload C.x C.b dL_law_1980 (lv_at hl 1 rfl) ?_
  refine lv_icmp_eq (tgt := 1987) C.x C.b dL_law_1982 (by decide) (fun _ => ?_) (fun c => absurd rfl c)
  refine lv_iload C.x C.b dL_law_1987 (lv_at hl 1 rfl) ?_
  refine lv_if_ne (tgt := 2004) C.x C.b dL_law_1989 (by decide) (fun c => ?_) (fun c => ?_)
  · refine lv_goto (tgt := 2645) C.x C.b dL_law_2004 (by decide) ?_
    exact hg H locs ls hR hS (lv_sub hl [2, 3, 4, 5, 6] rfl)
  · obtain ⟨f, q1, q2, zb_⟩ := h c
    refine lv_aload_n C.x C.b dL_law_1992 rfl (lv_at hl 5 rfl) ?_
    refine lv_iconst (v := 0) C.x C.b dL_law_1993 (by decide) ?_
    refine z_lald C hR q1 z_in01 dL_law_1994 ?_
    rw [show f (0 : Int32).toNatClampNeg = bb.toInt64 from q2]
    refine lv_iload C.x C.b dL_law_1995 (lv_at hl 0 rfl) ?_
    refine lv_i2l C.x C.b dL_law_1997 rfl ?_
    refine W.lcmp C.x C.b dL_law_1998 ?_
    rw [lg_cmp_s]
    refine lv_if_eq (tgt := 2004) C.x C.b dL_law_1999 (by decide) (fun _ => ?_) (fun c => absurd rfl c)
    refine lv_goto (tgt := 2645) C.x C.b dL_law_2004 (by decide) ?_
    exact hg H locs ls hR hS (lv_sub hl [2, 3, 4, 5, 6] rfl)
set_option maxHeartbeats 4000000 in
theorem bL_31 {X : zX} {E : zM} {nm : String} {x m o b0 k D b L : Nat} {xs : Nat → Int32} {g : zG} (hok : zOk X) (hnc : zNx X) (C : zC X (D + 2) E RX0 cL_law 7 ret nm) (hS0 : zLS X E b L xs) (hb : b0 + 15000 * 64 + 20000 ≤ zz X) (hk : k < 64) (hD : 400 ≤ D) {i : Int32} (h5 : zLi5 i L) {cd0 : Int32} (I : zIw X x m b0 k cd0 g) (hO : zOut o g) (hG : ∀ (g3 : zG) (cd : Int32), zIw X x m b0 (k + 1) cd g3 → zOut o g3 → GW X E 7 g3 2645 [(0, .ref b), (1, .ref x), (2, .ref m), (3, .ref o), (4, .int i)] []) : GW X E 7 g 2007 [(0, .ref b), (1, .ref x), (2, .ref m), (3, .ref o), (4, .int i)] [] := by
  intro H locs ls hR hS hl
  refine lv_aload_n C.x C.b dL_law_2007 rfl (lv_at hl 1 rfl) ?_
  refine lv_aload_n C.x C.b dL_law_2008 rfl (lv_at hl 0 rfl) ?_
  refine lv_iload C.x C.b dL_law_2009 (lv_at hl 4 rfl) ?_
  refine lv_iconst (v := 1) C.x C.b dL_law_2011 (by decide) ?_
  refine lv_iadd C.x C.b dL_law_2012 ?_
  refine z_sld C hS hS0.1 hS0.2.1 hS0.2.2 h5.1 dL_law_2013 ?_
  refine lv_aload_n C.x C.b dL_law_2014 rfl (lv_at hl 0 rfl) ?_
  refine lv_iload C.x C.b dL_law_2015 (lv_at hl 4 rfl) ?_
  refine lv_iconst (v := 2) C.x C.b dL_law_2017 (by decide) ?_
  refine lv_iadd C.x C.b dL_law_2018 ?_
  refine z_sld C hS hS0.1 hS0.2.1 hS0.2.2 h5.2.1 dL_law_2019 ?_
  refine lv_aload_n C.x C.b dL_law_2020 rfl (lv_at hl 3 rfl) ?_
  refine z_callSW C hR hS hl (n := 4) (y := yX0_answers) (bytes := cX0_answers) (maxL := 5) (rt := some .int) (As := [.ref x, .int (xs (i + 1).toNatClampNeg), .int (xs (i + 2).toNatClampNeg), .ref o]) (rest := []) (lw_SW q1541 q1542 q72 q1543) hdS_X0_answers (by decide) rfl rfl (Nat.le_of_ble_eq_true rfl) dL_law_2021 (mX0_answers hok hnc x (xs (i + 1).toNatClampNeg) (xs (i + 2).toNatClampNeg) o I.is1 (zPair.k2 hok (pr_answers hok hb hk hD hO I) hG)) (fun r g_1 hk_ => ?_) (fun s g1 h => zKF.ex h)
  obtain ⟨kk, rfl, hI_, h⟩ := hk_
  show GW X E 7 g_1 2024 [(0, .ref b), (1, .ref x), (2, .ref m), (3, .ref o), (4, .int i)] [.int kk]
  intro H locs ls hR hS hl
  refine lv_istore (lv' := [(5, .int kk), (0, .ref b), (1, .ref x), (2, .ref m), (3, .ref o), (4, .int i)]) C.x C.b dL_law_2024 hl (by decide) rfl (fun ls hl => ?_)
  refine lv_aload_n C.x C.b dL_law_2026 rfl (lv_at hl 3 rfl) ?_
  refine lv_aload_n C.x C.b dL_law_2027 rfl (lv_at hl 1 rfl) ?_
  refine lv_iload C.x C.b dL_law_2028 (lv_at hl 5 rfl) ?_
  refine lv_iconst (v := 1) C.x C.b dL_law_2030 (by decide) ?_
  refine lv_iadd C.x C.b dL_law_2031 ?_
  refine z_sld C hS hS0.1 hS0.2.1 hS0.2.2 h5.1 dL_law_2032 ?_
  refine lv_aload_n C.x C.b dL_law_2033 rfl (lv_at hl 1 rfl) ?_
  refine lv_iload C.x C.b dL_law_2034 (lv_at hl 5 rfl) ?_
  refine lv_iconst (v := 2) C.x C.b dL_law_2036 (by decide) ?_
  refine lv_iadd C.x C.b dL_law_2037 ?_
  refine z_sld C hS hS0.1 hS0.2.1 hS0.2.2 h5.2.1 dL_law_2038 ?_
  refine z_callV C hR hS hl (n := 2) (C1 := RX3) (T := TX3) (N := 35) (ci := 3) (y := yX3_answers) (bytes := cX3_answers) (maxL := 5) (rt := (some .int)) (As := [.int (xs (i + 1).toNatClampNeg), .int (xs (i + 2).toNatClampNeg)]) (rest := []) hI_ rfl (lw_V q2026 q2027 q2028 q82 q2029) hdV_X3_answers (by decide) rfl rfl (Nat.le_of_ble_eq_true rfl) dL_law_2039 h (fun r g_2 hk_ => ?_) (fun s g1 h => zKF.ex h)
  clear h; obtain ⟨bb, rfl, hI_, h⟩ := hk_
  show GW X E 7 g_2 2042 [(5, .int kk), (0, .ref b), (1, .ref x), (2, .ref m), (3, .ref o), (4, .int i)] [.int bb]
  intro H locs ls hR hS hl
  refine lv_istore (lv' := [(6, .int bb), (5, .int kk), (0, .ref b), (1, .ref x), (2, .ref m), (3, .ref o), (4, .int i)]) C.x C.b dL_law_2042 hl (by decide) rfl (fun ls hl => ?_)
  refine lv_aload_n C.x C.b dL_law_2044 rfl (lv_at hl 4 rfl) ?_
  refine z_callV C hR hS hl (n := 0) (C1 := RX3) (T := TX3) (N := 35) (ci := 3) (y := yX3_thrown) (bytes := cX3_thrown) (maxL := 1) (rt := (some .int)) (As := []) (rest := []) hI_ rfl (lw_V q1744 q1745 q1746 q82 q1747) hdV_X3_thrown (by decide) rfl rfl (Nat.le_of_ble_eq_true rfl) dL_law_2045 h (fun r g_3 hk_ => ?_) (fun s g1 h => zKF.ex h)
  clear h; obtain ⟨rfl, hg, h⟩ := hk_
  show GW X E 7 g_3 2048 [(6, .int bb), (5, .int kk), (0, .ref b), (1, .ref x), (2, .ref m), (3, .ref o), (4, .int i)] [.int kk]
  intro H locs ls hR hS hl
  refine lv_iload C.x C.b dL_law_2048 (lv_at hl 1 rfl) ?_
  refine lv_icmp_eq (tgt := 2055) C.x C.b dL_law_2050 (by decide) (fun _ => ?_) (fun c => absurd rfl c)
  refine lv_iload C.x C.b dL_law_2055 (lv_at hl 1 rfl) ?_
  refine lv_if_ne (tgt := 2072) C.x C.b dL_law_2057 (by decide) (fun c => ?_) (fun c => ?_)
  · refine lv_goto (tgt := 2645) C.x C.b dL_law_2072 (by decide) ?_
    exact hg H locs ls hR hS (lv_sub hl [2, 3, 4, 5, 6] rfl)
  · obtain ⟨f, q1, q2, zb_⟩ := h c
    refine lv_aload_n C.x C.b dL_law_2060 rfl (lv_at hl 5 rfl) ?_
    refine lv_iconst (v := 0) C.x C.b dL_law_2061 (by decide) ?_
    refine z_lald C hR q1 z_in01 dL_law_2062 ?_
    rw [show f (0 : Int32).toNatClampNeg = bb.toInt64 from q2]
    refine lv_iload C.x C.b dL_law_2063 (lv_at hl 0 rfl) ?_
    refine lv_i2l C.x C.b dL_law_2065 rfl ?_
    refine W.lcmp C.x C.b dL_law_2066 ?_
    rw [lg_cmp_s]
    refine lv_if_eq (tgt := 2072) C.x C.b dL_law_2067 (by decide) (fun _ => ?_) (fun c => absurd rfl c)
    refine lv_goto (tgt := 2645) C.x C.b dL_law_2072 (by decide) ?_
    exact hg H locs ls hR hS (lv_sub hl [2, 3, 4, 5, 6] rfl)
set_option maxHeartbeats 4000000 in
theorem bL_32 {X : zX} {E : zM} {nm : String} {x m o b0 k D b L : Nat} {xs : Nat → Int32} {g : zG} (hok : zOk X) (hnc : zNx X) (C : zC X (D + 2) E RX0 cL_law 7 ret nm) (hS0 : zLS X E b L xs) (hb : b0 + 15000 * 64 + 20000 ≤ zz X) (hk : k < 64) (hD : 400 ≤ D) {i : Int32} (h5 : zLi5 i L) {cd0 : Int32} (I : zIw X x m b0 k cd0 g) (hO : zOut o g) (hG : ∀ (g3 : zG) (cd : Int32), zIw X x m b0 (k + 1) cd g3 → zOut o g3 → GW X E 7 g3 2645 [(0, .ref b), (1, .ref x), (2, .ref m), (3, .ref o), (4, .int i)] []) : GW X E 7 g 2075 [(0, .ref b), (1, .ref x), (2, .ref m), (3, .ref o), (4, .int i)] [] := by
  intro H locs ls hR hS hl
  refine lv_aload_n C.x C.b dL_law_2075 rfl (lv_at hl 1 rfl) ?_
  refine lv_aload_n C.x C.b dL_law_2076 rfl (lv_at hl 0 rfl) ?_
  refine lv_iload C.x C.b dL_law_2077 (lv_at hl 4 rfl) ?_
  refine lv_iconst (v := 1) C.x C.b dL_law_2079 (by decide) ?_
  refine lv_iadd C.x C.b dL_law_2080 ?_
  refine z_sld C hS hS0.1 hS0.2.1 hS0.2.2 h5.1 dL_law_2081 ?_
  refine lv_aload_n C.x C.b dL_law_2082 rfl (lv_at hl 3 rfl) ?_
  refine z_callSW C hR hS hl (n := 3) (y := yX0_takenBack) (bytes := cX0_takenBack) (maxL := 4) (rt := some .int) (As := [.ref x, .int (xs (i + 1).toNatClampNeg), .ref o]) (rest := []) (lw_SW q1548 q1549 q72 q1550) hdS_X0_takenBack (by decide) rfl rfl (Nat.le_of_ble_eq_true rfl) dL_law_2083 (mX0_takenBack hok hnc x (xs (i + 1).toNatClampNeg) o I.is1 (zPair.k1 hok (pr_takenBack hok hb hk hD hO I) hG)) (fun r g_1 hk_ => ?_) (fun s g1 h => zKF.ex h)
  obtain ⟨kk, rfl, hI_, h⟩ := hk_
  show GW X E 7 g_1 2086 [(0, .ref b), (1, .ref x), (2, .ref m), (3, .ref o), (4, .int i)] [.int kk]
  intro H locs ls hR hS hl
  refine lv_istore (lv' := [(5, .int kk), (0, .ref b), (1, .ref x), (2, .ref m), (3, .ref o), (4, .int i)]) C.x C.b dL_law_2086 hl (by decide) rfl (fun ls hl => ?_)
  refine lv_aload_n C.x C.b dL_law_2088 rfl (lv_at hl 3 rfl) ?_
  refine lv_aload_n C.x C.b dL_law_2089 rfl (lv_at hl 1 rfl) ?_
  refine lv_iload C.x C.b dL_law_2090 (lv_at hl 5 rfl) ?_
  refine lv_iconst (v := 1) C.x C.b dL_law_2092 (by decide) ?_
  refine lv_iadd C.x C.b dL_law_2093 ?_
  refine z_sld C hS hS0.1 hS0.2.1 hS0.2.2 h5.1 dL_law_2094 ?_
  refine z_callV C hR hS hl (n := 1) (C1 := RX3) (T := TX3) (N := 35) (ci := 3) (y := yX3_takenBack) (bytes := cX3_takenBack) (maxL := 2) (rt := (some .int)) (As := [.int (xs (i + 1).toNatClampNeg)]) (rest := []) hI_ rfl (lw_V q2033 q2034 q2035 q82 q2036) hdV_X3_takenBack (by decide) rfl rfl (Nat.le_of_ble_eq_true rfl) dL_law_2095 h (fun r g_2 hk_ => ?_) (fun s g1 h => zKF.ex h)
  clear h; obtain ⟨bb, rfl, hI_, h⟩ := hk_
  show GW X E 7 g_2 2098 [(5, .int kk), (0, .ref b), (1, .ref x), (2, .ref m), (3, .ref o), (4, .int i)] [.int bb]
  intro H locs ls hR hS hl
  refine lv_istore (lv' := [(6, .int bb), (5, .int kk), (0, .ref b), (1, .ref x), (2, .ref m), (3, .ref o), (4, .int i)]) C.x C.b dL_law_2098 hl (by decide) rfl (fun ls hl => ?_)
  refine lv_aload_n C.x C.b dL_law_2100 rfl (lv_at hl 4 rfl) ?_
  refine z_callV C hR hS hl (n := 0) (C1 := RX3) (T := TX3) (N := 35) (ci := 3) (y := yX3_thrown) (bytes := cX3_thrown) (maxL := 1) (rt := (some .int)) (As := []) (rest := []) hI_ rfl (lw_V q1744 q1745 q1746 q82 q1747) hdV_X3_thrown (by decide) rfl rfl (Nat.le_of_ble_eq_true rfl) dL_law_2101 h (fun r g_3 hk_ => ?_) (fun s g1 h => zKF.ex h)
  clear h; obtain ⟨rfl, hg, h⟩ := hk_
  show GW X E 7 g_3 2104 [(6, .int bb), (5, .int kk), (0, .ref b), (1, .ref x), (2, .ref m), (3, .ref o), (4, .int i)] [.int kk]
  intro H locs ls hR hS hl
  refine lv_iload C.x C.b dL_law_2104 (lv_at hl 1 rfl) ?_
  refine lv_icmp_eq (tgt := 2111) C.x C.b dL_law_2106 (by decide) (fun _ => ?_) (fun c => absurd rfl c)
  refine lv_iload C.x C.b dL_law_2111 (lv_at hl 1 rfl) ?_
  refine lv_if_ne (tgt := 2128) C.x C.b dL_law_2113 (by decide) (fun c => ?_) (fun c => ?_)
  · refine lv_goto (tgt := 2645) C.x C.b dL_law_2128 (by decide) ?_
    exact hg H locs ls hR hS (lv_sub hl [2, 3, 4, 5, 6] rfl)
  · obtain ⟨f, q1, q2, zb_⟩ := h c
    refine lv_aload_n C.x C.b dL_law_2116 rfl (lv_at hl 5 rfl) ?_
    refine lv_iconst (v := 0) C.x C.b dL_law_2117 (by decide) ?_
    refine z_lald C hR q1 z_in01 dL_law_2118 ?_
    rw [show f (0 : Int32).toNatClampNeg = bb.toInt64 from q2]
    refine lv_iload C.x C.b dL_law_2119 (lv_at hl 0 rfl) ?_
    refine lv_i2l C.x C.b dL_law_2121 rfl ?_
    refine W.lcmp C.x C.b dL_law_2122 ?_
    rw [lg_cmp_s]
    refine lv_if_eq (tgt := 2128) C.x C.b dL_law_2123 (by decide) (fun _ => ?_) (fun c => absurd rfl c)
    refine lv_goto (tgt := 2645) C.x C.b dL_law_2128 (by decide) ?_
    exact hg H locs ls hR hS (lv_sub hl [2, 3, 4, 5, 6] rfl)
set_option maxHeartbeats 4000000 in
theorem bL_33 {X : zX} {E : zM} {nm : String} {x m o b0 k D b L : Nat} {xs : Nat → Int32} {g : zG} (hok : zOk X) (hnc : zNx X) (C : zC X (D + 2) E RX0 cL_law 7 ret nm) (hS0 : zLS X E b L xs) (hb : b0 + 15000 * 64 + 20000 ≤ zz X) (hk : k < 64) (hD : 400 ≤ D) {i : Int32} (h5 : zLi5 i L) {cd0 : Int32} (I : zIw X x m b0 k cd0 g) (hO : zOut o g) (hG : ∀ (g3 : zG) (cd : Int32), zIw X x m b0 (k + 1) cd g3 → zOut o g3 → GW X E 7 g3 2645 [(0, .ref b), (1, .ref x), (2, .ref m), (3, .ref o), (4, .int i)] []) : GW X E 7 g 2131 [(0, .ref b), (1, .ref x), (2, .ref m), (3, .ref o), (4, .int i)] [] := by
  intro H locs ls hR hS hl
  refine lv_aload_n C.x C.b dL_law_2131 rfl (lv_at hl 1 rfl) ?_
  refine lv_aload_n C.x C.b dL_law_2132 rfl (lv_at hl 0 rfl) ?_
  refine lv_iload C.x C.b dL_law_2133 (lv_at hl 4 rfl) ?_
  refine lv_iconst (v := 1) C.x C.b dL_law_2135 (by decide) ?_
  refine lv_iadd C.x C.b dL_law_2136 ?_
  refine z_sld C hS hS0.1 hS0.2.1 hS0.2.2 h5.1 dL_law_2137 ?_
  refine lv_aload_n C.x C.b dL_law_2138 rfl (lv_at hl 3 rfl) ?_
  refine z_callSW C hR hS hl (n := 3) (y := yX0_back) (bytes := cX0_back) (maxL := 4) (rt := some .int) (As := [.ref x, .int (xs (i + 1).toNatClampNeg), .ref o]) (rest := []) (lw_SW q1555 q1556 q72 q1557) hdS_X0_back (by decide) rfl rfl (Nat.le_of_ble_eq_true rfl) dL_law_2139 (mX0_back hok hnc x (xs (i + 1).toNatClampNeg) o I.is1 (zPair.k1 hok (pr_back hok hb hk hD hO I) hG)) (fun r g_1 hk_ => ?_) (fun s g1 h => zKF.ex h)
  obtain ⟨kk, rfl, hI_, h⟩ := hk_
  show GW X E 7 g_1 2142 [(0, .ref b), (1, .ref x), (2, .ref m), (3, .ref o), (4, .int i)] [.int kk]
  intro H locs ls hR hS hl
  refine lv_istore (lv' := [(5, .int kk), (0, .ref b), (1, .ref x), (2, .ref m), (3, .ref o), (4, .int i)]) C.x C.b dL_law_2142 hl (by decide) rfl (fun ls hl => ?_)
  refine lv_aload_n C.x C.b dL_law_2144 rfl (lv_at hl 3 rfl) ?_
  refine lv_aload_n C.x C.b dL_law_2145 rfl (lv_at hl 1 rfl) ?_
  refine lv_iload C.x C.b dL_law_2146 (lv_at hl 5 rfl) ?_
  refine lv_iconst (v := 1) C.x C.b dL_law_2148 (by decide) ?_
  refine lv_iadd C.x C.b dL_law_2149 ?_
  refine z_sld C hS hS0.1 hS0.2.1 hS0.2.2 h5.1 dL_law_2150 ?_
  refine z_callV C hR hS hl (n := 1) (C1 := RX3) (T := TX3) (N := 35) (ci := 3) (y := yX3_back) (bytes := cX3_back) (maxL := 2) (rt := (some .int)) (As := [.int (xs (i + 1).toNatClampNeg)]) (rest := []) hI_ rfl (lw_V q2037 q2038 q2039 q82 q2040) hdV_X3_back (by decide) rfl rfl (Nat.le_of_ble_eq_true rfl) dL_law_2151 h (fun r g_2 hk_ => ?_) (fun s g1 h => zKF.ex h)
  clear h; obtain ⟨bb, rfl, hI_, h⟩ := hk_
  show GW X E 7 g_2 2154 [(5, .int kk), (0, .ref b), (1, .ref x), (2, .ref m), (3, .ref o), (4, .int i)] [.int bb]
  intro H locs ls hR hS hl
  refine lv_istore (lv' := [(6, .int bb), (5, .int kk), (0, .ref b), (1, .ref x), (2, .ref m), (3, .ref o), (4, .int i)]) C.x C.b dL_law_2154 hl (by decide) rfl (fun ls hl => ?_)
  refine lv_aload_n C.x C.b dL_law_2156 rfl (lv_at hl 4 rfl) ?_
  refine z_callV C hR hS hl (n := 0) (C1 := RX3) (T := TX3) (N := 35) (ci := 3) (y := yX3_thrown) (bytes := cX3_thrown) (maxL := 1) (rt := (some .int)) (As := []) (rest := []) hI_ rfl (lw_V q1744 q1745 q1746 q82 q1747) hdV_X3_thrown (by decide) rfl rfl (Nat.le_of_ble_eq_true rfl) dL_law_2157 h (fun r g_3 hk_ => ?_) (fun s g1 h => zKF.ex h)
  clear h; obtain ⟨rfl, hg, h⟩ := hk_
  show GW X E 7 g_3 2160 [(6, .int bb), (5, .int kk), (0, .ref b), (1, .ref x), (2, .ref m), (3, .ref o), (4, .int i)] [.int kk]
  intro H locs ls hR hS hl
  refine lv_iload C.x C.b dL_law_2160 (lv_at hl 1 rfl) ?_
  refine lv_icmp_eq (tgt := 2167) C.x C.b dL_law_2162 (by decide) (fun _ => ?_) (fun c => absurd rfl c)
  refine lv_iload C.x C.b dL_law_2167 (lv_at hl 1 rfl) ?_
  refine lv_if_ne (tgt := 2184) C.x C.b dL_law_2169 (by decide) (fun c => ?_) (fun c => ?_)
  · refine lv_goto (tgt := 2645) C.x C.b dL_law_2184 (by decide) ?_
    exact hg H locs ls hR hS (lv_sub hl [2, 3, 4, 5, 6] rfl)
  · obtain ⟨f, q1, q2, zb_⟩ := h c
    refine lv_aload_n C.x C.b dL_law_2172 rfl (lv_at hl 5 rfl) ?_
    refine lv_iconst (v := 0) C.x C.b dL_law_2173 (by decide) ?_
    refine z_lald C hR q1 z_in01 dL_law_2174 ?_
    rw [show f (0 : Int32).toNatClampNeg = bb.toInt64 from q2]
    refine lv_iload C.x C.b dL_law_2175 (lv_at hl 0 rfl) ?_
    refine lv_i2l C.x C.b dL_law_2177 rfl ?_
    refine W.lcmp C.x C.b dL_law_2178 ?_
    rw [lg_cmp_s]
    refine lv_if_eq (tgt := 2184) C.x C.b dL_law_2179 (by decide) (fun _ => ?_) (fun c => absurd rfl c)
    refine lv_goto (tgt := 2645) C.x C.b dL_law_2184 (by decide) ?_
    exact hg H locs ls hR hS (lv_sub hl [2, 3, 4, 5, 6] rfl)
set_option maxHeartbeats 4000000 in
theorem bL_34 {X : zX} {E : zM} {nm : String} {x m o b0 k D b L : Nat} {xs : Nat → Int32} {g : zG} (hok : zOk X) (hnc : zNx X) (C : zC X (D + 2) E RX0 cL_law 7 ret nm) (hS0 : zLS X E b L xs) (hb : b0 + 15000 * 64 + 20000 ≤ zz X) (hk : k < 64) (hD : 400 ≤ D) {i : Int32} (h5 : zLi5 i L) {cd0 : Int32} (I : zIw X x m b0 k cd0 g) (hO : zOut o g) (hG : ∀ (g3 : zG) (cd : Int32), zIw X x m b0 (k + 1) cd g3 → zOut o g3 → GW X E 7 g3 2645 [(0, .ref b), (1, .ref x), (2, .ref m), (3, .ref o), (4, .int i)] []) : GW X E 7 g 2187 [(0, .ref b), (1, .ref x), (2, .ref m), (3, .ref o), (4, .int i)] [] := by
  intro H locs ls hR hS hl
  refine lv_aload_n C.x C.b dL_law_2187 rfl (lv_at hl 1 rfl) ?_
  refine lv_aload_n C.x C.b dL_law_2188 rfl (lv_at hl 0 rfl) ?_
  refine lv_iload C.x C.b dL_law_2189 (lv_at hl 4 rfl) ?_
  refine lv_iconst (v := 1) C.x C.b dL_law_2191 (by decide) ?_
  refine lv_iadd C.x C.b dL_law_2192 ?_
  refine z_sld C hS hS0.1 hS0.2.1 hS0.2.2 h5.1 dL_law_2193 ?_
  refine lv_aload_n C.x C.b dL_law_2194 rfl (lv_at hl 3 rfl) ?_
  refine z_callSW C hR hS hl (n := 3) (y := yX0_ahead) (bytes := cX0_ahead) (maxL := 4) (rt := some .int) (As := [.ref x, .int (xs (i + 1).toNatClampNeg), .ref o]) (rest := []) (lw_SW q1575 q1576 q72 q1577) hdS_X0_ahead (by decide) rfl rfl (Nat.le_of_ble_eq_true rfl) dL_law_2195 (mX0_ahead hok hnc x (xs (i + 1).toNatClampNeg) o I.is1 (zPair.k1 hok (pr_ahead hok hb hk hD hO I) hG)) (fun r g_1 hk_ => ?_) (fun s g1 h => zKF.ex h)
  obtain ⟨kk, rfl, hI_, h⟩ := hk_
  show GW X E 7 g_1 2198 [(0, .ref b), (1, .ref x), (2, .ref m), (3, .ref o), (4, .int i)] [.int kk]
  intro H locs ls hR hS hl
  refine lv_istore (lv' := [(5, .int kk), (0, .ref b), (1, .ref x), (2, .ref m), (3, .ref o), (4, .int i)]) C.x C.b dL_law_2198 hl (by decide) rfl (fun ls hl => ?_)
  refine lv_aload_n C.x C.b dL_law_2200 rfl (lv_at hl 3 rfl) ?_
  refine lv_aload_n C.x C.b dL_law_2201 rfl (lv_at hl 1 rfl) ?_
  refine lv_iload C.x C.b dL_law_2202 (lv_at hl 5 rfl) ?_
  refine lv_iconst (v := 1) C.x C.b dL_law_2204 (by decide) ?_
  refine lv_iadd C.x C.b dL_law_2205 ?_
  refine z_sld C hS hS0.1 hS0.2.1 hS0.2.2 h5.1 dL_law_2206 ?_
  refine z_callV C hR hS hl (n := 1) (C1 := RX3) (T := TX3) (N := 35) (ci := 3) (y := yX3_ahead) (bytes := cX3_ahead) (maxL := 2) (rt := (some .int)) (As := [.int (xs (i + 1).toNatClampNeg)]) (rest := []) hI_ rfl (lw_V q2055 q2056 q2057 q82 q2058) hdV_X3_ahead (by decide) rfl rfl (Nat.le_of_ble_eq_true rfl) dL_law_2207 h (fun r g_2 hk_ => ?_) (fun s g1 h => zKF.ex h)
  clear h; obtain ⟨bb, rfl, hI_, h⟩ := hk_
  show GW X E 7 g_2 2210 [(5, .int kk), (0, .ref b), (1, .ref x), (2, .ref m), (3, .ref o), (4, .int i)] [.int bb]
  intro H locs ls hR hS hl
  refine lv_istore (lv' := [(6, .int bb), (5, .int kk), (0, .ref b), (1, .ref x), (2, .ref m), (3, .ref o), (4, .int i)]) C.x C.b dL_law_2210 hl (by decide) rfl (fun ls hl => ?_)
  refine lv_aload_n C.x C.b dL_law_2212 rfl (lv_at hl 4 rfl) ?_
  refine z_callV C hR hS hl (n := 0) (C1 := RX3) (T := TX3) (N := 35) (ci := 3) (y := yX3_thrown) (bytes := cX3_thrown) (maxL := 1) (rt := (some .int)) (As := []) (rest := []) hI_ rfl (lw_V q1744 q1745 q1746 q82 q1747) hdV_X3_thrown (by decide) rfl rfl (Nat.le_of_ble_eq_true rfl) dL_law_2213 h (fun r g_3 hk_ => ?_) (fun s g1 h => zKF.ex h)
  clear h; obtain ⟨rfl, hg, h⟩ := hk_
  show GW X E 7 g_3 2216 [(6, .int bb), (5, .int kk), (0, .ref b), (1, .ref x), (2, .ref m), (3, .ref o), (4, .int i)] [.int kk]
  intro H locs ls hR hS hl
  refine lv_iload C.x C.b dL_law_2216 (lv_at hl 1 rfl) ?_
  refine lv_icmp_eq (tgt := 2223) C.x C.b dL_law_2218 (by decide) (fun _ => ?_) (fun c => absurd rfl c)
  refine lv_iload C.x C.b dL_law_2223 (lv_at hl 1 rfl) ?_
  refine lv_if_ne (tgt := 2240) C.x C.b dL_law_2225 (by decide) (fun c => ?_) (fun c => ?_)
  · refine lv_goto (tgt := 2645) C.x C.b dL_law_2240 (by decide) ?_
    exact hg H locs ls hR hS (lv_sub hl [2, 3, 4, 5, 6] rfl)
  · obtain ⟨f, q1, q2, zb_⟩ := h c
    refine lv_aload_n C.x C.b dL_law_2228 rfl (lv_at hl 5 rfl) ?_
    refine lv_iconst (v := 0) C.x C.b dL_law_2229 (by decide) ?_
    refine z_lald C hR q1 z_in01 dL_law_2230 ?_
    rw [show f (0 : Int32).toNatClampNeg = bb.toInt64 from q2]
    refine lv_iload C.x C.b dL_law_2231 (lv_at hl 0 rfl) ?_
    refine lv_i2l C.x C.b dL_law_2233 rfl ?_
    refine W.lcmp C.x C.b dL_law_2234 ?_
    rw [lg_cmp_s]
    refine lv_if_eq (tgt := 2240) C.x C.b dL_law_2235 (by decide) (fun _ => ?_) (fun c => absurd rfl c)
    refine lv_goto (tgt := 2645) C.x C.b dL_law_2240 (by decide) ?_
    exact hg H locs ls hR hS (lv_sub hl [2, 3, 4, 5, 6] rfl)
set_option maxHeartbeats 4000000 in
theorem bL_35 {X : zX} {E : zM} {nm : String} {x m o b0 k D b L : Nat} {xs : Nat → Int32} {g : zG} (hok : zOk X) (hnc : zNx X) (C : zC X (D + 2) E RX0 cL_law 7 ret nm) (hS0 : zLS X E b L xs) (hb : b0 + 15000 * 64 + 20000 ≤ zz X) (hk : k < 64) (hD : 400 ≤ D) {i : Int32} (h5 : zLi5 i L) {cd0 : Int32} (I : zIw X x m b0 k cd0 g) (hO : zOut o g) (hG : ∀ (g3 : zG) (cd : Int32), zIw X x m b0 (k + 1) cd g3 → zOut o g3 → GW X E 7 g3 2645 [(0, .ref b), (1, .ref x), (2, .ref m), (3, .ref o), (4, .int i)] []) : GW X E 7 g 2243 [(0, .ref b), (1, .ref x), (2, .ref m), (3, .ref o), (4, .int i)] [] := by
  intro H locs ls hR hS hl
  refine lv_aload_n C.x C.b dL_law_2243 rfl (lv_at hl 1 rfl) ?_
  refine z_callV C hR hS hl (n := 0) (C1 := RX1) (T := TX1) (N := 12) (ci := 1) (y := yX1_parts) (bytes := cX1_parts) (maxL := 8) (rt := (some .int)) (As := []) (rest := []) I.is1 rfl (lw_V q320 q321 q322 q73 q323) hdV_X1_parts (by decide) rfl rfl (Nat.le_of_ble_eq_true rfl) dL_law_2244 (zPair.k0 (pr_parts hok hb hk (by omega) hO I) hG) (fun r g_1 hk_ => ?_) (fun s g1 h => zKF.ex h)
  obtain ⟨v, rfl, hI_, h⟩ := hk_
  show GW X E 7 g_1 2247 [(0, .ref b), (1, .ref x), (2, .ref m), (3, .ref o), (4, .int i)] [.int v]
  intro H locs ls hR hS hl
  refine lv_aload_n C.x C.b dL_law_2247 rfl (lv_at hl 2 rfl) ?_
  refine z_callV C hR hS hl (n := 0) (C1 := RX3) (T := TX3) (N := 35) (ci := 3) (y := yX3_parts) (bytes := cX3_parts) (maxL := 5) (rt := (some .int)) (As := []) (rest := [.int v]) hI_ rfl (lw_V q2059 q2060 q2061 q82 q2062) hdV_X3_parts (by decide) rfl rfl (Nat.le_of_ble_eq_true rfl) dL_law_2248 h (fun r g_2 hk_ => ?_) (fun s g1 h => zKF.ex h)
  obtain ⟨rfl, hg⟩ := hk_
  show GW X E 7 g_2 2251 [(0, .ref b), (1, .ref x), (2, .ref m), (3, .ref o), (4, .int i)] [.int v, .int v]
  intro H locs ls hR hS hl
  refine lv_icmp_eq (tgt := 2645) C.x C.b dL_law_2251 (by decide) (fun _ => ?_) (fun c => absurd rfl c)
  exact hg H locs ls hR hS hl
set_option maxHeartbeats 4000000 in
theorem bL_36 {X : zX} {E : zM} {nm : String} {x m o b0 k D b L : Nat} {xs : Nat → Int32} {g : zG} (hok : zOk X) (hnc : zNx X) (C : zC X (D + 2) E RX0 cL_law 7 ret nm) (hS0 : zLS X E b L xs) (hb : b0 + 15000 * 64 + 20000 ≤ zz X) (hk : k < 64) (hD : 400 ≤ D) {i : Int32} (h5 : zLi5 i L) {cd0 : Int32} (I : zIw X x m b0 k cd0 g) (hO : zOut o g) (hG : ∀ (g3 : zG) (cd : Int32), zIw X x m b0 (k + 1) cd g3 → zOut o g3 → GW X E 7 g3 2645 [(0, .ref b), (1, .ref x), (2, .ref m), (3, .ref o), (4, .int i)] []) : GW X E 7 g 2256 [(0, .ref b), (1, .ref x), (2, .ref m), (3, .ref o), (4, .int i)] [] := by
  intro H locs ls hR hS hl
  refine lv_aload_n C.x C.b dL_law_2256 rfl (lv_at hl 1 rfl) ?_
  refine z_callV C hR hS hl (n := 0) (C1 := RX1) (T := TX1) (N := 12) (ci := 1) (y := yX1_orders) (bytes := cX1_orders) (maxL := 1) (rt := (some .int)) (As := []) (rest := []) I.is1 rfl (lw_V q401 q402 q403 q73 q404) hdV_X1_orders (by decide) rfl rfl (Nat.le_of_ble_eq_true rfl) dL_law_2257 (zPair.k0 (pr_orders hok hb hk (by omega) hO I) hG) (fun r g_1 hk_ => ?_) (fun s g1 h => zKF.ex h)
  obtain ⟨v, rfl, hI_, h⟩ := hk_
  show GW X E 7 g_1 2260 [(0, .ref b), (1, .ref x), (2, .ref m), (3, .ref o), (4, .int i)] [.int v]
  intro H locs ls hR hS hl
  refine lv_aload_n C.x C.b dL_law_2260 rfl (lv_at hl 2 rfl) ?_
  refine z_callV C hR hS hl (n := 0) (C1 := RX3) (T := TX3) (N := 35) (ci := 3) (y := yX3_orders) (bytes := cX3_orders) (maxL := 1) (rt := (some .int)) (As := []) (rest := [.int v]) hI_ rfl (lw_V q2067 q2068 q2069 q82 q2070) hdV_X3_orders (by decide) rfl rfl (Nat.le_of_ble_eq_true rfl) dL_law_2261 h (fun r g_2 hk_ => ?_) (fun s g1 h => zKF.ex h)
  obtain ⟨rfl, hg⟩ := hk_
  show GW X E 7 g_2 2264 [(0, .ref b), (1, .ref x), (2, .ref m), (3, .ref o), (4, .int i)] [.int v, .int v]
  intro H locs ls hR hS hl
  refine lv_icmp_eq (tgt := 2645) C.x C.b dL_law_2264 (by decide) (fun _ => ?_) (fun c => absurd rfl c)
  exact hg H locs ls hR hS hl
set_option maxHeartbeats 4000000 in
theorem bL_37 {X : zX} {E : zM} {nm : String} {x m o b0 k D b L : Nat} {xs : Nat → Int32} {g : zG} (hok : zOk X) (hnc : zNx X) (C : zC X (D + 2) E RX0 cL_law 7 ret nm) (hS0 : zLS X E b L xs) (hb : b0 + 15000 * 64 + 20000 ≤ zz X) (hk : k < 64) (hD : 400 ≤ D) {i : Int32} (h5 : zLi5 i L) {cd0 : Int32} (I : zIw X x m b0 k cd0 g) (hO : zOut o g) (hG : ∀ (g3 : zG) (cd : Int32), zIw X x m b0 (k + 1) cd g3 → zOut o g3 → GW X E 7 g3 2645 [(0, .ref b), (1, .ref x), (2, .ref m), (3, .ref o), (4, .int i)] []) : GW X E 7 g 2269 [(0, .ref b), (1, .ref x), (2, .ref m), (3, .ref o), (4, .int i)] [] := by
  intro H locs ls hR hS hl
  refine lv_aload_n C.x C.b dL_law_2269 rfl (lv_at hl 1 rfl) ?_
  refine lv_aload_n C.x C.b dL_law_2270 rfl (lv_at hl 0 rfl) ?_
  refine lv_iload C.x C.b dL_law_2271 (lv_at hl 4 rfl) ?_
  refine lv_iconst (v := 1) C.x C.b dL_law_2273 (by decide) ?_
  refine lv_iadd C.x C.b dL_law_2274 ?_
  refine z_sld C hS hS0.1 hS0.2.1 hS0.2.2 h5.1 dL_law_2275 ?_
  refine lv_aload_n C.x C.b dL_law_2276 rfl (lv_at hl 0 rfl) ?_
  refine lv_iload C.x C.b dL_law_2277 (lv_at hl 4 rfl) ?_
  refine lv_iconst (v := 2) C.x C.b dL_law_2279 (by decide) ?_
  refine lv_iadd C.x C.b dL_law_2280 ?_
  refine z_sld C hS hS0.1 hS0.2.1 hS0.2.2 h5.2.1 dL_law_2281 ?_
  refine lv_aload_n C.x C.b dL_law_2282 rfl (lv_at hl 0 rfl) ?_
  refine lv_iload C.x C.b dL_law_2283 (lv_at hl 4 rfl) ?_
  refine lv_iconst (v := 3) C.x C.b dL_law_2285 (by decide) ?_
  refine lv_iadd C.x C.b dL_law_2286 ?_
  refine z_sld C hS hS0.1 hS0.2.1 hS0.2.2 h5.2.2.1 dL_law_2287 ?_
  refine lv_aload_n C.x C.b dL_law_2288 rfl (lv_at hl 3 rfl) ?_
  refine z_callSW C hR hS hl (n := 5) (y := yX0_overOrders) (bytes := cX0_overOrders) (maxL := 6) (rt := some .int) (As := [.ref x, .int (xs (i + 1).toNatClampNeg), .int (xs (i + 2).toNatClampNeg), .int (xs (i + 3).toNatClampNeg), .ref o]) (rest := []) (lw_SW q1582 q1583 q72 q1584) hdS_X0_overOrders (by decide) rfl rfl (Nat.le_of_ble_eq_true rfl) dL_law_2289 (mX0_overOrders hok hnc x (xs (i + 1).toNatClampNeg) (xs (i + 2).toNatClampNeg) (xs (i + 3).toNatClampNeg) o I.is1 (zPair.k3 hok (pr_overOrders hok hb hk hD hO I) hG)) (fun r g_1 hk_ => ?_) (fun s g1 h => zKF.ex h)
  obtain ⟨kk, rfl, hI_, h⟩ := hk_
  show GW X E 7 g_1 2292 [(0, .ref b), (1, .ref x), (2, .ref m), (3, .ref o), (4, .int i)] [.int kk]
  intro H locs ls hR hS hl
  refine lv_istore (lv' := [(5, .int kk), (0, .ref b), (1, .ref x), (2, .ref m), (3, .ref o), (4, .int i)]) C.x C.b dL_law_2292 hl (by decide) rfl (fun ls hl => ?_)
  refine lv_aload_n C.x C.b dL_law_2294 rfl (lv_at hl 3 rfl) ?_
  refine lv_aload_n C.x C.b dL_law_2295 rfl (lv_at hl 1 rfl) ?_
  refine lv_iload C.x C.b dL_law_2296 (lv_at hl 5 rfl) ?_
  refine lv_iconst (v := 1) C.x C.b dL_law_2298 (by decide) ?_
  refine lv_iadd C.x C.b dL_law_2299 ?_
  refine z_sld C hS hS0.1 hS0.2.1 hS0.2.2 h5.1 dL_law_2300 ?_
  refine lv_aload_n C.x C.b dL_law_2301 rfl (lv_at hl 1 rfl) ?_
  refine lv_iload C.x C.b dL_law_2302 (lv_at hl 5 rfl) ?_
  refine lv_iconst (v := 2) C.x C.b dL_law_2304 (by decide) ?_
  refine lv_iadd C.x C.b dL_law_2305 ?_
  refine z_sld C hS hS0.1 hS0.2.1 hS0.2.2 h5.2.1 dL_law_2306 ?_
  refine lv_aload_n C.x C.b dL_law_2307 rfl (lv_at hl 1 rfl) ?_
  refine lv_iload C.x C.b dL_law_2308 (lv_at hl 5 rfl) ?_
  refine lv_iconst (v := 3) C.x C.b dL_law_2310 (by decide) ?_
  refine lv_iadd C.x C.b dL_law_2311 ?_
  refine z_sld C hS hS0.1 hS0.2.1 hS0.2.2 h5.2.2.1 dL_law_2312 ?_
  refine z_callV C hR hS hl (n := 3) (C1 := RX3) (T := TX3) (N := 35) (ci := 3) (y := yX3_overOrders) (bytes := cX3_overOrders) (maxL := 7) (rt := (some .int)) (As := [.int (xs (i + 1).toNatClampNeg), .int (xs (i + 2).toNatClampNeg), .int (xs (i + 3).toNatClampNeg)]) (rest := []) hI_ rfl (lw_V q2089 q2090 q2091 q82 q2092) hdV_X3_overOrders (by decide) rfl rfl (Nat.le_of_ble_eq_true rfl) dL_law_2313 h (fun r g_2 hk_ => ?_) (fun s g1 h => zKF.ex h)
  clear h; obtain ⟨bb, rfl, hI_, h⟩ := hk_
  show GW X E 7 g_2 2316 [(5, .int kk), (0, .ref b), (1, .ref x), (2, .ref m), (3, .ref o), (4, .int i)] [.int bb]
  intro H locs ls hR hS hl
  refine lv_istore (lv' := [(6, .int bb), (5, .int kk), (0, .ref b), (1, .ref x), (2, .ref m), (3, .ref o), (4, .int i)]) C.x C.b dL_law_2316 hl (by decide) rfl (fun ls hl => ?_)
  refine lv_aload_n C.x C.b dL_law_2318 rfl (lv_at hl 4 rfl) ?_
  refine z_callV C hR hS hl (n := 0) (C1 := RX3) (T := TX3) (N := 35) (ci := 3) (y := yX3_thrown) (bytes := cX3_thrown) (maxL := 1) (rt := (some .int)) (As := []) (rest := []) hI_ rfl (lw_V q1744 q1745 q1746 q82 q1747) hdV_X3_thrown (by decide) rfl rfl (Nat.le_of_ble_eq_true rfl) dL_law_2319 h (fun r g_3 hk_ => ?_) (fun s g1 h => zKF.ex h)
  clear h; obtain ⟨rfl, hg, h⟩ := hk_
  show GW X E 7 g_3 2322 [(6, .int bb), (5, .int kk), (0, .ref b), (1, .ref x), (2, .ref m), (3, .ref o), (4, .int i)] [.int kk]
  intro H locs ls hR hS hl
  refine lv_iload C.x C.b dL_law_2322 (lv_at hl 1 rfl) ?_
  refine lv_icmp_eq (tgt := 2329) C.x C.b dL_law_2324 (by decide) (fun _ => ?_) (fun c => absurd rfl c)
  refine lv_iload C.x C.b dL_law_2329 (lv_at hl 1 rfl) ?_
  refine lv_if_ne (tgt := 2346) C.x C.b dL_law_2331 (by decide) (fun c => ?_) (fun c => ?_)
  · refine lv_goto (tgt := 2645) C.x C.b dL_law_2346 (by decide) ?_
    exact hg H locs ls hR hS (lv_sub hl [2, 3, 4, 5, 6] rfl)
  · obtain ⟨f, q1, q2, zb_⟩ := h c
    refine lv_aload_n C.x C.b dL_law_2334 rfl (lv_at hl 5 rfl) ?_
    refine lv_iconst (v := 0) C.x C.b dL_law_2335 (by decide) ?_
    refine z_lald C hR q1 z_in01 dL_law_2336 ?_
    rw [show f (0 : Int32).toNatClampNeg = bb.toInt64 from q2]
    refine lv_iload C.x C.b dL_law_2337 (lv_at hl 0 rfl) ?_
    refine lv_i2l C.x C.b dL_law_2339 rfl ?_
    refine W.lcmp C.x C.b dL_law_2340 ?_
    rw [lg_cmp_s]
    refine lv_if_eq (tgt := 2346) C.x C.b dL_law_2341 (by decide) (fun _ => ?_) (fun c => absurd rfl c)
    refine lv_goto (tgt := 2645) C.x C.b dL_law_2346 (by decide) ?_
    exact hg H locs ls hR hS (lv_sub hl [2, 3, 4, 5, 6] rfl)
set_option maxHeartbeats 4000000 in
theorem bL_38 {X : zX} {E : zM} {nm : String} {x m o b0 k D b L : Nat} {xs : Nat → Int32} {g : zG} (hok : zOk X) (hnc : zNx X) (C : zC X (D + 2) E RX0 cL_law 7 ret nm) (hS0 : zLS X E b L xs) (hb : b0 + 15000 * 64 + 20000 ≤ zz X) (hk : k < 64) (hD : 400 ≤ D) {i : Int32} (h5 : zLi5 i L) {cd0 : Int32} (I : zIw X x m b0 k cd0 g) (hO : zOut o g) (hG : ∀ (g3 : zG) (cd : Int32), zIw X x m b0 (k + 1) cd g3 → zOut o g3 → GW X E 7 g3 2645 [(0, .ref b), (1, .ref x), (2, .ref m), (3, .ref o), (4, .int i)] []) : GW X E 7 g 2349 [(0, .ref b), (1, .ref x), (2, .ref m), (3, .ref o), (4, .int i)] [] := by
  intro H locs ls hR hS hl
  refine lv_aload_n C.x C.b dL_law_2349 rfl (lv_at hl 1 rfl) ?_
  refine lv_aload_n C.x C.b dL_law_2350 rfl (lv_at hl 0 rfl) ?_
  refine lv_iload C.x C.b dL_law_2351 (lv_at hl 4 rfl) ?_
  refine lv_iconst (v := 1) C.x C.b dL_law_2353 (by decide) ?_
  refine lv_iadd C.x C.b dL_law_2354 ?_
  refine z_sld C hS hS0.1 hS0.2.1 hS0.2.2 h5.1 dL_law_2355 ?_
  refine lv_aload_n C.x C.b dL_law_2356 rfl (lv_at hl 0 rfl) ?_
  refine lv_iload C.x C.b dL_law_2357 (lv_at hl 4 rfl) ?_
  refine lv_iconst (v := 2) C.x C.b dL_law_2359 (by decide) ?_
  refine lv_iadd C.x C.b dL_law_2360 ?_
  refine z_sld C hS hS0.1 hS0.2.1 hS0.2.2 h5.2.1 dL_law_2361 ?_
  refine lv_aload_n C.x C.b dL_law_2362 rfl (lv_at hl 3 rfl) ?_
  refine z_callSW C hR hS hl (n := 4) (y := yX0_explanation) (bytes := cX0_explanation) (maxL := 5) (rt := some .int) (As := [.ref x, .int (xs (i + 1).toNatClampNeg), .int (xs (i + 2).toNatClampNeg), .ref o]) (rest := []) (lw_SW q1589 q1590 q72 q1591) hdS_X0_explanation (by decide) rfl rfl (Nat.le_of_ble_eq_true rfl) dL_law_2363 (mX0_explanation hok hnc x (xs (i + 1).toNatClampNeg) (xs (i + 2).toNatClampNeg) o I.is1 (zPair.k2 hok (pr_explanation hok hb hk hD hO I) hG)) (fun r g_1 hk_ => ?_) (fun s g1 h => zKF.ex h)
  obtain ⟨kk, rfl, hI_, h⟩ := hk_
  show GW X E 7 g_1 2366 [(0, .ref b), (1, .ref x), (2, .ref m), (3, .ref o), (4, .int i)] [.int kk]
  intro H locs ls hR hS hl
  refine lv_istore (lv' := [(5, .int kk), (0, .ref b), (1, .ref x), (2, .ref m), (3, .ref o), (4, .int i)]) C.x C.b dL_law_2366 hl (by decide) rfl (fun ls hl => ?_)
  refine lv_aload_n C.x C.b dL_law_2368 rfl (lv_at hl 3 rfl) ?_
  refine lv_aload_n C.x C.b dL_law_2369 rfl (lv_at hl 1 rfl) ?_
  refine lv_iload C.x C.b dL_law_2370 (lv_at hl 5 rfl) ?_
  refine lv_iconst (v := 1) C.x C.b dL_law_2372 (by decide) ?_
  refine lv_iadd C.x C.b dL_law_2373 ?_
  refine z_sld C hS hS0.1 hS0.2.1 hS0.2.2 h5.1 dL_law_2374 ?_
  refine lv_aload_n C.x C.b dL_law_2375 rfl (lv_at hl 1 rfl) ?_
  refine lv_iload C.x C.b dL_law_2376 (lv_at hl 5 rfl) ?_
  refine lv_iconst (v := 2) C.x C.b dL_law_2378 (by decide) ?_
  refine lv_iadd C.x C.b dL_law_2379 ?_
  refine z_sld C hS hS0.1 hS0.2.1 hS0.2.2 h5.2.1 dL_law_2380 ?_
  refine z_callV C hR hS hl (n := 2) (C1 := RX3) (T := TX3) (N := 35) (ci := 3) (y := yX3_explanation) (bytes := cX3_explanation) (maxL := 3) (rt := (some .int)) (As := [.int (xs (i + 1).toNatClampNeg), .int (xs (i + 2).toNatClampNeg)]) (rest := []) hI_ rfl (lw_V q2097 q2098 q2099 q82 q2100) hdV_X3_explanation (by decide) rfl rfl (Nat.le_of_ble_eq_true rfl) dL_law_2381 h (fun r g_2 hk_ => ?_) (fun s g1 h => zKF.ex h)
  clear h; obtain ⟨bb, rfl, hI_, h⟩ := hk_
  show GW X E 7 g_2 2384 [(5, .int kk), (0, .ref b), (1, .ref x), (2, .ref m), (3, .ref o), (4, .int i)] [.int bb]
  intro H locs ls hR hS hl
  refine lv_istore (lv' := [(6, .int bb), (5, .int kk), (0, .ref b), (1, .ref x), (2, .ref m), (3, .ref o), (4, .int i)]) C.x C.b dL_law_2384 hl (by decide) rfl (fun ls hl => ?_)
  refine lv_aload_n C.x C.b dL_law_2386 rfl (lv_at hl 4 rfl) ?_
  refine z_callV C hR hS hl (n := 0) (C1 := RX3) (T := TX3) (N := 35) (ci := 3) (y := yX3_thrown) (bytes := cX3_thrown) (maxL := 1) (rt := (some .int)) (As := []) (rest := []) hI_ rfl (lw_V q1744 q1745 q1746 q82 q1747) hdV_X3_thrown (by decide) rfl rfl (Nat.le_of_ble_eq_true rfl) dL_law_2387 h (fun r g_3 hk_ => ?_) (fun s g1 h => zKF.ex h)
  clear h; obtain ⟨rfl, hg, h⟩ := hk_
  show GW X E 7 g_3 2390 [(6, .int bb), (5, .int kk), (0, .ref b), (1, .ref x), (2, .ref m), (3, .ref o), (4, .int i)] [.int kk]
  intro H locs ls hR hS hl
  refine lv_iload C.x C.b dL_law_2390 (lv_at hl 1 rfl) ?_
  refine lv_icmp_eq (tgt := 2397) C.x C.b dL_law_2392 (by decide) (fun _ => ?_) (fun c => absurd rfl c)
  refine lv_iload C.x C.b dL_law_2397 (lv_at hl 1 rfl) ?_
  refine lv_if_ne (tgt := 2414) C.x C.b dL_law_2399 (by decide) (fun c => ?_) (fun c => ?_)
  · refine lv_goto (tgt := 2645) C.x C.b dL_law_2414 (by decide) ?_
    exact hg H locs ls hR hS (lv_sub hl [2, 3, 4, 5, 6] rfl)
  · obtain ⟨f, q1, q2, zb_⟩ := h c
    refine lv_aload_n C.x C.b dL_law_2402 rfl (lv_at hl 5 rfl) ?_
    refine lv_iconst (v := 0) C.x C.b dL_law_2403 (by decide) ?_
    refine z_lald C hR q1 z_in01 dL_law_2404 ?_
    rw [show f (0 : Int32).toNatClampNeg = bb.toInt64 from q2]
    refine lv_iload C.x C.b dL_law_2405 (lv_at hl 0 rfl) ?_
    refine lv_i2l C.x C.b dL_law_2407 rfl ?_
    refine W.lcmp C.x C.b dL_law_2408 ?_
    rw [lg_cmp_s]
    refine lv_if_eq (tgt := 2414) C.x C.b dL_law_2409 (by decide) (fun _ => ?_) (fun c => absurd rfl c)
    refine lv_goto (tgt := 2645) C.x C.b dL_law_2414 (by decide) ?_
    exact hg H locs ls hR hS (lv_sub hl [2, 3, 4, 5, 6] rfl)
set_option maxHeartbeats 4000000 in
theorem bL_39 {X : zX} {E : zM} {nm : String} {x m o b0 k D b L : Nat} {xs : Nat → Int32} {g : zG} (hok : zOk X) (hnc : zNx X) (C : zC X (D + 2) E RX0 cL_law 7 ret nm) (hS0 : zLS X E b L xs) (hb : b0 + 15000 * 64 + 20000 ≤ zz X) (hk : k < 64) (hD : 400 ≤ D) {i : Int32} (h5 : zLi5 i L) {cd0 : Int32} (I : zIw X x m b0 k cd0 g) (hO : zOut o g) (hG : ∀ (g3 : zG) (cd : Int32), zIw X x m b0 (k + 1) cd g3 → zOut o g3 → GW X E 7 g3 2645 [(0, .ref b), (1, .ref x), (2, .ref m), (3, .ref o), (4, .int i)] []) : GW X E 7 g 2417 [(0, .ref b), (1, .ref x), (2, .ref m), (3, .ref o), (4, .int i)] [] := by
  intro H locs ls hR hS hl
  refine lv_aload_n C.x C.b dL_law_2417 rfl (lv_at hl 1 rfl) ?_
  refine lv_aload_n C.x C.b dL_law_2418 rfl (lv_at hl 0 rfl) ?_
  refine lv_iload C.x C.b dL_law_2419 (lv_at hl 4 rfl) ?_
  refine lv_iconst (v := 1) C.x C.b dL_law_2421 (by decide) ?_
  refine lv_iadd C.x C.b dL_law_2422 ?_
  refine z_sld C hS hS0.1 hS0.2.1 hS0.2.2 h5.1 dL_law_2423 ?_
  refine lv_aload_n C.x C.b dL_law_2424 rfl (lv_at hl 0 rfl) ?_
  refine lv_iload C.x C.b dL_law_2425 (lv_at hl 4 rfl) ?_
  refine lv_iconst (v := 2) C.x C.b dL_law_2427 (by decide) ?_
  refine lv_iadd C.x C.b dL_law_2428 ?_
  refine z_sld C hS hS0.1 hS0.2.1 hS0.2.2 h5.2.1 dL_law_2429 ?_
  refine lv_aload_n C.x C.b dL_law_2430 rfl (lv_at hl 0 rfl) ?_
  refine lv_iload C.x C.b dL_law_2431 (lv_at hl 4 rfl) ?_
  refine lv_iconst (v := 3) C.x C.b dL_law_2433 (by decide) ?_
  refine lv_iadd C.x C.b dL_law_2434 ?_
  refine z_sld C hS hS0.1 hS0.2.1 hS0.2.2 h5.2.2.1 dL_law_2435 ?_
  refine lv_aload_n C.x C.b dL_law_2436 rfl (lv_at hl 3 rfl) ?_
  refine z_callSW C hR hS hl (n := 5) (y := yX0_explainedBy) (bytes := cX0_explainedBy) (maxL := 6) (rt := some .int) (As := [.ref x, .int (xs (i + 1).toNatClampNeg), .int (xs (i + 2).toNatClampNeg), .int (xs (i + 3).toNatClampNeg), .ref o]) (rest := []) (lw_SW q1610 q1611 q72 q1612) hdS_X0_explainedBy (by decide) rfl rfl (Nat.le_of_ble_eq_true rfl) dL_law_2437 (mX0_explainedBy hok hnc x (xs (i + 1).toNatClampNeg) (xs (i + 2).toNatClampNeg) (xs (i + 3).toNatClampNeg) o I.is1 (zPair.k2 hok (pr_explainedBy hok hb hk hD hO I) hG)) (fun r g_1 hk_ => ?_) (fun s g1 h => zKF.ex h)
  obtain ⟨kk, rfl, hI_, h⟩ := hk_
  show GW X E 7 g_1 2440 [(0, .ref b), (1, .ref x), (2, .ref m), (3, .ref o), (4, .int i)] [.int kk]
  intro H locs ls hR hS hl
  refine lv_istore (lv' := [(5, .int kk), (0, .ref b), (1, .ref x), (2, .ref m), (3, .ref o), (4, .int i)]) C.x C.b dL_law_2440 hl (by decide) rfl (fun ls hl => ?_)
  refine lv_aload_n C.x C.b dL_law_2442 rfl (lv_at hl 3 rfl) ?_
  refine lv_aload_n C.x C.b dL_law_2443 rfl (lv_at hl 1 rfl) ?_
  refine lv_iload C.x C.b dL_law_2444 (lv_at hl 5 rfl) ?_
  refine lv_iconst (v := 1) C.x C.b dL_law_2446 (by decide) ?_
  refine lv_iadd C.x C.b dL_law_2447 ?_
  refine z_sld C hS hS0.1 hS0.2.1 hS0.2.2 h5.1 dL_law_2448 ?_
  refine lv_aload_n C.x C.b dL_law_2449 rfl (lv_at hl 1 rfl) ?_
  refine lv_iload C.x C.b dL_law_2450 (lv_at hl 5 rfl) ?_
  refine lv_iconst (v := 2) C.x C.b dL_law_2452 (by decide) ?_
  refine lv_iadd C.x C.b dL_law_2453 ?_
  refine z_sld C hS hS0.1 hS0.2.1 hS0.2.2 h5.2.1 dL_law_2454 ?_
  refine lv_aload_n C.x C.b dL_law_2455 rfl (lv_at hl 1 rfl) ?_
  refine lv_iload C.x C.b dL_law_2456 (lv_at hl 5 rfl) ?_
  refine lv_iconst (v := 3) C.x C.b dL_law_2458 (by decide) ?_
  refine lv_iadd C.x C.b dL_law_2459 ?_
  refine z_sld C hS hS0.1 hS0.2.1 hS0.2.2 h5.2.2.1 dL_law_2460 ?_
  refine z_callV C hR hS hl (n := 3) (C1 := RX3) (T := TX3) (N := 35) (ci := 3) (y := yX3_explainedBy) (bytes := cX3_explainedBy) (maxL := 4) (rt := (some .int)) (As := [.int (xs (i + 1).toNatClampNeg), .int (xs (i + 2).toNatClampNeg), .int (xs (i + 3).toNatClampNeg)]) (rest := []) hI_ rfl (lw_V q2126 q2127 q2128 q82 q2129) hdV_X3_explainedBy (by decide) rfl rfl (Nat.le_of_ble_eq_true rfl) dL_law_2461 h (fun r g_2 hk_ => ?_) (fun s g1 h => zKF.ex h)
  clear h; obtain ⟨bb, rfl, hI_, h⟩ := hk_
  show GW X E 7 g_2 2464 [(5, .int kk), (0, .ref b), (1, .ref x), (2, .ref m), (3, .ref o), (4, .int i)] [.int bb]
  intro H locs ls hR hS hl
  refine lv_istore (lv' := [(6, .int bb), (5, .int kk), (0, .ref b), (1, .ref x), (2, .ref m), (3, .ref o), (4, .int i)]) C.x C.b dL_law_2464 hl (by decide) rfl (fun ls hl => ?_)
  refine lv_aload_n C.x C.b dL_law_2466 rfl (lv_at hl 4 rfl) ?_
  refine z_callV C hR hS hl (n := 0) (C1 := RX3) (T := TX3) (N := 35) (ci := 3) (y := yX3_thrown) (bytes := cX3_thrown) (maxL := 1) (rt := (some .int)) (As := []) (rest := []) hI_ rfl (lw_V q1744 q1745 q1746 q82 q1747) hdV_X3_thrown (by decide) rfl rfl (Nat.le_of_ble_eq_true rfl) dL_law_2467 h (fun r g_3 hk_ => ?_) (fun s g1 h => zKF.ex h)
  clear h; obtain ⟨rfl, hg, h⟩ := hk_
  show GW X E 7 g_3 2470 [(6, .int bb), (5, .int kk), (0, .ref b), (1, .ref x), (2, .ref m), (3, .ref o), (4, .int i)] [.int kk]
  intro H locs ls hR hS hl
  refine lv_iload C.x C.b dL_law_2470 (lv_at hl 1 rfl) ?_
  refine lv_icmp_eq (tgt := 2477) C.x C.b dL_law_2472 (by decide) (fun _ => ?_) (fun c => absurd rfl c)
  refine lv_iload C.x C.b dL_law_2477 (lv_at hl 1 rfl) ?_
  refine lv_if_ne (tgt := 2494) C.x C.b dL_law_2479 (by decide) (fun c => ?_) (fun c => ?_)
  · refine lv_goto (tgt := 2645) C.x C.b dL_law_2494 (by decide) ?_
    exact hg H locs ls hR hS (lv_sub hl [2, 3, 4, 5, 6] rfl)
  · obtain ⟨f, q1, q2, zb_⟩ := h c
    refine lv_aload_n C.x C.b dL_law_2482 rfl (lv_at hl 5 rfl) ?_
    refine lv_iconst (v := 0) C.x C.b dL_law_2483 (by decide) ?_
    refine z_lald C hR q1 z_in01 dL_law_2484 ?_
    rw [show f (0 : Int32).toNatClampNeg = bb.toInt64 from q2]
    refine lv_iload C.x C.b dL_law_2485 (lv_at hl 0 rfl) ?_
    refine lv_i2l C.x C.b dL_law_2487 rfl ?_
    refine W.lcmp C.x C.b dL_law_2488 ?_
    rw [lg_cmp_s]
    refine lv_if_eq (tgt := 2494) C.x C.b dL_law_2489 (by decide) (fun _ => ?_) (fun c => absurd rfl c)
    refine lv_goto (tgt := 2645) C.x C.b dL_law_2494 (by decide) ?_
    exact hg H locs ls hR hS (lv_sub hl [2, 3, 4, 5, 6] rfl)
set_option maxHeartbeats 4000000 in
theorem bL_40 {X : zX} {E : zM} {nm : String} {x m o b0 k D b L : Nat} {xs : Nat → Int32} {g : zG} (hok : zOk X) (hnc : zNx X) (C : zC X (D + 2) E RX0 cL_law 7 ret nm) (hS0 : zLS X E b L xs) (hb : b0 + 15000 * 64 + 20000 ≤ zz X) (hk : k < 64) (hD : 400 ≤ D) {i : Int32} (h5 : zLi5 i L) {cd0 : Int32} (I : zIw X x m b0 k cd0 g) (hO : zOut o g) (hG : ∀ (g3 : zG) (cd : Int32), zIw X x m b0 (k + 1) cd g3 → zOut o g3 → GW X E 7 g3 2645 [(0, .ref b), (1, .ref x), (2, .ref m), (3, .ref o), (4, .int i)] []) : GW X E 7 g 2497 [(0, .ref b), (1, .ref x), (2, .ref m), (3, .ref o), (4, .int i)] [] := by
  intro H locs ls hR hS hl
  refine lv_aload_n C.x C.b dL_law_2497 rfl (lv_at hl 1 rfl) ?_
  refine lv_aload_n C.x C.b dL_law_2498 rfl (lv_at hl 0 rfl) ?_
  refine lv_iload C.x C.b dL_law_2499 (lv_at hl 4 rfl) ?_
  refine lv_iconst (v := 1) C.x C.b dL_law_2501 (by decide) ?_
  refine lv_iadd C.x C.b dL_law_2502 ?_
  refine z_sld C hS hS0.1 hS0.2.1 hS0.2.2 h5.1 dL_law_2503 ?_
  refine lv_aload_n C.x C.b dL_law_2504 rfl (lv_at hl 0 rfl) ?_
  refine lv_iload C.x C.b dL_law_2505 (lv_at hl 4 rfl) ?_
  refine lv_iconst (v := 2) C.x C.b dL_law_2507 (by decide) ?_
  refine lv_iadd C.x C.b dL_law_2508 ?_
  refine z_sld C hS hS0.1 hS0.2.1 hS0.2.2 h5.2.1 dL_law_2509 ?_
  refine lv_aload_n C.x C.b dL_law_2510 rfl (lv_at hl 3 rfl) ?_
  refine z_callSW C hR hS hl (n := 4) (y := yX0_mend) (bytes := cX0_mend) (maxL := 5) (rt := some .int) (As := [.ref x, .int (xs (i + 1).toNatClampNeg), .int (xs (i + 2).toNatClampNeg), .ref o]) (rest := []) (lw_SW q1617 q1618 q72 q1619) hdS_X0_mend (by decide) rfl rfl (Nat.le_of_ble_eq_true rfl) dL_law_2511 (mX0_mend hok hnc x (xs (i + 1).toNatClampNeg) (xs (i + 2).toNatClampNeg) o I.is1 (zPair.k2 hok (pr_mend hok hb hk hD hO I) hG)) (fun r g_1 hk_ => ?_) (fun s g1 h => zKF.ex h)
  obtain ⟨kk, rfl, hI_, h⟩ := hk_
  show GW X E 7 g_1 2514 [(0, .ref b), (1, .ref x), (2, .ref m), (3, .ref o), (4, .int i)] [.int kk]
  intro H locs ls hR hS hl
  refine lv_istore (lv' := [(5, .int kk), (0, .ref b), (1, .ref x), (2, .ref m), (3, .ref o), (4, .int i)]) C.x C.b dL_law_2514 hl (by decide) rfl (fun ls hl => ?_)
  refine lv_aload_n C.x C.b dL_law_2516 rfl (lv_at hl 3 rfl) ?_
  refine lv_aload_n C.x C.b dL_law_2517 rfl (lv_at hl 1 rfl) ?_
  refine lv_iload C.x C.b dL_law_2518 (lv_at hl 5 rfl) ?_
  refine lv_iconst (v := 1) C.x C.b dL_law_2520 (by decide) ?_
  refine lv_iadd C.x C.b dL_law_2521 ?_
  refine z_sld C hS hS0.1 hS0.2.1 hS0.2.2 h5.1 dL_law_2522 ?_
  refine lv_aload_n C.x C.b dL_law_2523 rfl (lv_at hl 1 rfl) ?_
  refine lv_iload C.x C.b dL_law_2524 (lv_at hl 5 rfl) ?_
  refine lv_iconst (v := 2) C.x C.b dL_law_2526 (by decide) ?_
  refine lv_iadd C.x C.b dL_law_2527 ?_
  refine z_sld C hS hS0.1 hS0.2.1 hS0.2.2 h5.2.1 dL_law_2528 ?_
  refine z_callV C hR hS hl (n := 2) (C1 := RX3) (T := TX3) (N := 35) (ci := 3) (y := yX3_mend) (bytes := cX3_mend) (maxL := 3) (rt := (some .int)) (As := [.int (xs (i + 1).toNatClampNeg), .int (xs (i + 2).toNatClampNeg)]) (rest := []) hI_ rfl (lw_V q2134 q2135 q2136 q82 q2137) hdV_X3_mend (by decide) rfl rfl (Nat.le_of_ble_eq_true rfl) dL_law_2529 h (fun r g_2 hk_ => ?_) (fun s g1 h => zKF.ex h)
  clear h; obtain ⟨bb, rfl, hI_, h⟩ := hk_
  show GW X E 7 g_2 2532 [(5, .int kk), (0, .ref b), (1, .ref x), (2, .ref m), (3, .ref o), (4, .int i)] [.int bb]
  intro H locs ls hR hS hl
  refine lv_istore (lv' := [(6, .int bb), (5, .int kk), (0, .ref b), (1, .ref x), (2, .ref m), (3, .ref o), (4, .int i)]) C.x C.b dL_law_2532 hl (by decide) rfl (fun ls hl => ?_)
  refine lv_aload_n C.x C.b dL_law_2534 rfl (lv_at hl 4 rfl) ?_
  refine z_callV C hR hS hl (n := 0) (C1 := RX3) (T := TX3) (N := 35) (ci := 3) (y := yX3_thrown) (bytes := cX3_thrown) (maxL := 1) (rt := (some .int)) (As := []) (rest := []) hI_ rfl (lw_V q1744 q1745 q1746 q82 q1747) hdV_X3_thrown (by decide) rfl rfl (Nat.le_of_ble_eq_true rfl) dL_law_2535 h (fun r g_3 hk_ => ?_) (fun s g1 h => zKF.ex h)
  clear h; obtain ⟨rfl, hg, h⟩ := hk_
  show GW X E 7 g_3 2538 [(6, .int bb), (5, .int kk), (0, .ref b), (1, .ref x), (2, .ref m), (3, .ref o), (4, .int i)] [.int kk]
  intro H locs ls hR hS hl
  refine lv_iload C.x C.b dL_law_2538 (lv_at hl 1 rfl) ?_
  refine lv_icmp_eq (tgt := 2545) C.x C.b dL_law_2540 (by decide) (fun _ => ?_) (fun c => absurd rfl c)
  refine lv_iload C.x C.b dL_law_2545 (lv_at hl 1 rfl) ?_
  refine lv_if_ne (tgt := 2562) C.x C.b dL_law_2547 (by decide) (fun c => ?_) (fun c => ?_)
  · refine lv_goto (tgt := 2645) C.x C.b dL_law_2562 (by decide) ?_
    exact hg H locs ls hR hS (lv_sub hl [2, 3, 4, 5, 6] rfl)
  · obtain ⟨f, q1, q2, zb_⟩ := h c
    refine lv_aload_n C.x C.b dL_law_2550 rfl (lv_at hl 5 rfl) ?_
    refine lv_iconst (v := 0) C.x C.b dL_law_2551 (by decide) ?_
    refine z_lald C hR q1 z_in01 dL_law_2552 ?_
    rw [show f (0 : Int32).toNatClampNeg = bb.toInt64 from q2]
    refine lv_iload C.x C.b dL_law_2553 (lv_at hl 0 rfl) ?_
    refine lv_i2l C.x C.b dL_law_2555 rfl ?_
    refine W.lcmp C.x C.b dL_law_2556 ?_
    rw [lg_cmp_s]
    refine lv_if_eq (tgt := 2562) C.x C.b dL_law_2557 (by decide) (fun _ => ?_) (fun c => absurd rfl c)
    refine lv_goto (tgt := 2645) C.x C.b dL_law_2562 (by decide) ?_
    exact hg H locs ls hR hS (lv_sub hl [2, 3, 4, 5, 6] rfl)
set_option maxHeartbeats 4000000 in
theorem bL_41 {X : zX} {E : zM} {nm : String} {x m o b0 k D b L : Nat} {xs : Nat → Int32} {g : zG} (hok : zOk X) (hnc : zNx X) (C : zC X (D + 2) E RX0 cL_law 7 ret nm) (hS0 : zLS X E b L xs) (hb : b0 + 15000 * 64 + 20000 ≤ zz X) (hk : k < 64) (hD : 400 ≤ D) {i : Int32} (h5 : zLi5 i L) {cd0 : Int32} (I : zIw X x m b0 k cd0 g) (hO : zOut o g) (hG : ∀ (g3 : zG) (cd : Int32), zIw X x m b0 (k + 1) cd g3 → zOut o g3 → GW X E 7 g3 2645 [(0, .ref b), (1, .ref x), (2, .ref m), (3, .ref o), (4, .int i)] []) : GW X E 7 g 2565 [(0, .ref b), (1, .ref x), (2, .ref m), (3, .ref o), (4, .int i)] [] := by
  intro H locs ls hR hS hl
  refine lv_aload_n C.x C.b dL_law_2565 rfl (lv_at hl 1 rfl) ?_
  refine lv_aload_n C.x C.b dL_law_2566 rfl (lv_at hl 0 rfl) ?_
  refine lv_iload C.x C.b dL_law_2567 (lv_at hl 4 rfl) ?_
  refine lv_iconst (v := 1) C.x C.b dL_law_2569 (by decide) ?_
  refine lv_iadd C.x C.b dL_law_2570 ?_
  refine z_sld C hS hS0.1 hS0.2.1 hS0.2.2 h5.1 dL_law_2571 ?_
  refine lv_aload_n C.x C.b dL_law_2572 rfl (lv_at hl 0 rfl) ?_
  refine lv_iload C.x C.b dL_law_2573 (lv_at hl 4 rfl) ?_
  refine lv_iconst (v := 2) C.x C.b dL_law_2575 (by decide) ?_
  refine lv_iadd C.x C.b dL_law_2576 ?_
  refine z_sld C hS hS0.1 hS0.2.1 hS0.2.2 h5.2.1 dL_law_2577 ?_
  refine lv_aload_n C.x C.b dL_law_2578 rfl (lv_at hl 0 rfl) ?_
  refine lv_iload C.x C.b dL_law_2579 (lv_at hl 4 rfl) ?_
  refine lv_iconst (v := 3) C.x C.b dL_law_2581 (by decide) ?_
  refine lv_iadd C.x C.b dL_law_2582 ?_
  refine z_sld C hS hS0.1 hS0.2.1 hS0.2.2 h5.2.2.1 dL_law_2583 ?_
  refine lv_aload_n C.x C.b dL_law_2584 rfl (lv_at hl 3 rfl) ?_
  refine z_callSW C hR hS hl (n := 5) (y := yX0_mendedBy) (bytes := cX0_mendedBy) (maxL := 6) (rt := some .int) (As := [.ref x, .int (xs (i + 1).toNatClampNeg), .int (xs (i + 2).toNatClampNeg), .int (xs (i + 3).toNatClampNeg), .ref o]) (rest := []) (lw_SW q1624 q1625 q72 q1626) hdS_X0_mendedBy (by decide) rfl rfl (Nat.le_of_ble_eq_true rfl) dL_law_2585 (mX0_mendedBy hok hnc x (xs (i + 1).toNatClampNeg) (xs (i + 2).toNatClampNeg) (xs (i + 3).toNatClampNeg) o I.is1 (zPair.k2 hok (pr_mendedBy hok hb hk hD hO I) hG)) (fun r g_1 hk_ => ?_) (fun s g1 h => zKF.ex h)
  obtain ⟨kk, rfl, hI_, h⟩ := hk_
  show GW X E 7 g_1 2588 [(0, .ref b), (1, .ref x), (2, .ref m), (3, .ref o), (4, .int i)] [.int kk]
  intro H locs ls hR hS hl
  refine lv_istore (lv' := [(5, .int kk), (0, .ref b), (1, .ref x), (2, .ref m), (3, .ref o), (4, .int i)]) C.x C.b dL_law_2588 hl (by decide) rfl (fun ls hl => ?_)
  refine lv_aload_n C.x C.b dL_law_2590 rfl (lv_at hl 3 rfl) ?_
  refine lv_aload_n C.x C.b dL_law_2591 rfl (lv_at hl 1 rfl) ?_
  refine lv_iload C.x C.b dL_law_2592 (lv_at hl 5 rfl) ?_
  refine lv_iconst (v := 1) C.x C.b dL_law_2594 (by decide) ?_
  refine lv_iadd C.x C.b dL_law_2595 ?_
  refine z_sld C hS hS0.1 hS0.2.1 hS0.2.2 h5.1 dL_law_2596 ?_
  refine lv_aload_n C.x C.b dL_law_2597 rfl (lv_at hl 1 rfl) ?_
  refine lv_iload C.x C.b dL_law_2598 (lv_at hl 5 rfl) ?_
  refine lv_iconst (v := 2) C.x C.b dL_law_2600 (by decide) ?_
  refine lv_iadd C.x C.b dL_law_2601 ?_
  refine z_sld C hS hS0.1 hS0.2.1 hS0.2.2 h5.2.1 dL_law_2602 ?_
  refine lv_aload_n C.x C.b dL_law_2603 rfl (lv_at hl 1 rfl) ?_
  refine lv_iload C.x C.b dL_law_2604 (lv_at hl 5 rfl) ?_
  refine lv_iconst (v := 3) C.x C.b dL_law_2606 (by decide) ?_
  refine lv_iadd C.x C.b dL_law_2607 ?_
  refine z_sld C hS hS0.1 hS0.2.1 hS0.2.2 h5.2.2.1 dL_law_2608 ?_
  refine z_callV C hR hS hl (n := 3) (C1 := RX3) (T := TX3) (N := 35) (ci := 3) (y := yX3_mendedBy) (bytes := cX3_mendedBy) (maxL := 4) (rt := (some .int)) (As := [.int (xs (i + 1).toNatClampNeg), .int (xs (i + 2).toNatClampNeg), .int (xs (i + 3).toNatClampNeg)]) (rest := []) hI_ rfl (lw_V q2138 q2139 q2140 q82 q2141) hdV_X3_mendedBy (by decide) rfl rfl (Nat.le_of_ble_eq_true rfl) dL_law_2609 h (fun r g_2 hk_ => ?_) (fun s g1 h => zKF.ex h)
  clear h; obtain ⟨bb, rfl, hI_, h⟩ := hk_
  show GW X E 7 g_2 2612 [(5, .int kk), (0, .ref b), (1, .ref x), (2, .ref m), (3, .ref o), (4, .int i)] [.int bb]
  intro H locs ls hR hS hl
  refine lv_istore (lv' := [(6, .int bb), (5, .int kk), (0, .ref b), (1, .ref x), (2, .ref m), (3, .ref o), (4, .int i)]) C.x C.b dL_law_2612 hl (by decide) rfl (fun ls hl => ?_)
  refine lv_aload_n C.x C.b dL_law_2614 rfl (lv_at hl 4 rfl) ?_
  refine z_callV C hR hS hl (n := 0) (C1 := RX3) (T := TX3) (N := 35) (ci := 3) (y := yX3_thrown) (bytes := cX3_thrown) (maxL := 1) (rt := (some .int)) (As := []) (rest := []) hI_ rfl (lw_V q1744 q1745 q1746 q82 q1747) hdV_X3_thrown (by decide) rfl rfl (Nat.le_of_ble_eq_true rfl) dL_law_2615 h (fun r g_3 hk_ => ?_) (fun s g1 h => zKF.ex h)
  clear h; obtain ⟨rfl, hg, h⟩ := hk_
  show GW X E 7 g_3 2618 [(6, .int bb), (5, .int kk), (0, .ref b), (1, .ref x), (2, .ref m), (3, .ref o), (4, .int i)] [.int kk]
  intro H locs ls hR hS hl
  refine lv_iload C.x C.b dL_law_2618 (lv_at hl 1 rfl) ?_
  refine lv_icmp_eq (tgt := 2625) C.x C.b dL_law_2620 (by decide) (fun _ => ?_) (fun c => absurd rfl c)
  refine lv_iload C.x C.b dL_law_2625 (lv_at hl 1 rfl) ?_
  refine lv_if_ne (tgt := 2642) C.x C.b dL_law_2627 (by decide) (fun c => ?_) (fun c => ?_)
  · refine lv_goto (tgt := 2645) C.x C.b dL_law_2642 (by decide) ?_
    exact hg H locs ls hR hS (lv_sub hl [2, 3, 4, 5, 6] rfl)
  · obtain ⟨f, q1, q2, zb_⟩ := h c
    refine lv_aload_n C.x C.b dL_law_2630 rfl (lv_at hl 5 rfl) ?_
    refine lv_iconst (v := 0) C.x C.b dL_law_2631 (by decide) ?_
    refine z_lald C hR q1 z_in01 dL_law_2632 ?_
    rw [show f (0 : Int32).toNatClampNeg = bb.toInt64 from q2]
    refine lv_iload C.x C.b dL_law_2633 (lv_at hl 0 rfl) ?_
    refine lv_i2l C.x C.b dL_law_2635 rfl ?_
    refine W.lcmp C.x C.b dL_law_2636 ?_
    rw [lg_cmp_s]
    refine lv_if_eq (tgt := 2642) C.x C.b dL_law_2637 (by decide) (fun _ => ?_) (fun c => absurd rfl c)
    refine lv_goto (tgt := 2645) C.x C.b dL_law_2642 (by decide) ?_
    exact hg H locs ls hR hS (lv_sub hl [2, 3, 4, 5, 6] rfl)
set_option maxHeartbeats 8000000 in
theorem bL_switch {X : zX} {E : zM} {nm : String} {x m o b0 k D b L : Nat} {xs : Nat → Int32} {g : zG} (hok : zOk X) (hnc : zNx X) (C : zC X (D + 2) E RX0 cL_law 7 ret nm) (hS0 : zLS X E b L xs) (hb : b0 + 15000 * 64 + 20000 ≤ zz X) (hk : k < 64) (hD : 400 ≤ D) {i : Int32} (h5 : zLi5 i L) {cd0 : Int32} (I : zIw X x m b0 k cd0 g) (hO : zOut o g) (hG0 : GW X E 7 g 2645 [(0, .ref b), (1, .ref x), (2, .ref m), (3, .ref o), (4, .int i)] []) (hG : ∀ (g3 : zG) (cd : Int32), zIw X x m b0 (k + 1) cd g3 → zOut o g3 → GW X E 7 g3 2645 [(0, .ref b), (1, .ref x), (2, .ref m), (3, .ref o), (4, .int i)] []) (h0 : vp_in i L) (hd : zLi5 i L) : GW X E 7 g 33 [(0, .ref b), (1, .ref x), (2, .ref m), (3, .ref o), (4, .int i)] [] := by
  intro H locs ls hR hS hl
  refine lv_aload_n C.x C.b dL_law_33 rfl (lv_at hl 0 rfl) ?_
  refine lv_iload C.x C.b dL_law_34 (lv_at hl 4 rfl) ?_
  refine z_sld C hS hS0.1 hS0.2.1 hS0.2.2 h0 dL_law_36 ?_
  refine lv_bipush (v := 63) C.x C.b dL_law_37 (by decide) ?_
  refine lv_iand C.x C.b dL_law_39 ?_
  generalize xs i.toNatClampNeg &&& 63 = sw
  rcases zsw_0_41 sw with c | c | c | c | c | c | c | c | c | c | c | c | c | c | c | c | c | c | c | c | c | c | c | c | c | c | c | c | c | c | c | c | c | c | c | c | c | c | c | c | c | c | c
  · refine lv_tableIn (off := 184) (tgt := 224) C.x C.b dL_law_40 (by rw [c]; decide) (by rw [c]; decide) (by rw [c]; rfl) (by decide) ?_
    exact bL_0 hok hnc C hS0 hb hk hD h5 I hO hG H locs ls hR hS hl
  · refine lv_tableIn (off := 252) (tgt := 292) C.x C.b dL_law_40 (by rw [c]; decide) (by rw [c]; decide) (by rw [c]; rfl) (by decide) ?_
    exact bL_1 hok hnc C hS0 hb hk hD h5 I hO hG H locs ls hR hS hl
  · refine lv_tableIn (off := 308) (tgt := 348) C.x C.b dL_law_40 (by rw [c]; decide) (by rw [c]; decide) (by rw [c]; rfl) (by decide) ?_
    exact bL_2 hok hnc C hS0 hb hk hD h5 I hO hG H locs ls hR hS hl
  · refine lv_tableIn (off := 412) (tgt := 452) C.x C.b dL_law_40 (by rw [c]; decide) (by rw [c]; decide) (by rw [c]; rfl) (by decide) ?_
    exact bL_3 hok hnc C hS0 hb hk hD h5 I hO hG H locs ls hR hS hl
  · refine lv_tableIn (off := 516) (tgt := 556) C.x C.b dL_law_40 (by rw [c]; decide) (by rw [c]; decide) (by rw [c]; rfl) (by decide) ?_
    exact bL_4 hok hnc C hS0 hb hk hD h5 I hO hG H locs ls hR hS hl
  · refine lv_tableIn (off := 560) (tgt := 600) C.x C.b dL_law_40 (by rw [c]; decide) (by rw [c]; decide) (by rw [c]; rfl) (by decide) ?_
    exact bL_5 hok hnc C hS0 hb hk hD h5 I hO hG H locs ls hR hS hl
  · refine lv_tableIn (off := 616) (tgt := 656) C.x C.b dL_law_40 (by rw [c]; decide) (by rw [c]; decide) (by rw [c]; rfl) (by decide) ?_
    exact bL_6 hok hnc C hS0 hb hk hD h5 I hO hG H locs ls hR hS hl
  · refine lv_tableIn (off := 684) (tgt := 724) C.x C.b dL_law_40 (by rw [c]; decide) (by rw [c]; decide) (by rw [c]; rfl) (by decide) ?_
    exact bL_7 hok hnc C hS0 hb hk hD h5 I hO hG H locs ls hR hS hl
  · refine lv_tableIn (off := 728) (tgt := 768) C.x C.b dL_law_40 (by rw [c]; decide) (by rw [c]; decide) (by rw [c]; rfl) (by decide) ?_
    exact bL_8 hok hnc C hS0 hb hk hD h5 I hO hG H locs ls hR hS hl
  · refine lv_tableIn (off := 772) (tgt := 812) C.x C.b dL_law_40 (by rw [c]; decide) (by rw [c]; decide) (by rw [c]; rfl) (by decide) ?_
    exact bL_9 hok hnc C hS0 hb hk hD h5 I hO hG H locs ls hR hS hl
  · refine lv_tableIn (off := 816) (tgt := 856) C.x C.b dL_law_40 (by rw [c]; decide) (by rw [c]; decide) (by rw [c]; rfl) (by decide) ?_
    exact bL_10 hok hnc C hS0 hb hk hD h5 I hO hG H locs ls hR hS hl
  · refine lv_tableIn (off := 860) (tgt := 900) C.x C.b dL_law_40 (by rw [c]; decide) (by rw [c]; decide) (by rw [c]; rfl) (by decide) ?_
    exact bL_11 hok hnc C hS0 hb hk hD h5 I hO hG H locs ls hR hS hl
  · refine lv_tableIn (off := 916) (tgt := 956) C.x C.b dL_law_40 (by rw [c]; decide) (by rw [c]; decide) (by rw [c]; rfl) (by decide) ?_
    exact bL_12 hok hnc C hS0 hb hk hD h5 I hO hG H locs ls hR hS hl
  · refine lv_tableIn (off := 972) (tgt := 1012) C.x C.b dL_law_40 (by rw [c]; decide) (by rw [c]; decide) (by rw [c]; rfl) (by decide) ?_
    exact bL_13 hok hnc C hS0 hb hk hD h5 I hO hG H locs ls hR hS hl
  · refine lv_tableIn (off := 1016) (tgt := 1056) C.x C.b dL_law_40 (by rw [c]; decide) (by rw [c]; decide) (by rw [c]; rfl) (by decide) ?_
    exact bL_14 hok hnc C hS0 hb hk hD h5 I hO hG H locs ls hR hS hl
  · refine lv_tableIn (off := 1072) (tgt := 1112) C.x C.b dL_law_40 (by rw [c]; decide) (by rw [c]; decide) (by rw [c]; rfl) (by decide) ?_
    exact bL_15 hok hnc C hS0 hb hk hD h5 I hO hG H locs ls hR hS hl
  · refine lv_tableIn (off := 1128) (tgt := 1168) C.x C.b dL_law_40 (by rw [c]; decide) (by rw [c]; decide) (by rw [c]; rfl) (by decide) ?_
    exact bL_16 hok hnc C hS0 hb hk hD h5 I hO hG H locs ls hR hS hl
  · refine lv_tableIn (off := 1196) (tgt := 1236) C.x C.b dL_law_40 (by rw [c]; decide) (by rw [c]; decide) (by rw [c]; rfl) (by decide) ?_
    exact bL_17 hok hnc C hS0 hb hk hD h5 I hO hG H locs ls hR hS hl
  · refine lv_tableIn (off := 1209) (tgt := 1249) C.x C.b dL_law_40 (by rw [c]; decide) (by rw [c]; decide) (by rw [c]; rfl) (by decide) ?_
    exact bL_18 hok hnc C hS0 hb hk hD h5 I hO hG H locs ls hR hS hl
  · refine lv_tableIn (off := 1309) (tgt := 1349) C.x C.b dL_law_40 (by rw [c]; decide) (by rw [c]; decide) (by rw [c]; rfl) (by decide) ?_
    exact bL_19 hok hnc C hS0 hb hk hD h5 I hO hG H locs ls hR hS hl
  · refine lv_tableIn (off := 1322) (tgt := 1362) C.x C.b dL_law_40 (by rw [c]; decide) (by rw [c]; decide) (by rw [c]; rfl) (by decide) ?_
    exact bL_20 hok hnc C hS0 hb hk hD h5 I hO hG H locs ls hR hS hl
  · refine lv_tableIn (off := 1335) (tgt := 1375) C.x C.b dL_law_40 (by rw [c]; decide) (by rw [c]; decide) (by rw [c]; rfl) (by decide) ?_
    exact bL_21 hok hnc C hS0 hb hk hD h5 I hO hG H locs ls hR hS hl
  · refine lv_tableIn (off := 1348) (tgt := 1388) C.x C.b dL_law_40 (by rw [c]; decide) (by rw [c]; decide) (by rw [c]; rfl) (by decide) ?_
    exact bL_22 hok hnc C hS0 hb hk hD h5 I hO hG H locs ls hR hS hl
  · refine lv_tableIn (off := 1404) (tgt := 1444) C.x C.b dL_law_40 (by rw [c]; decide) (by rw [c]; decide) (by rw [c]; rfl) (by decide) ?_
    exact bL_23 hok hnc C hS0 hb hk hD h5 I hO hG H locs ls hR hS hl
  · refine lv_tableIn (off := 1460) (tgt := 1500) C.x C.b dL_law_40 (by rw [c]; decide) (by rw [c]; decide) (by rw [c]; rfl) (by decide) ?_
    exact bL_24 hok hnc C hS0 hb hk hD h5 I hO hG H locs ls hR hS hl
  · refine lv_tableIn (off := 1523) (tgt := 1563) C.x C.b dL_law_40 (by rw [c]; decide) (by rw [c]; decide) (by rw [c]; rfl) (by decide) ?_
    exact bL_25 hok hnc C hS0 hb hk hD h5 I hO hG H locs ls hR hS hl
  · refine lv_tableIn (off := 1603) (tgt := 1643) C.x C.b dL_law_40 (by rw [c]; decide) (by rw [c]; decide) (by rw [c]; rfl) (by decide) ?_
    exact bL_26 hok hnc C hS0 hb hk hD h5 I hO hG H locs ls hR hS hl
  · refine lv_tableIn (off := 1683) (tgt := 1723) C.x C.b dL_law_40 (by rw [c]; decide) (by rw [c]; decide) (by rw [c]; rfl) (by decide) ?_
    exact bL_27 hok hnc C hS0 hb hk hD h5 I hO hG H locs ls hR hS hl
  · refine lv_tableIn (off := 1763) (tgt := 1803) C.x C.b dL_law_40 (by rw [c]; decide) (by rw [c]; decide) (by rw [c]; rfl) (by decide) ?_
    exact bL_28 hok hnc C hS0 hb hk hD h5 I hO hG H locs ls hR hS hl
  · refine lv_tableIn (off := 1831) (tgt := 1871) C.x C.b dL_law_40 (by rw [c]; decide) (by rw [c]; decide) (by rw [c]; rfl) (by decide) ?_
    exact bL_29 hok hnc C hS0 hb hk hD h5 I hO hG H locs ls hR hS hl
  · refine lv_tableIn (off := 1899) (tgt := 1939) C.x C.b dL_law_40 (by rw [c]; decide) (by rw [c]; decide) (by rw [c]; rfl) (by decide) ?_
    exact bL_30 hok hnc C hS0 hb hk hD h5 I hO hG H locs ls hR hS hl
  · refine lv_tableIn (off := 1967) (tgt := 2007) C.x C.b dL_law_40 (by rw [c]; decide) (by rw [c]; decide) (by rw [c]; rfl) (by decide) ?_
    exact bL_31 hok hnc C hS0 hb hk hD h5 I hO hG H locs ls hR hS hl
  · refine lv_tableIn (off := 2035) (tgt := 2075) C.x C.b dL_law_40 (by rw [c]; decide) (by rw [c]; decide) (by rw [c]; rfl) (by decide) ?_
    exact bL_32 hok hnc C hS0 hb hk hD h5 I hO hG H locs ls hR hS hl
  · refine lv_tableIn (off := 2091) (tgt := 2131) C.x C.b dL_law_40 (by rw [c]; decide) (by rw [c]; decide) (by rw [c]; rfl) (by decide) ?_
    exact bL_33 hok hnc C hS0 hb hk hD h5 I hO hG H locs ls hR hS hl
  · refine lv_tableIn (off := 2147) (tgt := 2187) C.x C.b dL_law_40 (by rw [c]; decide) (by rw [c]; decide) (by rw [c]; rfl) (by decide) ?_
    exact bL_34 hok hnc C hS0 hb hk hD h5 I hO hG H locs ls hR hS hl
  · refine lv_tableIn (off := 2203) (tgt := 2243) C.x C.b dL_law_40 (by rw [c]; decide) (by rw [c]; decide) (by rw [c]; rfl) (by decide) ?_
    exact bL_35 hok hnc C hS0 hb hk hD h5 I hO hG H locs ls hR hS hl
  · refine lv_tableIn (off := 2216) (tgt := 2256) C.x C.b dL_law_40 (by rw [c]; decide) (by rw [c]; decide) (by rw [c]; rfl) (by decide) ?_
    exact bL_36 hok hnc C hS0 hb hk hD h5 I hO hG H locs ls hR hS hl
  · refine lv_tableIn (off := 2229) (tgt := 2269) C.x C.b dL_law_40 (by rw [c]; decide) (by rw [c]; decide) (by rw [c]; rfl) (by decide) ?_
    exact bL_37 hok hnc C hS0 hb hk hD h5 I hO hG H locs ls hR hS hl
  · refine lv_tableIn (off := 2309) (tgt := 2349) C.x C.b dL_law_40 (by rw [c]; decide) (by rw [c]; decide) (by rw [c]; rfl) (by decide) ?_
    exact bL_38 hok hnc C hS0 hb hk hD h5 I hO hG H locs ls hR hS hl
  · refine lv_tableIn (off := 2377) (tgt := 2417) C.x C.b dL_law_40 (by rw [c]; decide) (by rw [c]; decide) (by rw [c]; rfl) (by decide) ?_
    exact bL_39 hok hnc C hS0 hb hk hD h5 I hO hG H locs ls hR hS hl
  · refine lv_tableIn (off := 2457) (tgt := 2497) C.x C.b dL_law_40 (by rw [c]; decide) (by rw [c]; decide) (by rw [c]; rfl) (by decide) ?_
    exact bL_40 hok hnc C hS0 hb hk hD h5 I hO hG H locs ls hR hS hl
  · refine lv_tableIn (off := 2525) (tgt := 2565) C.x C.b dL_law_40 (by rw [c]; decide) (by rw [c]; decide) (by rw [c]; rfl) (by decide) ?_
    exact bL_41 hok hnc C hS0 hb hk hD h5 I hO hG H locs ls hR hS hl
  · refine lv_tableOut (tgt := 2645) C.x C.b dL_law_40 c (by decide) ?_
    exact hG0 H locs ls hR hS hl
