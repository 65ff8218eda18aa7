set_option maxRecDepth 100000
theorem pn_X0 : plainName RX0 = true := by decide +kernel
theorem hdV_X1_ahead : yX1_ahead.cls = RX1 ∧ yX1_ahead.cls ≠ "java/lang/invoke/MethodHandle" ∧ yX1_ahead.cls ≠ "java/lang/invoke/VarHandle" ∧ (parseMethodDescriptor yX1_ahead.desc).map (fun d => d.parameters.length) = some 1 := by decide +kernel
theorem hdV_X1_answer : yX1_answer.cls = RX1 ∧ yX1_answer.cls ≠ "java/lang/invoke/MethodHandle" ∧ yX1_answer.cls ≠ "java/lang/invoke/VarHandle" ∧ (parseMethodDescriptor yX1_answer.desc).map (fun d => d.parameters.length) = some 2 := by decide +kernel
theorem hdV_X1_answerAnew : yX1_answerAnew.cls = RX1 ∧ yX1_answerAnew.cls ≠ "java/lang/invoke/MethodHandle" ∧ yX1_answerAnew.cls ≠ "java/lang/invoke/VarHandle" ∧ (parseMethodDescriptor yX1_answerAnew.desc).map (fun d => d.parameters.length) = some 2 := by decide +kernel
theorem hdV_X1_answers : yX1_answers.cls = RX1 ∧ yX1_answers.cls ≠ "java/lang/invoke/MethodHandle" ∧ yX1_answers.cls ≠ "java/lang/invoke/VarHandle" ∧ (parseMethodDescriptor yX1_answers.desc).map (fun d => d.parameters.length) = some 2 := by decide +kernel
theorem hdV_X1_back : yX1_back.cls = RX1 ∧ yX1_back.cls ≠ "java/lang/invoke/MethodHandle" ∧ yX1_back.cls ≠ "java/lang/invoke/VarHandle" ∧ (parseMethodDescriptor yX1_back.desc).map (fun d => d.parameters.length) = some 1 := by decide +kernel
theorem hdV_X1_before : yX1_before.cls = RX1 ∧ yX1_before.cls ≠ "java/lang/invoke/MethodHandle" ∧ yX1_before.cls ≠ "java/lang/invoke/VarHandle" ∧ (parseMethodDescriptor yX1_before.desc).map (fun d => d.parameters.length) = some 0 := by decide +kernel
theorem hdV_X1_both : yX1_both.cls = RX1 ∧ yX1_both.cls ≠ "java/lang/invoke/MethodHandle" ∧ yX1_both.cls ≠ "java/lang/invoke/VarHandle" ∧ (parseMethodDescriptor yX1_both.desc).map (fun d => d.parameters.length) = some 0 := by decide +kernel
theorem hdV_X1_close : yX1_close.cls = RX1 ∧ yX1_close.cls ≠ "java/lang/invoke/MethodHandle" ∧ yX1_close.cls ≠ "java/lang/invoke/VarHandle" ∧ (parseMethodDescriptor yX1_close.desc).map (fun d => d.parameters.length) = some 0 := by decide +kernel
theorem hdV_X1_count : yX1_count.cls = RX1 ∧ yX1_count.cls ≠ "java/lang/invoke/MethodHandle" ∧ yX1_count.cls ≠ "java/lang/invoke/VarHandle" ∧ (parseMethodDescriptor yX1_count.desc).map (fun d => d.parameters.length) = some 3 := by decide +kernel
theorem hdV_X1_either : yX1_either.cls = RX1 ∧ yX1_either.cls ≠ "java/lang/invoke/MethodHandle" ∧ yX1_either.cls ≠ "java/lang/invoke/VarHandle" ∧ (parseMethodDescriptor yX1_either.desc).map (fun d => d.parameters.length) = some 0 := by decide +kernel
theorem hdV_X1_event : yX1_event.cls = RX1 ∧ yX1_event.cls ≠ "java/lang/invoke/MethodHandle" ∧ yX1_event.cls ≠ "java/lang/invoke/VarHandle" ∧ (parseMethodDescriptor yX1_event.desc).map (fun d => d.parameters.length) = some 5 := by decide +kernel
theorem hdV_X1_eventAt : yX1_eventAt.cls = RX1 ∧ yX1_eventAt.cls ≠ "java/lang/invoke/MethodHandle" ∧ yX1_eventAt.cls ≠ "java/lang/invoke/VarHandle" ∧ (parseMethodDescriptor yX1_eventAt.desc).map (fun d => d.parameters.length) = some 1 := by decide +kernel
theorem hdV_X1_explainedBy : yX1_explainedBy.cls = RX1 ∧ yX1_explainedBy.cls ≠ "java/lang/invoke/MethodHandle" ∧ yX1_explainedBy.cls ≠ "java/lang/invoke/VarHandle" ∧ (parseMethodDescriptor yX1_explainedBy.desc).map (fun d => d.parameters.length) = some 3 := by decide +kernel
theorem hdV_X1_explanation : yX1_explanation.cls = RX1 ∧ yX1_explanation.cls ≠ "java/lang/invoke/MethodHandle" ∧ yX1_explanation.cls ≠ "java/lang/invoke/VarHandle" ∧ (parseMethodDescriptor yX1_explanation.desc).map (fun d => d.parameters.length) = some 2 := by decide +kernel
theorem hdV_X1_greatest : yX1_greatest.cls = RX1 ∧ yX1_greatest.cls ≠ "java/lang/invoke/MethodHandle" ∧ yX1_greatest.cls ≠ "java/lang/invoke/VarHandle" ∧ (parseMethodDescriptor yX1_greatest.desc).map (fun d => d.parameters.length) = some 3 := by decide +kernel
theorem hdV_X1_greatestByAll : yX1_greatestByAll.cls = RX1 ∧ yX1_greatestByAll.cls ≠ "java/lang/invoke/MethodHandle" ∧ yX1_greatestByAll.cls ≠ "java/lang/invoke/VarHandle" ∧ (parseMethodDescriptor yX1_greatestByAll.desc).map (fun d => d.parameters.length) = some 3 := by decide +kernel
theorem hdV_X1_isLate : yX1_isLate.cls = RX1 ∧ yX1_isLate.cls ≠ "java/lang/invoke/MethodHandle" ∧ yX1_isLate.cls ≠ "java/lang/invoke/VarHandle" ∧ (parseMethodDescriptor yX1_isLate.desc).map (fun d => d.parameters.length) = some 1 := by decide +kernel
theorem hdV_X1_kindIs : yX1_kindIs.cls = RX1 ∧ yX1_kindIs.cls ≠ "java/lang/invoke/MethodHandle" ∧ yX1_kindIs.cls ≠ "java/lang/invoke/VarHandle" ∧ (parseMethodDescriptor yX1_kindIs.desc).map (fun d => d.parameters.length) = some 1 := by decide +kernel
theorem hdV_X1_knownSince : yX1_knownSince.cls = RX1 ∧ yX1_knownSince.cls ≠ "java/lang/invoke/MethodHandle" ∧ yX1_knownSince.cls ≠ "java/lang/invoke/VarHandle" ∧ (parseMethodDescriptor yX1_knownSince.desc).map (fun d => d.parameters.length) = some 2 := by decide +kernel
theorem hdV_X1_many : yX1_many.cls = RX1 ∧ yX1_many.cls ≠ "java/lang/invoke/MethodHandle" ∧ yX1_many.cls ≠ "java/lang/invoke/VarHandle" ∧ (parseMethodDescriptor yX1_many.desc).map (fun d => d.parameters.length) = some 2 := by decide +kernel
theorem hdV_X1_mend : yX1_mend.cls = RX1 ∧ yX1_mend.cls ≠ "java/lang/invoke/MethodHandle" ∧ yX1_mend.cls ≠ "java/lang/invoke/VarHandle" ∧ (parseMethodDescriptor yX1_mend.desc).map (fun d => d.parameters.length) = some 2 := by decide +kernel
theorem hdV_X1_mendedBy : yX1_mendedBy.cls = RX1 ∧ yX1_mendedBy.cls ≠ "java/lang/invoke/MethodHandle" ∧ yX1_mendedBy.cls ≠ "java/lang/invoke/VarHandle" ∧ (parseMethodDescriptor yX1_mendedBy.desc).map (fun d => d.parameters.length) = some 3 := by decide +kernel
theorem hdV_X1_next : yX1_next.cls = RX1 ∧ yX1_next.cls ≠ "java/lang/invoke/MethodHandle" ∧ yX1_next.cls ≠ "java/lang/invoke/VarHandle" ∧ (parseMethodDescriptor yX1_next.desc).map (fun d => d.parameters.length) = some 0 := by decide +kernel
theorem hdV_X1_not : yX1_not.cls = RX1 ∧ yX1_not.cls ≠ "java/lang/invoke/MethodHandle" ∧ yX1_not.cls ≠ "java/lang/invoke/VarHandle" ∧ (parseMethodDescriptor yX1_not.desc).map (fun d => d.parameters.length) = some 0 := by decide +kernel
theorem hdV_X1_offer : yX1_offer.cls = RX1 ∧ yX1_offer.cls ≠ "java/lang/invoke/MethodHandle" ∧ yX1_offer.cls ≠ "java/lang/invoke/VarHandle" ∧ (parseMethodDescriptor yX1_offer.desc).map (fun d => d.parameters.length) = some 5 := by decide +kernel
theorem hdV_X1_once : yX1_once.cls = RX1 ∧ yX1_once.cls ≠ "java/lang/invoke/MethodHandle" ∧ yX1_once.cls ≠ "java/lang/invoke/VarHandle" ∧ (parseMethodDescriptor yX1_once.desc).map (fun d => d.parameters.length) = some 1 := by decide +kernel
theorem hdV_X1_overOrders : yX1_overOrders.cls = RX1 ∧ yX1_overOrders.cls ≠ "java/lang/invoke/MethodHandle" ∧ yX1_overOrders.cls ≠ "java/lang/invoke/VarHandle" ∧ (parseMethodDescriptor yX1_overOrders.desc).map (fun d => d.parameters.length) = some 3 := by decide +kernel
theorem hdV_X1_setOffset : yX1_setOffset.cls = RX1 ∧ yX1_setOffset.cls ≠ "java/lang/invoke/MethodHandle" ∧ yX1_setOffset.cls ≠ "java/lang/invoke/VarHandle" ∧ (parseMethodDescriptor yX1_setOffset.desc).map (fun d => d.parameters.length) = some 2 := by decide +kernel
theorem hdV_X1_setPatience : yX1_setPatience.cls = RX1 ∧ yX1_setPatience.cls ≠ "java/lang/invoke/MethodHandle" ∧ yX1_setPatience.cls ≠ "java/lang/invoke/VarHandle" ∧ (parseMethodDescriptor yX1_setPatience.desc).map (fun d => d.parameters.length) = some 1 := by decide +kernel
theorem hdV_X1_since : yX1_since.cls = RX1 ∧ yX1_since.cls ≠ "java/lang/invoke/MethodHandle" ∧ yX1_since.cls ≠ "java/lang/invoke/VarHandle" ∧ (parseMethodDescriptor yX1_since.desc).map (fun d => d.parameters.length) = some 1 := by decide +kernel
theorem hdV_X1_soon : yX1_soon.cls = RX1 ∧ yX1_soon.cls ≠ "java/lang/invoke/MethodHandle" ∧ yX1_soon.cls ≠ "java/lang/invoke/VarHandle" ∧ (parseMethodDescriptor yX1_soon.desc).map (fun d => d.parameters.length) = some 1 := by decide +kernel
theorem hdV_X1_takenBack : yX1_takenBack.cls = RX1 ∧ yX1_takenBack.cls ≠ "java/lang/invoke/MethodHandle" ∧ yX1_takenBack.cls ≠ "java/lang/invoke/VarHandle" ∧ (parseMethodDescriptor yX1_takenBack.desc).map (fun d => d.parameters.length) = some 1 := by decide +kernel
theorem hdV_X1_timeOf : yX1_timeOf.cls = RX1 ∧ yX1_timeOf.cls ≠ "java/lang/invoke/MethodHandle" ∧ yX1_timeOf.cls ≠ "java/lang/invoke/VarHandle" ∧ (parseMethodDescriptor yX1_timeOf.desc).map (fun d => d.parameters.length) = some 1 := by decide +kernel
theorem hdV_X1_until : yX1_until.cls = RX1 ∧ yX1_until.cls ≠ "java/lang/invoke/MethodHandle" ∧ yX1_until.cls ≠ "java/lang/invoke/VarHandle" ∧ (parseMethodDescriptor yX1_until.desc).map (fun d => d.parameters.length) = some 1 := by decide +kernel
theorem hdV_X1_valueIs : yX1_valueIs.cls = RX1 ∧ yX1_valueIs.cls ≠ "java/lang/invoke/MethodHandle" ∧ yX1_valueIs.cls ≠ "java/lang/invoke/VarHandle" ∧ (parseMethodDescriptor yX1_valueIs.desc).map (fun d => d.parameters.length) = some 2 := by decide +kernel
theorem hdV_X1_watch : yX1_watch.cls = RX1 ∧ yX1_watch.cls ≠ "java/lang/invoke/MethodHandle" ∧ yX1_watch.cls ≠ "java/lang/invoke/VarHandle" ∧ (parseMethodDescriptor yX1_watch.desc).map (fun d => d.parameters.length) = some 2 := by decide +kernel
abbrev wX0_setOffset : List Cond := wsW_ yX0_setOffset cX0_setOffset 5 (some .int) [(0, 10, 13, 13), (0, 10, 17, 15)]
set_option maxHeartbeats 4000000 in
theorem mX0_setOffset {X : zX} {d : Nat} {g : zG} {K : Option Value → zG → Prop} {KX : String → zG → Prop} (hok : zOk X) (hnc : zNx X) (a0 : Nat) (x1 : Int32) (x2 : Int32) (o : Nat) (hx : zIs g 1 a0) (h : zCal X d yX1_setOffset wX1_setOffset [.ref a0, .int x1, .int x2] g (fun r g1 => ∃ (v : Int32) (f : Nat → Int64), r = some (.int v) ∧ zGj g1 0 o = some (1, f) ∧ K (some (.int 0)) (zSj g1 0 o 1 (vp_updL f 0 v.toInt64))) (fun s g1 => (s = RJ9 ∧ K (some (.int 1)) g1) ∨ (s = RJ12 ∧ K (some (.int 2)) g1))) : zCal X (d + 1) yX0_setOffset wX0_setOffset [.ref a0, .int x1, .int x2, .ref o] g K KX := by
  refine z_enterH hok pn_X0 (Nat.le_of_ble_eq_true rfl) (fun E C hT hQ => ?_)
  have C : zC X (d + 1) E RX0 cX0_setOffset 5 (some .int) "setOffset" := C
  show GW X E 5 g 0 [(0, .ref a0), (1, .int x1), (2, .int x2), (3, .ref o)] []
  intro H locs ls hR hS hl
  refine lv_aload_n C.x C.b dX0_setOffset_0 rfl (lv_at hl 3 rfl) ?_
  refine lv_iconst (v := 0) C.x C.b dX0_setOffset_1 (by decide) ?_
  refine lv_aload_n C.x C.b dX0_setOffset_2 rfl (lv_at hl 0 rfl) ?_
  refine lv_iload_n C.x C.b dX0_setOffset_3 rfl (lv_at hl 1 rfl) ?_
  refine lv_iload_n C.x C.b dX0_setOffset_4 rfl (lv_at hl 2 rfl) ?_
  refine z_callV C hR hS hl (n := 2) (C1 := RX1) (T := TX1) (N := 12) (ci := 1) (y := yX1_setOffset) (bytes := cX1_setOffset) (maxL := 4) (rt := (some .int)) (As := [.int x1, .int x2]) (rest := [.int 0, .ref o]) hx rfl (lw_V q694 q695 q696 q73 q697) hdV_X1_setOffset (by decide) rfl rfl (Nat.le_of_ble_eq_true rfl) dX0_setOffset_5 h (fun r g_1 hk_ => ?_) (fun s g1 h => ?_)
  · clear h; obtain ⟨v, f, rfl, q1, h⟩ := hk_
    show GW X E 5 g_1 8 [(0, .ref a0), (1, .int x1), (2, .int x2), (3, .ref o)] [.int v, .int 0, .ref o]
    intro H locs ls hR hS hl
    refine lv_i2l C.x C.b dX0_setOffset_8 rfl ?_
    refine z_last C hR hS q1 z_in01 dX0_setOffset_9 (fun H locs hR hS => ?_)
    refine lv_goto (tgt := 21) C.x C.b dX0_setOffset_10 (by decide) ?_
    refine lv_iconst (v := 0) C.x C.b dX0_setOffset_21 (by decide) ?_
    exact z_iretH C hQ dX0_setOffset_22 h H locs ls hR hS hl
  · have hn_ := hnc.at C
    rcases h with ⟨rfl, h⟩ | ⟨rfl, h⟩
    · exact z_catch C (pre := []) (en := ⟨0, 10, 13, 13⟩) (suf := [⟨0, 10, 17, 15⟩]) hT (fun z hz => by cases hz) (by decide) (by decide) (C.ts _ q616) (C.word q709 rfl) (fun q => z_hand C hQ (n := 2) (Or.inl ⟨4, dX0_setOffset_13, by decide, rfl⟩) dX0_setOffset_15 (by decide) dX0_setOffset_16 h q)
    · exact z_catch C (pre := [⟨0, 10, 13, 13⟩]) (en := ⟨0, 10, 17, 15⟩) (suf := []) hT (fun z hz => by rw [List.mem_singleton.mp hz]; exact Or.inr ⟨by decide, _, C.ts _ q616, hn_.1⟩) (by decide) (by decide) (C.ts _ q693) (C.word q725 rfl) (fun q => z_hand C hQ (n := 2) (Or.inl ⟨4, dX0_setOffset_17, by decide, rfl⟩) dX0_setOffset_19 (by decide) dX0_setOffset_20 h q)
abbrev wX0_setPatience : List Cond := wsW_ yX0_setPatience cX0_setPatience 4 (some .int) [(0, 9, 12, 15)]
set_option maxHeartbeats 4000000 in
theorem mX0_setPatience {X : zX} {d : Nat} {g : zG} {K : Option Value → zG → Prop} {KX : String → zG → Prop} (hok : zOk X) (hnc : zNx X) (a0 : Nat) (x1 : Int32) (o : Nat) (hx : zIs g 1 a0) (h : zCal X d yX1_setPatience wX1_setPatience [.ref a0, .int x1] g (fun r g1 => ∃ (v : Int32) (f : Nat → Int64), r = some (.int v) ∧ zGj g1 0 o = some (1, f) ∧ K (some (.int 0)) (zSj g1 0 o 1 (vp_updL f 0 v.toInt64))) (fun s g1 => (s = RJ12 ∧ K (some (.int 1)) g1))) : zCal X (d + 1) yX0_setPatience wX0_setPatience [.ref a0, .int x1, .ref o] g K KX := by
  refine z_enterH hok pn_X0 (Nat.le_of_ble_eq_true rfl) (fun E C hT hQ => ?_)
  have C : zC X (d + 1) E RX0 cX0_setPatience 4 (some .int) "setPatience" := C
  show GW X E 4 g 0 [(0, .ref a0), (1, .int x1), (2, .ref o)] []
  intro H locs ls hR hS hl
  refine lv_aload_n C.x C.b dX0_setPatience_0 rfl (lv_at hl 2 rfl) ?_
  refine lv_iconst (v := 0) C.x C.b dX0_setPatience_1 (by decide) ?_
  refine lv_aload_n C.x C.b dX0_setPatience_2 rfl (lv_at hl 0 rfl) ?_
  refine lv_iload_n C.x C.b dX0_setPatience_3 rfl (lv_at hl 1 rfl) ?_
  refine z_callV C hR hS hl (n := 1) (C1 := RX1) (T := TX1) (N := 12) (ci := 1) (y := yX1_setPatience) (bytes := cX1_setPatience) (maxL := 3) (rt := (some .int)) (As := [.int x1]) (rest := [.int 0, .ref o]) hx rfl (lw_V q742 q743 q744 q73 q745) hdV_X1_setPatience (by decide) rfl rfl (Nat.le_of_ble_eq_true rfl) dX0_setPatience_4 h (fun r g_1 hk_ => ?_) (fun s g1 h => ?_)
  · clear h; obtain ⟨v, f, rfl, q1, h⟩ := hk_
    show GW X E 4 g_1 7 [(0, .ref a0), (1, .int x1), (2, .ref o)] [.int v, .int 0, .ref o]
    intro H locs ls hR hS hl
    refine lv_i2l C.x C.b dX0_setPatience_7 rfl ?_
    refine z_last C hR hS q1 z_in01 dX0_setPatience_8 (fun H locs hR hS => ?_)
    refine lv_goto (tgt := 15) C.x C.b dX0_setPatience_9 (by decide) ?_
    refine lv_iconst (v := 0) C.x C.b dX0_setPatience_15 (by decide) ?_
    exact z_iretH C hQ dX0_setPatience_16 h H locs ls hR hS hl
  · have hn_ := hnc.at C
    obtain ⟨rfl, h⟩ := h
    exact z_catch C (pre := []) (en := ⟨0, 9, 12, 15⟩) (suf := []) hT (fun z hz => by cases hz) (by decide) (by decide) (C.ts _ q693) (C.word q725 rfl) (fun q => z_hand C hQ (n := 1) (Or.inr ⟨3, dX0_setPatience_12, by decide, rfl⟩) dX0_setPatience_13 (by decide) dX0_setPatience_14 h q)
abbrev wX0_event : List Cond := wsW_ yX0_event cX0_event 8 (some .int) [(0, 16, 19, 13), (0, 16, 23, 15), (0, 16, 27, 25)]
set_option maxHeartbeats 4000000 in
theorem mX0_event {X : zX} {d : Nat} {g : zG} {K : Option Value → zG → Prop} {KX : String → zG → Prop} (hok : zOk X) (hnc : zNx X) (a0 : Nat) (x1 : Int32) (x2 : Int32) (x3 : Int32) (x4 : Int32) (x5 : Int32) (o : Nat) (hx : zIs g 1 a0) (h : zCal X d yX1_event wX1_event [.ref a0, .int x1, .int x2, .int x3, .int x4, .int x5] g (fun r g1 => ∃ (v : Int32) (f : Nat → Int64), r = some (.int v) ∧ zGj g1 0 o = some (1, f) ∧ K (some (.int 0)) (zSj g1 0 o 1 (vp_updL f 0 v.toInt64))) (fun s g1 => (s = RJ9 ∧ K (some (.int 1)) g1) ∨ (s = RJ12 ∧ K (some (.int 2)) g1) ∨ (s = RJ13 ∧ K (some (.int 3)) g1))) : zCal X (d + 1) yX0_event wX0_event [.ref a0, .int x1, .int x2, .int x3, .int x4, .int x5, .ref o] g K KX := by
  refine z_enterH hok pn_X0 (Nat.le_of_ble_eq_true rfl) (fun E C hT hQ => ?_)
  have C : zC X (d + 1) E RX0 cX0_event 8 (some .int) "event" := C
  show GW X E 8 g 0 [(0, .ref a0), (1, .int x1), (2, .int x2), (3, .int x3), (4, .int x4), (5, .int x5), (6, .ref o)] []
  intro H locs ls hR hS hl
  refine lv_aload C.x C.b dX0_event_0 (lv_at hl 6 rfl) ?_
  refine lv_iconst (v := 0) C.x C.b dX0_event_2 (by decide) ?_
  refine lv_aload_n C.x C.b dX0_event_3 rfl (lv_at hl 0 rfl) ?_
  refine lv_iload_n C.x C.b dX0_event_4 rfl (lv_at hl 1 rfl) ?_
  refine lv_iload_n C.x C.b dX0_event_5 rfl (lv_at hl 2 rfl) ?_
  refine lv_iload_n C.x C.b dX0_event_6 rfl (lv_at hl 3 rfl) ?_
  refine lv_iload C.x C.b dX0_event_7 (lv_at hl 4 rfl) ?_
  refine lv_iload C.x C.b dX0_event_9 (lv_at hl 5 rfl) ?_
  refine z_callV C hR hS hl (n := 5) (C1 := RX1) (T := TX1) (N := 12) (ci := 1) (y := yX1_event) (bytes := cX1_event) (maxL := 7) (rt := (some .int)) (As := [.int x1, .int x2, .int x3, .int x4, .int x5]) (rest := [.int 0, .ref o]) hx rfl (lw_V q750 q751 q752 q73 q753) hdV_X1_event (by decide) rfl rfl (Nat.le_of_ble_eq_true rfl) dX0_event_11 h (fun r g_1 hk_ => ?_) (fun s g1 h => ?_)
  · clear h; obtain ⟨v, f, rfl, q1, h⟩ := hk_
    show GW X E 8 g_1 14 [(0, .ref a0), (1, .int x1), (2, .int x2), (3, .int x3), (4, .int x4), (5, .int x5), (6, .ref o)] [.int v, .int 0, .ref o]
    intro H locs ls hR hS hl
    refine lv_i2l C.x C.b dX0_event_14 rfl ?_
    refine z_last C hR hS q1 z_in01 dX0_event_15 (fun H locs hR hS => ?_)
    refine lv_goto (tgt := 31) C.x C.b dX0_event_16 (by decide) ?_
    refine lv_iconst (v := 0) C.x C.b dX0_event_31 (by decide) ?_
    exact z_iretH C hQ dX0_event_32 h H locs ls hR hS hl
  · have hn_ := hnc.at C
    rcases h with ⟨rfl, h⟩ | ⟨rfl, h⟩ | ⟨rfl, h⟩
    · exact z_catch C (pre := []) (en := ⟨0, 16, 19, 13⟩) (suf := [⟨0, 16, 23, 15⟩, ⟨0, 16, 27, 25⟩]) hT (fun z hz => by cases hz) (by decide) (by decide) (C.ts _ q616) (C.word q709 rfl) (fun q => z_hand C hQ (n := 2) (Or.inl ⟨7, dX0_event_19, by decide, rfl⟩) dX0_event_21 (by decide) dX0_event_22 h q)
    · exact z_catch C (pre := [⟨0, 16, 19, 13⟩]) (en := ⟨0, 16, 23, 15⟩) (suf := [⟨0, 16, 27, 25⟩]) hT (fun z hz => by rw [List.mem_singleton.mp hz]; exact Or.inr ⟨by decide, _, C.ts _ q616, hn_.1⟩) (by decide) (by decide) (C.ts _ q693) (C.word q725 rfl) (fun q => z_hand C hQ (n := 2) (Or.inl ⟨7, dX0_event_23, by decide, rfl⟩) dX0_event_25 (by decide) dX0_event_26 h q)
    · exact z_catch C (pre := [⟨0, 16, 19, 13⟩, ⟨0, 16, 23, 15⟩]) (en := ⟨0, 16, 27, 25⟩) (suf := []) hT (fun z hz => by rcases List.mem_cons.mp hz with e | hz; rw [e]; exact Or.inr ⟨by decide, _, C.ts _ q616, hn_.2.1⟩; rw [List.mem_singleton.mp hz]; exact Or.inr ⟨by decide, _, C.ts _ q693, hn_.2.2⟩) (by decide) (by decide) (C.ts _ q749) (C.word q763 rfl) (fun q => z_hand C hQ (n := 2) (Or.inl ⟨7, dX0_event_27, by decide, rfl⟩) dX0_event_29 (by decide) dX0_event_30 h q)
abbrev wX0_offer : List Cond := wsW_ yX0_offer cX0_offer 8 (some .int) [(0, 16, 19, 13), (0, 16, 23, 15), (0, 16, 27, 25)]
set_option maxHeartbeats 4000000 in
theorem mX0_offer {X : zX} {d : Nat} {g : zG} {K : Option Value → zG → Prop} {KX : String → zG → Prop} (hok : zOk X) (hnc : zNx X) (a0 : Nat) (x1 : Int32) (x2 : Int32) (x3 : Int32) (x4 : Int32) (x5 : Int32) (o : Nat) (hx : zIs g 1 a0) (h : zCal X d yX1_offer wX1_offer [.ref a0, .int x1, .int x2, .int x3, .int x4, .int x5] g (fun r g1 => ∃ (v : Int32) (f : Nat → Int64), r = some (.int v) ∧ zGj g1 0 o = some (1, f) ∧ K (some (.int 0)) (zSj g1 0 o 1 (vp_updL f 0 v.toInt64))) (fun s g1 => (s = RJ9 ∧ K (some (.int 1)) g1) ∨ (s = RJ12 ∧ K (some (.int 2)) g1) ∨ (s = RJ13 ∧ K (some (.int 3)) g1))) : zCal X (d + 1) yX0_offer wX0_offer [.ref a0, .int x1, .int x2, .int x3, .int x4, .int x5, .ref o] g K KX := by
  refine z_enterH hok pn_X0 (Nat.le_of_ble_eq_true rfl) (fun E C hT hQ => ?_)
  have C : zC X (d + 1) E RX0 cX0_offer 8 (some .int) "offer" := C
  show GW X E 8 g 0 [(0, .ref a0), (1, .int x1), (2, .int x2), (3, .int x3), (4, .int x4), (5, .int x5), (6, .ref o)] []
  intro H locs ls hR hS hl
  refine lv_aload C.x C.b dX0_offer_0 (lv_at hl 6 rfl) ?_
  refine lv_iconst (v := 0) C.x C.b dX0_offer_2 (by decide) ?_
  refine lv_aload_n C.x C.b dX0_offer_3 rfl (lv_at hl 0 rfl) ?_
  refine lv_iload_n C.x C.b dX0_offer_4 rfl (lv_at hl 1 rfl) ?_
  refine lv_iload_n C.x C.b dX0_offer_5 rfl (lv_at hl 2 rfl) ?_
  refine lv_iload_n C.x C.b dX0_offer_6 rfl (lv_at hl 3 rfl) ?_
  refine lv_iload C.x C.b dX0_offer_7 (lv_at hl 4 rfl) ?_
  refine lv_iload C.x C.b dX0_offer_9 (lv_at hl 5 rfl) ?_
  refine z_callV C hR hS hl (n := 5) (C1 := RX1) (T := TX1) (N := 12) (ci := 1) (y := yX1_offer) (bytes := cX1_offer) (maxL := 7) (rt := (some .int)) (As := [.int x1, .int x2, .int x3, .int x4, .int x5]) (rest := [.int 0, .ref o]) hx rfl (lw_V q1186 q1187 q1188 q73 q1189) hdV_X1_offer (by decide) rfl rfl (Nat.le_of_ble_eq_true rfl) dX0_offer_11 h (fun r g_1 hk_ => ?_) (fun s g1 h => ?_)
  · clear h; obtain ⟨v, f, rfl, q1, h⟩ := hk_
    show GW X E 8 g_1 14 [(0, .ref a0), (1, .int x1), (2, .int x2), (3, .int x3), (4, .int x4), (5, .int x5), (6, .ref o)] [.int v, .int 0, .ref o]
    intro H locs ls hR hS hl
    refine lv_i2l C.x C.b dX0_offer_14 rfl ?_
    refine z_last C hR hS q1 z_in01 dX0_offer_15 (fun H locs hR hS => ?_)
    refine lv_goto (tgt := 31) C.x C.b dX0_offer_16 (by decide) ?_
    refine lv_iconst (v := 0) C.x C.b dX0_offer_31 (by decide) ?_
    exact z_iretH C hQ dX0_offer_32 h H locs ls hR hS hl
  · have hn_ := hnc.at C
    rcases h with ⟨rfl, h⟩ | ⟨rfl, h⟩ | ⟨rfl, h⟩
    · exact z_catch C (pre := []) (en := ⟨0, 16, 19, 13⟩) (suf := [⟨0, 16, 23, 15⟩, ⟨0, 16, 27, 25⟩]) hT (fun z hz => by cases hz) (by decide) (by decide) (C.ts _ q616) (C.word q709 rfl) (fun q => z_hand C hQ (n := 2) (Or.inl ⟨7, dX0_offer_19, by decide, rfl⟩) dX0_offer_21 (by decide) dX0_offer_22 h q)
    · exact z_catch C (pre := [⟨0, 16, 19, 13⟩]) (en := ⟨0, 16, 23, 15⟩) (suf := [⟨0, 16, 27, 25⟩]) hT (fun z hz => by rw [List.mem_singleton.mp hz]; exact Or.inr ⟨by decide, _, C.ts _ q616, hn_.1⟩) (by decide) (by decide) (C.ts _ q693) (C.word q725 rfl) (fun q => z_hand C hQ (n := 2) (Or.inl ⟨7, dX0_offer_23, by decide, rfl⟩) dX0_offer_25 (by decide) dX0_offer_26 h q)
    · exact z_catch C (pre := [⟨0, 16, 19, 13⟩, ⟨0, 16, 23, 15⟩]) (en := ⟨0, 16, 27, 25⟩) (suf := []) hT (fun z hz => by rcases List.mem_cons.mp hz with e | hz; rw [e]; exact Or.inr ⟨by decide, _, C.ts _ q616, hn_.2.1⟩; rw [List.mem_singleton.mp hz]; exact Or.inr ⟨by decide, _, C.ts _ q693, hn_.2.2⟩) (by decide) (by decide) (C.ts _ q749) (C.word q763 rfl) (fun q => z_hand C hQ (n := 2) (Or.inl ⟨7, dX0_offer_27, by decide, rfl⟩) dX0_offer_29 (by decide) dX0_offer_30 h q)
abbrev wX0_close : List Cond := wsW_ yX0_close cX0_close 3 (some .int) [(0, 8, 11, 25)]
set_option maxHeartbeats 4000000 in
theorem mX0_close {X : zX} {d : Nat} {g : zG} {K : Option Value → zG → Prop} {KX : String → zG → Prop} (hok : zOk X) (hnc : zNx X) (a0 : Nat)  (o : Nat) (hx : zIs g 1 a0) (h : zCal X d yX1_close wX1_close [.ref a0] g (fun r g1 => ∃ (v : Int32) (f : Nat → Int64), r = some (.int v) ∧ zGj g1 0 o = some (1, f) ∧ K (some (.int 0)) (zSj g1 0 o 1 (vp_updL f 0 v.toInt64))) (fun s g1 => (s = RJ13 ∧ K (some (.int 1)) g1))) : zCal X (d + 1) yX0_close wX0_close [.ref a0, .ref o] g K KX := by
  refine z_enterH hok pn_X0 (Nat.le_of_ble_eq_true rfl) (fun E C hT hQ => ?_)
  have C : zC X (d + 1) E RX0 cX0_close 3 (some .int) "close" := C
  show GW X E 3 g 0 [(0, .ref a0), (1, .ref o)] []
  intro H locs ls hR hS hl
  refine lv_aload_n C.x C.b dX0_close_0 rfl (lv_at hl 1 rfl) ?_
  refine lv_iconst (v := 0) C.x C.b dX0_close_1 (by decide) ?_
  refine lv_aload_n C.x C.b dX0_close_2 rfl (lv_at hl 0 rfl) ?_
  refine z_callV C hR hS hl (n := 0) (C1 := RX1) (T := TX1) (N := 12) (ci := 1) (y := yX1_close) (bytes := cX1_close) (maxL := 2) (rt := (some .int)) (As := []) (rest := [.int 0, .ref o]) hx rfl (lw_V q1226 q1227 q1228 q73 q1229) hdV_X1_close (by decide) rfl rfl (Nat.le_of_ble_eq_true rfl) dX0_close_3 h (fun r g_1 hk_ => ?_) (fun s g1 h => ?_)
  · clear h; obtain ⟨v, f, rfl, q1, h⟩ := hk_
    show GW X E 3 g_1 6 [(0, .ref a0), (1, .ref o)] [.int v, .int 0, .ref o]
    intro H locs ls hR hS hl
    refine lv_i2l C.x C.b dX0_close_6 rfl ?_
    refine z_last C hR hS q1 z_in01 dX0_close_7 (fun H locs hR hS => ?_)
    refine lv_goto (tgt := 14) C.x C.b dX0_close_8 (by decide) ?_
    refine lv_iconst (v := 0) C.x C.b dX0_close_14 (by decide) ?_
    exact z_iretH C hQ dX0_close_15 h H locs ls hR hS hl
  · have hn_ := hnc.at C
    obtain ⟨rfl, h⟩ := h
    exact z_catch C (pre := []) (en := ⟨0, 8, 11, 25⟩) (suf := []) hT (fun z hz => by cases hz) (by decide) (by decide) (C.ts _ q749) (C.word q763 rfl) (fun q => z_hand C hQ (n := 1) (Or.inr ⟨2, dX0_close_11, by decide, rfl⟩) dX0_close_12 (by decide) dX0_close_13 h q)
abbrev wX0_kindIs : List Cond := wsW_ yX0_kindIs cX0_kindIs 4 (some .int) [(0, 9, 12, 15), (0, 9, 15, 25)]
set_option maxHeartbeats 4000000 in
theorem mX0_kindIs {X : zX} {d : Nat} {g : zG} {K : Option Value → zG → Prop} {KX : String → zG → Prop} (hok : zOk X) (hnc : zNx X) (a0 : Nat) (x1 : Int32) (o : Nat) (hx : zIs g 1 a0) (h : zCal X d yX1_kindIs wX1_kindIs [.ref a0, .int x1] g (fun r g1 => ∃ (v : Int32) (f : Nat → Int64), r = some (.int v) ∧ zGj g1 0 o = some (1, f) ∧ K (some (.int 0)) (zSj g1 0 o 1 (vp_updL f 0 v.toInt64))) (fun s g1 => (s = RJ12 ∧ K (some (.int 1)) g1) ∨ (s = RJ13 ∧ K (some (.int 2)) g1))) : zCal X (d + 1) yX0_kindIs wX0_kindIs [.ref a0, .int x1, .ref o] g K KX := by
  refine z_enterH hok pn_X0 (Nat.le_of_ble_eq_true rfl) (fun E C hT hQ => ?_)
  have C : zC X (d + 1) E RX0 cX0_kindIs 4 (some .int) "kindIs" := C
  show GW X E 4 g 0 [(0, .ref a0), (1, .int x1), (2, .ref o)] []
  intro H locs ls hR hS hl
  refine lv_aload_n C.x C.b dX0_kindIs_0 rfl (lv_at hl 2 rfl) ?_
  refine lv_iconst (v := 0) C.x C.b dX0_kindIs_1 (by decide) ?_
  refine lv_aload_n C.x C.b dX0_kindIs_2 rfl (lv_at hl 0 rfl) ?_
  refine lv_iload_n C.x C.b dX0_kindIs_3 rfl (lv_at hl 1 rfl) ?_
  refine z_callV C hR hS hl (n := 1) (C1 := RX1) (T := TX1) (N := 12) (ci := 1) (y := yX1_kindIs) (bytes := cX1_kindIs) (maxL := 2) (rt := (some .int)) (As := [.int x1]) (rest := [.int 0, .ref o]) hx rfl (lw_V q1237 q1238 q1239 q73 q1240) hdV_X1_kindIs (by decide) rfl rfl (Nat.le_of_ble_eq_true rfl) dX0_kindIs_4 h (fun r g_1 hk_ => ?_) (fun s g1 h => ?_)
  · clear h; obtain ⟨v, f, rfl, q1, h⟩ := hk_
    show GW X E 4 g_1 7 [(0, .ref a0), (1, .int x1), (2, .ref o)] [.int v, .int 0, .ref o]
    intro H locs ls hR hS hl
    refine lv_i2l C.x C.b dX0_kindIs_7 rfl ?_
    refine z_last C hR hS q1 z_in01 dX0_kindIs_8 (fun H locs hR hS => ?_)
    refine lv_goto (tgt := 18) C.x C.b dX0_kindIs_9 (by decide) ?_
    refine lv_iconst (v := 0) C.x C.b dX0_kindIs_18 (by decide) ?_
    exact z_iretH C hQ dX0_kindIs_19 h H locs ls hR hS hl
  · have hn_ := hnc.at C
    rcases h with ⟨rfl, h⟩ | ⟨rfl, h⟩
    · exact z_catch C (pre := []) (en := ⟨0, 9, 12, 15⟩) (suf := [⟨0, 9, 15, 25⟩]) hT (fun z hz => by cases hz) (by decide) (by decide) (C.ts _ q693) (C.word q725 rfl) (fun q => z_hand C hQ (n := 1) (Or.inr ⟨3, dX0_kindIs_12, by decide, rfl⟩) dX0_kindIs_13 (by decide) dX0_kindIs_14 h q)
    · exact z_catch C (pre := [⟨0, 9, 12, 15⟩]) (en := ⟨0, 9, 15, 25⟩) (suf := []) hT (fun z hz => by rw [List.mem_singleton.mp hz]; exact Or.inr ⟨by decide, _, C.ts _ q693, hn_.2.2⟩) (by decide) (by decide) (C.ts _ q749) (C.word q763 rfl) (fun q => z_hand C hQ (n := 1) (Or.inr ⟨3, dX0_kindIs_15, by decide, rfl⟩) dX0_kindIs_16 (by decide) dX0_kindIs_17 h q)
abbrev wX0_valueIs : List Cond := wsW_ yX0_valueIs cX0_valueIs 5 (some .int) [(0, 10, 13, 15), (0, 10, 17, 25)]
set_option maxHeartbeats 4000000 in
theorem mX0_valueIs {X : zX} {d : Nat} {g : zG} {K : Option Value → zG → Prop} {KX : String → zG → Prop} (hok : zOk X) (hnc : zNx X) (a0 : Nat) (x1 : Int32) (x2 : Int32) (o : Nat) (hx : zIs g 1 a0) (h : zCal X d yX1_valueIs wX1_valueIs [.ref a0, .int x1, .int x2] g (fun r g1 => ∃ (v : Int32) (f : Nat → Int64), r = some (.int v) ∧ zGj g1 0 o = some (1, f) ∧ K (some (.int 0)) (zSj g1 0 o 1 (vp_updL f 0 v.toInt64))) (fun s g1 => (s = RJ12 ∧ K (some (.int 1)) g1) ∨ (s = RJ13 ∧ K (some (.int 2)) g1))) : zCal X (d + 1) yX0_valueIs wX0_valueIs [.ref a0, .int x1, .int x2, .ref o] g K KX := by
  refine z_enterH hok pn_X0 (Nat.le_of_ble_eq_true rfl) (fun E C hT hQ => ?_)
  have C : zC X (d + 1) E RX0 cX0_valueIs 5 (some .int) "valueIs" := C
  show GW X E 5 g 0 [(0, .ref a0), (1, .int x1), (2, .int x2), (3, .ref o)] []
  intro H locs ls hR hS hl
  refine lv_aload_n C.x C.b dX0_valueIs_0 rfl (lv_at hl 3 rfl) ?_
  refine lv_iconst (v := 0) C.x C.b dX0_valueIs_1 (by decide) ?_
  refine lv_aload_n C.x C.b dX0_valueIs_2 rfl (lv_at hl 0 rfl) ?_
  refine lv_iload_n C.x C.b dX0_valueIs_3 rfl (lv_at hl 1 rfl) ?_
  refine lv_iload_n C.x C.b dX0_valueIs_4 rfl (lv_at hl 2 rfl) ?_
  refine z_callV C hR hS hl (n := 2) (C1 := RX1) (T := TX1) (N := 12) (ci := 1) (y := yX1_valueIs) (bytes := cX1_valueIs) (maxL := 3) (rt := (some .int)) (As := [.int x1, .int x2]) (rest := [.int 0, .ref o]) hx rfl (lw_V q1285 q1286 q1287 q73 q1288) hdV_X1_valueIs (by decide) rfl rfl (Nat.le_of_ble_eq_true rfl) dX0_valueIs_5 h (fun r g_1 hk_ => ?_) (fun s g1 h => ?_)
  · clear h; obtain ⟨v, f, rfl, q1, h⟩ := hk_
    show GW X E 5 g_1 8 [(0, .ref a0), (1, .int x1), (2, .int x2), (3, .ref o)] [.int v, .int 0, .ref o]
    intro H locs ls hR hS hl
    refine lv_i2l C.x C.b dX0_valueIs_8 rfl ?_
    refine z_last C hR hS q1 z_in01 dX0_valueIs_9 (fun H locs hR hS => ?_)
    refine lv_goto (tgt := 21) C.x C.b dX0_valueIs_10 (by decide) ?_
    refine lv_iconst (v := 0) C.x C.b dX0_valueIs_21 (by decide) ?_
    exact z_iretH C hQ dX0_valueIs_22 h H locs ls hR hS hl
  · have hn_ := hnc.at C
    rcases h with ⟨rfl, h⟩ | ⟨rfl, h⟩
    · exact z_catch C (pre := []) (en := ⟨0, 10, 13, 15⟩) (suf := [⟨0, 10, 17, 25⟩]) hT (fun z hz => by cases hz) (by decide) (by decide) (C.ts _ q693) (C.word q725 rfl) (fun q => z_hand C hQ (n := 2) (Or.inl ⟨4, dX0_valueIs_13, by decide, rfl⟩) dX0_valueIs_15 (by decide) dX0_valueIs_16 h q)
    · exact z_catch C (pre := [⟨0, 10, 13, 15⟩]) (en := ⟨0, 10, 17, 25⟩) (suf := []) hT (fun z hz => by rw [List.mem_singleton.mp hz]; exact Or.inr ⟨by decide, _, C.ts _ q693, hn_.2.2⟩) (by decide) (by decide) (C.ts _ q749) (C.word q763 rfl) (fun q => z_hand C hQ (n := 2) (Or.inl ⟨4, dX0_valueIs_17, by decide, rfl⟩) dX0_valueIs_19 (by decide) dX0_valueIs_20 h q)
abbrev wX0_not : List Cond := wsW_ yX0_not cX0_not 3 (some .int) [(0, 8, 11, 25)]
set_option maxHeartbeats 4000000 in
theorem mX0_not {X : zX} {d : Nat} {g : zG} {K : Option Value → zG → Prop} {KX : String → zG → Prop} (hok : zOk X) (hnc : zNx X) (a0 : Nat)  (o : Nat) (hx : zIs g 1 a0) (h : zCal X d yX1_not wX1_not [.ref a0] g (fun r g1 => ∃ (v : Int32) (f : Nat → Int64), r = some (.int v) ∧ zGj g1 0 o = some (1, f) ∧ K (some (.int 0)) (zSj g1 0 o 1 (vp_updL f 0 v.toInt64))) (fun s g1 => (s = RJ13 ∧ K (some (.int 1)) g1))) : zCal X (d + 1) yX0_not wX0_not [.ref a0, .ref o] g K KX := by
  refine z_enterH hok pn_X0 (Nat.le_of_ble_eq_true rfl) (fun E C hT hQ => ?_)
  have C : zC X (d + 1) E RX0 cX0_not 3 (some .int) "not" := C
  show GW X E 3 g 0 [(0, .ref a0), (1, .ref o)] []
  intro H locs ls hR hS hl
  refine lv_aload_n C.x C.b dX0_not_0 rfl (lv_at hl 1 rfl) ?_
  refine lv_iconst (v := 0) C.x C.b dX0_not_1 (by decide) ?_
  refine lv_aload_n C.x C.b dX0_not_2 rfl (lv_at hl 0 rfl) ?_
  refine z_callV C hR hS hl (n := 0) (C1 := RX1) (T := TX1) (N := 12) (ci := 1) (y := yX1_not) (bytes := cX1_not) (maxL := 1) (rt := (some .int)) (As := []) (rest := [.int 0, .ref o]) hx rfl (lw_V q1294 q1295 q1296 q73 q1297) hdV_X1_not (by decide) rfl rfl (Nat.le_of_ble_eq_true rfl) dX0_not_3 h (fun r g_1 hk_ => ?_) (fun s g1 h => ?_)
  · clear h; obtain ⟨v, f, rfl, q1, h⟩ := hk_
    show GW X E 3 g_1 6 [(0, .ref a0), (1, .ref o)] [.int v, .int 0, .ref o]
    intro H locs ls hR hS hl
    refine lv_i2l C.x C.b dX0_not_6 rfl ?_
    refine z_last C hR hS q1 z_in01 dX0_not_7 (fun H locs hR hS => ?_)
    refine lv_goto (tgt := 14) C.x C.b dX0_not_8 (by decide) ?_
    refine lv_iconst (v := 0) C.x C.b dX0_not_14 (by decide) ?_
    exact z_iretH C hQ dX0_not_15 h H locs ls hR hS hl
  · have hn_ := hnc.at C
    obtain ⟨rfl, h⟩ := h
    exact z_catch C (pre := []) (en := ⟨0, 8, 11, 25⟩) (suf := []) hT (fun z hz => by cases hz) (by decide) (by decide) (C.ts _ q749) (C.word q763 rfl) (fun q => z_hand C hQ (n := 1) (Or.inr ⟨2, dX0_not_11, by decide, rfl⟩) dX0_not_12 (by decide) dX0_not_13 h q)
abbrev wX0_both : List Cond := wsW_ yX0_both cX0_both 3 (some .int) [(0, 8, 11, 25)]
set_option maxHeartbeats 4000000 in
theorem mX0_both {X : zX} {d : Nat} {g : zG} {K : Option Value → zG → Prop} {KX : String → zG → Prop} (hok : zOk X) (hnc : zNx X) (a0 : Nat)  (o : Nat) (hx : zIs g 1 a0) (h : zCal X d yX1_both wX1_both [.ref a0] g (fun r g1 => ∃ (v : Int32) (f : Nat → Int64), r = some (.int v) ∧ zGj g1 0 o = some (1, f) ∧ K (some (.int 0)) (zSj g1 0 o 1 (vp_updL f 0 v.toInt64))) (fun s g1 => (s = RJ13 ∧ K (some (.int 1)) g1))) : zCal X (d + 1) yX0_both wX0_both [.ref a0, .ref o] g K KX := by
  refine z_enterH hok pn_X0 (Nat.le_of_ble_eq_true rfl) (fun E C hT hQ => ?_)
  have C : zC X (d + 1) E RX0 cX0_both 3 (some .int) "both" := C
  show GW X E 3 g 0 [(0, .ref a0), (1, .ref o)] []
  intro H locs ls hR hS hl
  refine lv_aload_n C.x C.b dX0_both_0 rfl (lv_at hl 1 rfl) ?_
  refine lv_iconst (v := 0) C.x C.b dX0_both_1 (by decide) ?_
  refine lv_aload_n C.x C.b dX0_both_2 rfl (lv_at hl 0 rfl) ?_
  refine z_callV C hR hS hl (n := 0) (C1 := RX1) (T := TX1) (N := 12) (ci := 1) (y := yX1_both) (bytes := cX1_both) (maxL := 1) (rt := (some .int)) (As := []) (rest := [.int 0, .ref o]) hx rfl (lw_V q1309 q1310 q1311 q73 q1312) hdV_X1_both (by decide) rfl rfl (Nat.le_of_ble_eq_true rfl) dX0_both_3 h (fun r g_1 hk_ => ?_) (fun s g1 h => ?_)
  · clear h; obtain ⟨v, f, rfl, q1, h⟩ := hk_
    show GW X E 3 g_1 6 [(0, .ref a0), (1, .ref o)] [.int v, .int 0, .ref o]
    intro H locs ls hR hS hl
    refine lv_i2l C.x C.b dX0_both_6 rfl ?_
    refine z_last C hR hS q1 z_in01 dX0_both_7 (fun H locs hR hS => ?_)
    refine lv_goto (tgt := 14) C.x C.b dX0_both_8 (by decide) ?_
    refine lv_iconst (v := 0) C.x C.b dX0_both_14 (by decide) ?_
    exact z_iretH C hQ dX0_both_15 h H locs ls hR hS hl
  · have hn_ := hnc.at C
    obtain ⟨rfl, h⟩ := h
    exact z_catch C (pre := []) (en := ⟨0, 8, 11, 25⟩) (suf := []) hT (fun z hz => by cases hz) (by decide) (by decide) (C.ts _ q749) (C.word q763 rfl) (fun q => z_hand C hQ (n := 1) (Or.inr ⟨2, dX0_both_11, by decide, rfl⟩) dX0_both_12 (by decide) dX0_both_13 h q)
abbrev wX0_either : List Cond := wsW_ yX0_either cX0_either 3 (some .int) [(0, 8, 11, 25)]
set_option maxHeartbeats 4000000 in
theorem mX0_either {X : zX} {d : Nat} {g : zG} {K : Option Value → zG → Prop} {KX : String → zG → Prop} (hok : zOk X) (hnc : zNx X) (a0 : Nat)  (o : Nat) (hx : zIs g 1 a0) (h : zCal X d yX1_either wX1_either [.ref a0] g (fun r g1 => ∃ (v : Int32) (f : Nat → Int64), r = some (.int v) ∧ zGj g1 0 o = some (1, f) ∧ K (some (.int 0)) (zSj g1 0 o 1 (vp_updL f 0 v.toInt64))) (fun s g1 => (s = RJ13 ∧ K (some (.int 1)) g1))) : zCal X (d + 1) yX0_either wX0_either [.ref a0, .ref o] g K KX := by
  refine z_enterH hok pn_X0 (Nat.le_of_ble_eq_true rfl) (fun E C hT hQ => ?_)
  have C : zC X (d + 1) E RX0 cX0_either 3 (some .int) "either" := C
  show GW X E 3 g 0 [(0, .ref a0), (1, .ref o)] []
  intro H locs ls hR hS hl
  refine lv_aload_n C.x C.b dX0_either_0 rfl (lv_at hl 1 rfl) ?_
  refine lv_iconst (v := 0) C.x C.b dX0_either_1 (by decide) ?_
  refine lv_aload_n C.x C.b dX0_either_2 rfl (lv_at hl 0 rfl) ?_
  refine z_callV C hR hS hl (n := 0) (C1 := RX1) (T := TX1) (N := 12) (ci := 1) (y := yX1_either) (bytes := cX1_either) (maxL := 1) (rt := (some .int)) (As := []) (rest := [.int 0, .ref o]) hx rfl (lw_V q1318 q1319 q1320 q73 q1321) hdV_X1_either (by decide) rfl rfl (Nat.le_of_ble_eq_true rfl) dX0_either_3 h (fun r g_1 hk_ => ?_) (fun s g1 h => ?_)
  · clear h; obtain ⟨v, f, rfl, q1, h⟩ := hk_
    show GW X E 3 g_1 6 [(0, .ref a0), (1, .ref o)] [.int v, .int 0, .ref o]
    intro H locs ls hR hS hl
    refine lv_i2l C.x C.b dX0_either_6 rfl ?_
    refine z_last C hR hS q1 z_in01 dX0_either_7 (fun H locs hR hS => ?_)
    refine lv_goto (tgt := 14) C.x C.b dX0_either_8 (by decide) ?_
    refine lv_iconst (v := 0) C.x C.b dX0_either_14 (by decide) ?_
    exact z_iretH C hQ dX0_either_15 h H locs ls hR hS hl
  · have hn_ := hnc.at C
    obtain ⟨rfl, h⟩ := h
    exact z_catch C (pre := []) (en := ⟨0, 8, 11, 25⟩) (suf := []) hT (fun z hz => by cases hz) (by decide) (by decide) (C.ts _ q749) (C.word q763 rfl) (fun q => z_hand C hQ (n := 1) (Or.inr ⟨2, dX0_either_11, by decide, rfl⟩) dX0_either_12 (by decide) dX0_either_13 h q)
abbrev wX0_before : List Cond := wsW_ yX0_before cX0_before 3 (some .int) [(0, 8, 11, 25)]
set_option maxHeartbeats 4000000 in
theorem mX0_before {X : zX} {d : Nat} {g : zG} {K : Option Value → zG → Prop} {KX : String → zG → Prop} (hok : zOk X) (hnc : zNx X) (a0 : Nat)  (o : Nat) (hx : zIs g 1 a0) (h : zCal X d yX1_before wX1_before [.ref a0] g (fun r g1 => ∃ (v : Int32) (f : Nat → Int64), r = some (.int v) ∧ zGj g1 0 o = some (1, f) ∧ K (some (.int 0)) (zSj g1 0 o 1 (vp_updL f 0 v.toInt64))) (fun s g1 => (s = RJ13 ∧ K (some (.int 1)) g1))) : zCal X (d + 1) yX0_before wX0_before [.ref a0, .ref o] g K KX := by
  refine z_enterH hok pn_X0 (Nat.le_of_ble_eq_true rfl) (fun E C hT hQ => ?_)
  have C : zC X (d + 1) E RX0 cX0_before 3 (some .int) "before" := C
  show GW X E 3 g 0 [(0, .ref a0), (1, .ref o)] []
  intro H locs ls hR hS hl
  refine lv_aload_n C.x C.b dX0_before_0 rfl (lv_at hl 1 rfl) ?_
  refine lv_iconst (v := 0) C.x C.b dX0_before_1 (by decide) ?_
  refine lv_aload_n C.x C.b dX0_before_2 rfl (lv_at hl 0 rfl) ?_
  refine z_callV C hR hS hl (n := 0) (C1 := RX1) (T := TX1) (N := 12) (ci := 1) (y := yX1_before) (bytes := cX1_before) (maxL := 1) (rt := (some .int)) (As := []) (rest := [.int 0, .ref o]) hx rfl (lw_V q1327 q1328 q1329 q73 q1330) hdV_X1_before (by decide) rfl rfl (Nat.le_of_ble_eq_true rfl) dX0_before_3 h (fun r g_1 hk_ => ?_) (fun s g1 h => ?_)
  · clear h; obtain ⟨v, f, rfl, q1, h⟩ := hk_
    show GW X E 3 g_1 6 [(0, .ref a0), (1, .ref o)] [.int v, .int 0, .ref o]
    intro H locs ls hR hS hl
    refine lv_i2l C.x C.b dX0_before_6 rfl ?_
    refine z_last C hR hS q1 z_in01 dX0_before_7 (fun H locs hR hS => ?_)
    refine lv_goto (tgt := 14) C.x C.b dX0_before_8 (by decide) ?_
    refine lv_iconst (v := 0) C.x C.b dX0_before_14 (by decide) ?_
    exact z_iretH C hQ dX0_before_15 h H locs ls hR hS hl
  · have hn_ := hnc.at C
    obtain ⟨rfl, h⟩ := h
    exact z_catch C (pre := []) (en := ⟨0, 8, 11, 25⟩) (suf := []) hT (fun z hz => by cases hz) (by decide) (by decide) (C.ts _ q749) (C.word q763 rfl) (fun q => z_hand C hQ (n := 1) (Or.inr ⟨2, dX0_before_11, by decide, rfl⟩) dX0_before_12 (by decide) dX0_before_13 h q)
abbrev wX0_since : List Cond := wsW_ yX0_since cX0_since 4 (some .int) [(0, 9, 12, 15), (0, 9, 15, 25)]
set_option maxHeartbeats 4000000 in
theorem mX0_since {X : zX} {d : Nat} {g : zG} {K : Option Value → zG → Prop} {KX : String → zG → Prop} (hok : zOk X) (hnc : zNx X) (a0 : Nat) (x1 : Int32) (o : Nat) (hx : zIs g 1 a0) (h : zCal X d yX1_since wX1_since [.ref a0, .int x1] g (fun r g1 => ∃ (v : Int32) (f : Nat → Int64), r = some (.int v) ∧ zGj g1 0 o = some (1, f) ∧ K (some (.int 0)) (zSj g1 0 o 1 (vp_updL f 0 v.toInt64))) (fun s g1 => (s = RJ12 ∧ K (some (.int 1)) g1) ∨ (s = RJ13 ∧ K (some (.int 2)) g1))) : zCal X (d + 1) yX0_since wX0_since [.ref a0, .int x1, .ref o] g K KX := by
  refine z_enterH hok pn_X0 (Nat.le_of_ble_eq_true rfl) (fun E C hT hQ => ?_)
  have C : zC X (d + 1) E RX0 cX0_since 4 (some .int) "since" := C
  show GW X E 4 g 0 [(0, .ref a0), (1, .int x1), (2, .ref o)] []
  intro H locs ls hR hS hl
  refine lv_aload_n C.x C.b dX0_since_0 rfl (lv_at hl 2 rfl) ?_
  refine lv_iconst (v := 0) C.x C.b dX0_since_1 (by decide) ?_
  refine lv_aload_n C.x C.b dX0_since_2 rfl (lv_at hl 0 rfl) ?_
  refine lv_iload_n C.x C.b dX0_since_3 rfl (lv_at hl 1 rfl) ?_
  refine z_callV C hR hS hl (n := 1) (C1 := RX1) (T := TX1) (N := 12) (ci := 1) (y := yX1_since) (bytes := cX1_since) (maxL := 2) (rt := (some .int)) (As := [.int x1]) (rest := [.int 0, .ref o]) hx rfl (lw_V q1336 q1337 q1338 q73 q1339) hdV_X1_since (by decide) rfl rfl (Nat.le_of_ble_eq_true rfl) dX0_since_4 h (fun r g_1 hk_ => ?_) (fun s g1 h => ?_)
  · clear h; obtain ⟨v, f, rfl, q1, h⟩ := hk_
    show GW X E 4 g_1 7 [(0, .ref a0), (1, .int x1), (2, .ref o)] [.int v, .int 0, .ref o]
    intro H locs ls hR hS hl
    refine lv_i2l C.x C.b dX0_since_7 rfl ?_
    refine z_last C hR hS q1 z_in01 dX0_since_8 (fun H locs hR hS => ?_)
    refine lv_goto (tgt := 18) C.x C.b dX0_since_9 (by decide) ?_
    refine lv_iconst (v := 0) C.x C.b dX0_since_18 (by decide) ?_
    exact z_iretH C hQ dX0_since_19 h H locs ls hR hS hl
  · have hn_ := hnc.at C
    rcases h with ⟨rfl, h⟩ | ⟨rfl, h⟩
    · exact z_catch C (pre := []) (en := ⟨0, 9, 12, 15⟩) (suf := [⟨0, 9, 15, 25⟩]) hT (fun z hz => by cases hz) (by decide) (by decide) (C.ts _ q693) (C.word q725 rfl) (fun q => z_hand C hQ (n := 1) (Or.inr ⟨3, dX0_since_12, by decide, rfl⟩) dX0_since_13 (by decide) dX0_since_14 h q)
    · exact z_catch C (pre := [⟨0, 9, 12, 15⟩]) (en := ⟨0, 9, 15, 25⟩) (suf := []) hT (fun z hz => by rw [List.mem_singleton.mp hz]; exact Or.inr ⟨by decide, _, C.ts _ q693, hn_.2.2⟩) (by decide) (by decide) (C.ts _ q749) (C.word q763 rfl) (fun q => z_hand C hQ (n := 1) (Or.inr ⟨3, dX0_since_15, by decide, rfl⟩) dX0_since_16 (by decide) dX0_since_17 h q)
abbrev wX0_once : List Cond := wsW_ yX0_once cX0_once 4 (some .int) [(0, 9, 12, 15), (0, 9, 15, 25)]
set_option maxHeartbeats 4000000 in
theorem mX0_once {X : zX} {d : Nat} {g : zG} {K : Option Value → zG → Prop} {KX : String → zG → Prop} (hok : zOk X) (hnc : zNx X) (a0 : Nat) (x1 : Int32) (o : Nat) (hx : zIs g 1 a0) (h : zCal X d yX1_once wX1_once [.ref a0, .int x1] g (fun r g1 => ∃ (v : Int32) (f : Nat → Int64), r = some (.int v) ∧ zGj g1 0 o = some (1, f) ∧ K (some (.int 0)) (zSj g1 0 o 1 (vp_updL f 0 v.toInt64))) (fun s g1 => (s = RJ12 ∧ K (some (.int 1)) g1) ∨ (s = RJ13 ∧ K (some (.int 2)) g1))) : zCal X (d + 1) yX0_once wX0_once [.ref a0, .int x1, .ref o] g K KX := by
  refine z_enterH hok pn_X0 (Nat.le_of_ble_eq_true rfl) (fun E C hT hQ => ?_)
  have C : zC X (d + 1) E RX0 cX0_once 4 (some .int) "once" := C
  show GW X E 4 g 0 [(0, .ref a0), (1, .int x1), (2, .ref o)] []
  intro H locs ls hR hS hl
  refine lv_aload_n C.x C.b dX0_once_0 rfl (lv_at hl 2 rfl) ?_
  refine lv_iconst (v := 0) C.x C.b dX0_once_1 (by decide) ?_
  refine lv_aload_n C.x C.b dX0_once_2 rfl (lv_at hl 0 rfl) ?_
  refine lv_iload_n C.x C.b dX0_once_3 rfl (lv_at hl 1 rfl) ?_
  refine z_callV C hR hS hl (n := 1) (C1 := RX1) (T := TX1) (N := 12) (ci := 1) (y := yX1_once) (bytes := cX1_once) (maxL := 2) (rt := (some .int)) (As := [.int x1]) (rest := [.int 0, .ref o]) hx rfl (lw_V q1348 q1349 q1350 q73 q1351) hdV_X1_once (by decide) rfl rfl (Nat.le_of_ble_eq_true rfl) dX0_once_4 h (fun r g_1 hk_ => ?_) (fun s g1 h => ?_)
  · clear h; obtain ⟨v, f, rfl, q1, h⟩ := hk_
    show GW X E 4 g_1 7 [(0, .ref a0), (1, .int x1), (2, .ref o)] [.int v, .int 0, .ref o]
    intro H locs ls hR hS hl
    refine lv_i2l C.x C.b dX0_once_7 rfl ?_
    refine z_last C hR hS q1 z_in01 dX0_once_8 (fun H locs hR hS => ?_)
    refine lv_goto (tgt := 18) C.x C.b dX0_once_9 (by decide) ?_
    refine lv_iconst (v := 0) C.x C.b dX0_once_18 (by decide) ?_
    exact z_iretH C hQ dX0_once_19 h H locs ls hR hS hl
  · have hn_ := hnc.at C
    rcases h with ⟨rfl, h⟩ | ⟨rfl, h⟩
    · exact z_catch C (pre := []) (en := ⟨0, 9, 12, 15⟩) (suf := [⟨0, 9, 15, 25⟩]) hT (fun z hz => by cases hz) (by decide) (by decide) (C.ts _ q693) (C.word q725 rfl) (fun q => z_hand C hQ (n := 1) (Or.inr ⟨3, dX0_once_12, by decide, rfl⟩) dX0_once_13 (by decide) dX0_once_14 h q)
    · exact z_catch C (pre := [⟨0, 9, 12, 15⟩]) (en := ⟨0, 9, 15, 25⟩) (suf := []) hT (fun z hz => by rw [List.mem_singleton.mp hz]; exact Or.inr ⟨by decide, _, C.ts _ q693, hn_.2.2⟩) (by decide) (by decide) (C.ts _ q749) (C.word q763 rfl) (fun q => z_hand C hQ (n := 1) (Or.inr ⟨3, dX0_once_15, by decide, rfl⟩) dX0_once_16 (by decide) dX0_once_17 h q)
abbrev wX0_next : List Cond := wsW_ yX0_next cX0_next 3 (some .int) [(0, 8, 11, 25)]
set_option maxHeartbeats 4000000 in
theorem mX0_next {X : zX} {d : Nat} {g : zG} {K : Option Value → zG → Prop} {KX : String → zG → Prop} (hok : zOk X) (hnc : zNx X) (a0 : Nat)  (o : Nat) (hx : zIs g 1 a0) (h : zCal X d yX1_next wX1_next [.ref a0] g (fun r g1 => ∃ (v : Int32) (f : Nat → Int64), r = some (.int v) ∧ zGj g1 0 o = some (1, f) ∧ K (some (.int 0)) (zSj g1 0 o 1 (vp_updL f 0 v.toInt64))) (fun s g1 => (s = RJ13 ∧ K (some (.int 1)) g1))) : zCal X (d + 1) yX0_next wX0_next [.ref a0, .ref o] g K KX := by
  refine z_enterH hok pn_X0 (Nat.le_of_ble_eq_true rfl) (fun E C hT hQ => ?_)
  have C : zC X (d + 1) E RX0 cX0_next 3 (some .int) "next" := C
  show GW X E 3 g 0 [(0, .ref a0), (1, .ref o)] []
  intro H locs ls hR hS hl
  refine lv_aload_n C.x C.b dX0_next_0 rfl (lv_at hl 1 rfl) ?_
  refine lv_iconst (v := 0) C.x C.b dX0_next_1 (by decide) ?_
  refine lv_aload_n C.x C.b dX0_next_2 rfl (lv_at hl 0 rfl) ?_
  refine z_callV C hR hS hl (n := 0) (C1 := RX1) (T := TX1) (N := 12) (ci := 1) (y := yX1_next) (bytes := cX1_next) (maxL := 1) (rt := (some .int)) (As := []) (rest := [.int 0, .ref o]) hx rfl (lw_V q1356 q1357 q1358 q73 q1359) hdV_X1_next (by decide) rfl rfl (Nat.le_of_ble_eq_true rfl) dX0_next_3 h (fun r g_1 hk_ => ?_) (fun s g1 h => ?_)
  · clear h; obtain ⟨v, f, rfl, q1, h⟩ := hk_
    show GW X E 3 g_1 6 [(0, .ref a0), (1, .ref o)] [.int v, .int 0, .ref o]
    intro H locs ls hR hS hl
    refine lv_i2l C.x C.b dX0_next_6 rfl ?_
    refine z_last C hR hS q1 z_in01 dX0_next_7 (fun H locs hR hS => ?_)
    refine lv_goto (tgt := 14) C.x C.b dX0_next_8 (by decide) ?_
    refine lv_iconst (v := 0) C.x C.b dX0_next_14 (by decide) ?_
    exact z_iretH C hQ dX0_next_15 h H locs ls hR hS hl
  · have hn_ := hnc.at C
    obtain ⟨rfl, h⟩ := h
    exact z_catch C (pre := []) (en := ⟨0, 8, 11, 25⟩) (suf := []) hT (fun z hz => by cases hz) (by decide) (by decide) (C.ts _ q749) (C.word q763 rfl) (fun q => z_hand C hQ (n := 1) (Or.inr ⟨2, dX0_next_11, by decide, rfl⟩) dX0_next_12 (by decide) dX0_next_13 h q)
abbrev wX0_until : List Cond := wsW_ yX0_until cX0_until 4 (some .int) [(0, 9, 12, 15), (0, 9, 15, 25)]
set_option maxHeartbeats 4000000 in
theorem mX0_until {X : zX} {d : Nat} {g : zG} {K : Option Value → zG → Prop} {KX : String → zG → Prop} (hok : zOk X) (hnc : zNx X) (a0 : Nat) (x1 : Int32) (o : Nat) (hx : zIs g 1 a0) (h : zCal X d yX1_until wX1_until [.ref a0, .int x1] g (fun r g1 => ∃ (v : Int32) (f : Nat → Int64), r = some (.int v) ∧ zGj g1 0 o = some (1, f) ∧ K (some (.int 0)) (zSj g1 0 o 1 (vp_updL f 0 v.toInt64))) (fun s g1 => (s = RJ12 ∧ K (some (.int 1)) g1) ∨ (s = RJ13 ∧ K (some (.int 2)) g1))) : zCal X (d + 1) yX0_until wX0_until [.ref a0, .int x1, .ref o] g K KX := by
  refine z_enterH hok pn_X0 (Nat.le_of_ble_eq_true rfl) (fun E C hT hQ => ?_)
  have C : zC X (d + 1) E RX0 cX0_until 4 (some .int) "until" := C
  show GW X E 4 g 0 [(0, .ref a0), (1, .int x1), (2, .ref o)] []
  intro H locs ls hR hS hl
  refine lv_aload_n C.x C.b dX0_until_0 rfl (lv_at hl 2 rfl) ?_
  refine lv_iconst (v := 0) C.x C.b dX0_until_1 (by decide) ?_
  refine lv_aload_n C.x C.b dX0_until_2 rfl (lv_at hl 0 rfl) ?_
  refine lv_iload_n C.x C.b dX0_until_3 rfl (lv_at hl 1 rfl) ?_
  refine z_callV C hR hS hl (n := 1) (C1 := RX1) (T := TX1) (N := 12) (ci := 1) (y := yX1_until) (bytes := cX1_until) (maxL := 2) (rt := (some .int)) (As := [.int x1]) (rest := [.int 0, .ref o]) hx rfl (lw_V q1365 q1366 q1367 q73 q1368) hdV_X1_until (by decide) rfl rfl (Nat.le_of_ble_eq_true rfl) dX0_until_4 h (fun r g_1 hk_ => ?_) (fun s g1 h => ?_)
  · clear h; obtain ⟨v, f, rfl, q1, h⟩ := hk_
    show GW X E 4 g_1 7 [(0, .ref a0), (1, .int x1), (2, .ref o)] [.int v, .int 0, .ref o]
    intro H locs ls hR hS hl
    refine lv_i2l C.x C.b dX0_until_7 rfl ?_
    refine z_last C hR hS q1 z_in01 dX0_until_8 (fun H locs hR hS => ?_)
    refine lv_goto (tgt := 18) C.x C.b dX0_until_9 (by decide) ?_
    refine lv_iconst (v := 0) C.x C.b dX0_until_18 (by decide) ?_
    exact z_iretH C hQ dX0_until_19 h H locs ls hR hS hl
  · have hn_ := hnc.at C
    rcases h with ⟨rfl, h⟩ | ⟨rfl, h⟩
    · exact z_catch C (pre := []) (en := ⟨0, 9, 12, 15⟩) (suf := [⟨0, 9, 15, 25⟩]) hT (fun z hz => by cases hz) (by decide) (by decide) (C.ts _ q693) (C.word q725 rfl) (fun q => z_hand C hQ (n := 1) (Or.inr ⟨3, dX0_until_12, by decide, rfl⟩) dX0_until_13 (by decide) dX0_until_14 h q)
    · exact z_catch C (pre := [⟨0, 9, 12, 15⟩]) (en := ⟨0, 9, 15, 25⟩) (suf := []) hT (fun z hz => by rw [List.mem_singleton.mp hz]; exact Or.inr ⟨by decide, _, C.ts _ q693, hn_.2.2⟩) (by decide) (by decide) (C.ts _ q749) (C.word q763 rfl) (fun q => z_hand C hQ (n := 1) (Or.inr ⟨3, dX0_until_15, by decide, rfl⟩) dX0_until_16 (by decide) dX0_until_17 h q)
abbrev wX0_soon : List Cond := wsW_ yX0_soon cX0_soon 4 (some .int) [(0, 9, 12, 15), (0, 9, 15, 25)]
set_option maxHeartbeats 4000000 in
theorem mX0_soon {X : zX} {d : Nat} {g : zG} {K : Option Value → zG → Prop} {KX : String → zG → Prop} (hok : zOk X) (hnc : zNx X) (a0 : Nat) (x1 : Int32) (o : Nat) (hx : zIs g 1 a0) (h : zCal X d yX1_soon wX1_soon [.ref a0, .int x1] g (fun r g1 => ∃ (v : Int32) (f : Nat → Int64), r = some (.int v) ∧ zGj g1 0 o = some (1, f) ∧ K (some (.int 0)) (zSj g1 0 o 1 (vp_updL f 0 v.toInt64))) (fun s g1 => (s = RJ12 ∧ K (some (.int 1)) g1) ∨ (s = RJ13 ∧ K (some (.int 2)) g1))) : zCal X (d + 1) yX0_soon wX0_soon [.ref a0, .int x1, .ref o] g K KX := by
  refine z_enterH hok pn_X0 (Nat.le_of_ble_eq_true rfl) (fun E C hT hQ => ?_)
  have C : zC X (d + 1) E RX0 cX0_soon 4 (some .int) "soon" := C
  show GW X E 4 g 0 [(0, .ref a0), (1, .int x1), (2, .ref o)] []
  intro H locs ls hR hS hl
  refine lv_aload_n C.x C.b dX0_soon_0 rfl (lv_at hl 2 rfl) ?_
  refine lv_iconst (v := 0) C.x C.b dX0_soon_1 (by decide) ?_
  refine lv_aload_n C.x C.b dX0_soon_2 rfl (lv_at hl 0 rfl) ?_
  refine lv_iload_n C.x C.b dX0_soon_3 rfl (lv_at hl 1 rfl) ?_
  refine z_callV C hR hS hl (n := 1) (C1 := RX1) (T := TX1) (N := 12) (ci := 1) (y := yX1_soon) (bytes := cX1_soon) (maxL := 2) (rt := (some .int)) (As := [.int x1]) (rest := [.int 0, .ref o]) hx rfl (lw_V q1374 q1375 q1376 q73 q1377) hdV_X1_soon (by decide) rfl rfl (Nat.le_of_ble_eq_true rfl) dX0_soon_4 h (fun r g_1 hk_ => ?_) (fun s g1 h => ?_)
  · clear h; obtain ⟨v, f, rfl, q1, h⟩ := hk_
    show GW X E 4 g_1 7 [(0, .ref a0), (1, .int x1), (2, .ref o)] [.int v, .int 0, .ref o]
    intro H locs ls hR hS hl
    refine lv_i2l C.x C.b dX0_soon_7 rfl ?_
    refine z_last C hR hS q1 z_in01 dX0_soon_8 (fun H locs hR hS => ?_)
    refine lv_goto (tgt := 18) C.x C.b dX0_soon_9 (by decide) ?_
    refine lv_iconst (v := 0) C.x C.b dX0_soon_18 (by decide) ?_
    exact z_iretH C hQ dX0_soon_19 h H locs ls hR hS hl
  · have hn_ := hnc.at C
    rcases h with ⟨rfl, h⟩ | ⟨rfl, h⟩
    · exact z_catch C (pre := []) (en := ⟨0, 9, 12, 15⟩) (suf := [⟨0, 9, 15, 25⟩]) hT (fun z hz => by cases hz) (by decide) (by decide) (C.ts _ q693) (C.word q725 rfl) (fun q => z_hand C hQ (n := 1) (Or.inr ⟨3, dX0_soon_12, by decide, rfl⟩) dX0_soon_13 (by decide) dX0_soon_14 h q)
    · exact z_catch C (pre := [⟨0, 9, 12, 15⟩]) (en := ⟨0, 9, 15, 25⟩) (suf := []) hT (fun z hz => by rw [List.mem_singleton.mp hz]; exact Or.inr ⟨by decide, _, C.ts _ q693, hn_.2.2⟩) (by decide) (by decide) (C.ts _ q749) (C.word q763 rfl) (fun q => z_hand C hQ (n := 1) (Or.inr ⟨3, dX0_soon_15, by decide, rfl⟩) dX0_soon_16 (by decide) dX0_soon_17 h q)
abbrev wX0_many : List Cond := wsW_ yX0_many cX0_many 5 (some .int) [(0, 10, 13, 15), (0, 10, 17, 25)]
set_option maxHeartbeats 4000000 in
theorem mX0_many {X : zX} {d : Nat} {g : zG} {K : Option Value → zG → Prop} {KX : String → zG → Prop} (hok : zOk X) (hnc : zNx X) (a0 : Nat) (x1 : Int32) (x2 : Int32) (o : Nat) (hx : zIs g 1 a0) (h : zCal X d yX1_many wX1_many [.ref a0, .int x1, .int x2] g (fun r g1 => ∃ (v : Int32) (f : Nat → Int64), r = some (.int v) ∧ zGj g1 0 o = some (1, f) ∧ K (some (.int 0)) (zSj g1 0 o 1 (vp_updL f 0 v.toInt64))) (fun s g1 => (s = RJ12 ∧ K (some (.int 1)) g1) ∨ (s = RJ13 ∧ K (some (.int 2)) g1))) : zCal X (d + 1) yX0_many wX0_many [.ref a0, .int x1, .int x2, .ref o] g K KX := by
  refine z_enterH hok pn_X0 (Nat.le_of_ble_eq_true rfl) (fun E C hT hQ => ?_)
  have C : zC X (d + 1) E RX0 cX0_many 5 (some .int) "many" := C
  show GW X E 5 g 0 [(0, .ref a0), (1, .int x1), (2, .int x2), (3, .ref o)] []
  intro H locs ls hR hS hl
  refine lv_aload_n C.x C.b dX0_many_0 rfl (lv_at hl 3 rfl) ?_
  refine lv_iconst (v := 0) C.x C.b dX0_many_1 (by decide) ?_
  refine lv_aload_n C.x C.b dX0_many_2 rfl (lv_at hl 0 rfl) ?_
  refine lv_iload_n C.x C.b dX0_many_3 rfl (lv_at hl 1 rfl) ?_
  refine lv_iload_n C.x C.b dX0_many_4 rfl (lv_at hl 2 rfl) ?_
  refine z_callV C hR hS hl (n := 2) (C1 := RX1) (T := TX1) (N := 12) (ci := 1) (y := yX1_many) (bytes := cX1_many) (maxL := 3) (rt := (some .int)) (As := [.int x1, .int x2]) (rest := [.int 0, .ref o]) hx rfl (lw_V q1382 q1383 q1384 q73 q1385) hdV_X1_many (by decide) rfl rfl (Nat.le_of_ble_eq_true rfl) dX0_many_5 h (fun r g_1 hk_ => ?_) (fun s g1 h => ?_)
  · clear h; obtain ⟨v, f, rfl, q1, h⟩ := hk_
    show GW X E 5 g_1 8 [(0, .ref a0), (1, .int x1), (2, .int x2), (3, .ref o)] [.int v, .int 0, .ref o]
    intro H locs ls hR hS hl
    refine lv_i2l C.x C.b dX0_many_8 rfl ?_
    refine z_last C hR hS q1 z_in01 dX0_many_9 (fun H locs hR hS => ?_)
    refine lv_goto (tgt := 21) C.x C.b dX0_many_10 (by decide) ?_
    refine lv_iconst (v := 0) C.x C.b dX0_many_21 (by decide) ?_
    exact z_iretH C hQ dX0_many_22 h H locs ls hR hS hl
  · have hn_ := hnc.at C
    rcases h with ⟨rfl, h⟩ | ⟨rfl, h⟩
    · exact z_catch C (pre := []) (en := ⟨0, 10, 13, 15⟩) (suf := [⟨0, 10, 17, 25⟩]) hT (fun z hz => by cases hz) (by decide) (by decide) (C.ts _ q693) (C.word q725 rfl) (fun q => z_hand C hQ (n := 2) (Or.inl ⟨4, dX0_many_13, by decide, rfl⟩) dX0_many_15 (by decide) dX0_many_16 h q)
    · exact z_catch C (pre := [⟨0, 10, 13, 15⟩]) (en := ⟨0, 10, 17, 25⟩) (suf := []) hT (fun z hz => by rw [List.mem_singleton.mp hz]; exact Or.inr ⟨by decide, _, C.ts _ q693, hn_.2.2⟩) (by decide) (by decide) (C.ts _ q749) (C.word q763 rfl) (fun q => z_hand C hQ (n := 2) (Or.inl ⟨4, dX0_many_17, by decide, rfl⟩) dX0_many_19 (by decide) dX0_many_20 h q)
abbrev wX0_watch : List Cond := wsW_ yX0_watch cX0_watch 5 (some .int) [(0, 10, 13, 25)]
set_option maxHeartbeats 4000000 in
theorem mX0_watch {X : zX} {d : Nat} {g : zG} {K : Option Value → zG → Prop} {KX : String → zG → Prop} (hok : zOk X) (hnc : zNx X) (a0 : Nat) (x1 : Int32) (x2 : Int32) (o : Nat) (hx : zIs g 1 a0) (h : zCal X d yX1_watch wX1_watch [.ref a0, .int x1, .int x2] g (fun r g1 => ∃ (v : Int32) (f : Nat → Int64), r = some (.int v) ∧ zGj g1 0 o = some (1, f) ∧ K (some (.int 0)) (zSj g1 0 o 1 (vp_updL f 0 v.toInt64))) (fun s g1 => (s = RJ13 ∧ K (some (.int 1)) g1))) : zCal X (d + 1) yX0_watch wX0_watch [.ref a0, .int x1, .int x2, .ref o] g K KX := by
  refine z_enterH hok pn_X0 (Nat.le_of_ble_eq_true rfl) (fun E C hT hQ => ?_)
  have C : zC X (d + 1) E RX0 cX0_watch 5 (some .int) "watch" := C
  show GW X E 5 g 0 [(0, .ref a0), (1, .int x1), (2, .int x2), (3, .ref o)] []
  intro H locs ls hR hS hl
  refine lv_aload_n C.x C.b dX0_watch_0 rfl (lv_at hl 3 rfl) ?_
  refine lv_iconst (v := 0) C.x C.b dX0_watch_1 (by decide) ?_
  refine lv_aload_n C.x C.b dX0_watch_2 rfl (lv_at hl 0 rfl) ?_
  refine lv_iload_n C.x C.b dX0_watch_3 rfl (lv_at hl 1 rfl) ?_
  refine lv_iload_n C.x C.b dX0_watch_4 rfl (lv_at hl 2 rfl) ?_
  refine z_callV C hR hS hl (n := 2) (C1 := RX1) (T := TX1) (N := 12) (ci := 1) (y := yX1_watch) (bytes := cX1_watch) (maxL := 3) (rt := (some .int)) (As := [.int x1, .int x2]) (rest := [.int 0, .ref o]) hx rfl (lw_V q1391 q1392 q1393 q73 q1394) hdV_X1_watch (by decide) rfl rfl (Nat.le_of_ble_eq_true rfl) dX0_watch_5 h (fun r g_1 hk_ => ?_) (fun s g1 h => ?_)
  · clear h; obtain ⟨v, f, rfl, q1, h⟩ := hk_
    show GW X E 5 g_1 8 [(0, .ref a0), (1, .int x1), (2, .int x2), (3, .ref o)] [.int v, .int 0, .ref o]
    intro H locs ls hR hS hl
    refine lv_i2l C.x C.b dX0_watch_8 rfl ?_
    refine z_last C hR hS q1 z_in01 dX0_watch_9 (fun H locs hR hS => ?_)
    refine lv_goto (tgt := 17) C.x C.b dX0_watch_10 (by decide) ?_
    refine lv_iconst (v := 0) C.x C.b dX0_watch_17 (by decide) ?_
    exact z_iretH C hQ dX0_watch_18 h H locs ls hR hS hl
  · have hn_ := hnc.at C
    obtain ⟨rfl, h⟩ := h
    exact z_catch C (pre := []) (en := ⟨0, 10, 13, 25⟩) (suf := []) hT (fun z hz => by cases hz) (by decide) (by decide) (C.ts _ q749) (C.word q763 rfl) (fun q => z_hand C hQ (n := 2) (Or.inl ⟨4, dX0_watch_13, by decide, rfl⟩) dX0_watch_15 (by decide) dX0_watch_16 h q)
abbrev wX0_eventAt : List Cond := wsW_ yX0_eventAt cX0_eventAt 4 (some .int) [(0, 9, 12, 13)]
set_option maxHeartbeats 4000000 in
theorem mX0_eventAt {X : zX} {d : Nat} {g : zG} {K : Option Value → zG → Prop} {KX : String → zG → Prop} (hok : zOk X) (hnc : zNx X) (a0 : Nat) (x1 : Int32) (o : Nat) (hx : zIs g 1 a0) (h : zCal X d yX1_eventAt wX1_eventAt [.ref a0, .int x1] g (fun r g1 => ∃ (v : Int32) (f : Nat → Int64), r = some (.int v) ∧ zGj g1 0 o = some (1, f) ∧ K (some (.int 0)) (zSj g1 0 o 1 (vp_updL f 0 v.toInt64))) (fun s g1 => (s = RJ9 ∧ K (some (.int 1)) g1))) : zCal X (d + 1) yX0_eventAt wX0_eventAt [.ref a0, .int x1, .ref o] g K KX := by
  refine z_enterH hok pn_X0 (Nat.le_of_ble_eq_true rfl) (fun E C hT hQ => ?_)
  have C : zC X (d + 1) E RX0 cX0_eventAt 4 (some .int) "eventAt" := C
  show GW X E 4 g 0 [(0, .ref a0), (1, .int x1), (2, .ref o)] []
  intro H locs ls hR hS hl
  refine lv_aload_n C.x C.b dX0_eventAt_0 rfl (lv_at hl 2 rfl) ?_
  refine lv_iconst (v := 0) C.x C.b dX0_eventAt_1 (by decide) ?_
  refine lv_aload_n C.x C.b dX0_eventAt_2 rfl (lv_at hl 0 rfl) ?_
  refine lv_iload_n C.x C.b dX0_eventAt_3 rfl (lv_at hl 1 rfl) ?_
  refine z_callV C hR hS hl (n := 1) (C1 := RX1) (T := TX1) (N := 12) (ci := 1) (y := yX1_eventAt) (bytes := cX1_eventAt) (maxL := 2) (rt := (some .int)) (As := [.int x1]) (rest := [.int 0, .ref o]) hx rfl (lw_V q1467 q1468 q1469 q73 q1470) hdV_X1_eventAt (by decide) rfl rfl (Nat.le_of_ble_eq_true rfl) dX0_eventAt_4 h (fun r g_1 hk_ => ?_) (fun s g1 h => ?_)
  · clear h; obtain ⟨v, f, rfl, q1, h⟩ := hk_
    show GW X E 4 g_1 7 [(0, .ref a0), (1, .int x1), (2, .ref o)] [.int v, .int 0, .ref o]
    intro H locs ls hR hS hl
    refine lv_i2l C.x C.b dX0_eventAt_7 rfl ?_
    refine z_last C hR hS q1 z_in01 dX0_eventAt_8 (fun H locs hR hS => ?_)
    refine lv_goto (tgt := 15) C.x C.b dX0_eventAt_9 (by decide) ?_
    refine lv_iconst (v := 0) C.x C.b dX0_eventAt_15 (by decide) ?_
    exact z_iretH C hQ dX0_eventAt_16 h H locs ls hR hS hl
  · have hn_ := hnc.at C
    obtain ⟨rfl, h⟩ := h
    exact z_catch C (pre := []) (en := ⟨0, 9, 12, 13⟩) (suf := []) hT (fun z hz => by cases hz) (by decide) (by decide) (C.ts _ q616) (C.word q709 rfl) (fun q => z_hand C hQ (n := 1) (Or.inr ⟨3, dX0_eventAt_12, by decide, rfl⟩) dX0_eventAt_13 (by decide) dX0_eventAt_14 h q)
abbrev wX0_timeOf : List Cond := wsW_ yX0_timeOf cX0_timeOf 4 (some .int) [(0, 9, 12, 13)]
set_option maxHeartbeats 4000000 in
theorem mX0_timeOf {X : zX} {d : Nat} {g : zG} {K : Option Value → zG → Prop} {KX : String → zG → Prop} (hok : zOk X) (hnc : zNx X) (a0 : Nat) (x1 : Int32) (o : Nat) (hx : zIs g 1 a0) (h : zCal X d yX1_timeOf wX1_timeOf [.ref a0, .int x1] g (fun r g1 => ∃ (v : Int32) (f : Nat → Int64), r = some (.int v) ∧ zGj g1 0 o = some (1, f) ∧ K (some (.int 0)) (zSj g1 0 o 1 (vp_updL f 0 v.toInt64))) (fun s g1 => (s = RJ9 ∧ K (some (.int 1)) g1))) : zCal X (d + 1) yX0_timeOf wX0_timeOf [.ref a0, .int x1, .ref o] g K KX := by
  refine z_enterH hok pn_X0 (Nat.le_of_ble_eq_true rfl) (fun E C hT hQ => ?_)
  have C : zC X (d + 1) E RX0 cX0_timeOf 4 (some .int) "timeOf" := C
  show GW X E 4 g 0 [(0, .ref a0), (1, .int x1), (2, .ref o)] []
  intro H locs ls hR hS hl
  refine lv_aload_n C.x C.b dX0_timeOf_0 rfl (lv_at hl 2 rfl) ?_
  refine lv_iconst (v := 0) C.x C.b dX0_timeOf_1 (by decide) ?_
  refine lv_aload_n C.x C.b dX0_timeOf_2 rfl (lv_at hl 0 rfl) ?_
  refine lv_iload_n C.x C.b dX0_timeOf_3 rfl (lv_at hl 1 rfl) ?_
  refine z_callV C hR hS hl (n := 1) (C1 := RX1) (T := TX1) (N := 12) (ci := 1) (y := yX1_timeOf) (bytes := cX1_timeOf) (maxL := 2) (rt := (some .int)) (As := [.int x1]) (rest := [.int 0, .ref o]) hx rfl (lw_V q1474 q1475 q1476 q73 q1477) hdV_X1_timeOf (by decide) rfl rfl (Nat.le_of_ble_eq_true rfl) dX0_timeOf_4 h (fun r g_1 hk_ => ?_) (fun s g1 h => ?_)
  · clear h; obtain ⟨v, f, rfl, q1, h⟩ := hk_
    show GW X E 4 g_1 7 [(0, .ref a0), (1, .int x1), (2, .ref o)] [.int v, .int 0, .ref o]
    intro H locs ls hR hS hl
    refine lv_i2l C.x C.b dX0_timeOf_7 rfl ?_
    refine z_last C hR hS q1 z_in01 dX0_timeOf_8 (fun H locs hR hS => ?_)
    refine lv_goto (tgt := 15) C.x C.b dX0_timeOf_9 (by decide) ?_
    refine lv_iconst (v := 0) C.x C.b dX0_timeOf_15 (by decide) ?_
    exact z_iretH C hQ dX0_timeOf_16 h H locs ls hR hS hl
  · have hn_ := hnc.at C
    obtain ⟨rfl, h⟩ := h
    exact z_catch C (pre := []) (en := ⟨0, 9, 12, 13⟩) (suf := []) hT (fun z hz => by cases hz) (by decide) (by decide) (C.ts _ q616) (C.word q709 rfl) (fun q => z_hand C hQ (n := 1) (Or.inr ⟨3, dX0_timeOf_12, by decide, rfl⟩) dX0_timeOf_13 (by decide) dX0_timeOf_14 h q)
abbrev wX0_isLate : List Cond := wsW_ yX0_isLate cX0_isLate 4 (some .int) [(0, 16, 19, 13)]
set_option maxHeartbeats 4000000 in
theorem mX0_isLate {X : zX} {d : Nat} {g : zG} {K : Option Value → zG → Prop} {KX : String → zG → Prop} (hok : zOk X) (hnc : zNx X) (a0 : Nat) (x1 : Int32) (o : Nat) (hx : zIs g 1 a0) (h : zCal X d yX1_isLate wX1_isLate [.ref a0, .int x1] g (fun r g1 => ∃ (v : Int32) (f : Nat → Int64), r = some (.int v) ∧ zbo v ∧ zGj g1 0 o = some (1, f) ∧ K (some (.int 0)) (zSj g1 0 o 1 (vp_updL f 0 v.toInt64))) (fun s g1 => (s = RJ9 ∧ K (some (.int 1)) g1))) : zCal X (d + 1) yX0_isLate wX0_isLate [.ref a0, .int x1, .ref o] g K KX := by
  refine z_enterH hok pn_X0 (Nat.le_of_ble_eq_true rfl) (fun E C hT hQ => ?_)
  have C : zC X (d + 1) E RX0 cX0_isLate 4 (some .int) "isLate" := C
  show GW X E 4 g 0 [(0, .ref a0), (1, .int x1), (2, .ref o)] []
  intro H locs ls hR hS hl
  refine lv_aload_n C.x C.b dX0_isLate_0 rfl (lv_at hl 2 rfl) ?_
  refine lv_iconst (v := 0) C.x C.b dX0_isLate_1 (by decide) ?_
  refine lv_aload_n C.x C.b dX0_isLate_2 rfl (lv_at hl 0 rfl) ?_
  refine lv_iload_n C.x C.b dX0_isLate_3 rfl (lv_at hl 1 rfl) ?_
  refine z_callV C hR hS hl (n := 1) (C1 := RX1) (T := TX1) (N := 12) (ci := 1) (y := yX1_isLate) (bytes := cX1_isLate) (maxL := 2) (rt := (some .boolean)) (As := [.int x1]) (rest := [.int 0, .ref o]) hx rfl (lw_V q1485 q1486 q1487 q73 q1488) hdV_X1_isLate (by decide) rfl rfl (Nat.le_of_ble_eq_true rfl) dX0_isLate_4 h (fun r g_1 hk_ => ?_) (fun s g1 h => ?_)
  · clear h; obtain ⟨v, f, rfl, zb_, q1, h⟩ := hk_
    show GW X E 4 g_1 7 [(0, .ref a0), (1, .int x1), (2, .ref o)] [.int v, .int 0, .ref o]
    intro H locs ls hR hS hl
    refine lv_if_eq (tgt := 14) C.x C.b dX0_isLate_7 (by decide) (fun c => ?_) (fun c => ?_)
    · subst c
      refine lv_lconst (v := 0) C.x C.b dX0_isLate_14 (by decide) ?_
      refine z_last C hR hS q1 z_in01 dX0_isLate_15 (fun H locs hR hS => ?_)
      refine lv_goto (tgt := 22) C.x C.b dX0_isLate_16 (by decide) ?_
      refine lv_iconst (v := 0) C.x C.b dX0_isLate_22 (by decide) ?_
      exact z_iretH C hQ dX0_isLate_23 h H locs ls hR hS hl
    · obtain rfl : v = 1 := zb_.resolve_left c
      refine lv_lconst (v := 1) C.x C.b dX0_isLate_10 (by decide) ?_
      refine lv_goto (tgt := 15) C.x C.b dX0_isLate_11 (by decide) ?_
      refine z_last C hR hS q1 z_in01 dX0_isLate_15 (fun H locs hR hS => ?_)
      refine lv_goto (tgt := 22) C.x C.b dX0_isLate_16 (by decide) ?_
      refine lv_iconst (v := 0) C.x C.b dX0_isLate_22 (by decide) ?_
      exact z_iretH C hQ dX0_isLate_23 h H locs ls hR hS hl
  · have hn_ := hnc.at C
    obtain ⟨rfl, h⟩ := h
    exact z_catch C (pre := []) (en := ⟨0, 16, 19, 13⟩) (suf := []) hT (fun z hz => by cases hz) (by decide) (by decide) (C.ts _ q616) (C.word q709 rfl) (fun q => z_hand C hQ (n := 1) (Or.inr ⟨3, dX0_isLate_19, by decide, rfl⟩) dX0_isLate_20 (by decide) dX0_isLate_21 h q)
abbrev wX0_count : List Cond := wsW_ yX0_count cX0_count 6 (some .int) [(0, 12, 15, 15)]
set_option maxHeartbeats 4000000 in
theorem mX0_count {X : zX} {d : Nat} {g : zG} {K : Option Value → zG → Prop} {KX : String → zG → Prop} (hok : zOk X) (hnc : zNx X) (a0 : Nat) (x1 : Int32) (x2 : Int32) (x3 : Int32) (o : Nat) (hx : zIs g 1 a0) (h : zCal X d yX1_count wX1_count [.ref a0, .int x1, .int x2, .int x3] g (fun r g1 => ∃ (v : Int32) (f : Nat → Int64), r = some (.int v) ∧ zGj g1 0 o = some (1, f) ∧ K (some (.int 0)) (zSj g1 0 o 1 (vp_updL f 0 v.toInt64))) (fun s g1 => (s = RJ12 ∧ K (some (.int 1)) g1))) : zCal X (d + 1) yX0_count wX0_count [.ref a0, .int x1, .int x2, .int x3, .ref o] g K KX := by
  refine z_enterH hok pn_X0 (Nat.le_of_ble_eq_true rfl) (fun E C hT hQ => ?_)
  have C : zC X (d + 1) E RX0 cX0_count 6 (some .int) "count" := C
  show GW X E 6 g 0 [(0, .ref a0), (1, .int x1), (2, .int x2), (3, .int x3), (4, .ref o)] []
  intro H locs ls hR hS hl
  refine lv_aload C.x C.b dX0_count_0 (lv_at hl 4 rfl) ?_
  refine lv_iconst (v := 0) C.x C.b dX0_count_2 (by decide) ?_
  refine lv_aload_n C.x C.b dX0_count_3 rfl (lv_at hl 0 rfl) ?_
  refine lv_iload_n C.x C.b dX0_count_4 rfl (lv_at hl 1 rfl) ?_
  refine lv_iload_n C.x C.b dX0_count_5 rfl (lv_at hl 2 rfl) ?_
  refine lv_iload_n C.x C.b dX0_count_6 rfl (lv_at hl 3 rfl) ?_
  refine z_callV C hR hS hl (n := 3) (C1 := RX1) (T := TX1) (N := 12) (ci := 1) (y := yX1_count) (bytes := cX1_count) (maxL := 5) (rt := (some .int)) (As := [.int x1, .int x2, .int x3]) (rest := [.int 0, .ref o]) hx rfl (lw_V q1492 q1493 q1494 q73 q1495) hdV_X1_count (by decide) rfl rfl (Nat.le_of_ble_eq_true rfl) dX0_count_7 h (fun r g_1 hk_ => ?_) (fun s g1 h => ?_)
  · clear h; obtain ⟨v, f, rfl, q1, h⟩ := hk_
    show GW X E 6 g_1 10 [(0, .ref a0), (1, .int x1), (2, .int x2), (3, .int x3), (4, .ref o)] [.int v, .int 0, .ref o]
    intro H locs ls hR hS hl
    refine lv_i2l C.x C.b dX0_count_10 rfl ?_
    refine z_last C hR hS q1 z_in01 dX0_count_11 (fun H locs hR hS => ?_)
    refine lv_goto (tgt := 19) C.x C.b dX0_count_12 (by decide) ?_
    refine lv_iconst (v := 0) C.x C.b dX0_count_19 (by decide) ?_
    exact z_iretH C hQ dX0_count_20 h H locs ls hR hS hl
  · have hn_ := hnc.at C
    obtain ⟨rfl, h⟩ := h
    exact z_catch C (pre := []) (en := ⟨0, 12, 15, 15⟩) (suf := []) hT (fun z hz => by cases hz) (by decide) (by decide) (C.ts _ q693) (C.word q725 rfl) (fun q => z_hand C hQ (n := 2) (Or.inl ⟨5, dX0_count_15, by decide, rfl⟩) dX0_count_17 (by decide) dX0_count_18 h q)
abbrev wX0_greatest : List Cond := wsW_ yX0_greatest cX0_greatest 6 (some .int) [(0, 12, 15, 15)]
set_option maxHeartbeats 4000000 in
theorem mX0_greatest {X : zX} {d : Nat} {g : zG} {K : Option Value → zG → Prop} {KX : String → zG → Prop} (hok : zOk X) (hnc : zNx X) (a0 : Nat) (x1 : Int32) (x2 : Int32) (x3 : Int32) (o : Nat) (hx : zIs g 1 a0) (h : zCal X d yX1_greatest wX1_greatest [.ref a0, .int x1, .int x2, .int x3] g (fun r g1 => ∃ (v : Int32) (f : Nat → Int64), r = some (.int v) ∧ zGj g1 0 o = some (1, f) ∧ K (some (.int 0)) (zSj g1 0 o 1 (vp_updL f 0 v.toInt64))) (fun s g1 => (s = RJ12 ∧ K (some (.int 1)) g1))) : zCal X (d + 1) yX0_greatest wX0_greatest [.ref a0, .int x1, .int x2, .int x3, .ref o] g K KX := by
  refine z_enterH hok pn_X0 (Nat.le_of_ble_eq_true rfl) (fun E C hT hQ => ?_)
  have C : zC X (d + 1) E RX0 cX0_greatest 6 (some .int) "greatest" := C
  show GW X E 6 g 0 [(0, .ref a0), (1, .int x1), (2, .int x2), (3, .int x3), (4, .ref o)] []
  intro H locs ls hR hS hl
  refine lv_aload C.x C.b dX0_greatest_0 (lv_at hl 4 rfl) ?_
  refine lv_iconst (v := 0) C.x C.b dX0_greatest_2 (by decide) ?_
  refine lv_aload_n C.x C.b dX0_greatest_3 rfl (lv_at hl 0 rfl) ?_
  refine lv_iload_n C.x C.b dX0_greatest_4 rfl (lv_at hl 1 rfl) ?_
  refine lv_iload_n C.x C.b dX0_greatest_5 rfl (lv_at hl 2 rfl) ?_
  refine lv_iload_n C.x C.b dX0_greatest_6 rfl (lv_at hl 3 rfl) ?_
  refine z_callV C hR hS hl (n := 3) (C1 := RX1) (T := TX1) (N := 12) (ci := 1) (y := yX1_greatest) (bytes := cX1_greatest) (maxL := 5) (rt := (some .int)) (As := [.int x1, .int x2, .int x3]) (rest := [.int 0, .ref o]) hx rfl (lw_V q1504 q1505 q1506 q73 q1507) hdV_X1_greatest (by decide) rfl rfl (Nat.le_of_ble_eq_true rfl) dX0_greatest_7 h (fun r g_1 hk_ => ?_) (fun s g1 h => ?_)
  · clear h; obtain ⟨v, f, rfl, q1, h⟩ := hk_
    show GW X E 6 g_1 10 [(0, .ref a0), (1, .int x1), (2, .int x2), (3, .int x3), (4, .ref o)] [.int v, .int 0, .ref o]
    intro H locs ls hR hS hl
    refine lv_i2l C.x C.b dX0_greatest_10 rfl ?_
    refine z_last C hR hS q1 z_in01 dX0_greatest_11 (fun H locs hR hS => ?_)
    refine lv_goto (tgt := 19) C.x C.b dX0_greatest_12 (by decide) ?_
    refine lv_iconst (v := 0) C.x C.b dX0_greatest_19 (by decide) ?_
    exact z_iretH C hQ dX0_greatest_20 h H locs ls hR hS hl
  · have hn_ := hnc.at C
    obtain ⟨rfl, h⟩ := h
    exact z_catch C (pre := []) (en := ⟨0, 12, 15, 15⟩) (suf := []) hT (fun z hz => by cases hz) (by decide) (by decide) (C.ts _ q693) (C.word q725 rfl) (fun q => z_hand C hQ (n := 2) (Or.inl ⟨5, dX0_greatest_15, by decide, rfl⟩) dX0_greatest_17 (by decide) dX0_greatest_18 h q)
abbrev wX0_greatestByAll : List Cond := wsW_ yX0_greatestByAll cX0_greatestByAll 6 (some .int) [(0, 12, 15, 15)]
set_option maxHeartbeats 4000000 in
theorem mX0_greatestByAll {X : zX} {d : Nat} {g : zG} {K : Option Value → zG → Prop} {KX : String → zG → Prop} (hok : zOk X) (hnc : zNx X) (a0 : Nat) (x1 : Int32) (x2 : Int32) (x3 : Int32) (o : Nat) (hx : zIs g 1 a0) (h : zCal X d yX1_greatestByAll wX1_greatestByAll [.ref a0, .int x1, .int x2, .int x3] g (fun r g1 => ∃ (v : Int32) (f : Nat → Int64), r = some (.int v) ∧ zGj g1 0 o = some (1, f) ∧ K (some (.int 0)) (zSj g1 0 o 1 (vp_updL f 0 v.toInt64))) (fun s g1 => (s = RJ12 ∧ K (some (.int 1)) g1))) : zCal X (d + 1) yX0_greatestByAll wX0_greatestByAll [.ref a0, .int x1, .int x2, .int x3, .ref o] g K KX := by
  refine z_enterH hok pn_X0 (Nat.le_of_ble_eq_true rfl) (fun E C hT hQ => ?_)
  have C : zC X (d + 1) E RX0 cX0_greatestByAll 6 (some .int) "greatestByAll" := C
  show GW X E 6 g 0 [(0, .ref a0), (1, .int x1), (2, .int x2), (3, .int x3), (4, .ref o)] []
  intro H locs ls hR hS hl
  refine lv_aload C.x C.b dX0_greatestByAll_0 (lv_at hl 4 rfl) ?_
  refine lv_iconst (v := 0) C.x C.b dX0_greatestByAll_2 (by decide) ?_
  refine lv_aload_n C.x C.b dX0_greatestByAll_3 rfl (lv_at hl 0 rfl) ?_
  refine lv_iload_n C.x C.b dX0_greatestByAll_4 rfl (lv_at hl 1 rfl) ?_
  refine lv_iload_n C.x C.b dX0_greatestByAll_5 rfl (lv_at hl 2 rfl) ?_
  refine lv_iload_n C.x C.b dX0_greatestByAll_6 rfl (lv_at hl 3 rfl) ?_
  refine z_callV C hR hS hl (n := 3) (C1 := RX1) (T := TX1) (N := 12) (ci := 1) (y := yX1_greatestByAll) (bytes := cX1_greatestByAll) (maxL := 7) (rt := (some .int)) (As := [.int x1, .int x2, .int x3]) (rest := [.int 0, .ref o]) hx rfl (lw_V q1511 q1512 q1513 q73 q1514) hdV_X1_greatestByAll (by decide) rfl rfl (Nat.le_of_ble_eq_true rfl) dX0_greatestByAll_7 h (fun r g_1 hk_ => ?_) (fun s g1 h => ?_)
  · clear h; obtain ⟨v, f, rfl, q1, h⟩ := hk_
    show GW X E 6 g_1 10 [(0, .ref a0), (1, .int x1), (2, .int x2), (3, .int x3), (4, .ref o)] [.int v, .int 0, .ref o]
    intro H locs ls hR hS hl
    refine lv_i2l C.x C.b dX0_greatestByAll_10 rfl ?_
    refine z_last C hR hS q1 z_in01 dX0_greatestByAll_11 (fun H locs hR hS => ?_)
    refine lv_goto (tgt := 19) C.x C.b dX0_greatestByAll_12 (by decide) ?_
    refine lv_iconst (v := 0) C.x C.b dX0_greatestByAll_19 (by decide) ?_
    exact z_iretH C hQ dX0_greatestByAll_20 h H locs ls hR hS hl
  · have hn_ := hnc.at C
    obtain ⟨rfl, h⟩ := h
    exact z_catch C (pre := []) (en := ⟨0, 12, 15, 15⟩) (suf := []) hT (fun z hz => by cases hz) (by decide) (by decide) (C.ts _ q693) (C.word q725 rfl) (fun q => z_hand C hQ (n := 2) (Or.inl ⟨5, dX0_greatestByAll_15, by decide, rfl⟩) dX0_greatestByAll_17 (by decide) dX0_greatestByAll_18 h q)
abbrev wX0_answer : List Cond := wsW_ yX0_answer cX0_answer 5 (some .int) [(0, 10, 13, 13)]
set_option maxHeartbeats 4000000 in
theorem mX0_answer {X : zX} {d : Nat} {g : zG} {K : Option Value → zG → Prop} {KX : String → zG → Prop} (hok : zOk X) (hnc : zNx X) (a0 : Nat) (x1 : Int32) (x2 : Int32) (o : Nat) (hx : zIs g 1 a0) (h : zCal X d yX1_answer wX1_answer [.ref a0, .int x1, .int x2] g (fun r g1 => ∃ (v : Int32) (f : Nat → Int64), r = some (.int v) ∧ zGj g1 0 o = some (1, f) ∧ K (some (.int 0)) (zSj g1 0 o 1 (vp_updL f 0 v.toInt64))) (fun s g1 => (s = RJ9 ∧ K (some (.int 1)) g1))) : zCal X (d + 1) yX0_answer wX0_answer [.ref a0, .int x1, .int x2, .ref o] g K KX := by
  refine z_enterH hok pn_X0 (Nat.le_of_ble_eq_true rfl) (fun E C hT hQ => ?_)
  have C : zC X (d + 1) E RX0 cX0_answer 5 (some .int) "answer" := C
  show GW X E 5 g 0 [(0, .ref a0), (1, .int x1), (2, .int x2), (3, .ref o)] []
  intro H locs ls hR hS hl
  refine lv_aload_n C.x C.b dX0_answer_0 rfl (lv_at hl 3 rfl) ?_
  refine lv_iconst (v := 0) C.x C.b dX0_answer_1 (by decide) ?_
  refine lv_aload_n C.x C.b dX0_answer_2 rfl (lv_at hl 0 rfl) ?_
  refine lv_iload_n C.x C.b dX0_answer_3 rfl (lv_at hl 1 rfl) ?_
  refine lv_iload_n C.x C.b dX0_answer_4 rfl (lv_at hl 2 rfl) ?_
  refine z_callV C hR hS hl (n := 2) (C1 := RX1) (T := TX1) (N := 12) (ci := 1) (y := yX1_answer) (bytes := cX1_answer) (maxL := 4) (rt := (some .int)) (As := [.int x1, .int x2]) (rest := [.int 0, .ref o]) hx rfl (lw_V q1518 q1519 q1520 q73 q1521) hdV_X1_answer (by decide) rfl rfl (Nat.le_of_ble_eq_true rfl) dX0_answer_5 h (fun r g_1 hk_ => ?_) (fun s g1 h => ?_)
  · clear h; obtain ⟨v, f, rfl, q1, h⟩ := hk_
    show GW X E 5 g_1 8 [(0, .ref a0), (1, .int x1), (2, .int x2), (3, .ref o)] [.int v, .int 0, .ref o]
    intro H locs ls hR hS hl
    refine lv_i2l C.x C.b dX0_answer_8 rfl ?_
    refine z_last C hR hS q1 z_in01 dX0_answer_9 (fun H locs hR hS => ?_)
    refine lv_goto (tgt := 17) C.x C.b dX0_answer_10 (by decide) ?_
    refine lv_iconst (v := 0) C.x C.b dX0_answer_17 (by decide) ?_
    exact z_iretH C hQ dX0_answer_18 h H locs ls hR hS hl
  · have hn_ := hnc.at C
    obtain ⟨rfl, h⟩ := h
    exact z_catch C (pre := []) (en := ⟨0, 10, 13, 13⟩) (suf := []) hT (fun z hz => by cases hz) (by decide) (by decide) (C.ts _ q616) (C.word q709 rfl) (fun q => z_hand C hQ (n := 2) (Or.inl ⟨4, dX0_answer_13, by decide, rfl⟩) dX0_answer_15 (by decide) dX0_answer_16 h q)
abbrev wX0_answerAnew : List Cond := wsW_ yX0_answerAnew cX0_answerAnew 5 (some .int) [(0, 10, 13, 13)]
set_option maxHeartbeats 4000000 in
theorem mX0_answerAnew {X : zX} {d : Nat} {g : zG} {K : Option Value → zG → Prop} {KX : String → zG → Prop} (hok : zOk X) (hnc : zNx X) (a0 : Nat) (x1 : Int32) (x2 : Int32) (o : Nat) (hx : zIs g 1 a0) (h : zCal X d yX1_answerAnew wX1_answerAnew [.ref a0, .int x1, .int x2] g (fun r g1 => ∃ (v : Int32) (f : Nat → Int64), r = some (.int v) ∧ zGj g1 0 o = some (1, f) ∧ K (some (.int 0)) (zSj g1 0 o 1 (vp_updL f 0 v.toInt64))) (fun s g1 => (s = RJ9 ∧ K (some (.int 1)) g1))) : zCal X (d + 1) yX0_answerAnew wX0_answerAnew [.ref a0, .int x1, .int x2, .ref o] g K KX := by
  refine z_enterH hok pn_X0 (Nat.le_of_ble_eq_true rfl) (fun E C hT hQ => ?_)
  have C : zC X (d + 1) E RX0 cX0_answerAnew 5 (some .int) "answerAnew" := C
  show GW X E 5 g 0 [(0, .ref a0), (1, .int x1), (2, .int x2), (3, .ref o)] []
  intro H locs ls hR hS hl
  refine lv_aload_n C.x C.b dX0_answerAnew_0 rfl (lv_at hl 3 rfl) ?_
  refine lv_iconst (v := 0) C.x C.b dX0_answerAnew_1 (by decide) ?_
  refine lv_aload_n C.x C.b dX0_answerAnew_2 rfl (lv_at hl 0 rfl) ?_
  refine lv_iload_n C.x C.b dX0_answerAnew_3 rfl (lv_at hl 1 rfl) ?_
  refine lv_iload_n C.x C.b dX0_answerAnew_4 rfl (lv_at hl 2 rfl) ?_
  refine z_callV C hR hS hl (n := 2) (C1 := RX1) (T := TX1) (N := 12) (ci := 1) (y := yX1_answerAnew) (bytes := cX1_answerAnew) (maxL := 4) (rt := (some .int)) (As := [.int x1, .int x2]) (rest := [.int 0, .ref o]) hx rfl (lw_V q1529 q1530 q1531 q73 q1532) hdV_X1_answerAnew (by decide) rfl rfl (Nat.le_of_ble_eq_true rfl) dX0_answerAnew_5 h (fun r g_1 hk_ => ?_) (fun s g1 h => ?_)
  · clear h; obtain ⟨v, f, rfl, q1, h⟩ := hk_
    show GW X E 5 g_1 8 [(0, .ref a0), (1, .int x1), (2, .int x2), (3, .ref o)] [.int v, .int 0, .ref o]
    intro H locs ls hR hS hl
    refine lv_i2l C.x C.b dX0_answerAnew_8 rfl ?_
    refine z_last C hR hS q1 z_in01 dX0_answerAnew_9 (fun H locs hR hS => ?_)
    refine lv_goto (tgt := 17) C.x C.b dX0_answerAnew_10 (by decide) ?_
    refine lv_iconst (v := 0) C.x C.b dX0_answerAnew_17 (by decide) ?_
    exact z_iretH C hQ dX0_answerAnew_18 h H locs ls hR hS hl
  · have hn_ := hnc.at C
    obtain ⟨rfl, h⟩ := h
    exact z_catch C (pre := []) (en := ⟨0, 10, 13, 13⟩) (suf := []) hT (fun z hz => by cases hz) (by decide) (by decide) (C.ts _ q616) (C.word q709 rfl) (fun q => z_hand C hQ (n := 2) (Or.inl ⟨4, dX0_answerAnew_13, by decide, rfl⟩) dX0_answerAnew_15 (by decide) dX0_answerAnew_16 h q)
abbrev wX0_knownSince : List Cond := wsW_ yX0_knownSince cX0_knownSince 5 (some .int) [(0, 10, 13, 13)]
set_option maxHeartbeats 4000000 in
theorem mX0_knownSince {X : zX} {d : Nat} {g : zG} {K : Option Value → zG → Prop} {KX : String → zG → Prop} (hok : zOk X) (hnc : zNx X) (a0 : Nat) (x1 : Int32) (x2 : Int32) (o : Nat) (hx : zIs g 1 a0) (h : zCal X d yX1_knownSince wX1_knownSince [.ref a0, .int x1, .int x2] g (fun r g1 => ∃ (v : Int32) (f : Nat → Int64), r = some (.int v) ∧ zGj g1 0 o = some (1, f) ∧ K (some (.int 0)) (zSj g1 0 o 1 (vp_updL f 0 v.toInt64))) (fun s g1 => (s = RJ9 ∧ K (some (.int 1)) g1))) : zCal X (d + 1) yX0_knownSince wX0_knownSince [.ref a0, .int x1, .int x2, .ref o] g K KX := by
  refine z_enterH hok pn_X0 (Nat.le_of_ble_eq_true rfl) (fun E C hT hQ => ?_)
  have C : zC X (d + 1) E RX0 cX0_knownSince 5 (some .int) "knownSince" := C
  show GW X E 5 g 0 [(0, .ref a0), (1, .int x1), (2, .int x2), (3, .ref o)] []
  intro H locs ls hR hS hl
  refine lv_aload_n C.x C.b dX0_knownSince_0 rfl (lv_at hl 3 rfl) ?_
  refine lv_iconst (v := 0) C.x C.b dX0_knownSince_1 (by decide) ?_
  refine lv_aload_n C.x C.b dX0_knownSince_2 rfl (lv_at hl 0 rfl) ?_
  refine lv_iload_n C.x C.b dX0_knownSince_3 rfl (lv_at hl 1 rfl) ?_
  refine lv_iload_n C.x C.b dX0_knownSince_4 rfl (lv_at hl 2 rfl) ?_
  refine z_callV C hR hS hl (n := 2) (C1 := RX1) (T := TX1) (N := 12) (ci := 1) (y := yX1_knownSince) (bytes := cX1_knownSince) (maxL := 4) (rt := (some .int)) (As := [.int x1, .int x2]) (rest := [.int 0, .ref o]) hx rfl (lw_V q1537 q1538 q1539 q73 q1540) hdV_X1_knownSince (by decide) rfl rfl (Nat.le_of_ble_eq_true rfl) dX0_knownSince_5 h (fun r g_1 hk_ => ?_) (fun s g1 h => ?_)
  · clear h; obtain ⟨v, f, rfl, q1, h⟩ := hk_
    show GW X E 5 g_1 8 [(0, .ref a0), (1, .int x1), (2, .int x2), (3, .ref o)] [.int v, .int 0, .ref o]
    intro H locs ls hR hS hl
    refine lv_i2l C.x C.b dX0_knownSince_8 rfl ?_
    refine z_last C hR hS q1 z_in01 dX0_knownSince_9 (fun H locs hR hS => ?_)
    refine lv_goto (tgt := 17) C.x C.b dX0_knownSince_10 (by decide) ?_
    refine lv_iconst (v := 0) C.x C.b dX0_knownSince_17 (by decide) ?_
    exact z_iretH C hQ dX0_knownSince_18 h H locs ls hR hS hl
  · have hn_ := hnc.at C
    obtain ⟨rfl, h⟩ := h
    exact z_catch C (pre := []) (en := ⟨0, 10, 13, 13⟩) (suf := []) hT (fun z hz => by cases hz) (by decide) (by decide) (C.ts _ q616) (C.word q709 rfl) (fun q => z_hand C hQ (n := 2) (Or.inl ⟨4, dX0_knownSince_13, by decide, rfl⟩) dX0_knownSince_15 (by decide) dX0_knownSince_16 h q)
abbrev wX0_answers : List Cond := wsW_ yX0_answers cX0_answers 5 (some .int) [(0, 10, 13, 13), (0, 10, 17, 15)]
set_option maxHeartbeats 4000000 in
theorem mX0_answers {X : zX} {d : Nat} {g : zG} {K : Option Value → zG → Prop} {KX : String → zG → Prop} (hok : zOk X) (hnc : zNx X) (a0 : Nat) (x1 : Int32) (x2 : Int32) (o : Nat) (hx : zIs g 1 a0) (h : zCal X d yX1_answers wX1_answers [.ref a0, .int x1, .int x2] g (fun r g1 => ∃ (v : Int32) (f : Nat → Int64), r = some (.int v) ∧ zGj g1 0 o = some (1, f) ∧ K (some (.int 0)) (zSj g1 0 o 1 (vp_updL f 0 v.toInt64))) (fun s g1 => (s = RJ9 ∧ K (some (.int 1)) g1) ∨ (s = RJ12 ∧ K (some (.int 2)) g1))) : zCal X (d + 1) yX0_answers wX0_answers [.ref a0, .int x1, .int x2, .ref o] g K KX := by
  refine z_enterH hok pn_X0 (Nat.le_of_ble_eq_true rfl) (fun E C hT hQ => ?_)
  have C : zC X (d + 1) E RX0 cX0_answers 5 (some .int) "answers" := C
  show GW X E 5 g 0 [(0, .ref a0), (1, .int x1), (2, .int x2), (3, .ref o)] []
  intro H locs ls hR hS hl
  refine lv_aload_n C.x C.b dX0_answers_0 rfl (lv_at hl 3 rfl) ?_
  refine lv_iconst (v := 0) C.x C.b dX0_answers_1 (by decide) ?_
  refine lv_aload_n C.x C.b dX0_answers_2 rfl (lv_at hl 0 rfl) ?_
  refine lv_iload_n C.x C.b dX0_answers_3 rfl (lv_at hl 1 rfl) ?_
  refine lv_iload_n C.x C.b dX0_answers_4 rfl (lv_at hl 2 rfl) ?_
  refine z_callV C hR hS hl (n := 2) (C1 := RX1) (T := TX1) (N := 12) (ci := 1) (y := yX1_answers) (bytes := cX1_answers) (maxL := 7) (rt := (some .int)) (As := [.int x1, .int x2]) (rest := [.int 0, .ref o]) hx rfl (lw_V q1544 q1545 q1546 q73 q1547) hdV_X1_answers (by decide) rfl rfl (Nat.le_of_ble_eq_true rfl) dX0_answers_5 h (fun r g_1 hk_ => ?_) (fun s g1 h => ?_)
  · clear h; obtain ⟨v, f, rfl, q1, h⟩ := hk_
    show GW X E 5 g_1 8 [(0, .ref a0), (1, .int x1), (2, .int x2), (3, .ref o)] [.int v, .int 0, .ref o]
    intro H locs ls hR hS hl
    refine lv_i2l C.x C.b dX0_answers_8 rfl ?_
    refine z_last C hR hS q1 z_in01 dX0_answers_9 (fun H locs hR hS => ?_)
    refine lv_goto (tgt := 21) C.x C.b dX0_answers_10 (by decide) ?_
    refine lv_iconst (v := 0) C.x C.b dX0_answers_21 (by decide) ?_
    exact z_iretH C hQ dX0_answers_22 h H locs ls hR hS hl
  · have hn_ := hnc.at C
    rcases h with ⟨rfl, h⟩ | ⟨rfl, h⟩
    · exact z_catch C (pre := []) (en := ⟨0, 10, 13, 13⟩) (suf := [⟨0, 10, 17, 15⟩]) hT (fun z hz => by cases hz) (by decide) (by decide) (C.ts _ q616) (C.word q709 rfl) (fun q => z_hand C hQ (n := 2) (Or.inl ⟨4, dX0_answers_13, by decide, rfl⟩) dX0_answers_15 (by decide) dX0_answers_16 h q)
    · exact z_catch C (pre := [⟨0, 10, 13, 13⟩]) (en := ⟨0, 10, 17, 15⟩) (suf := []) hT (fun z hz => by rw [List.mem_singleton.mp hz]; exact Or.inr ⟨by decide, _, C.ts _ q616, hn_.1⟩) (by decide) (by decide) (C.ts _ q693) (C.word q725 rfl) (fun q => z_hand C hQ (n := 2) (Or.inl ⟨4, dX0_answers_17, by decide, rfl⟩) dX0_answers_19 (by decide) dX0_answers_20 h q)
abbrev wX0_takenBack : List Cond := wsW_ yX0_takenBack cX0_takenBack 4 (some .int) [(0, 9, 12, 13)]
set_option maxHeartbeats 4000000 in
theorem mX0_takenBack {X : zX} {d : Nat} {g : zG} {K : Option Value → zG → Prop} {KX : String → zG → Prop} (hok : zOk X) (hnc : zNx X) (a0 : Nat) (x1 : Int32) (o : Nat) (hx : zIs g 1 a0) (h : zCal X d yX1_takenBack wX1_takenBack [.ref a0, .int x1] g (fun r g1 => ∃ (v : Int32) (f : Nat → Int64), r = some (.int v) ∧ zGj g1 0 o = some (1, f) ∧ K (some (.int 0)) (zSj g1 0 o 1 (vp_updL f 0 v.toInt64))) (fun s g1 => (s = RJ9 ∧ K (some (.int 1)) g1))) : zCal X (d + 1) yX0_takenBack wX0_takenBack [.ref a0, .int x1, .ref o] g K KX := by
  refine z_enterH hok pn_X0 (Nat.le_of_ble_eq_true rfl) (fun E C hT hQ => ?_)
  have C : zC X (d + 1) E RX0 cX0_takenBack 4 (some .int) "takenBack" := C
  show GW X E 4 g 0 [(0, .ref a0), (1, .int x1), (2, .ref o)] []
  intro H locs ls hR hS hl
  refine lv_aload_n C.x C.b dX0_takenBack_0 rfl (lv_at hl 2 rfl) ?_
  refine lv_iconst (v := 0) C.x C.b dX0_takenBack_1 (by decide) ?_
  refine lv_aload_n C.x C.b dX0_takenBack_2 rfl (lv_at hl 0 rfl) ?_
  refine lv_iload_n C.x C.b dX0_takenBack_3 rfl (lv_at hl 1 rfl) ?_
  refine z_callV C hR hS hl (n := 1) (C1 := RX1) (T := TX1) (N := 12) (ci := 1) (y := yX1_takenBack) (bytes := cX1_takenBack) (maxL := 2) (rt := (some .int)) (As := [.int x1]) (rest := [.int 0, .ref o]) hx rfl (lw_V q1551 q1552 q1553 q73 q1554) hdV_X1_takenBack (by decide) rfl rfl (Nat.le_of_ble_eq_true rfl) dX0_takenBack_4 h (fun r g_1 hk_ => ?_) (fun s g1 h => ?_)
  · clear h; obtain ⟨v, f, rfl, q1, h⟩ := hk_
    show GW X E 4 g_1 7 [(0, .ref a0), (1, .int x1), (2, .ref o)] [.int v, .int 0, .ref o]
    intro H locs ls hR hS hl
    refine lv_i2l C.x C.b dX0_takenBack_7 rfl ?_
    refine z_last C hR hS q1 z_in01 dX0_takenBack_8 (fun H locs hR hS => ?_)
    refine lv_goto (tgt := 15) C.x C.b dX0_takenBack_9 (by decide) ?_
    refine lv_iconst (v := 0) C.x C.b dX0_takenBack_15 (by decide) ?_
    exact z_iretH C hQ dX0_takenBack_16 h H locs ls hR hS hl
  · have hn_ := hnc.at C
    obtain ⟨rfl, h⟩ := h
    exact z_catch C (pre := []) (en := ⟨0, 9, 12, 13⟩) (suf := []) hT (fun z hz => by cases hz) (by decide) (by decide) (C.ts _ q616) (C.word q709 rfl) (fun q => z_hand C hQ (n := 1) (Or.inr ⟨3, dX0_takenBack_12, by decide, rfl⟩) dX0_takenBack_13 (by decide) dX0_takenBack_14 h q)
abbrev wX0_back : List Cond := wsW_ yX0_back cX0_back 4 (some .int) [(0, 9, 12, 13)]
set_option maxHeartbeats 4000000 in
theorem mX0_back {X : zX} {d : Nat} {g : zG} {K : Option Value → zG → Prop} {KX : String → zG → Prop} (hok : zOk X) (hnc : zNx X) (a0 : Nat) (x1 : Int32) (o : Nat) (hx : zIs g 1 a0) (h : zCal X d yX1_back wX1_back [.ref a0, .int x1] g (fun r g1 => ∃ (v : Int32) (f : Nat → Int64), r = some (.int v) ∧ zGj g1 0 o = some (1, f) ∧ K (some (.int 0)) (zSj g1 0 o 1 (vp_updL f 0 v.toInt64))) (fun s g1 => (s = RJ9 ∧ K (some (.int 1)) g1))) : zCal X (d + 1) yX0_back wX0_back [.ref a0, .int x1, .ref o] g K KX := by
  refine z_enterH hok pn_X0 (Nat.le_of_ble_eq_true rfl) (fun E C hT hQ => ?_)
  have C : zC X (d + 1) E RX0 cX0_back 4 (some .int) "back" := C
  show GW X E 4 g 0 [(0, .ref a0), (1, .int x1), (2, .ref o)] []
  intro H locs ls hR hS hl
  refine lv_aload_n C.x C.b dX0_back_0 rfl (lv_at hl 2 rfl) ?_
  refine lv_iconst (v := 0) C.x C.b dX0_back_1 (by decide) ?_
  refine lv_aload_n C.x C.b dX0_back_2 rfl (lv_at hl 0 rfl) ?_
  refine lv_iload_n C.x C.b dX0_back_3 rfl (lv_at hl 1 rfl) ?_
  refine z_callV C hR hS hl (n := 1) (C1 := RX1) (T := TX1) (N := 12) (ci := 1) (y := yX1_back) (bytes := cX1_back) (maxL := 2) (rt := (some .int)) (As := [.int x1]) (rest := [.int 0, .ref o]) hx rfl (lw_V q1558 q1559 q1560 q73 q1561) hdV_X1_back (by decide) rfl rfl (Nat.le_of_ble_eq_true rfl) dX0_back_4 h (fun r g_1 hk_ => ?_) (fun s g1 h => ?_)
  · clear h; obtain ⟨v, f, rfl, q1, h⟩ := hk_
    show GW X E 4 g_1 7 [(0, .ref a0), (1, .int x1), (2, .ref o)] [.int v, .int 0, .ref o]
    intro H locs ls hR hS hl
    refine lv_i2l C.x C.b dX0_back_7 rfl ?_
    refine z_last C hR hS q1 z_in01 dX0_back_8 (fun H locs hR hS => ?_)
    refine lv_goto (tgt := 15) C.x C.b dX0_back_9 (by decide) ?_
    refine lv_iconst (v := 0) C.x C.b dX0_back_15 (by decide) ?_
    exact z_iretH C hQ dX0_back_16 h H locs ls hR hS hl
  · have hn_ := hnc.at C
    obtain ⟨rfl, h⟩ := h
    exact z_catch C (pre := []) (en := ⟨0, 9, 12, 13⟩) (suf := []) hT (fun z hz => by cases hz) (by decide) (by decide) (C.ts _ q616) (C.word q709 rfl) (fun q => z_hand C hQ (n := 1) (Or.inr ⟨3, dX0_back_12, by decide, rfl⟩) dX0_back_13 (by decide) dX0_back_14 h q)
abbrev wX0_ahead : List Cond := wsW_ yX0_ahead cX0_ahead 4 (some .int) [(0, 9, 12, 13)]
set_option maxHeartbeats 4000000 in
theorem mX0_ahead {X : zX} {d : Nat} {g : zG} {K : Option Value → zG → Prop} {KX : String → zG → Prop} (hok : zOk X) (hnc : zNx X) (a0 : Nat) (x1 : Int32) (o : Nat) (hx : zIs g 1 a0) (h : zCal X d yX1_ahead wX1_ahead [.ref a0, .int x1] g (fun r g1 => ∃ (v : Int32) (f : Nat → Int64), r = some (.int v) ∧ zGj g1 0 o = some (1, f) ∧ K (some (.int 0)) (zSj g1 0 o 1 (vp_updL f 0 v.toInt64))) (fun s g1 => (s = RJ9 ∧ K (some (.int 1)) g1))) : zCal X (d + 1) yX0_ahead wX0_ahead [.ref a0, .int x1, .ref o] g K KX := by
  refine z_enterH hok pn_X0 (Nat.le_of_ble_eq_true rfl) (fun E C hT hQ => ?_)
  have C : zC X (d + 1) E RX0 cX0_ahead 4 (some .int) "ahead" := C
  show GW X E 4 g 0 [(0, .ref a0), (1, .int x1), (2, .ref o)] []
  intro H locs ls hR hS hl
  refine lv_aload_n C.x C.b dX0_ahead_0 rfl (lv_at hl 2 rfl) ?_
  refine lv_iconst (v := 0) C.x C.b dX0_ahead_1 (by decide) ?_
  refine lv_aload_n C.x C.b dX0_ahead_2 rfl (lv_at hl 0 rfl) ?_
  refine lv_iload_n C.x C.b dX0_ahead_3 rfl (lv_at hl 1 rfl) ?_
  refine z_callV C hR hS hl (n := 1) (C1 := RX1) (T := TX1) (N := 12) (ci := 1) (y := yX1_ahead) (bytes := cX1_ahead) (maxL := 2) (rt := (some .int)) (As := [.int x1]) (rest := [.int 0, .ref o]) hx rfl (lw_V q1578 q1579 q1580 q73 q1581) hdV_X1_ahead (by decide) rfl rfl (Nat.le_of_ble_eq_true rfl) dX0_ahead_4 h (fun r g_1 hk_ => ?_) (fun s g1 h => ?_)
  · clear h; obtain ⟨v, f, rfl, q1, h⟩ := hk_
    show GW X E 4 g_1 7 [(0, .ref a0), (1, .int x1), (2, .ref o)] [.int v, .int 0, .ref o]
    intro H locs ls hR hS hl
    refine lv_i2l C.x C.b dX0_ahead_7 rfl ?_
    refine z_last C hR hS q1 z_in01 dX0_ahead_8 (fun H locs hR hS => ?_)
    refine lv_goto (tgt := 15) C.x C.b dX0_ahead_9 (by decide) ?_
    refine lv_iconst (v := 0) C.x C.b dX0_ahead_15 (by decide) ?_
    exact z_iretH C hQ dX0_ahead_16 h H locs ls hR hS hl
  · have hn_ := hnc.at C
    obtain ⟨rfl, h⟩ := h
    exact z_catch C (pre := []) (en := ⟨0, 9, 12, 13⟩) (suf := []) hT (fun z hz => by cases hz) (by decide) (by decide) (C.ts _ q616) (C.word q709 rfl) (fun q => z_hand C hQ (n := 1) (Or.inr ⟨3, dX0_ahead_12, by decide, rfl⟩) dX0_ahead_13 (by decide) dX0_ahead_14 h q)
abbrev wX0_overOrders : List Cond := wsW_ yX0_overOrders cX0_overOrders 6 (some .int) [(0, 12, 15, 13), (0, 12, 19, 15), (0, 12, 23, 25)]
set_option maxHeartbeats 4000000 in
theorem mX0_overOrders {X : zX} {d : Nat} {g : zG} {K : Option Value → zG → Prop} {KX : String → zG → Prop} (hok : zOk X) (hnc : zNx X) (a0 : Nat) (x1 : Int32) (x2 : Int32) (x3 : Int32) (o : Nat) (hx : zIs g 1 a0) (h : zCal X d yX1_overOrders wX1_overOrders [.ref a0, .int x1, .int x2, .int x3] g (fun r g1 => ∃ (v : Int32) (f : Nat → Int64), r = some (.int v) ∧ zGj g1 0 o = some (1, f) ∧ K (some (.int 0)) (zSj g1 0 o 1 (vp_updL f 0 v.toInt64))) (fun s g1 => (s = RJ9 ∧ K (some (.int 1)) g1) ∨ (s = RJ12 ∧ K (some (.int 2)) g1) ∨ (s = RJ13 ∧ K (some (.int 3)) g1))) : zCal X (d + 1) yX0_overOrders wX0_overOrders [.ref a0, .int x1, .int x2, .int x3, .ref o] g K KX := by
  refine z_enterH hok pn_X0 (Nat.le_of_ble_eq_true rfl) (fun E C hT hQ => ?_)
  have C : zC X (d + 1) E RX0 cX0_overOrders 6 (some .int) "overOrders" := C
  show GW X E 6 g 0 [(0, .ref a0), (1, .int x1), (2, .int x2), (3, .int x3), (4, .ref o)] []
  intro H locs ls hR hS hl
  refine lv_aload C.x C.b dX0_overOrders_0 (lv_at hl 4 rfl) ?_
  refine lv_iconst (v := 0) C.x C.b dX0_overOrders_2 (by decide) ?_
  refine lv_aload_n C.x C.b dX0_overOrders_3 rfl (lv_at hl 0 rfl) ?_
  refine lv_iload_n C.x C.b dX0_overOrders_4 rfl (lv_at hl 1 rfl) ?_
  refine lv_iload_n C.x C.b dX0_overOrders_5 rfl (lv_at hl 2 rfl) ?_
  refine lv_iload_n C.x C.b dX0_overOrders_6 rfl (lv_at hl 3 rfl) ?_
  refine z_callV C hR hS hl (n := 3) (C1 := RX1) (T := TX1) (N := 12) (ci := 1) (y := yX1_overOrders) (bytes := cX1_overOrders) (maxL := 7) (rt := (some .int)) (As := [.int x1, .int x2, .int x3]) (rest := [.int 0, .ref o]) hx rfl (lw_V q1585 q1586 q1587 q73 q1588) hdV_X1_overOrders (by decide) rfl rfl (Nat.le_of_ble_eq_true rfl) dX0_overOrders_7 h (fun r g_1 hk_ => ?_) (fun s g1 h => ?_)
  · clear h; obtain ⟨v, f, rfl, q1, h⟩ := hk_
    show GW X E 6 g_1 10 [(0, .ref a0), (1, .int x1), (2, .int x2), (3, .int x3), (4, .ref o)] [.int v, .int 0, .ref o]
    intro H locs ls hR hS hl
    refine lv_i2l C.x C.b dX0_overOrders_10 rfl ?_
    refine z_last C hR hS q1 z_in01 dX0_overOrders_11 (fun H locs hR hS => ?_)
    refine lv_goto (tgt := 27) C.x C.b dX0_overOrders_12 (by decide) ?_
    refine lv_iconst (v := 0) C.x C.b dX0_overOrders_27 (by decide) ?_
    exact z_iretH C hQ dX0_overOrders_28 h H locs ls hR hS hl
  · have hn_ := hnc.at C
    rcases h with ⟨rfl, h⟩ | ⟨rfl, h⟩ | ⟨rfl, h⟩
    · exact z_catch C (pre := []) (en := ⟨0, 12, 15, 13⟩) (suf := [⟨0, 12, 19, 15⟩, ⟨0, 12, 23, 25⟩]) hT (fun z hz => by cases hz) (by decide) (by decide) (C.ts _ q616) (C.word q709 rfl) (fun q => z_hand C hQ (n := 2) (Or.inl ⟨5, dX0_overOrders_15, by decide, rfl⟩) dX0_overOrders_17 (by decide) dX0_overOrders_18 h q)
    · exact z_catch C (pre := [⟨0, 12, 15, 13⟩]) (en := ⟨0, 12, 19, 15⟩) (suf := [⟨0, 12, 23, 25⟩]) hT (fun z hz => by rw [List.mem_singleton.mp hz]; exact Or.inr ⟨by decide, _, C.ts _ q616, hn_.1⟩) (by decide) (by decide) (C.ts _ q693) (C.word q725 rfl) (fun q => z_hand C hQ (n := 2) (Or.inl ⟨5, dX0_overOrders_19, by decide, rfl⟩) dX0_overOrders_21 (by decide) dX0_overOrders_22 h q)
    · exact z_catch C (pre := [⟨0, 12, 15, 13⟩, ⟨0, 12, 19, 15⟩]) (en := ⟨0, 12, 23, 25⟩) (suf := []) hT (fun z hz => by rcases List.mem_cons.mp hz with e | hz; rw [e]; exact Or.inr ⟨by decide, _, C.ts _ q616, hn_.2.1⟩; rw [List.mem_singleton.mp hz]; exact Or.inr ⟨by decide, _, C.ts _ q693, hn_.2.2⟩) (by decide) (by decide) (C.ts _ q749) (C.word q763 rfl) (fun q => z_hand C hQ (n := 2) (Or.inl ⟨5, dX0_overOrders_23, by decide, rfl⟩) dX0_overOrders_25 (by decide) dX0_overOrders_26 h q)
abbrev wX0_explanation : List Cond := wsW_ yX0_explanation cX0_explanation 5 (some .int) [(0, 10, 13, 13), (0, 10, 17, 25)]
set_option maxHeartbeats 4000000 in
theorem mX0_explanation {X : zX} {d : Nat} {g : zG} {K : Option Value → zG → Prop} {KX : String → zG → Prop} (hok : zOk X) (hnc : zNx X) (a0 : Nat) (x1 : Int32) (x2 : Int32) (o : Nat) (hx : zIs g 1 a0) (h : zCal X d yX1_explanation wX1_explanation [.ref a0, .int x1, .int x2] g (fun r g1 => ∃ (v : Int32) (f : Nat → Int64), r = some (.int v) ∧ zGj g1 0 o = some (1, f) ∧ K (some (.int 0)) (zSj g1 0 o 1 (vp_updL f 0 v.toInt64))) (fun s g1 => (s = RJ9 ∧ K (some (.int 1)) g1) ∨ (s = RJ13 ∧ K (some (.int 2)) g1))) : zCal X (d + 1) yX0_explanation wX0_explanation [.ref a0, .int x1, .int x2, .ref o] g K KX := by
  refine z_enterH hok pn_X0 (Nat.le_of_ble_eq_true rfl) (fun E C hT hQ => ?_)
  have C : zC X (d + 1) E RX0 cX0_explanation 5 (some .int) "explanation" := C
  show GW X E 5 g 0 [(0, .ref a0), (1, .int x1), (2, .int x2), (3, .ref o)] []
  intro H locs ls hR hS hl
  refine lv_aload_n C.x C.b dX0_explanation_0 rfl (lv_at hl 3 rfl) ?_
  refine lv_iconst (v := 0) C.x C.b dX0_explanation_1 (by decide) ?_
  refine lv_aload_n C.x C.b dX0_explanation_2 rfl (lv_at hl 0 rfl) ?_
  refine lv_iload_n C.x C.b dX0_explanation_3 rfl (lv_at hl 1 rfl) ?_
  refine lv_iload_n C.x C.b dX0_explanation_4 rfl (lv_at hl 2 rfl) ?_
  refine z_callV C hR hS hl (n := 2) (C1 := RX1) (T := TX1) (N := 12) (ci := 1) (y := yX1_explanation) (bytes := cX1_explanation) (maxL := 4) (rt := (some .int)) (As := [.int x1, .int x2]) (rest := [.int 0, .ref o]) hx rfl (lw_V q1592 q1593 q1594 q73 q1595) hdV_X1_explanation (by decide) rfl rfl (Nat.le_of_ble_eq_true rfl) dX0_explanation_5 h (fun r g_1 hk_ => ?_) (fun s g1 h => ?_)
  · clear h; obtain ⟨v, f, rfl, q1, h⟩ := hk_
    show GW X E 5 g_1 8 [(0, .ref a0), (1, .int x1), (2, .int x2), (3, .ref o)] [.int v, .int 0, .ref o]
    intro H locs ls hR hS hl
    refine lv_i2l C.x C.b dX0_explanation_8 rfl ?_
    refine z_last C hR hS q1 z_in01 dX0_explanation_9 (fun H locs hR hS => ?_)
    refine lv_goto (tgt := 21) C.x C.b dX0_explanation_10 (by decide) ?_
    refine lv_iconst (v := 0) C.x C.b dX0_explanation_21 (by decide) ?_
    exact z_iretH C hQ dX0_explanation_22 h H locs ls hR hS hl
  · have hn_ := hnc.at C
    rcases h with ⟨rfl, h⟩ | ⟨rfl, h⟩
    · exact z_catch C (pre := []) (en := ⟨0, 10, 13, 13⟩) (suf := [⟨0, 10, 17, 25⟩]) hT (fun z hz => by cases hz) (by decide) (by decide) (C.ts _ q616) (C.word q709 rfl) (fun q => z_hand C hQ (n := 2) (Or.inl ⟨4, dX0_explanation_13, by decide, rfl⟩) dX0_explanation_15 (by decide) dX0_explanation_16 h q)
    · exact z_catch C (pre := [⟨0, 10, 13, 13⟩]) (en := ⟨0, 10, 17, 25⟩) (suf := []) hT (fun z hz => by rw [List.mem_singleton.mp hz]; exact Or.inr ⟨by decide, _, C.ts _ q616, hn_.2.1⟩) (by decide) (by decide) (C.ts _ q749) (C.word q763 rfl) (fun q => z_hand C hQ (n := 2) (Or.inl ⟨4, dX0_explanation_17, by decide, rfl⟩) dX0_explanation_19 (by decide) dX0_explanation_20 h q)
abbrev wX0_explainedBy : List Cond := wsW_ yX0_explainedBy cX0_explainedBy 6 (some .int) [(0, 12, 15, 13), (0, 12, 19, 25)]
set_option maxHeartbeats 4000000 in
theorem mX0_explainedBy {X : zX} {d : Nat} {g : zG} {K : Option Value → zG → Prop} {KX : String → zG → Prop} (hok : zOk X) (hnc : zNx X) (a0 : Nat) (x1 : Int32) (x2 : Int32) (x3 : Int32) (o : Nat) (hx : zIs g 1 a0) (h : zCal X d yX1_explainedBy wX1_explainedBy [.ref a0, .int x1, .int x2, .int x3] g (fun r g1 => ∃ (v : Int32) (f : Nat → Int64), r = some (.int v) ∧ zGj g1 0 o = some (1, f) ∧ K (some (.int 0)) (zSj g1 0 o 1 (vp_updL f 0 v.toInt64))) (fun s g1 => (s = RJ9 ∧ K (some (.int 1)) g1) ∨ (s = RJ13 ∧ K (some (.int 2)) g1))) : zCal X (d + 1) yX0_explainedBy wX0_explainedBy [.ref a0, .int x1, .int x2, .int x3, .ref o] g K KX := by
  refine z_enterH hok pn_X0 (Nat.le_of_ble_eq_true rfl) (fun E C hT hQ => ?_)
  have C : zC X (d + 1) E RX0 cX0_explainedBy 6 (some .int) "explainedBy" := C
  show GW X E 6 g 0 [(0, .ref a0), (1, .int x1), (2, .int x2), (3, .int x3), (4, .ref o)] []
  intro H locs ls hR hS hl
  refine lv_aload C.x C.b dX0_explainedBy_0 (lv_at hl 4 rfl) ?_
  refine lv_iconst (v := 0) C.x C.b dX0_explainedBy_2 (by decide) ?_
  refine lv_aload_n C.x C.b dX0_explainedBy_3 rfl (lv_at hl 0 rfl) ?_
  refine lv_iload_n C.x C.b dX0_explainedBy_4 rfl (lv_at hl 1 rfl) ?_
  refine lv_iload_n C.x C.b dX0_explainedBy_5 rfl (lv_at hl 2 rfl) ?_
  refine lv_iload_n C.x C.b dX0_explainedBy_6 rfl (lv_at hl 3 rfl) ?_
  refine z_callV C hR hS hl (n := 3) (C1 := RX1) (T := TX1) (N := 12) (ci := 1) (y := yX1_explainedBy) (bytes := cX1_explainedBy) (maxL := 5) (rt := (some .int)) (As := [.int x1, .int x2, .int x3]) (rest := [.int 0, .ref o]) hx rfl (lw_V q1613 q1614 q1615 q73 q1616) hdV_X1_explainedBy (by decide) rfl rfl (Nat.le_of_ble_eq_true rfl) dX0_explainedBy_7 h (fun r g_1 hk_ => ?_) (fun s g1 h => ?_)
  · clear h; obtain ⟨v, f, rfl, q1, h⟩ := hk_
    show GW X E 6 g_1 10 [(0, .ref a0), (1, .int x1), (2, .int x2), (3, .int x3), (4, .ref o)] [.int v, .int 0, .ref o]
    intro H locs ls hR hS hl
    refine lv_i2l C.x C.b dX0_explainedBy_10 rfl ?_
    refine z_last C hR hS q1 z_in01 dX0_explainedBy_11 (fun H locs hR hS => ?_)
    refine lv_goto (tgt := 23) C.x C.b dX0_explainedBy_12 (by decide) ?_
    refine lv_iconst (v := 0) C.x C.b dX0_explainedBy_23 (by decide) ?_
    exact z_iretH C hQ dX0_explainedBy_24 h H locs ls hR hS hl
  · have hn_ := hnc.at C
    rcases h with ⟨rfl, h⟩ | ⟨rfl, h⟩
    · exact z_catch C (pre := []) (en := ⟨0, 12, 15, 13⟩) (suf := [⟨0, 12, 19, 25⟩]) hT (fun z hz => by cases hz) (by decide) (by decide) (C.ts _ q616) (C.word q709 rfl) (fun q => z_hand C hQ (n := 2) (Or.inl ⟨5, dX0_explainedBy_15, by decide, rfl⟩) dX0_explainedBy_17 (by decide) dX0_explainedBy_18 h q)
    · exact z_catch C (pre := [⟨0, 12, 15, 13⟩]) (en := ⟨0, 12, 19, 25⟩) (suf := []) hT (fun z hz => by rw [List.mem_singleton.mp hz]; exact Or.inr ⟨by decide, _, C.ts _ q616, hn_.2.1⟩) (by decide) (by decide) (C.ts _ q749) (C.word q763 rfl) (fun q => z_hand C hQ (n := 2) (Or.inl ⟨5, dX0_explainedBy_19, by decide, rfl⟩) dX0_explainedBy_21 (by decide) dX0_explainedBy_22 h q)
abbrev wX0_mend : List Cond := wsW_ yX0_mend cX0_mend 5 (some .int) [(0, 10, 13, 13), (0, 10, 17, 25)]
set_option maxHeartbeats 4000000 in
theorem mX0_mend {X : zX} {d : Nat} {g : zG} {K : Option Value → zG → Prop} {KX : String → zG → Prop} (hok : zOk X) (hnc : zNx X) (a0 : Nat) (x1 : Int32) (x2 : Int32) (o : Nat) (hx : zIs g 1 a0) (h : zCal X d yX1_mend wX1_mend [.ref a0, .int x1, .int x2] g (fun r g1 => ∃ (v : Int32) (f : Nat → Int64), r = some (.int v) ∧ zGj g1 0 o = some (1, f) ∧ K (some (.int 0)) (zSj g1 0 o 1 (vp_updL f 0 v.toInt64))) (fun s g1 => (s = RJ9 ∧ K (some (.int 1)) g1) ∨ (s = RJ13 ∧ K (some (.int 2)) g1))) : zCal X (d + 1) yX0_mend wX0_mend [.ref a0, .int x1, .int x2, .ref o] g K KX := by
  refine z_enterH hok pn_X0 (Nat.le_of_ble_eq_true rfl) (fun E C hT hQ => ?_)
  have C : zC X (d + 1) E RX0 cX0_mend 5 (some .int) "mend" := C
  show GW X E 5 g 0 [(0, .ref a0), (1, .int x1), (2, .int x2), (3, .ref o)] []
  intro H locs ls hR hS hl
  refine lv_aload_n C.x C.b dX0_mend_0 rfl (lv_at hl 3 rfl) ?_
  refine lv_iconst (v := 0) C.x C.b dX0_mend_1 (by decide) ?_
  refine lv_aload_n C.x C.b dX0_mend_2 rfl (lv_at hl 0 rfl) ?_
  refine lv_iload_n C.x C.b dX0_mend_3 rfl (lv_at hl 1 rfl) ?_
  refine lv_iload_n C.x C.b dX0_mend_4 rfl (lv_at hl 2 rfl) ?_
  refine z_callV C hR hS hl (n := 2) (C1 := RX1) (T := TX1) (N := 12) (ci := 1) (y := yX1_mend) (bytes := cX1_mend) (maxL := 4) (rt := (some .int)) (As := [.int x1, .int x2]) (rest := [.int 0, .ref o]) hx rfl (lw_V q1620 q1621 q1622 q73 q1623) hdV_X1_mend (by decide) rfl rfl (Nat.le_of_ble_eq_true rfl) dX0_mend_5 h (fun r g_1 hk_ => ?_) (fun s g1 h => ?_)
  · clear h; obtain ⟨v, f, rfl, q1, h⟩ := hk_
    show GW X E 5 g_1 8 [(0, .ref a0), (1, .int x1), (2, .int x2), (3, .ref o)] [.int v, .int 0, .ref o]
    intro H locs ls hR hS hl
    refine lv_i2l C.x C.b dX0_mend_8 rfl ?_
    refine z_last C hR hS q1 z_in01 dX0_mend_9 (fun H locs hR hS => ?_)
    refine lv_goto (tgt := 21) C.x C.b dX0_mend_10 (by decide) ?_
    refine lv_iconst (v := 0) C.x C.b dX0_mend_21 (by decide) ?_
    exact z_iretH C hQ dX0_mend_22 h H locs ls hR hS hl
  · have hn_ := hnc.at C
    rcases h with ⟨rfl, h⟩ | ⟨rfl, h⟩
    · exact z_catch C (pre := []) (en := ⟨0, 10, 13, 13⟩) (suf := [⟨0, 10, 17, 25⟩]) hT (fun z hz => by cases hz) (by decide) (by decide) (C.ts _ q616) (C.word q709 rfl) (fun q => z_hand C hQ (n := 2) (Or.inl ⟨4, dX0_mend_13, by decide, rfl⟩) dX0_mend_15 (by decide) dX0_mend_16 h q)
    · exact z_catch C (pre := [⟨0, 10, 13, 13⟩]) (en := ⟨0, 10, 17, 25⟩) (suf := []) hT (fun z hz => by rw [List.mem_singleton.mp hz]; exact Or.inr ⟨by decide, _, C.ts _ q616, hn_.2.1⟩) (by decide) (by decide) (C.ts _ q749) (C.word q763 rfl) (fun q => z_hand C hQ (n := 2) (Or.inl ⟨4, dX0_mend_17, by decide, rfl⟩) dX0_mend_19 (by decide) dX0_mend_20 h q)
abbrev wX0_mendedBy : List Cond := wsW_ yX0_mendedBy cX0_mendedBy 6 (some .int) [(0, 12, 15, 13), (0, 12, 19, 25)]
set_option maxHeartbeats 4000000 in
theorem mX0_mendedBy {X : zX} {d : Nat} {g : zG} {K : Option Value → zG → Prop} {KX : String → zG → Prop} (hok : zOk X) (hnc : zNx X) (a0 : Nat) (x1 : Int32) (x2 : Int32) (x3 : Int32) (o : Nat) (hx : zIs g 1 a0) (h : zCal X d yX1_mendedBy wX1_mendedBy [.ref a0, .int x1, .int x2, .int x3] g (fun r g1 => ∃ (v : Int32) (f : Nat → Int64), r = some (.int v) ∧ zGj g1 0 o = some (1, f) ∧ K (some (.int 0)) (zSj g1 0 o 1 (vp_updL f 0 v.toInt64))) (fun s g1 => (s = RJ9 ∧ K (some (.int 1)) g1) ∨ (s = RJ13 ∧ K (some (.int 2)) g1))) : zCal X (d + 1) yX0_mendedBy wX0_mendedBy [.ref a0, .int x1, .int x2, .int x3, .ref o] g K KX := by
  refine z_enterH hok pn_X0 (Nat.le_of_ble_eq_true rfl) (fun E C hT hQ => ?_)
  have C : zC X (d + 1) E RX0 cX0_mendedBy 6 (some .int) "mendedBy" := C
  show GW X E 6 g 0 [(0, .ref a0), (1, .int x1), (2, .int x2), (3, .int x3), (4, .ref o)] []
  intro H locs ls hR hS hl
  refine lv_aload C.x C.b dX0_mendedBy_0 (lv_at hl 4 rfl) ?_
  refine lv_iconst (v := 0) C.x C.b dX0_mendedBy_2 (by decide) ?_
  refine lv_aload_n C.x C.b dX0_mendedBy_3 rfl (lv_at hl 0 rfl) ?_
  refine lv_iload_n C.x C.b dX0_mendedBy_4 rfl (lv_at hl 1 rfl) ?_
  refine lv_iload_n C.x C.b dX0_mendedBy_5 rfl (lv_at hl 2 rfl) ?_
  refine lv_iload_n C.x C.b dX0_mendedBy_6 rfl (lv_at hl 3 rfl) ?_
  refine z_callV C hR hS hl (n := 3) (C1 := RX1) (T := TX1) (N := 12) (ci := 1) (y := yX1_mendedBy) (bytes := cX1_mendedBy) (maxL := 5) (rt := (some .int)) (As := [.int x1, .int x2, .int x3]) (rest := [.int 0, .ref o]) hx rfl (lw_V q1627 q1628 q1629 q73 q1630) hdV_X1_mendedBy (by decide) rfl rfl (Nat.le_of_ble_eq_true rfl) dX0_mendedBy_7 h (fun r g_1 hk_ => ?_) (fun s g1 h => ?_)
  · clear h; obtain ⟨v, f, rfl, q1, h⟩ := hk_
    show GW X E 6 g_1 10 [(0, .ref a0), (1, .int x1), (2, .int x2), (3, .int x3), (4, .ref o)] [.int v, .int 0, .ref o]
    intro H locs ls hR hS hl
    refine lv_i2l C.x C.b dX0_mendedBy_10 rfl ?_
    refine z_last C hR hS q1 z_in01 dX0_mendedBy_11 (fun H locs hR hS => ?_)
    refine lv_goto (tgt := 23) C.x C.b dX0_mendedBy_12 (by decide) ?_
    refine lv_iconst (v := 0) C.x C.b dX0_mendedBy_23 (by decide) ?_
    exact z_iretH C hQ dX0_mendedBy_24 h H locs ls hR hS hl
  · have hn_ := hnc.at C
    rcases h with ⟨rfl, h⟩ | ⟨rfl, h⟩
    · exact z_catch C (pre := []) (en := ⟨0, 12, 15, 13⟩) (suf := [⟨0, 12, 19, 25⟩]) hT (fun z hz => by cases hz) (by decide) (by decide) (C.ts _ q616) (C.word q709 rfl) (fun q => z_hand C hQ (n := 2) (Or.inl ⟨5, dX0_mendedBy_15, by decide, rfl⟩) dX0_mendedBy_17 (by decide) dX0_mendedBy_18 h q)
    · exact z_catch C (pre := [⟨0, 12, 15, 13⟩]) (en := ⟨0, 12, 19, 25⟩) (suf := []) hT (fun z hz => by rw [List.mem_singleton.mp hz]; exact Or.inr ⟨by decide, _, C.ts _ q616, hn_.2.1⟩) (by decide) (by decide) (C.ts _ q749) (C.word q763 rfl) (fun q => z_hand C hQ (n := 2) (Or.inl ⟨5, dX0_mendedBy_19, by decide, rfl⟩) dX0_mendedBy_21 (by decide) dX0_mendedBy_22 h q)
